set_option maxRecDepth 100000
theorem cn_X2_isFirst : zo_Cn yX2_isFirst 1 := ⟨by decide, by decide, by decide +kernel⟩
theorem cn_X2_gathers : zo_Cn yX2_gathers 4 := ⟨by decide, by decide, by decide +kernel⟩
theorem cn_X2_adds : zo_Cn yX2_adds 4 := ⟨by decide, by decide, by decide +kernel⟩
theorem cn_X2_lookedAt : zo_Cn yX2_lookedAt 3 := ⟨by decide, by decide, by decide +kernel⟩
theorem cn_X2_goTogether : zo_Cn yX2_goTogether 2 := ⟨by decide, by decide, by decide +kernel⟩
theorem cn_X2_sizes : zo_Cn yX2_sizes 0 := ⟨by decide, by decide, by decide +kernel⟩
theorem cn_J15_bitCount : zo_Cn yJ15_bitCount 1 := ⟨by decide, by decide, by decide +kernel⟩
theorem cn_X2_isEnough : zo_Cn yX2_isEnough 1 := ⟨by decide, by decide, by decide +kernel⟩
theorem cn_X2_isCurve : zo_Cn yX2_isCurve 4 := ⟨by decide, by decide, by decide +kernel⟩
theorem cn_X2_curve : zo_Cn yX2_curve 5 := ⟨by decide, by decide, by decide +kernel⟩
theorem LX2_178_1 : zo_FL RX2 178 1 77 := ⟨by decide, by decide, by decide, Or.inl ⟨_, q1348, Or.inl rfl⟩⟩
theorem LX2_181_1 : zo_FL RX2 181 1 78 := ⟨by decide, by decide, by decide, Or.inl ⟨_, q1349, Or.inl rfl⟩⟩
theorem cn_X2_ageFrom : zo_Cn yX2_ageFrom 1 := ⟨by decide, by decide, by decide +kernel⟩
theorem cn_X2_ageTo : zo_Cn yX2_ageTo 1 := ⟨by decide, by decide, by decide +kernel⟩
theorem cn_X2_lays : zo_Cn yX2_lays 2 := ⟨by decide, by decide, by decide +kernel⟩
theorem cn_X2_isThere : zo_Cn yX2_isThere 2 := ⟨by decide, by decide, by decide +kernel⟩
theorem cn_X2_spans : zo_Cn yX2_spans 2 := ⟨by decide, by decide, by decide +kernel⟩
theorem dJ15_bitCount_0 : decode cJ15_bitCount 0 = .ok (.iload_n 0, 1) := by decide +kernel
theorem dJ15_bitCount_1 : decode cJ15_bitCount 1 = .ok (.iload_n 0, 1) := by decide +kernel
theorem dJ15_bitCount_2 : decode cJ15_bitCount 2 = .ok (.iconst 1, 1) := by decide +kernel
theorem dJ15_bitCount_3 : decode cJ15_bitCount 3 = .ok (.iushr, 1) := by decide +kernel
theorem dJ15_bitCount_4 : decode cJ15_bitCount 4 = .ok (.ldc_w 265, 3) := by decide +kernel
theorem dJ15_bitCount_7 : decode cJ15_bitCount 7 = .ok (.iand, 1) := by decide +kernel
theorem dJ15_bitCount_8 : decode cJ15_bitCount 8 = .ok (.isub, 1) := by decide +kernel
theorem dJ15_bitCount_9 : decode cJ15_bitCount 9 = .ok (.istore_n 0, 1) := by decide +kernel
theorem dJ15_bitCount_10 : decode cJ15_bitCount 10 = .ok (.iload_n 0, 1) := by decide +kernel
theorem dJ15_bitCount_11 : decode cJ15_bitCount 11 = .ok (.ldc_w 266, 3) := by decide +kernel
theorem dJ15_bitCount_14 : decode cJ15_bitCount 14 = .ok (.iand, 1) := by decide +kernel
theorem dJ15_bitCount_15 : decode cJ15_bitCount 15 = .ok (.iload_n 0, 1) := by decide +kernel
theorem dJ15_bitCount_16 : decode cJ15_bitCount 16 = .ok (.iconst 2, 1) := by decide +kernel
theorem dJ15_bitCount_17 : decode cJ15_bitCount 17 = .ok (.iushr, 1) := by decide +kernel
theorem dJ15_bitCount_18 : decode cJ15_bitCount 18 = .ok (.ldc_w 266, 3) := by decide +kernel
theorem dJ15_bitCount_21 : decode cJ15_bitCount 21 = .ok (.iand, 1) := by decide +kernel
theorem dJ15_bitCount_22 : decode cJ15_bitCount 22 = .ok (.iadd, 1) := by decide +kernel
theorem dJ15_bitCount_23 : decode cJ15_bitCount 23 = .ok (.istore_n 0, 1) := by decide +kernel
theorem dJ15_bitCount_24 : decode cJ15_bitCount 24 = .ok (.iload_n 0, 1) := by decide +kernel
theorem dJ15_bitCount_25 : decode cJ15_bitCount 25 = .ok (.iload_n 0, 1) := by decide +kernel
theorem dJ15_bitCount_26 : decode cJ15_bitCount 26 = .ok (.iconst 4, 1) := by decide +kernel
theorem dJ15_bitCount_27 : decode cJ15_bitCount 27 = .ok (.iushr, 1) := by decide +kernel
theorem dJ15_bitCount_28 : decode cJ15_bitCount 28 = .ok (.iadd, 1) := by decide +kernel
theorem dJ15_bitCount_29 : decode cJ15_bitCount 29 = .ok (.ldc_w 267, 3) := by decide +kernel
theorem dJ15_bitCount_32 : decode cJ15_bitCount 32 = .ok (.iand, 1) := by decide +kernel
theorem dJ15_bitCount_33 : decode cJ15_bitCount 33 = .ok (.istore_n 0, 1) := by decide +kernel
theorem dJ15_bitCount_34 : decode cJ15_bitCount 34 = .ok (.iload_n 0, 1) := by decide +kernel
theorem dJ15_bitCount_35 : decode cJ15_bitCount 35 = .ok (.iload_n 0, 1) := by decide +kernel
theorem dJ15_bitCount_36 : decode cJ15_bitCount 36 = .ok (.bipush 8, 2) := by decide +kernel
theorem dJ15_bitCount_38 : decode cJ15_bitCount 38 = .ok (.iushr, 1) := by decide +kernel
theorem dJ15_bitCount_39 : decode cJ15_bitCount 39 = .ok (.iadd, 1) := by decide +kernel
theorem dJ15_bitCount_40 : decode cJ15_bitCount 40 = .ok (.istore_n 0, 1) := by decide +kernel
theorem dJ15_bitCount_41 : decode cJ15_bitCount 41 = .ok (.iload_n 0, 1) := by decide +kernel
theorem dJ15_bitCount_42 : decode cJ15_bitCount 42 = .ok (.iload_n 0, 1) := by decide +kernel
theorem dJ15_bitCount_43 : decode cJ15_bitCount 43 = .ok (.bipush 16, 2) := by decide +kernel
theorem dJ15_bitCount_45 : decode cJ15_bitCount 45 = .ok (.iushr, 1) := by decide +kernel
theorem dJ15_bitCount_46 : decode cJ15_bitCount 46 = .ok (.iadd, 1) := by decide +kernel
theorem dJ15_bitCount_47 : decode cJ15_bitCount 47 = .ok (.istore_n 0, 1) := by decide +kernel
theorem dJ15_bitCount_48 : decode cJ15_bitCount 48 = .ok (.iload_n 0, 1) := by decide +kernel
theorem dJ15_bitCount_49 : decode cJ15_bitCount 49 = .ok (.bipush 63, 2) := by decide +kernel
theorem dJ15_bitCount_51 : decode cJ15_bitCount 51 = .ok (.iand, 1) := by decide +kernel
theorem dJ15_bitCount_52 : decode cJ15_bitCount 52 = .ok (.ireturn, 1) := by decide +kernel
def fn_J15_bitCount (N : Nat) (x0 : Int32) (Ω : zo_O) : Option zo_R :=
  li (x0 - (((x0.toUInt32 >>> ((1 : Int32).toUInt32 &&& Int32.toUInt32 31)).toInt32) &&& 1431655765)) fun y1 =>
  li ((y1 &&& 858993459) + (((y1.toUInt32 >>> ((2 : Int32).toUInt32 &&& Int32.toUInt32 31)).toInt32) &&& 858993459)) fun y2 =>
  li ((y2 + ((y2.toUInt32 >>> ((4 : Int32).toUInt32 &&& Int32.toUInt32 31)).toInt32)) &&& 252645135) fun y3 =>
  li (y3 + ((y3.toUInt32 >>> ((8 : Int32).toUInt32 &&& Int32.toUInt32 31)).toInt32)) fun y4 =>
  li (y4 + ((y4.toUInt32 >>> ((16 : Int32).toUInt32 &&& Int32.toUInt32 31)).toInt32)) fun y5 =>
  rI (y5 &&& 63) Ω
theorem mt_J15_bitCount {G : zo_G} {J : zo_O → Prop} (hJ : zo_JC J) (hCon : ∀ Ω, J Ω → zo_Con Ω) (N : Nat) (x0 : Int32) (Ω : zo_O) (res : zo_R) (h : fn_J15_bitCount N x0 Ω = some res) : zo_MT G J yJ15_bitCount cJ15_bitCount 1 (Option.some Jvm.ClassFile.FieldType.int) 0 [vi x0] Ω res := by
  refine zo_enter (by decide) rfl (Nat.le_of_ble_eq_true rfl) (fun Y hY eJ hr hmn => ?_)
  subst eJ
  show TW Y res Ω 0 [(0, vi x0)] []
  unfold fn_J15_bitCount at h
  refine zo_iload_n hY dJ15_bitCount_0 rfl 0 rfl ?_
  refine zo_iload_n hY dJ15_bitCount_1 rfl 0 rfl ?_
  refine zo_iconst hY 1 (by decide) dJ15_bitCount_2 ?_
  refine zo_iushr hY dJ15_bitCount_3 ?_
  refine zo_ldcw hY q1042 dJ15_bitCount_4 ?_
  refine zo_iand hY dJ15_bitCount_7 ?_
  refine zo_isub hY dJ15_bitCount_8 ?_
  refine zo_nmi h (fun y1 h => ?_)
  refine zo_istore_n hY dJ15_bitCount_9 rfl (by decide) rfl (ls' := [(0, vi y1)]) rfl ?_
  refine zo_iload_n hY dJ15_bitCount_10 rfl 0 rfl ?_
  refine zo_ldcw hY q1043 dJ15_bitCount_11 ?_
  refine zo_iand hY dJ15_bitCount_14 ?_
  refine zo_iload_n hY dJ15_bitCount_15 rfl 0 rfl ?_
  refine zo_iconst hY 2 (by decide) dJ15_bitCount_16 ?_
  refine zo_iushr hY dJ15_bitCount_17 ?_
  refine zo_ldcw hY q1043 dJ15_bitCount_18 ?_
  refine zo_iand hY dJ15_bitCount_21 ?_
  refine zo_iadd hY dJ15_bitCount_22 ?_
  refine zo_nmi h (fun y2 h => ?_)
  refine zo_istore_n hY dJ15_bitCount_23 rfl (by decide) rfl (ls' := [(0, vi y2)]) rfl ?_
  refine zo_iload_n hY dJ15_bitCount_24 rfl 0 rfl ?_
  refine zo_iload_n hY dJ15_bitCount_25 rfl 0 rfl ?_
  refine zo_iconst hY 4 (by decide) dJ15_bitCount_26 ?_
  refine zo_iushr hY dJ15_bitCount_27 ?_
  refine zo_iadd hY dJ15_bitCount_28 ?_
  refine zo_ldcw hY q1044 dJ15_bitCount_29 ?_
  refine zo_iand hY dJ15_bitCount_32 ?_
  refine zo_nmi h (fun y3 h => ?_)
  refine zo_istore_n hY dJ15_bitCount_33 rfl (by decide) rfl (ls' := [(0, vi y3)]) rfl ?_
  refine zo_iload_n hY dJ15_bitCount_34 rfl 0 rfl ?_
  refine zo_iload_n hY dJ15_bitCount_35 rfl 0 rfl ?_
  refine zo_bipush hY 8 (by decide) dJ15_bitCount_36 ?_
  refine zo_iushr hY dJ15_bitCount_38 ?_
  refine zo_iadd hY dJ15_bitCount_39 ?_
  refine zo_nmi h (fun y4 h => ?_)
  refine zo_istore_n hY dJ15_bitCount_40 rfl (by decide) rfl (ls' := [(0, vi y4)]) rfl ?_
  refine zo_iload_n hY dJ15_bitCount_41 rfl 0 rfl ?_
  refine zo_iload_n hY dJ15_bitCount_42 rfl 0 rfl ?_
  refine zo_bipush hY 16 (by decide) dJ15_bitCount_43 ?_
  refine zo_iushr hY dJ15_bitCount_45 ?_
  refine zo_iadd hY dJ15_bitCount_46 ?_
  refine zo_nmi h (fun y5 h => ?_)
  refine zo_istore_n hY dJ15_bitCount_47 rfl (by decide) rfl (ls' := [(0, vi y5)]) rfl ?_
  refine zo_iload_n hY dJ15_bitCount_48 rfl 0 rfl ?_
  refine zo_bipush hY 63 (by decide) dJ15_bitCount_49 ?_
  refine zo_iand hY dJ15_bitCount_51 ?_
  exact zo_iret hY hr dJ15_bitCount_52 h
theorem dX2_curve_0 : decode cX2_curve 0 = .ok (.aload_n 0, 1) := by decide +kernel
theorem dX2_curve_1 : decode cX2_curve 1 = .ok (.iconst 0, 1) := by decide +kernel
theorem dX2_curve_2 : decode cX2_curve 2 = .ok (.putfield 368, 3) := by decide +kernel
theorem dX2_curve_5 : decode cX2_curve 5 = .ok (.iconst 0, 1) := by decide +kernel
theorem dX2_curve_6 : decode cX2_curve 6 = .ok (.istore 6, 2) := by decide +kernel
theorem dX2_curve_8 : decode cX2_curve 8 = .ok (.iload 6, 2) := by decide +kernel
theorem dX2_curve_10 : decode cX2_curve 10 = .ok (.aload_n 0, 1) := by decide +kernel
theorem dX2_curve_11 : decode cX2_curve 11 = .ok (.getfield 197, 3) := by decide +kernel
theorem dX2_curve_14 : decode cX2_curve 14 = .ok (.if_icmp .ge 183, 3) := by decide +kernel
theorem dX2_curve_17 : decode cX2_curve 17 = .ok (.aload_n 0, 1) := by decide +kernel
theorem dX2_curve_18 : decode cX2_curve 18 = .ok (.getfield 25, 3) := by decide +kernel
theorem dX2_curve_21 : decode cX2_curve 21 = .ok (.iload 6, 2) := by decide +kernel
theorem dX2_curve_23 : decode cX2_curve 23 = .ok (.iaload, 1) := by decide +kernel
theorem dX2_curve_24 : decode cX2_curve 24 = .ok (.istore 7, 2) := by decide +kernel
theorem dX2_curve_26 : decode cX2_curve 26 = .ok (.aload_n 0, 1) := by decide +kernel
theorem dX2_curve_27 : decode cX2_curve 27 = .ok (.getfield 28, 3) := by decide +kernel
theorem dX2_curve_30 : decode cX2_curve 30 = .ok (.iload 6, 2) := by decide +kernel
theorem dX2_curve_32 : decode cX2_curve 32 = .ok (.iaload, 1) := by decide +kernel
theorem dX2_curve_33 : decode cX2_curve 33 = .ok (.iload_n 1, 1) := by decide +kernel
theorem dX2_curve_34 : decode cX2_curve 34 = .ok (.if_icmp .ne 157, 3) := by decide +kernel
theorem dX2_curve_37 : decode cX2_curve 37 = .ok (.iload 7, 2) := by decide +kernel
theorem dX2_curve_39 : decode cX2_curve 39 = .ok (.iload 5, 2) := by decide +kernel
theorem dX2_curve_41 : decode cX2_curve 41 = .ok (.if_icmp .eq 150, 3) := by decide +kernel
theorem dX2_curve_44 : decode cX2_curve 44 = .ok (.aload_n 0, 1) := by decide +kernel
theorem dX2_curve_45 : decode cX2_curve 45 = .ok (.getfield 19, 3) := by decide +kernel
theorem dX2_curve_48 : decode cX2_curve 48 = .ok (.iload 7, 2) := by decide +kernel
theorem dX2_curve_50 : decode cX2_curve 50 = .ok (.iaload, 1) := by decide +kernel
theorem dX2_curve_51 : decode cX2_curve 51 = .ok (.iconst (-1), 1) := by decide +kernel
theorem dX2_curve_52 : decode cX2_curve 52 = .ok (.if_icmp .eq 139, 3) := by decide +kernel
theorem dX2_curve_55 : decode cX2_curve 55 = .ok (.aload_n 0, 1) := by decide +kernel
theorem dX2_curve_56 : decode cX2_curve 56 = .ok (.getfield 7, 3) := by decide +kernel
theorem dX2_curve_59 : decode cX2_curve 59 = .ok (.iload 7, 2) := by decide +kernel
theorem dX2_curve_61 : decode cX2_curve 61 = .ok (.iaload, 1) := by decide +kernel
theorem dX2_curve_62 : decode cX2_curve 62 = .ok (.iload_n 2, 1) := by decide +kernel
theorem dX2_curve_63 : decode cX2_curve 63 = .ok (.if_icmp .ne 128, 3) := by decide +kernel
theorem dX2_curve_66 : decode cX2_curve 66 = .ok (.aload_n 0, 1) := by decide +kernel
theorem dX2_curve_67 : decode cX2_curve 67 = .ok (.getfield 13, 3) := by decide +kernel
theorem dX2_curve_70 : decode cX2_curve 70 = .ok (.iload 7, 2) := by decide +kernel
theorem dX2_curve_72 : decode cX2_curve 72 = .ok (.iaload, 1) := by decide +kernel
theorem dX2_curve_73 : decode cX2_curve 73 = .ok (.iload_n 3, 1) := by decide +kernel
theorem dX2_curve_74 : decode cX2_curve 74 = .ok (.if_icmp .ne 117, 3) := by decide +kernel
theorem dX2_curve_77 : decode cX2_curve 77 = .ok (.aload_n 0, 1) := by decide +kernel
theorem dX2_curve_78 : decode cX2_curve 78 = .ok (.getfield 40, 3) := by decide +kernel
theorem dX2_curve_81 : decode cX2_curve 81 = .ok (.iload 6, 2) := by decide +kernel
theorem dX2_curve_83 : decode cX2_curve 83 = .ok (.iaload, 1) := by decide +kernel
theorem dX2_curve_84 : decode cX2_curve 84 = .ok (.aload_n 0, 1) := by decide +kernel
theorem dX2_curve_85 : decode cX2_curve 85 = .ok (.getfield 19, 3) := by decide +kernel
theorem dX2_curve_88 : decode cX2_curve 88 = .ok (.iload 7, 2) := by decide +kernel
theorem dX2_curve_90 : decode cX2_curve 90 = .ok (.iaload, 1) := by decide +kernel
theorem dX2_curve_91 : decode cX2_curve 91 = .ok (.if_icmp .lt 100, 3) := by decide +kernel
theorem dX2_curve_94 : decode cX2_curve 94 = .ok (.aload_n 0, 1) := by decide +kernel
theorem dX2_curve_95 : decode cX2_curve 95 = .ok (.iload 6, 2) := by decide +kernel
theorem dX2_curve_97 : decode cX2_curve 97 = .ok (.invokevirtual 370, 3) := by decide +kernel
theorem dX2_curve_100 : decode cX2_curve 100 = .ok (.ifCond .eq 91, 3) := by decide +kernel
theorem dX2_curve_103 : decode cX2_curve 103 = .ok (.aload_n 0, 1) := by decide +kernel
theorem dX2_curve_104 : decode cX2_curve 104 = .ok (.iload 7, 2) := by decide +kernel
theorem dX2_curve_106 : decode cX2_curve 106 = .ok (.iload_n 1, 1) := by decide +kernel
theorem dX2_curve_107 : decode cX2_curve 107 = .ok (.aload_n 0, 1) := by decide +kernel
theorem dX2_curve_108 : decode cX2_curve 108 = .ok (.getfield 40, 3) := by decide +kernel
theorem dX2_curve_111 : decode cX2_curve 111 = .ok (.iload 6, 2) := by decide +kernel
theorem dX2_curve_113 : decode cX2_curve 113 = .ok (.iaload, 1) := by decide +kernel
theorem dX2_curve_114 : decode cX2_curve 114 = .ok (.iload 4, 2) := by decide +kernel
theorem dX2_curve_116 : decode cX2_curve 116 = .ok (.invokevirtual 373, 3) := by decide +kernel
theorem dX2_curve_119 : decode cX2_curve 119 = .ok (.ifCond .ne 6, 3) := by decide +kernel
theorem dX2_curve_122 : decode cX2_curve 122 = .ok (.goto 69, 3) := by decide +kernel
theorem dX2_curve_125 : decode cX2_curve 125 = .ok (.aload_n 0, 1) := by decide +kernel
theorem dX2_curve_126 : decode cX2_curve 126 = .ok (.getfield 40, 3) := by decide +kernel
theorem dX2_curve_129 : decode cX2_curve 129 = .ok (.iload 6, 2) := by decide +kernel
theorem dX2_curve_131 : decode cX2_curve 131 = .ok (.iaload, 1) := by decide +kernel
theorem dX2_curve_132 : decode cX2_curve 132 = .ok (.aload_n 0, 1) := by decide +kernel
theorem dX2_curve_133 : decode cX2_curve 133 = .ok (.getfield 19, 3) := by decide +kernel
theorem dX2_curve_136 : decode cX2_curve 136 = .ok (.iload 7, 2) := by decide +kernel
theorem dX2_curve_138 : decode cX2_curve 138 = .ok (.iaload, 1) := by decide +kernel
theorem dX2_curve_139 : decode cX2_curve 139 = .ok (.isub, 1) := by decide +kernel
theorem dX2_curve_140 : decode cX2_curve 140 = .ok (.istore 8, 2) := by decide +kernel
theorem dX2_curve_142 : decode cX2_curve 142 = .ok (.aload_n 0, 1) := by decide +kernel
theorem dX2_curve_143 : decode cX2_curve 143 = .ok (.iload 7, 2) := by decide +kernel
theorem dX2_curve_145 : decode cX2_curve 145 = .ok (.iload 8, 2) := by decide +kernel
theorem dX2_curve_147 : decode cX2_curve 147 = .ok (.aload_n 0, 1) := by decide +kernel
theorem dX2_curve_148 : decode cX2_curve 148 = .ok (.getfield 362, 3) := by decide +kernel
theorem dX2_curve_151 : decode cX2_curve 151 = .ok (.iconst 0, 1) := by decide +kernel
theorem dX2_curve_152 : decode cX2_curve 152 = .ok (.invokevirtual 377, 3) := by decide +kernel
theorem dX2_curve_155 : decode cX2_curve 155 = .ok (.aload_n 0, 1) := by decide +kernel
theorem dX2_curve_156 : decode cX2_curve 156 = .ok (.iload 7, 2) := by decide +kernel
theorem dX2_curve_158 : decode cX2_curve 158 = .ok (.iload_n 1, 1) := by decide +kernel
theorem dX2_curve_159 : decode cX2_curve 159 = .ok (.iload 4, 2) := by decide +kernel
theorem dX2_curve_161 : decode cX2_curve 161 = .ok (.invokevirtual 381, 3) := by decide +kernel
theorem dX2_curve_164 : decode cX2_curve 164 = .ok (.aload_n 0, 1) := by decide +kernel
theorem dX2_curve_165 : decode cX2_curve 165 = .ok (.getfield 114, 3) := by decide +kernel
theorem dX2_curve_168 : decode cX2_curve 168 = .ok (.if_icmp .lt 23, 3) := by decide +kernel
theorem dX2_curve_171 : decode cX2_curve 171 = .ok (.aload_n 0, 1) := by decide +kernel
theorem dX2_curve_172 : decode cX2_curve 172 = .ok (.iload 7, 2) := by decide +kernel
theorem dX2_curve_174 : decode cX2_curve 174 = .ok (.iload 8, 2) := by decide +kernel
theorem dX2_curve_176 : decode cX2_curve 176 = .ok (.aload_n 0, 1) := by decide +kernel
theorem dX2_curve_177 : decode cX2_curve 177 = .ok (.getfield 117, 3) := by decide +kernel
theorem dX2_curve_180 : decode cX2_curve 180 = .ok (.iload_n 1, 1) := by decide +kernel
theorem dX2_curve_181 : decode cX2_curve 181 = .ok (.iaload, 1) := by decide +kernel
theorem dX2_curve_182 : decode cX2_curve 182 = .ok (.isub, 1) := by decide +kernel
theorem dX2_curve_183 : decode cX2_curve 183 = .ok (.aload_n 0, 1) := by decide +kernel
theorem dX2_curve_184 : decode cX2_curve 184 = .ok (.getfield 365, 3) := by decide +kernel
theorem dX2_curve_187 : decode cX2_curve 187 = .ok (.iconst 1, 1) := by decide +kernel
theorem dX2_curve_188 : decode cX2_curve 188 = .ok (.invokevirtual 377, 3) := by decide +kernel
theorem dX2_curve_191 : decode cX2_curve 191 = .ok (.iinc 6 1, 3) := by decide +kernel
theorem dX2_curve_194 : decode cX2_curve 194 = .ok (.goto (-186), 3) := by decide +kernel
theorem dX2_curve_197 : decode cX2_curve 197 = .ok (.iconst 0, 1) := by decide +kernel
theorem dX2_curve_198 : decode cX2_curve 198 = .ok (.istore 6, 2) := by decide +kernel
theorem dX2_curve_200 : decode cX2_curve 200 = .ok (.iload 6, 2) := by decide +kernel
theorem dX2_curve_202 : decode cX2_curve 202 = .ok (.bipush 14, 2) := by decide +kernel
theorem dX2_curve_204 : decode cX2_curve 204 = .ok (.if_icmp .ge 17, 3) := by decide +kernel
theorem dX2_curve_207 : decode cX2_curve 207 = .ok (.aload_n 0, 1) := by decide +kernel
theorem dX2_curve_208 : decode cX2_curve 208 = .ok (.getfield 175, 3) := by decide +kernel
theorem dX2_curve_211 : decode cX2_curve 211 = .ok (.iload 6, 2) := by decide +kernel
theorem dX2_curve_213 : decode cX2_curve 213 = .ok (.iconst 0, 1) := by decide +kernel
theorem dX2_curve_214 : decode cX2_curve 214 = .ok (.iastore, 1) := by decide +kernel
theorem dX2_curve_215 : decode cX2_curve 215 = .ok (.iinc 6 1, 3) := by decide +kernel
theorem dX2_curve_218 : decode cX2_curve 218 = .ok (.goto (-18), 3) := by decide +kernel
theorem dX2_curve_221 : decode cX2_curve 221 = .ok (.iconst 0, 1) := by decide +kernel
theorem dX2_curve_222 : decode cX2_curve 222 = .ok (.istore 6, 2) := by decide +kernel
theorem dX2_curve_224 : decode cX2_curve 224 = .ok (.iload 6, 2) := by decide +kernel
theorem dX2_curve_226 : decode cX2_curve 226 = .ok (.aload_n 0, 1) := by decide +kernel
theorem dX2_curve_227 : decode cX2_curve 227 = .ok (.getfield 368, 3) := by decide +kernel
theorem dX2_curve_230 : decode cX2_curve 230 = .ok (.if_icmp .ge 131, 3) := by decide +kernel
theorem dX2_curve_233 : decode cX2_curve 233 = .ok (.aload_n 0, 1) := by decide +kernel
theorem dX2_curve_234 : decode cX2_curve 234 = .ok (.getfield 166, 3) := by decide +kernel
theorem dX2_curve_237 : decode cX2_curve 237 = .ok (.iload 6, 2) := by decide +kernel
theorem dX2_curve_239 : decode cX2_curve 239 = .ok (.baload, 1) := by decide +kernel
theorem dX2_curve_240 : decode cX2_curve 240 = .ok (.ifCond .eq 6, 3) := by decide +kernel
theorem dX2_curve_243 : decode cX2_curve 243 = .ok (.goto 112, 3) := by decide +kernel
theorem dX2_curve_246 : decode cX2_curve 246 = .ok (.aload_n 0, 1) := by decide +kernel
theorem dX2_curve_247 : decode cX2_curve 247 = .ok (.getfield 163, 3) := by decide +kernel
theorem dX2_curve_250 : decode cX2_curve 250 = .ok (.iload 6, 2) := by decide +kernel
theorem dX2_curve_252 : decode cX2_curve 252 = .ok (.iaload, 1) := by decide +kernel
theorem dX2_curve_253 : decode cX2_curve 253 = .ok (.aload_n 0, 1) := by decide +kernel
theorem dX2_curve_254 : decode cX2_curve 254 = .ok (.getfield 111, 3) := by decide +kernel
theorem dX2_curve_257 : decode cX2_curve 257 = .ok (.aload_n 0, 1) := by decide +kernel
theorem dX2_curve_258 : decode cX2_curve 258 = .ok (.getfield 160, 3) := by decide +kernel
theorem dX2_curve_261 : decode cX2_curve 261 = .ok (.iload 6, 2) := by decide +kernel
theorem dX2_curve_263 : decode cX2_curve 263 = .ok (.iaload, 1) := by decide +kernel
theorem dX2_curve_264 : decode cX2_curve 264 = .ok (.imul, 1) := by decide +kernel
theorem dX2_curve_265 : decode cX2_curve 265 = .ok (.if_icmp .le 27, 3) := by decide +kernel
theorem dX2_curve_268 : decode cX2_curve 268 = .ok (.aload_n 0, 1) := by decide +kernel
theorem dX2_curve_269 : decode cX2_curve 269 = .ok (.getfield 175, 3) := by decide +kernel
theorem dX2_curve_272 : decode cX2_curve 272 = .ok (.aload_n 0, 1) := by decide +kernel
theorem dX2_curve_273 : decode cX2_curve 273 = .ok (.getfield 157, 3) := by decide +kernel
theorem dX2_curve_276 : decode cX2_curve 276 = .ok (.iload 6, 2) := by decide +kernel
theorem dX2_curve_278 : decode cX2_curve 278 = .ok (.iaload, 1) := by decide +kernel
theorem dX2_curve_279 : decode cX2_curve 279 = .ok (.dup2, 1) := by decide +kernel
theorem dX2_curve_280 : decode cX2_curve 280 = .ok (.iaload, 1) := by decide +kernel
theorem dX2_curve_281 : decode cX2_curve 281 = .ok (.iconst 1, 1) := by decide +kernel
theorem dX2_curve_282 : decode cX2_curve 282 = .ok (.aload_n 0, 1) := by decide +kernel
theorem dX2_curve_283 : decode cX2_curve 283 = .ok (.getfield 157, 3) := by decide +kernel
theorem dX2_curve_286 : decode cX2_curve 286 = .ok (.iload 6, 2) := by decide +kernel
theorem dX2_curve_288 : decode cX2_curve 288 = .ok (.iaload, 1) := by decide +kernel
theorem dX2_curve_289 : decode cX2_curve 289 = .ok (.ishl, 1) := by decide +kernel
theorem dX2_curve_290 : decode cX2_curve 290 = .ok (.ior, 1) := by decide +kernel
theorem dX2_curve_291 : decode cX2_curve 291 = .ok (.iastore, 1) := by decide +kernel
theorem dX2_curve_292 : decode cX2_curve 292 = .ok (.iconst 0, 1) := by decide +kernel
theorem dX2_curve_293 : decode cX2_curve 293 = .ok (.istore 7, 2) := by decide +kernel
theorem dX2_curve_295 : decode cX2_curve 295 = .ok (.iload 7, 2) := by decide +kernel
theorem dX2_curve_297 : decode cX2_curve 297 = .ok (.aload_n 0, 1) := by decide +kernel
theorem dX2_curve_298 : decode cX2_curve 298 = .ok (.getfield 368, 3) := by decide +kernel
theorem dX2_curve_301 : decode cX2_curve 301 = .ok (.if_icmp .ge 54, 3) := by decide +kernel
theorem dX2_curve_304 : decode cX2_curve 304 = .ok (.aload_n 0, 1) := by decide +kernel
theorem dX2_curve_305 : decode cX2_curve 305 = .ok (.getfield 166, 3) := by decide +kernel
theorem dX2_curve_308 : decode cX2_curve 308 = .ok (.iload 7, 2) := by decide +kernel
theorem dX2_curve_310 : decode cX2_curve 310 = .ok (.baload, 1) := by decide +kernel
theorem dX2_curve_311 : decode cX2_curve 311 = .ok (.ifCond .eq 38, 3) := by decide +kernel
theorem dX2_curve_314 : decode cX2_curve 314 = .ok (.aload_n 0, 1) := by decide +kernel
theorem dX2_curve_315 : decode cX2_curve 315 = .ok (.iload 6, 2) := by decide +kernel
theorem dX2_curve_317 : decode cX2_curve 317 = .ok (.iload 7, 2) := by decide +kernel
theorem dX2_curve_319 : decode cX2_curve 319 = .ok (.invokevirtual 385, 3) := by decide +kernel
theorem dX2_curve_322 : decode cX2_curve 322 = .ok (.ifCond .ne 27, 3) := by decide +kernel
theorem dX2_curve_325 : decode cX2_curve 325 = .ok (.aload_n 0, 1) := by decide +kernel
theorem dX2_curve_326 : decode cX2_curve 326 = .ok (.getfield 175, 3) := by decide +kernel
theorem dX2_curve_329 : decode cX2_curve 329 = .ok (.aload_n 0, 1) := by decide +kernel
theorem dX2_curve_330 : decode cX2_curve 330 = .ok (.getfield 157, 3) := by decide +kernel
theorem dX2_curve_333 : decode cX2_curve 333 = .ok (.iload 6, 2) := by decide +kernel
theorem dX2_curve_335 : decode cX2_curve 335 = .ok (.iaload, 1) := by decide +kernel
theorem dX2_curve_336 : decode cX2_curve 336 = .ok (.dup2, 1) := by decide +kernel
theorem dX2_curve_337 : decode cX2_curve 337 = .ok (.iaload, 1) := by decide +kernel
theorem dX2_curve_338 : decode cX2_curve 338 = .ok (.iconst 1, 1) := by decide +kernel
theorem dX2_curve_339 : decode cX2_curve 339 = .ok (.aload_n 0, 1) := by decide +kernel
theorem dX2_curve_340 : decode cX2_curve 340 = .ok (.getfield 157, 3) := by decide +kernel
theorem dX2_curve_343 : decode cX2_curve 343 = .ok (.iload 7, 2) := by decide +kernel
theorem dX2_curve_345 : decode cX2_curve 345 = .ok (.iaload, 1) := by decide +kernel
theorem dX2_curve_346 : decode cX2_curve 346 = .ok (.ishl, 1) := by decide +kernel
theorem dX2_curve_347 : decode cX2_curve 347 = .ok (.ior, 1) := by decide +kernel
theorem dX2_curve_348 : decode cX2_curve 348 = .ok (.iastore, 1) := by decide +kernel
theorem dX2_curve_349 : decode cX2_curve 349 = .ok (.iinc 7 1, 3) := by decide +kernel
theorem dX2_curve_352 : decode cX2_curve 352 = .ok (.goto (-57), 3) := by decide +kernel
theorem dX2_curve_355 : decode cX2_curve 355 = .ok (.iinc 6 1, 3) := by decide +kernel
theorem dX2_curve_358 : decode cX2_curve 358 = .ok (.goto (-134), 3) := by decide +kernel
theorem dX2_curve_361 : decode cX2_curve 361 = .ok (.aload_n 0, 1) := by decide +kernel
theorem dX2_curve_362 : decode cX2_curve 362 = .ok (.iconst 0, 1) := by decide +kernel
theorem dX2_curve_363 : decode cX2_curve 363 = .ok (.putfield 388, 3) := by decide +kernel
theorem dX2_curve_366 : decode cX2_curve 366 = .ok (.bipush 15, 2) := by decide +kernel
theorem dX2_curve_368 : decode cX2_curve 368 = .ok (.istore 6, 2) := by decide +kernel
theorem dX2_curve_370 : decode cX2_curve 370 = .ok (.iconst 0, 1) := by decide +kernel
theorem dX2_curve_371 : decode cX2_curve 371 = .ok (.istore 7, 2) := by decide +kernel
theorem dX2_curve_373 : decode cX2_curve 373 = .ok (.iload 7, 2) := by decide +kernel
theorem dX2_curve_375 : decode cX2_curve 375 = .ok (.iconst 1, 1) := by decide +kernel
theorem dX2_curve_376 : decode cX2_curve 376 = .ok (.aload_n 0, 1) := by decide +kernel
theorem dX2_curve_377 : decode cX2_curve 377 = .ok (.getfield 194, 3) := by decide +kernel
theorem dX2_curve_380 : decode cX2_curve 380 = .ok (.ishl, 1) := by decide +kernel
theorem dX2_curve_381 : decode cX2_curve 381 = .ok (.if_icmp .ge 44, 3) := by decide +kernel
theorem dX2_curve_384 : decode cX2_curve 384 = .ok (.iload 7, 2) := by decide +kernel
theorem dX2_curve_386 : decode cX2_curve 386 = .ok (.invokestatic 391, 3) := by decide +kernel
theorem dX2_curve_389 : decode cX2_curve 389 = .ok (.iload 6, 2) := by decide +kernel
theorem dX2_curve_391 : decode cX2_curve 391 = .ok (.if_icmp .ge 28, 3) := by decide +kernel
theorem dX2_curve_394 : decode cX2_curve 394 = .ok (.aload_n 0, 1) := by decide +kernel
theorem dX2_curve_395 : decode cX2_curve 395 = .ok (.iload 7, 2) := by decide +kernel
theorem dX2_curve_397 : decode cX2_curve 397 = .ok (.invokevirtual 396, 3) := by decide +kernel
theorem dX2_curve_400 : decode cX2_curve 400 = .ok (.ifCond .ne 6, 3) := by decide +kernel
theorem dX2_curve_403 : decode cX2_curve 403 = .ok (.goto 16, 3) := by decide +kernel
theorem dX2_curve_406 : decode cX2_curve 406 = .ok (.iload 7, 2) := by decide +kernel
theorem dX2_curve_408 : decode cX2_curve 408 = .ok (.invokestatic 391, 3) := by decide +kernel
theorem dX2_curve_411 : decode cX2_curve 411 = .ok (.istore 6, 2) := by decide +kernel
theorem dX2_curve_413 : decode cX2_curve 413 = .ok (.aload_n 0, 1) := by decide +kernel
theorem dX2_curve_414 : decode cX2_curve 414 = .ok (.iload 7, 2) := by decide +kernel
theorem dX2_curve_416 : decode cX2_curve 416 = .ok (.putfield 388, 3) := by decide +kernel
theorem dX2_curve_419 : decode cX2_curve 419 = .ok (.iinc 7 1, 3) := by decide +kernel
theorem dX2_curve_422 : decode cX2_curve 422 = .ok (.goto (-49), 3) := by decide +kernel
theorem dX2_curve_425 : decode cX2_curve 425 = .ok (.aload_n 0, 1) := by decide +kernel
theorem dX2_curve_426 : decode cX2_curve 426 = .ok (.invokevirtual 399, 3) := by decide +kernel
theorem dX2_curve_429 : decode cX2_curve 429 = .ok (.return_, 1) := by decide +kernel
def fn_X2_curve_191 (N : Nat) (K8 : Int32 → Int32 → Int32 → Int32 → Int32 → Int32 → zo_O → Option zo_R) (x1 : Int32) (x2 : Int32) (x3 : Int32) (x4 : Int32) (x5 : Int32) (x6 : Int32) (Ω : zo_O) : Option zo_R :=
  K8 x1 x2 x3 x4 x5 (x6 + 1) Ω
theorem ct_X2_curve_191 {Y : zo_Y} (hY : zo_Gd Y cX2_curve 9 RX2 4) (hJ : zo_JC (zo_J Y)) (hCon : ∀ Ω, zo_J Y Ω → zo_Con Ω) (hr : zo_rt Y (Option.none : Option Jvm.ClassFile.FieldType)) (N : Nat) (K8 : Int32 → Int32 → Int32 → Int32 → Int32 → Int32 → zo_O → Option zo_R) (hK8 : ∀ (x1 : Int32) (x2 : Int32) (x3 : Int32) (x4 : Int32) (x5 : Int32) (x6 : Int32) (Ω : zo_O) (res : zo_R), K8 x1 x2 x3 x4 x5 x6 Ω = some res → TW Y res Ω 8 [(0, vr 1 0), (1, vi x1), (2, vi x2), (3, vi x3), (4, vi x4), (5, vi x5), (6, vi x6)] []) (x1 : Int32) (x2 : Int32) (x3 : Int32) (x4 : Int32) (x5 : Int32) (x6 : Int32) (Ω : zo_O) (res : zo_R) (h : fn_X2_curve_191 N K8 x1 x2 x3 x4 x5 x6 Ω = some res) : TW Y res Ω 191 [(0, vr 1 0), (1, vi x1), (2, vi x2), (3, vi x3), (4, vi x4), (5, vi x5), (6, vi x6)] [] := by
  unfold fn_X2_curve_191 at h
  refine zo_iinc hY 1 dX2_curve_191 (by decide) (by decide) 6 rfl rfl (ls' := [(6, vi (x6 + 1)), (0, vr 1 0), (1, vi x1), (2, vi x2), (3, vi x3), (4, vi x4), (5, vi x5)]) rfl ?_
  refine zo_goto hY 8 dX2_curve_194 (by decide) ?_
  refine zo_sub [1, 2, 3, 4, 5, 6, 0] rfl ?_
  exact hK8 x1 x2 x3 x4 x5 (x6 + 1) Ω _ h
def fn_X2_curve_349 (N : Nat) (K224 : Int32 → zo_O → Option zo_R) (K295 : Int32 → Int32 → zo_O → Option zo_R) (x6 : Int32) (x7 : Int32) (Ω : zo_O) : Option zo_R :=
  K295 x6 (x7 + 1) Ω
theorem ct_X2_curve_349 {Y : zo_Y} (hY : zo_Gd Y cX2_curve 9 RX2 4) (hJ : zo_JC (zo_J Y)) (hCon : ∀ Ω, zo_J Y Ω → zo_Con Ω) (hr : zo_rt Y (Option.none : Option Jvm.ClassFile.FieldType)) (N : Nat) (K224 : Int32 → zo_O → Option zo_R) (K295 : Int32 → Int32 → zo_O → Option zo_R) (hK224 : ∀ (x6 : Int32) (Ω : zo_O) (res : zo_R), K224 x6 Ω = some res → TW Y res Ω 224 [(0, vr 1 0), (6, vi x6)] []) (hK295 : ∀ (x6 : Int32) (x7 : Int32) (Ω : zo_O) (res : zo_R), K295 x6 x7 Ω = some res → TW Y res Ω 295 [(0, vr 1 0), (6, vi x6), (7, vi x7)] []) (x6 : Int32) (x7 : Int32) (Ω : zo_O) (res : zo_R) (h : fn_X2_curve_349 N K224 K295 x6 x7 Ω = some res) : TW Y res Ω 349 [(0, vr 1 0), (6, vi x6), (7, vi x7)] [] := by
  unfold fn_X2_curve_349 at h
  refine zo_iinc hY 1 dX2_curve_349 (by decide) (by decide) 2 rfl rfl (ls' := [(7, vi (x7 + 1)), (0, vr 1 0), (6, vi x6)]) rfl ?_
  refine zo_goto hY 295 dX2_curve_352 (by decide) ?_
  refine zo_sub [1, 2, 0] rfl ?_
  exact hK295 x6 (x7 + 1) Ω _ h
def fn_X2_curve_355 (N : Nat) (K224 : Int32 → zo_O → Option zo_R) (x6 : Int32) (Ω : zo_O) : Option zo_R :=
  K224 (x6 + 1) Ω
theorem ct_X2_curve_355 {Y : zo_Y} (hY : zo_Gd Y cX2_curve 9 RX2 4) (hJ : zo_JC (zo_J Y)) (hCon : ∀ Ω, zo_J Y Ω → zo_Con Ω) (hr : zo_rt Y (Option.none : Option Jvm.ClassFile.FieldType)) (N : Nat) (K224 : Int32 → zo_O → Option zo_R) (hK224 : ∀ (x6 : Int32) (Ω : zo_O) (res : zo_R), K224 x6 Ω = some res → TW Y res Ω 224 [(0, vr 1 0), (6, vi x6)] []) (x6 : Int32) (Ω : zo_O) (res : zo_R) (h : fn_X2_curve_355 N K224 x6 Ω = some res) : TW Y res Ω 355 [(0, vr 1 0), (6, vi x6)] [] := by
  unfold fn_X2_curve_355 at h
  refine zo_iinc hY 1 dX2_curve_355 (by decide) (by decide) 1 rfl rfl (ls' := [(6, vi (x6 + 1)), (0, vr 1 0)]) rfl ?_
  refine zo_goto hY 224 dX2_curve_358 (by decide) ?_
  refine zo_sub [1, 0] rfl ?_
  exact hK224 (x6 + 1) Ω _ h
def bd_X2_curve_295 (N : Nat) (K224 : Int32 → zo_O → Option zo_R) (K295 : Int32 → Int32 → zo_O → Option zo_R) (x6 : Int32) (x7 : Int32) (Ω : zo_O) : Option zo_R :=
  if gI Ω 1 0 68 ≤ x7 then (
    fn_X2_curve_355 N K224 x6 Ω
    ) else
  ix x7 240 fun j2 =>
  if gI Ω 33 4 j2 = 0 then (
    fn_X2_curve_349 N K224 K295 x6 x7 Ω
    ) else
  ci (fn_X2_goTogether N x6 x7 Ω) fun r5 Ω4 =>
  if r5 = 0 then (
    ix x6 240 fun j7 =>
    ix (gI Ω4 32 39 j7) 14 fun j8 =>
    ix x7 240 fun j9 =>
    ix (gI Ω4 32 39 j7) 14 fun j10 => lt (sI Ω4 32 44 j10 ((gI Ω4 32 44 j8) ||| ((1 : Int32) <<< ((gI Ω4 32 39 j9 : Int32) &&& 31)))) fun Ω11 =>
    fn_X2_curve_349 N K224 K295 x6 x7 Ω11
    ) else
  fn_X2_curve_349 N K224 K295 x6 x7 Ω4
theorem cb_X2_curve_295 {Y : zo_Y} (hY : zo_Gd Y cX2_curve 9 RX2 4) (hJ : zo_JC (zo_J Y)) (hCon : ∀ Ω, zo_J Y Ω → zo_Con Ω) (hr : zo_rt Y (Option.none : Option Jvm.ClassFile.FieldType)) (N : Nat) (K224 : Int32 → zo_O → Option zo_R) (K295 : Int32 → Int32 → zo_O → Option zo_R) (hK224 : ∀ (x6 : Int32) (Ω : zo_O) (res : zo_R), K224 x6 Ω = some res → TW Y res Ω 224 [(0, vr 1 0), (6, vi x6)] []) (hK295 : ∀ (x6 : Int32) (x7 : Int32) (Ω : zo_O) (res : zo_R), K295 x6 x7 Ω = some res → TW Y res Ω 295 [(0, vr 1 0), (6, vi x6), (7, vi x7)] []) (x6 : Int32) (x7 : Int32) (Ω : zo_O) (res : zo_R) (h : bd_X2_curve_295 N K224 K295 x6 x7 Ω = some res) : TW Y res Ω 295 [(0, vr 1 0), (6, vi x6), (7, vi x7)] [] := by
  unfold bd_X2_curve_295 at h
  refine zo_iload hY dX2_curve_295 2 rfl ?_
  refine zo_aload_n hY dX2_curve_297 rfl 0 rfl ?_
  refine zo_getI hY LX2_368_1 rfl dX2_curve_298 ?_
  refine zo_icmp_ge hY 355 dX2_curve_301 (by decide) h (fun c1 h => ?_) (fun c1 h => ?_)
  · refine zo_sub [0, 1] rfl ?_
    exact ct_X2_curve_355 hY hJ hCon hr N K224 hK224 x6 Ω _ h
  · refine zo_aload_n hY dX2_curve_304 rfl 0 rfl ?_
    refine zo_getC hY LX2_166_1 rfl (fun Ω q => (hCon Ω q).2.1 72 _ rfl) dX2_curve_305 ?_
    refine zo_iload hY dX2_curve_308 2 rfl ?_
    refine zo_ald hY (by decide) (Or.inr ⟨Or.inr rfl, dX2_curve_310⟩) (fun q => (hCon _ q).2.2.2 33 4 240 rfl) h (fun j2 h => ?_)
    refine zo_if_eq hY 349 dX2_curve_311 (by decide) h (fun c3 h => ?_) (fun c3 h => ?_)
    · exact ct_X2_curve_349 hY hJ hCon hr N K224 K295 hK224 hK295 x6 x7 Ω _ h
    · refine zo_aload_n hY dX2_curve_314 rfl 0 rfl ?_
      refine zo_iload hY dX2_curve_315 1 rfl ?_
      refine zo_iload hY dX2_curve_317 2 rfl ?_
      refine zo_callV hY (fun q hq => mt_X2_goTogether hJ hCon N x6 x7 Ω q hq) (by decide) (by decide) (by decide) ⟨rfl, cn_X2_goTogether⟩ rfl q1720 q1722 qs63 q82 q1723 (Nat.le_of_ble_eq_true rfl) dX2_curve_319 rfl h (ci_k (fun r5 Ω4 res h => ?_))
      refine zo_if_ne hY 349 dX2_curve_322 (by decide) h (fun c6 h => ?_) (fun c6 h => ?_)
      · refine zo_aload_n hY dX2_curve_325 rfl 0 rfl ?_
        refine zo_getC hY LX2_175_1 rfl (fun Ω q => (hCon Ω q).2.1 76 _ rfl) dX2_curve_326 ?_
        refine zo_aload_n hY dX2_curve_329 rfl 0 rfl ?_
        refine zo_getC hY LX2_157_1 rfl (fun Ω q => (hCon Ω q).2.1 69 _ rfl) dX2_curve_330 ?_
        refine zo_iload hY dX2_curve_333 1 rfl ?_
        refine zo_ald hY (by decide) (Or.inl ⟨rfl, dX2_curve_335⟩) (fun q => (hCon _ q).2.2.2 32 39 240 rfl) h (fun j7 h => ?_)
        refine zo_dup2 hY dX2_curve_336 (Or.inl rfl) (Or.inr ⟨_, rfl⟩) ?_
        refine zo_ald hY (by decide) (Or.inl ⟨rfl, dX2_curve_337⟩) (fun q => (hCon _ q).2.2.2 32 44 14 rfl) h (fun j8 h => ?_)
        refine zo_iconst hY 1 (by decide) dX2_curve_338 ?_
        refine zo_aload_n hY dX2_curve_339 rfl 0 rfl ?_
        refine zo_getC hY LX2_157_1 rfl (fun Ω q => (hCon Ω q).2.1 69 _ rfl) dX2_curve_340 ?_
        refine zo_iload hY dX2_curve_343 2 rfl ?_
        refine zo_ald hY (by decide) (Or.inl ⟨rfl, dX2_curve_345⟩) (fun q => (hCon _ q).2.2.2 32 39 240 rfl) h (fun j9 h => ?_)
        refine zo_ishl hY dX2_curve_346 ?_
        refine zo_ior hY dX2_curve_347 ?_
        refine zo_ast hY hJ (by decide) (Or.inl ⟨rfl, rfl, dX2_curve_348⟩) (fun q => (hCon _ q).2.2.2 32 44 14 rfl) h (fun j10 Ω11 h => ?_)
        exact ct_X2_curve_349 hY hJ hCon hr N K224 K295 hK224 hK295 x6 x7 Ω11 _ h
      · exact ct_X2_curve_349 hY hJ hCon hr N K224 K295 hK224 hK295 x6 x7 Ω4 _ h
def fn_X2_curve_295 (N : Nat) (K224 : Int32 → zo_O → Option zo_R) : Nat → Int32 → Int32 → zo_O → Option zo_R
  | 0, _, _, _ => none
  | n + 1, x6, x7, Ω => bd_X2_curve_295 N K224 (fn_X2_curve_295 N K224 n) x6 x7 Ω
theorem ct_X2_curve_295 {Y : zo_Y} (hY : zo_Gd Y cX2_curve 9 RX2 4) (hJ : zo_JC (zo_J Y)) (hCon : ∀ Ω, zo_J Y Ω → zo_Con Ω) (hr : zo_rt Y (Option.none : Option Jvm.ClassFile.FieldType)) (N : Nat) (K224 : Int32 → zo_O → Option zo_R) (hK224 : ∀ (x6 : Int32) (Ω : zo_O) (res : zo_R), K224 x6 Ω = some res → TW Y res Ω 224 [(0, vr 1 0), (6, vi x6)] []) : ∀ (n : Nat) (x6 : Int32) (x7 : Int32) (Ω : zo_O) (res : zo_R), fn_X2_curve_295 N K224 n x6 x7 Ω = some res → TW Y res Ω 295 [(0, vr 1 0), (6, vi x6), (7, vi x7)] [] := by
  intro n
  induction n with
  | zero => intro x6 x7 Ω res h; exact nomatch (show (none : Option zo_R) = some res from h)
  | succ n ih => intro x6 x7 Ω res h; exact cb_X2_curve_295 hY hJ hCon hr N K224 (fn_X2_curve_295 N K224 n) hK224 ih x6 x7 Ω res h
def fn_X2_curve_292 (N : Nat) (K224 : Int32 → zo_O → Option zo_R) (x6 : Int32) (Ω : zo_O) : Option zo_R :=
  fn_X2_curve_295 N K224 N x6 0 Ω
theorem ct_X2_curve_292 {Y : zo_Y} (hY : zo_Gd Y cX2_curve 9 RX2 4) (hJ : zo_JC (zo_J Y)) (hCon : ∀ Ω, zo_J Y Ω → zo_Con Ω) (hr : zo_rt Y (Option.none : Option Jvm.ClassFile.FieldType)) (N : Nat) (K224 : Int32 → zo_O → Option zo_R) (hK224 : ∀ (x6 : Int32) (Ω : zo_O) (res : zo_R), K224 x6 Ω = some res → TW Y res Ω 224 [(0, vr 1 0), (6, vi x6)] []) (x6 : Int32) (Ω : zo_O) (res : zo_R) (h : fn_X2_curve_292 N K224 x6 Ω = some res) : TW Y res Ω 292 [(0, vr 1 0), (6, vi x6)] [] := by
  unfold fn_X2_curve_292 at h
  refine zo_iconst hY 0 (by decide) dX2_curve_292 ?_
  refine zo_istore hY dX2_curve_293 (by decide) rfl (ls' := [(7, vi 0), (0, vr 1 0), (6, vi x6)]) rfl ?_
  refine zo_sub [1, 2, 0] rfl ?_
  exact ct_X2_curve_295 hY hJ hCon hr N K224 hK224 N x6 0 Ω _ h
def fn_X2_curve_419 (N : Nat) (K373 : Int32 → Int32 → zo_O → Option zo_R) (x6 : Int32) (x7 : Int32) (Ω : zo_O) : Option zo_R :=
  K373 x6 (x7 + 1) Ω
theorem ct_X2_curve_419 {Y : zo_Y} (hY : zo_Gd Y cX2_curve 9 RX2 4) (hJ : zo_JC (zo_J Y)) (hCon : ∀ Ω, zo_J Y Ω → zo_Con Ω) (hr : zo_rt Y (Option.none : Option Jvm.ClassFile.FieldType)) (N : Nat) (K373 : Int32 → Int32 → zo_O → Option zo_R) (hK373 : ∀ (x6 : Int32) (x7 : Int32) (Ω : zo_O) (res : zo_R), K373 x6 x7 Ω = some res → TW Y res Ω 373 [(0, vr 1 0), (6, vi x6), (7, vi x7)] []) (x6 : Int32) (x7 : Int32) (Ω : zo_O) (res : zo_R) (h : fn_X2_curve_419 N K373 x6 x7 Ω = some res) : TW Y res Ω 419 [(0, vr 1 0), (6, vi x6), (7, vi x7)] [] := by
  unfold fn_X2_curve_419 at h
  refine zo_iinc hY 1 dX2_curve_419 (by decide) (by decide) 2 rfl rfl (ls' := [(7, vi (x7 + 1)), (0, vr 1 0), (6, vi x6)]) rfl ?_
  refine zo_goto hY 373 dX2_curve_422 (by decide) ?_
  refine zo_sub [1, 2, 0] rfl ?_
  exact hK373 x6 (x7 + 1) Ω _ h
def bd_X2_curve_373 (N : Nat)  (K373 : Int32 → Int32 → zo_O → Option zo_R) (x6 : Int32) (x7 : Int32) (Ω : zo_O) : Option zo_R :=
  if (1 : Int32) <<< ((gI Ω 1 0 2 : Int32) &&& 31) ≤ x7 then (
    cv (fn_X2_sizes N Ω) fun Ω2 =>
    rV Ω2
    ) else
  ci (fn_J15_bitCount N x7 Ω) fun r4 Ω3 =>
  if x6 ≤ r4 then (
    fn_X2_curve_419 N K373 x6 x7 Ω3
    ) else
  ci (fn_X2_isEnough N x7 Ω3) fun r7 Ω6 =>
  if r7 = 0 then (
    fn_X2_curve_419 N K373 x6 x7 Ω6
    ) else
  ci (fn_J15_bitCount N x7 Ω6) fun r10 Ω9 =>
  lt (sI Ω9 1 0 73 x7) fun Ω11 =>
  fn_X2_curve_419 N K373 r10 x7 Ω11
theorem cb_X2_curve_373 {Y : zo_Y} (hY : zo_Gd Y cX2_curve 9 RX2 4) (hJ : zo_JC (zo_J Y)) (hCon : ∀ Ω, zo_J Y Ω → zo_Con Ω) (hr : zo_rt Y (Option.none : Option Jvm.ClassFile.FieldType)) (N : Nat)  (K373 : Int32 → Int32 → zo_O → Option zo_R)  (hK373 : ∀ (x6 : Int32) (x7 : Int32) (Ω : zo_O) (res : zo_R), K373 x6 x7 Ω = some res → TW Y res Ω 373 [(0, vr 1 0), (6, vi x6), (7, vi x7)] []) (x6 : Int32) (x7 : Int32) (Ω : zo_O) (res : zo_R) (h : bd_X2_curve_373 N  K373 x6 x7 Ω = some res) : TW Y res Ω 373 [(0, vr 1 0), (6, vi x6), (7, vi x7)] [] := by
  unfold bd_X2_curve_373 at h
  refine zo_iload hY dX2_curve_373 2 rfl ?_
  refine zo_iconst hY 1 (by decide) dX2_curve_375 ?_
  refine zo_aload_n hY dX2_curve_376 rfl 0 rfl ?_
  refine zo_getI hY LX2_194_1 rfl dX2_curve_377 ?_
  refine zo_ishl hY dX2_curve_380 ?_
  refine zo_icmp_ge hY 425 dX2_curve_381 (by decide) h (fun c1 h => ?_) (fun c1 h => ?_)
  · refine zo_aload_n hY dX2_curve_425 rfl 0 rfl ?_
    refine zo_callV hY (fun q hq => mt_X2_sizes hJ hCon N Ω q hq) (by decide) (by decide) (by decide) ⟨rfl, cn_X2_sizes⟩ rfl q1729 q1731 qs65 q82 q1732 (Nat.le_of_ble_eq_true rfl) dX2_curve_426 rfl h (cv_k (fun Ω2 res h => ?_))
    exact zo_vret hY hr dX2_curve_429 h
  · refine zo_iload hY dX2_curve_384 2 rfl ?_
    refine zo_callS hY (fun q hq => mt_J15_bitCount hJ hCon N x7 Ω q hq) (by decide) (by decide) cn_J15_bitCount rfl q1724 q1040 q115 q1041 (Nat.le_of_ble_eq_true rfl) dX2_curve_386 rfl h (ci_k (fun r4 Ω3 res h => ?_))
    refine zo_iload hY dX2_curve_389 1 rfl ?_
    refine zo_icmp_ge hY 419 dX2_curve_391 (by decide) h (fun c5 h => ?_) (fun c5 h => ?_)
    · exact ct_X2_curve_419 hY hJ hCon hr N K373 hK373 x6 x7 Ω3 _ h
    · refine zo_aload_n hY dX2_curve_394 rfl 0 rfl ?_
      refine zo_iload hY dX2_curve_395 2 rfl ?_
      refine zo_callV hY (fun q hq => mt_X2_isEnough hJ hCon N x7 Ω3 q hq) (by decide) (by decide) (by decide) ⟨rfl, cn_X2_isEnough⟩ rfl q1725 q1727 qs64 q82 q1728 (Nat.le_of_ble_eq_true rfl) dX2_curve_397 rfl h (ci_k (fun r7 Ω6 res h => ?_))
      refine zo_if_ne hY 406 dX2_curve_400 (by decide) h (fun c8 h => ?_) (fun c8 h => ?_)
      · refine zo_goto hY 419 dX2_curve_403 (by decide) ?_
        exact ct_X2_curve_419 hY hJ hCon hr N K373 hK373 x6 x7 Ω6 _ h
      · refine zo_iload hY dX2_curve_406 2 rfl ?_
        refine zo_callS hY (fun q hq => mt_J15_bitCount hJ hCon N x7 Ω6 q hq) (by decide) (by decide) cn_J15_bitCount rfl q1724 q1040 q115 q1041 (Nat.le_of_ble_eq_true rfl) dX2_curve_408 rfl h (ci_k (fun r10 Ω9 res h => ?_))
        refine zo_istore hY dX2_curve_411 (by decide) rfl (ls' := [(6, vi r10), (0, vr 1 0), (7, vi x7)]) rfl ?_
        refine zo_aload_n hY dX2_curve_413 rfl 1 rfl ?_
        refine zo_iload hY dX2_curve_414 2 rfl ?_
        refine zo_putI hY hJ LX2_388_1 rfl (Or.inl rfl) dX2_curve_416 h (fun Ω11 h => ?_)
        refine zo_sub [1, 0, 2] rfl ?_
        exact ct_X2_curve_419 hY hJ hCon hr N K373 hK373 r10 x7 Ω11 _ h
def fn_X2_curve_373 (N : Nat)  : Nat → Int32 → Int32 → zo_O → Option zo_R
  | 0, _, _, _ => none
  | n + 1, x6, x7, Ω => bd_X2_curve_373 N  (fn_X2_curve_373 N  n) x6 x7 Ω
theorem ct_X2_curve_373 {Y : zo_Y} (hY : zo_Gd Y cX2_curve 9 RX2 4) (hJ : zo_JC (zo_J Y)) (hCon : ∀ Ω, zo_J Y Ω → zo_Con Ω) (hr : zo_rt Y (Option.none : Option Jvm.ClassFile.FieldType)) (N : Nat)   : ∀ (n : Nat) (x6 : Int32) (x7 : Int32) (Ω : zo_O) (res : zo_R), fn_X2_curve_373 N  n x6 x7 Ω = some res → TW Y res Ω 373 [(0, vr 1 0), (6, vi x6), (7, vi x7)] [] := by
  intro n
  induction n with
  | zero => intro x6 x7 Ω res h; exact nomatch (show (none : Option zo_R) = some res from h)
  | succ n ih => intro x6 x7 Ω res h; exact cb_X2_curve_373 hY hJ hCon hr N  (fn_X2_curve_373 N  n)  ih x6 x7 Ω res h
def bd_X2_curve_224 (N : Nat)  (K224 : Int32 → zo_O → Option zo_R) (x6 : Int32) (Ω : zo_O) : Option zo_R :=
  if gI Ω 1 0 68 ≤ x6 then (
    lt (sI Ω 1 0 73 0) fun Ω2 =>
    fn_X2_curve_373 N N 15 0 Ω2
    ) else
  ix x6 240 fun j3 =>
  if gI Ω 33 4 j3 = 0 then (
    ix x6 240 fun j5 =>
    ix x6 240 fun j6 =>
    if gI Ω 32 41 j5 ≤ (gI Ω 1 0 42) * (gI Ω 32 40 j6) then (
      fn_X2_curve_292 N K224 x6 Ω
      ) else
    ix x6 240 fun j8 =>
    ix (gI Ω 32 39 j8) 14 fun j9 =>
    ix x6 240 fun j10 =>
    ix (gI Ω 32 39 j8) 14 fun j11 => lt (sI Ω 32 44 j11 ((gI Ω 32 44 j9) ||| ((1 : Int32) <<< ((gI Ω 32 39 j10 : Int32) &&& 31)))) fun Ω12 =>
    fn_X2_curve_292 N K224 x6 Ω12
    ) else
  fn_X2_curve_355 N K224 x6 Ω
theorem cb_X2_curve_224 {Y : zo_Y} (hY : zo_Gd Y cX2_curve 9 RX2 4) (hJ : zo_JC (zo_J Y)) (hCon : ∀ Ω, zo_J Y Ω → zo_Con Ω) (hr : zo_rt Y (Option.none : Option Jvm.ClassFile.FieldType)) (N : Nat)  (K224 : Int32 → zo_O → Option zo_R)  (hK224 : ∀ (x6 : Int32) (Ω : zo_O) (res : zo_R), K224 x6 Ω = some res → TW Y res Ω 224 [(0, vr 1 0), (6, vi x6)] []) (x6 : Int32) (Ω : zo_O) (res : zo_R) (h : bd_X2_curve_224 N  K224 x6 Ω = some res) : TW Y res Ω 224 [(0, vr 1 0), (6, vi x6)] [] := by
  unfold bd_X2_curve_224 at h
  refine zo_iload hY dX2_curve_224 1 rfl ?_
  refine zo_aload_n hY dX2_curve_226 rfl 0 rfl ?_
  refine zo_getI hY LX2_368_1 rfl dX2_curve_227 ?_
  refine zo_icmp_ge hY 361 dX2_curve_230 (by decide) h (fun c1 h => ?_) (fun c1 h => ?_)
  · refine zo_aload_n hY dX2_curve_361 rfl 0 rfl ?_
    refine zo_iconst hY 0 (by decide) dX2_curve_362 ?_
    refine zo_putI hY hJ LX2_388_1 rfl (Or.inl rfl) dX2_curve_363 h (fun Ω2 h => ?_)
    refine zo_bipush hY 15 (by decide) dX2_curve_366 ?_
    refine zo_istore hY dX2_curve_368 (by decide) rfl (ls' := [(6, vi 15), (0, vr 1 0)]) rfl ?_
    refine zo_iconst hY 0 (by decide) dX2_curve_370 ?_
    refine zo_istore hY dX2_curve_371 (by decide) rfl (ls' := [(7, vi 0), (6, vi 15), (0, vr 1 0)]) rfl ?_
    refine zo_sub [2, 1, 0] rfl ?_
    exact ct_X2_curve_373 hY hJ hCon hr N N 15 0 Ω2 _ h
  · refine zo_aload_n hY dX2_curve_233 rfl 0 rfl ?_
    refine zo_getC hY LX2_166_1 rfl (fun Ω q => (hCon Ω q).2.1 72 _ rfl) dX2_curve_234 ?_
    refine zo_iload hY dX2_curve_237 1 rfl ?_
    refine zo_ald hY (by decide) (Or.inr ⟨Or.inr rfl, dX2_curve_239⟩) (fun q => (hCon _ q).2.2.2 33 4 240 rfl) h (fun j3 h => ?_)
    refine zo_if_eq hY 246 dX2_curve_240 (by decide) h (fun c4 h => ?_) (fun c4 h => ?_)
    · refine zo_aload_n hY dX2_curve_246 rfl 0 rfl ?_
      refine zo_getC hY LX2_163_1 rfl (fun Ω q => (hCon Ω q).2.1 71 _ rfl) dX2_curve_247 ?_
      refine zo_iload hY dX2_curve_250 1 rfl ?_
      refine zo_ald hY (by decide) (Or.inl ⟨rfl, dX2_curve_252⟩) (fun q => (hCon _ q).2.2.2 32 41 240 rfl) h (fun j5 h => ?_)
      refine zo_aload_n hY dX2_curve_253 rfl 0 rfl ?_
      refine zo_getI hY LX2_111_1 rfl dX2_curve_254 ?_
      refine zo_aload_n hY dX2_curve_257 rfl 0 rfl ?_
      refine zo_getC hY LX2_160_1 rfl (fun Ω q => (hCon Ω q).2.1 70 _ rfl) dX2_curve_258 ?_
      refine zo_iload hY dX2_curve_261 1 rfl ?_
      refine zo_ald hY (by decide) (Or.inl ⟨rfl, dX2_curve_263⟩) (fun q => (hCon _ q).2.2.2 32 40 240 rfl) h (fun j6 h => ?_)
      refine zo_imul hY dX2_curve_264 ?_
      refine zo_icmp_le hY 292 dX2_curve_265 (by decide) h (fun c7 h => ?_) (fun c7 h => ?_)
      · exact ct_X2_curve_292 hY hJ hCon hr N K224 hK224 x6 Ω _ h
      · refine zo_aload_n hY dX2_curve_268 rfl 0 rfl ?_
        refine zo_getC hY LX2_175_1 rfl (fun Ω q => (hCon Ω q).2.1 76 _ rfl) dX2_curve_269 ?_
        refine zo_aload_n hY dX2_curve_272 rfl 0 rfl ?_
        refine zo_getC hY LX2_157_1 rfl (fun Ω q => (hCon Ω q).2.1 69 _ rfl) dX2_curve_273 ?_
        refine zo_iload hY dX2_curve_276 1 rfl ?_
        refine zo_ald hY (by decide) (Or.inl ⟨rfl, dX2_curve_278⟩) (fun q => (hCon _ q).2.2.2 32 39 240 rfl) h (fun j8 h => ?_)
        refine zo_dup2 hY dX2_curve_279 (Or.inl rfl) (Or.inr ⟨_, rfl⟩) ?_
        refine zo_ald hY (by decide) (Or.inl ⟨rfl, dX2_curve_280⟩) (fun q => (hCon _ q).2.2.2 32 44 14 rfl) h (fun j9 h => ?_)
        refine zo_iconst hY 1 (by decide) dX2_curve_281 ?_
        refine zo_aload_n hY dX2_curve_282 rfl 0 rfl ?_
        refine zo_getC hY LX2_157_1 rfl (fun Ω q => (hCon Ω q).2.1 69 _ rfl) dX2_curve_283 ?_
        refine zo_iload hY dX2_curve_286 1 rfl ?_
        refine zo_ald hY (by decide) (Or.inl ⟨rfl, dX2_curve_288⟩) (fun q => (hCon _ q).2.2.2 32 39 240 rfl) h (fun j10 h => ?_)
        refine zo_ishl hY dX2_curve_289 ?_
        refine zo_ior hY dX2_curve_290 ?_
        refine zo_ast hY hJ (by decide) (Or.inl ⟨rfl, rfl, dX2_curve_291⟩) (fun q => (hCon _ q).2.2.2 32 44 14 rfl) h (fun j11 Ω12 h => ?_)
        exact ct_X2_curve_292 hY hJ hCon hr N K224 hK224 x6 Ω12 _ h
    · refine zo_goto hY 355 dX2_curve_243 (by decide) ?_
      exact ct_X2_curve_355 hY hJ hCon hr N K224 hK224 x6 Ω _ h
def fn_X2_curve_224 (N : Nat)  : Nat → Int32 → zo_O → Option zo_R
  | 0, _, _ => none
  | n + 1, x6, Ω => bd_X2_curve_224 N  (fn_X2_curve_224 N  n) x6 Ω
theorem ct_X2_curve_224 {Y : zo_Y} (hY : zo_Gd Y cX2_curve 9 RX2 4) (hJ : zo_JC (zo_J Y)) (hCon : ∀ Ω, zo_J Y Ω → zo_Con Ω) (hr : zo_rt Y (Option.none : Option Jvm.ClassFile.FieldType)) (N : Nat)   : ∀ (n : Nat) (x6 : Int32) (Ω : zo_O) (res : zo_R), fn_X2_curve_224 N  n x6 Ω = some res → TW Y res Ω 224 [(0, vr 1 0), (6, vi x6)] [] := by
  intro n
  induction n with
  | zero => intro x6 Ω res h; exact nomatch (show (none : Option zo_R) = some res from h)
  | succ n ih => intro x6 Ω res h; exact cb_X2_curve_224 hY hJ hCon hr N  (fn_X2_curve_224 N  n)  ih x6 Ω res h
def bd_X2_curve_200 (N : Nat)  (K200 : Int32 → zo_O → Option zo_R) (x6 : Int32) (Ω : zo_O) : Option zo_R :=
  if 14 ≤ x6 then (
    fn_X2_curve_224 N N 0 Ω
    ) else
  ix x6 14 fun j2 => lt (sI Ω 32 44 j2 0) fun Ω3 =>
  K200 (x6 + 1) Ω3
theorem cb_X2_curve_200 {Y : zo_Y} (hY : zo_Gd Y cX2_curve 9 RX2 4) (hJ : zo_JC (zo_J Y)) (hCon : ∀ Ω, zo_J Y Ω → zo_Con Ω) (hr : zo_rt Y (Option.none : Option Jvm.ClassFile.FieldType)) (N : Nat)  (K200 : Int32 → zo_O → Option zo_R)  (hK200 : ∀ (x6 : Int32) (Ω : zo_O) (res : zo_R), K200 x6 Ω = some res → TW Y res Ω 200 [(0, vr 1 0), (6, vi x6)] []) (x6 : Int32) (Ω : zo_O) (res : zo_R) (h : bd_X2_curve_200 N  K200 x6 Ω = some res) : TW Y res Ω 200 [(0, vr 1 0), (6, vi x6)] [] := by
  unfold bd_X2_curve_200 at h
  refine zo_iload hY dX2_curve_200 1 rfl ?_
  refine zo_bipush hY 14 (by decide) dX2_curve_202 ?_
  refine zo_icmp_ge hY 221 dX2_curve_204 (by decide) h (fun c1 h => ?_) (fun c1 h => ?_)
  · refine zo_iconst hY 0 (by decide) dX2_curve_221 ?_
    refine zo_istore hY dX2_curve_222 (by decide) rfl (ls' := [(6, vi 0), (0, vr 1 0)]) rfl ?_
    refine zo_sub [1, 0] rfl ?_
    exact ct_X2_curve_224 hY hJ hCon hr N N 0 Ω _ h
  · refine zo_aload_n hY dX2_curve_207 rfl 0 rfl ?_
    refine zo_getC hY LX2_175_1 rfl (fun Ω q => (hCon Ω q).2.1 76 _ rfl) dX2_curve_208 ?_
    refine zo_iload hY dX2_curve_211 1 rfl ?_
    refine zo_iconst hY 0 (by decide) dX2_curve_213 ?_
    refine zo_ast hY hJ (by decide) (Or.inl ⟨rfl, rfl, dX2_curve_214⟩) (fun q => (hCon _ q).2.2.2 32 44 14 rfl) h (fun j2 Ω3 h => ?_)
    refine zo_iinc hY 1 dX2_curve_215 (by decide) (by decide) 1 rfl rfl (ls' := [(6, vi (x6 + 1)), (0, vr 1 0)]) rfl ?_
    refine zo_goto hY 200 dX2_curve_218 (by decide) ?_
    refine zo_sub [1, 0] rfl ?_
    exact hK200 (x6 + 1) Ω3 _ h
def fn_X2_curve_200 (N : Nat)  : Nat → Int32 → zo_O → Option zo_R
  | 0, _, _ => none
  | n + 1, x6, Ω => bd_X2_curve_200 N  (fn_X2_curve_200 N  n) x6 Ω
theorem ct_X2_curve_200 {Y : zo_Y} (hY : zo_Gd Y cX2_curve 9 RX2 4) (hJ : zo_JC (zo_J Y)) (hCon : ∀ Ω, zo_J Y Ω → zo_Con Ω) (hr : zo_rt Y (Option.none : Option Jvm.ClassFile.FieldType)) (N : Nat)   : ∀ (n : Nat) (x6 : Int32) (Ω : zo_O) (res : zo_R), fn_X2_curve_200 N  n x6 Ω = some res → TW Y res Ω 200 [(0, vr 1 0), (6, vi x6)] [] := by
  intro n
  induction n with
  | zero => intro x6 Ω res h; exact nomatch (show (none : Option zo_R) = some res from h)
  | succ n ih => intro x6 Ω res h; exact cb_X2_curve_200 hY hJ hCon hr N  (fn_X2_curve_200 N  n)  ih x6 Ω res h
def bd_X2_curve_8 (N : Nat)  (K8 : Int32 → Int32 → Int32 → Int32 → Int32 → Int32 → zo_O → Option zo_R) (x1 : Int32) (x2 : Int32) (x3 : Int32) (x4 : Int32) (x5 : Int32) (x6 : Int32) (Ω : zo_O) : Option zo_R :=
  if gI Ω 1 0 8 ≤ x6 then (
    fn_X2_curve_200 N N 0 Ω
    ) else
  ix x6 120 fun j2 =>
  li (gI Ω 32 5 j2) fun y3 =>
  ix x6 120 fun j4 =>
  if gI Ω 32 6 j4 = x1 then (
    if y3 = x5 then (
      fn_X2_curve_191 N K8 x1 x2 x3 x4 x5 x6 Ω
      ) else
    ix y3 14 fun j7 =>
    if gI Ω 32 3 j7 = (-1) then (
      fn_X2_curve_191 N K8 x1 x2 x3 x4 x5 x6 Ω
      ) else
    ix y3 14 fun j9 =>
    if gI Ω 32 0 j9 = x2 then (
      ix y3 14 fun j11 =>
      if gI Ω 32 1 j11 = x3 then (
        ix x6 120 fun j13 =>
        ix y3 14 fun j14 =>
        if gI Ω 32 10 j13 < gI Ω 32 3 j14 then (
          fn_X2_curve_191 N K8 x1 x2 x3 x4 x5 x6 Ω
          ) else
        ci (fn_X2_isFirst N x6 Ω) fun r17 Ω16 =>
        if r17 = 0 then (
          fn_X2_curve_191 N K8 x1 x2 x3 x4 x5 x6 Ω16
          ) else
        ix x6 120 fun j19 =>
        ci (fn_X2_gathers N y3 x1 (gI Ω16 32 10 j19) x4 Ω16) fun r21 Ω20 =>
        if r21 = 0 then (
          fn_X2_curve_191 N K8 x1 x2 x3 x4 x5 x6 Ω20
          ) else
        ix x6 120 fun j23 =>
        ix y3 14 fun j24 =>
        li ((gI Ω20 32 10 j23) - (gI Ω20 32 3 j24)) fun y25 =>
        cv (fn_X2_adds N y3 y25 (gI Ω20 1 0 66) 0 Ω20) fun Ω26 =>
        ci (fn_X2_lookedAt N y3 x1 x4 Ω26) fun r28 Ω27 =>
        if r28 < gI Ω27 1 0 43 then (
          fn_X2_curve_191 N K8 x1 x2 x3 x4 x5 x6 Ω27
          ) else
        ix x1 3 fun j30 =>
        cv (fn_X2_adds N y3 (y25 - (gI Ω27 32 31 j30)) (gI Ω27 1 0 67) 1 Ω27) fun Ω31 =>
        fn_X2_curve_191 N K8 x1 x2 x3 x4 x5 x6 Ω31
        ) else
      fn_X2_curve_191 N K8 x1 x2 x3 x4 x5 x6 Ω
      ) else
    fn_X2_curve_191 N K8 x1 x2 x3 x4 x5 x6 Ω
    ) else
  fn_X2_curve_191 N K8 x1 x2 x3 x4 x5 x6 Ω
theorem cb_X2_curve_8 {Y : zo_Y} (hY : zo_Gd Y cX2_curve 9 RX2 4) (hJ : zo_JC (zo_J Y)) (hCon : ∀ Ω, zo_J Y Ω → zo_Con Ω) (hr : zo_rt Y (Option.none : Option Jvm.ClassFile.FieldType)) (N : Nat)  (K8 : Int32 → Int32 → Int32 → Int32 → Int32 → Int32 → zo_O → Option zo_R)  (hK8 : ∀ (x1 : Int32) (x2 : Int32) (x3 : Int32) (x4 : Int32) (x5 : Int32) (x6 : Int32) (Ω : zo_O) (res : zo_R), K8 x1 x2 x3 x4 x5 x6 Ω = some res → TW Y res Ω 8 [(0, vr 1 0), (1, vi x1), (2, vi x2), (3, vi x3), (4, vi x4), (5, vi x5), (6, vi x6)] []) (x1 : Int32) (x2 : Int32) (x3 : Int32) (x4 : Int32) (x5 : Int32) (x6 : Int32) (Ω : zo_O) (res : zo_R) (h : bd_X2_curve_8 N  K8 x1 x2 x3 x4 x5 x6 Ω = some res) : TW Y res Ω 8 [(0, vr 1 0), (1, vi x1), (2, vi x2), (3, vi x3), (4, vi x4), (5, vi x5), (6, vi x6)] [] := by
  unfold bd_X2_curve_8 at h
  refine zo_iload hY dX2_curve_8 6 rfl ?_
  refine zo_aload_n hY dX2_curve_10 rfl 0 rfl ?_
  refine zo_getI hY LX2_197_1 rfl dX2_curve_11 ?_
  refine zo_icmp_ge hY 197 dX2_curve_14 (by decide) h (fun c1 h => ?_) (fun c1 h => ?_)
  · refine zo_iconst hY 0 (by decide) dX2_curve_197 ?_
    refine zo_istore hY dX2_curve_198 (by decide) rfl (ls' := [(6, vi 0), (0, vr 1 0), (1, vi x1), (2, vi x2), (3, vi x3), (4, vi x4), (5, vi x5)]) rfl ?_
    refine zo_sub [1, 0] rfl ?_
    exact ct_X2_curve_200 hY hJ hCon hr N N 0 Ω _ h
  · refine zo_aload_n hY dX2_curve_17 rfl 0 rfl ?_
    refine zo_getC hY LX2_25_1 rfl (fun Ω q => (hCon Ω q).2.1 9 _ rfl) dX2_curve_18 ?_
    refine zo_iload hY dX2_curve_21 6 rfl ?_
    refine zo_ald hY (by decide) (Or.inl ⟨rfl, dX2_curve_23⟩) (fun q => (hCon _ q).2.2.2 32 5 120 rfl) h (fun j2 h => ?_)
    refine zo_nmi h (fun y3 h => ?_)
    refine zo_istore hY dX2_curve_24 (by decide) rfl (ls' := [(7, vi y3), (0, vr 1 0), (1, vi x1), (2, vi x2), (3, vi x3), (4, vi x4), (5, vi x5), (6, vi x6)]) rfl ?_
    refine zo_aload_n hY dX2_curve_26 rfl 1 rfl ?_
    refine zo_getC hY LX2_28_1 rfl (fun Ω q => (hCon Ω q).2.1 10 _ rfl) dX2_curve_27 ?_
    refine zo_iload hY dX2_curve_30 7 rfl ?_
    refine zo_ald hY (by decide) (Or.inl ⟨rfl, dX2_curve_32⟩) (fun q => (hCon _ q).2.2.2 32 6 120 rfl) h (fun j4 h => ?_)
    refine zo_iload_n hY dX2_curve_33 rfl 2 rfl ?_
    refine zo_icmp_ne hY 191 dX2_curve_34 (by decide) h (fun c5 h => ?_) (fun c5 h => ?_)
    · refine zo_iload hY dX2_curve_37 0 rfl ?_
      refine zo_iload hY dX2_curve_39 6 rfl ?_
      refine zo_icmp_eq hY 191 dX2_curve_41 (by decide) h (fun c6 h => ?_) (fun c6 h => ?_)
      · refine zo_sub [1, 2, 3, 4, 5, 6, 7] rfl ?_
        exact ct_X2_curve_191 hY hJ hCon hr N K8 hK8 x1 x2 x3 x4 x5 x6 Ω _ h
      · refine zo_aload_n hY dX2_curve_44 rfl 1 rfl ?_
        refine zo_getC hY LX2_19_1 rfl (fun Ω q => (hCon Ω q).2.1 6 _ rfl) dX2_curve_45 ?_
        refine zo_iload hY dX2_curve_48 0 rfl ?_
        refine zo_ald hY (by decide) (Or.inl ⟨rfl, dX2_curve_50⟩) (fun q => (hCon _ q).2.2.2 32 3 14 rfl) h (fun j7 h => ?_)
        refine zo_iconst hY (-1) (by decide) dX2_curve_51 ?_
        refine zo_icmp_eq hY 191 dX2_curve_52 (by decide) h (fun c8 h => ?_) (fun c8 h => ?_)
        · refine zo_sub [1, 2, 3, 4, 5, 6, 7] rfl ?_
          exact ct_X2_curve_191 hY hJ hCon hr N K8 hK8 x1 x2 x3 x4 x5 x6 Ω _ h
        · refine zo_aload_n hY dX2_curve_55 rfl 1 rfl ?_
          refine zo_getC hY LX2_7_1 rfl (fun Ω q => (hCon Ω q).2.1 3 _ rfl) dX2_curve_56 ?_
          refine zo_iload hY dX2_curve_59 0 rfl ?_
          refine zo_ald hY (by decide) (Or.inl ⟨rfl, dX2_curve_61⟩) (fun q => (hCon _ q).2.2.2 32 0 14 rfl) h (fun j9 h => ?_)
          refine zo_iload_n hY dX2_curve_62 rfl 3 rfl ?_
          refine zo_icmp_ne hY 191 dX2_curve_63 (by decide) h (fun c10 h => ?_) (fun c10 h => ?_)
          · refine zo_aload_n hY dX2_curve_66 rfl 1 rfl ?_
            refine zo_getC hY LX2_13_1 rfl (fun Ω q => (hCon Ω q).2.1 4 _ rfl) dX2_curve_67 ?_
            refine zo_iload hY dX2_curve_70 0 rfl ?_
            refine zo_ald hY (by decide) (Or.inl ⟨rfl, dX2_curve_72⟩) (fun q => (hCon _ q).2.2.2 32 1 14 rfl) h (fun j11 h => ?_)
            refine zo_iload_n hY dX2_curve_73 rfl 4 rfl ?_
            refine zo_icmp_ne hY 191 dX2_curve_74 (by decide) h (fun c12 h => ?_) (fun c12 h => ?_)
            · refine zo_aload_n hY dX2_curve_77 rfl 1 rfl ?_
              refine zo_getC hY LX2_40_1 rfl (fun Ω q => (hCon Ω q).2.1 14 _ rfl) dX2_curve_78 ?_
              refine zo_iload hY dX2_curve_81 7 rfl ?_
              refine zo_ald hY (by decide) (Or.inl ⟨rfl, dX2_curve_83⟩) (fun q => (hCon _ q).2.2.2 32 10 120 rfl) h (fun j13 h => ?_)
              refine zo_aload_n hY dX2_curve_84 rfl 1 rfl ?_
              refine zo_getC hY LX2_19_1 rfl (fun Ω q => (hCon Ω q).2.1 6 _ rfl) dX2_curve_85 ?_
              refine zo_iload hY dX2_curve_88 0 rfl ?_
              refine zo_ald hY (by decide) (Or.inl ⟨rfl, dX2_curve_90⟩) (fun q => (hCon _ q).2.2.2 32 3 14 rfl) h (fun j14 h => ?_)
              refine zo_icmp_lt hY 191 dX2_curve_91 (by decide) h (fun c15 h => ?_) (fun c15 h => ?_)
              · refine zo_sub [1, 2, 3, 4, 5, 6, 7] rfl ?_
                exact ct_X2_curve_191 hY hJ hCon hr N K8 hK8 x1 x2 x3 x4 x5 x6 Ω _ h
              · refine zo_aload_n hY dX2_curve_94 rfl 1 rfl ?_
                refine zo_iload hY dX2_curve_95 7 rfl ?_
                refine zo_callV hY (fun q hq => mt_X2_isFirst hJ hCon N x6 Ω q hq) (by decide) (by decide) (by decide) ⟨rfl, cn_X2_isFirst⟩ rfl q1704 q1706 qs59 q82 q1707 (Nat.le_of_ble_eq_true rfl) dX2_curve_97 rfl h (ci_k (fun r17 Ω16 res h => ?_))
                refine zo_if_eq hY 191 dX2_curve_100 (by decide) h (fun c18 h => ?_) (fun c18 h => ?_)
                · refine zo_sub [1, 2, 3, 4, 5, 6, 7] rfl ?_
                  exact ct_X2_curve_191 hY hJ hCon hr N K8 hK8 x1 x2 x3 x4 x5 x6 Ω16 _ h
                · refine zo_aload_n hY dX2_curve_103 rfl 1 rfl ?_
                  refine zo_iload hY dX2_curve_104 0 rfl ?_
                  refine zo_iload_n hY dX2_curve_106 rfl 2 rfl ?_
                  refine zo_aload_n hY dX2_curve_107 rfl 1 rfl ?_
                  refine zo_getC hY LX2_40_1 rfl (fun Ω q => (hCon Ω q).2.1 14 _ rfl) dX2_curve_108 ?_
                  refine zo_iload hY dX2_curve_111 7 rfl ?_
                  refine zo_ald hY (by decide) (Or.inl ⟨rfl, dX2_curve_113⟩) (fun q => (hCon _ q).2.2.2 32 10 120 rfl) h (fun j19 h => ?_)
                  refine zo_iload hY dX2_curve_114 5 rfl ?_
                  refine zo_callV hY (fun q hq => mt_X2_gathers hJ hCon N y3 x1 (gI Ω16 32 10 j19) x4 Ω16 q hq) (by decide) (by decide) (by decide) ⟨rfl, cn_X2_gathers⟩ rfl q1708 q1710 qs60 q82 q1711 (Nat.le_of_ble_eq_true rfl) dX2_curve_116 rfl h (ci_k (fun r21 Ω20 res h => ?_))
                  refine zo_if_ne hY 125 dX2_curve_119 (by decide) h (fun c22 h => ?_) (fun c22 h => ?_)
                  · refine zo_goto hY 191 dX2_curve_122 (by decide) ?_
                    refine zo_sub [1, 2, 3, 4, 5, 6, 7] rfl ?_
                    exact ct_X2_curve_191 hY hJ hCon hr N K8 hK8 x1 x2 x3 x4 x5 x6 Ω20 _ h
                  · refine zo_aload_n hY dX2_curve_125 rfl 1 rfl ?_
                    refine zo_getC hY LX2_40_1 rfl (fun Ω q => (hCon Ω q).2.1 14 _ rfl) dX2_curve_126 ?_
                    refine zo_iload hY dX2_curve_129 7 rfl ?_
                    refine zo_ald hY (by decide) (Or.inl ⟨rfl, dX2_curve_131⟩) (fun q => (hCon _ q).2.2.2 32 10 120 rfl) h (fun j23 h => ?_)
                    refine zo_aload_n hY dX2_curve_132 rfl 1 rfl ?_
                    refine zo_getC hY LX2_19_1 rfl (fun Ω q => (hCon Ω q).2.1 6 _ rfl) dX2_curve_133 ?_
                    refine zo_iload hY dX2_curve_136 0 rfl ?_
                    refine zo_ald hY (by decide) (Or.inl ⟨rfl, dX2_curve_138⟩) (fun q => (hCon _ q).2.2.2 32 3 14 rfl) h (fun j24 h => ?_)
                    refine zo_isub hY dX2_curve_139 ?_
                    refine zo_nmi h (fun y25 h => ?_)
                    refine zo_istore hY dX2_curve_140 (by decide) rfl (ls' := [(8, vi y25), (7, vi y3), (0, vr 1 0), (1, vi x1), (2, vi x2), (3, vi x3), (4, vi x4), (5, vi x5), (6, vi x6)]) rfl ?_
                    refine zo_aload_n hY dX2_curve_142 rfl 2 rfl ?_
                    refine zo_iload hY dX2_curve_143 1 rfl ?_
                    refine zo_iload hY dX2_curve_145 0 rfl ?_
                    refine zo_aload_n hY dX2_curve_147 rfl 2 rfl ?_
                    refine zo_getI hY LX2_362_1 rfl dX2_curve_148 ?_
                    refine zo_iconst hY 0 (by decide) dX2_curve_151 ?_
                    refine zo_callV hY (fun q hq => mt_X2_adds hJ hCon N y3 y25 (gI Ω20 1 0 66) 0 Ω20 q hq) (by decide) (by decide) (by decide) ⟨rfl, cn_X2_adds⟩ rfl q1712 q1714 qs61 q82 q1715 (Nat.le_of_ble_eq_true rfl) dX2_curve_152 rfl h (cv_k (fun Ω26 res h => ?_))
                    refine zo_aload_n hY dX2_curve_155 rfl 2 rfl ?_
                    refine zo_iload hY dX2_curve_156 1 rfl ?_
                    refine zo_iload_n hY dX2_curve_158 rfl 3 rfl ?_
                    refine zo_iload hY dX2_curve_159 6 rfl ?_
                    refine zo_callV hY (fun q hq => mt_X2_lookedAt hJ hCon N y3 x1 x4 Ω26 q hq) (by decide) (by decide) (by decide) ⟨rfl, cn_X2_lookedAt⟩ rfl q1716 q1718 qs62 q82 q1719 (Nat.le_of_ble_eq_true rfl) dX2_curve_161 rfl h (ci_k (fun r28 Ω27 res h => ?_))
                    refine zo_aload_n hY dX2_curve_164 rfl 2 rfl ?_
                    refine zo_getI hY LX2_114_1 rfl dX2_curve_165 ?_
                    refine zo_icmp_lt hY 191 dX2_curve_168 (by decide) h (fun c29 h => ?_) (fun c29 h => ?_)
                    · refine zo_sub [2, 3, 4, 5, 6, 7, 8] rfl ?_
                      exact ct_X2_curve_191 hY hJ hCon hr N K8 hK8 x1 x2 x3 x4 x5 x6 Ω27 _ h
                    · refine zo_aload_n hY dX2_curve_171 rfl 2 rfl ?_
                      refine zo_iload hY dX2_curve_172 1 rfl ?_
                      refine zo_iload hY dX2_curve_174 0 rfl ?_
                      refine zo_aload_n hY dX2_curve_176 rfl 2 rfl ?_
                      refine zo_getC hY LX2_117_1 rfl (fun Ω q => (hCon Ω q).2.1 44 _ rfl) dX2_curve_177 ?_
                      refine zo_iload_n hY dX2_curve_180 rfl 3 rfl ?_
                      refine zo_ald hY (by decide) (Or.inl ⟨rfl, dX2_curve_181⟩) (fun q => (hCon _ q).2.2.2 32 31 3 rfl) h (fun j30 h => ?_)
                      refine zo_isub hY dX2_curve_182 ?_
                      refine zo_aload_n hY dX2_curve_183 rfl 2 rfl ?_
                      refine zo_getI hY LX2_365_1 rfl dX2_curve_184 ?_
                      refine zo_iconst hY 1 (by decide) dX2_curve_187 ?_
                      refine zo_callV hY (fun q hq => mt_X2_adds hJ hCon N y3 (y25 - (gI Ω27 32 31 j30)) (gI Ω27 1 0 67) 1 Ω27 q hq) (by decide) (by decide) (by decide) ⟨rfl, cn_X2_adds⟩ rfl q1712 q1714 qs61 q82 q1715 (Nat.le_of_ble_eq_true rfl) dX2_curve_188 rfl h (cv_k (fun Ω31 res h => ?_))
                      refine zo_sub [2, 3, 4, 5, 6, 7, 8] rfl ?_
                      exact ct_X2_curve_191 hY hJ hCon hr N K8 hK8 x1 x2 x3 x4 x5 x6 Ω31 _ h
            · refine zo_sub [1, 2, 3, 4, 5, 6, 7] rfl ?_
              exact ct_X2_curve_191 hY hJ hCon hr N K8 hK8 x1 x2 x3 x4 x5 x6 Ω _ h
          · refine zo_sub [1, 2, 3, 4, 5, 6, 7] rfl ?_
            exact ct_X2_curve_191 hY hJ hCon hr N K8 hK8 x1 x2 x3 x4 x5 x6 Ω _ h
    · refine zo_sub [1, 2, 3, 4, 5, 6, 7] rfl ?_
      exact ct_X2_curve_191 hY hJ hCon hr N K8 hK8 x1 x2 x3 x4 x5 x6 Ω _ h
def fn_X2_curve_8 (N : Nat)  : Nat → Int32 → Int32 → Int32 → Int32 → Int32 → Int32 → zo_O → Option zo_R
  | 0, _, _, _, _, _, _, _ => none
  | n + 1, x1, x2, x3, x4, x5, x6, Ω => bd_X2_curve_8 N  (fn_X2_curve_8 N  n) x1 x2 x3 x4 x5 x6 Ω
theorem ct_X2_curve_8 {Y : zo_Y} (hY : zo_Gd Y cX2_curve 9 RX2 4) (hJ : zo_JC (zo_J Y)) (hCon : ∀ Ω, zo_J Y Ω → zo_Con Ω) (hr : zo_rt Y (Option.none : Option Jvm.ClassFile.FieldType)) (N : Nat)   : ∀ (n : Nat) (x1 : Int32) (x2 : Int32) (x3 : Int32) (x4 : Int32) (x5 : Int32) (x6 : Int32) (Ω : zo_O) (res : zo_R), fn_X2_curve_8 N  n x1 x2 x3 x4 x5 x6 Ω = some res → TW Y res Ω 8 [(0, vr 1 0), (1, vi x1), (2, vi x2), (3, vi x3), (4, vi x4), (5, vi x5), (6, vi x6)] [] := by
  intro n
  induction n with
  | zero => intro x1 x2 x3 x4 x5 x6 Ω res h; exact nomatch (show (none : Option zo_R) = some res from h)
  | succ n ih => intro x1 x2 x3 x4 x5 x6 Ω res h; exact cb_X2_curve_8 hY hJ hCon hr N  (fn_X2_curve_8 N  n)  ih x1 x2 x3 x4 x5 x6 Ω res h
def fn_X2_curve (N : Nat) (x1 : Int32) (x2 : Int32) (x3 : Int32) (x4 : Int32) (x5 : Int32) (Ω : zo_O) : Option zo_R :=
  lt (sI Ω 1 0 68 0) fun Ω1 =>
  fn_X2_curve_8 N N x1 x2 x3 x4 x5 0 Ω1
theorem mt_X2_curve {G : zo_G} {J : zo_O → Prop} (hJ : zo_JC J) (hCon : ∀ Ω, J Ω → zo_Con Ω) (N : Nat) (x1 : Int32) (x2 : Int32) (x3 : Int32) (x4 : Int32) (x5 : Int32) (Ω : zo_O) (res : zo_R) (h : fn_X2_curve N x1 x2 x3 x4 x5 Ω = some res) : zo_MT G J yX2_curve cX2_curve 9 (Option.none : Option Jvm.ClassFile.FieldType) 4 [vr 1 0, vi x1, vi x2, vi x3, vi x4, vi x5] Ω res := by
  refine zo_enter (by decide) rfl (Nat.le_of_ble_eq_true rfl) (fun Y hY eJ hr hmn => ?_)
  subst eJ
  show TW Y res Ω 0 [(0, vr 1 0), (1, vi x1), (2, vi x2), (3, vi x3), (4, vi x4), (5, vi x5)] []
  unfold fn_X2_curve at h
  refine zo_aload_n hY dX2_curve_0 rfl 0 rfl ?_
  refine zo_iconst hY 0 (by decide) dX2_curve_1 ?_
  refine zo_putI hY hJ LX2_368_1 rfl (Or.inl rfl) dX2_curve_2 h (fun Ω1 h => ?_)
  refine zo_iconst hY 0 (by decide) dX2_curve_5 ?_
  refine zo_istore hY dX2_curve_6 (by decide) rfl (ls' := [(6, vi 0), (0, vr 1 0), (1, vi x1), (2, vi x2), (3, vi x3), (4, vi x4), (5, vi x5)]) rfl ?_
  refine zo_sub [1, 2, 3, 4, 5, 6, 0] rfl ?_
  exact ct_X2_curve_8 hY hJ hCon hr N N x1 x2 x3 x4 x5 0 Ω1 _ h
theorem dX2_isCurve_0 : decode cX2_isCurve 0 = .ok (.iload_n 1, 1) := by decide +kernel
theorem dX2_isCurve_1 : decode cX2_isCurve 1 = .ok (.invokestatic 210, 3) := by decide +kernel
theorem dX2_isCurve_4 : decode cX2_isCurve 4 = .ok (.ifCond .eq 34, 3) := by decide +kernel
theorem dX2_isCurve_7 : decode cX2_isCurve 7 = .ok (.iload_n 2, 1) := by decide +kernel
theorem dX2_isCurve_8 : decode cX2_isCurve 8 = .ok (.iconst 0, 1) := by decide +kernel
theorem dX2_isCurve_9 : decode cX2_isCurve 9 = .ok (.iconst 1, 1) := by decide +kernel
theorem dX2_isCurve_10 : decode cX2_isCurve 10 = .ok (.invokestatic 190, 3) := by decide +kernel
theorem dX2_isCurve_13 : decode cX2_isCurve 13 = .ok (.ifCond .eq 25, 3) := by decide +kernel
theorem dX2_isCurve_16 : decode cX2_isCurve 16 = .ok (.iload_n 3, 1) := by decide +kernel
theorem dX2_isCurve_17 : decode cX2_isCurve 17 = .ok (.iconst 0, 1) := by decide +kernel
theorem dX2_isCurve_18 : decode cX2_isCurve 18 = .ok (.iconst 2, 1) := by decide +kernel
theorem dX2_isCurve_19 : decode cX2_isCurve 19 = .ok (.invokestatic 190, 3) := by decide +kernel
theorem dX2_isCurve_22 : decode cX2_isCurve 22 = .ok (.ifCond .eq 16, 3) := by decide +kernel
theorem dX2_isCurve_25 : decode cX2_isCurve 25 = .ok (.aload_n 0, 1) := by decide +kernel
theorem dX2_isCurve_26 : decode cX2_isCurve 26 = .ok (.iload 4, 2) := by decide +kernel
theorem dX2_isCurve_28 : decode cX2_isCurve 28 = .ok (.invokevirtual 337, 3) := by decide +kernel
theorem dX2_isCurve_31 : decode cX2_isCurve 31 = .ok (.ifCond .eq 7, 3) := by decide +kernel
theorem dX2_isCurve_34 : decode cX2_isCurve 34 = .ok (.iconst 1, 1) := by decide +kernel
theorem dX2_isCurve_35 : decode cX2_isCurve 35 = .ok (.goto 4, 3) := by decide +kernel
theorem dX2_isCurve_38 : decode cX2_isCurve 38 = .ok (.iconst 0, 1) := by decide +kernel
theorem dX2_isCurve_39 : decode cX2_isCurve 39 = .ok (.ireturn, 1) := by decide +kernel
def fn_X2_isCurve_39 (N : Nat)  (s0 : Int32) (Ω : zo_O) : Option zo_R :=
  rZ s0 Ω
theorem ct_X2_isCurve_39 {Y : zo_Y} (hY : zo_Gd Y cX2_isCurve 5 RX2 2) (hJ : zo_JC (zo_J Y)) (hCon : ∀ Ω, zo_J Y Ω → zo_Con Ω) (hr : zo_rt Y (Option.some Jvm.ClassFile.FieldType.boolean)) (N : Nat)   (s0 : Int32) (Ω : zo_O) (res : zo_R) (h : fn_X2_isCurve_39 N  s0 Ω = some res) : TW Y res Ω 39 [] [vi s0] := by
  unfold fn_X2_isCurve_39 at h
  exact zo_zret hY hr dX2_isCurve_39 h
def fn_X2_isCurve_38 (N : Nat)   (Ω : zo_O) : Option zo_R :=
  fn_X2_isCurve_39 N 0 Ω
theorem ct_X2_isCurve_38 {Y : zo_Y} (hY : zo_Gd Y cX2_isCurve 5 RX2 2) (hJ : zo_JC (zo_J Y)) (hCon : ∀ Ω, zo_J Y Ω → zo_Con Ω) (hr : zo_rt Y (Option.some Jvm.ClassFile.FieldType.boolean)) (N : Nat)    (Ω : zo_O) (res : zo_R) (h : fn_X2_isCurve_38 N   Ω = some res) : TW Y res Ω 38 [] [] := by
  unfold fn_X2_isCurve_38 at h
  refine zo_iconst hY 0 (by decide) dX2_isCurve_38 ?_
  exact ct_X2_isCurve_39 hY hJ hCon hr N 0 Ω _ h
def fn_X2_isCurve (N : Nat) (x1 : Int32) (x2 : Int32) (x3 : Int32) (x4 : Int32) (Ω : zo_O) : Option zo_R :=
  ci (fn_X2_isKind N x1 Ω) fun r2 Ω1 =>
  if r2 = 0 then (
    fn_X2_isCurve_38 N Ω1
    ) else
  ci (fn_X2_within N x2 0 1 Ω1) fun r5 Ω4 =>
  if r5 = 0 then (
    fn_X2_isCurve_38 N Ω4
    ) else
  ci (fn_X2_within N x3 0 2 Ω4) fun r8 Ω7 =>
  if r8 = 0 then (
    fn_X2_isCurve_38 N Ω7
    ) else
  ci (fn_X2_isKnown N x4 Ω7) fun r11 Ω10 =>
  if r11 = 0 then (
    fn_X2_isCurve_38 N Ω10
    ) else
  fn_X2_isCurve_39 N 1 Ω10
theorem mt_X2_isCurve {G : zo_G} {J : zo_O → Prop} (hJ : zo_JC J) (hCon : ∀ Ω, J Ω → zo_Con Ω) (N : Nat) (x1 : Int32) (x2 : Int32) (x3 : Int32) (x4 : Int32) (Ω : zo_O) (res : zo_R) (h : fn_X2_isCurve N x1 x2 x3 x4 Ω = some res) : zo_MT G J yX2_isCurve cX2_isCurve 5 (Option.some Jvm.ClassFile.FieldType.boolean) 2 [vr 1 0, vi x1, vi x2, vi x3, vi x4] Ω res := by
  refine zo_enter (by decide) rfl (Nat.le_of_ble_eq_true rfl) (fun Y hY eJ hr hmn => ?_)
  subst eJ
  show TW Y res Ω 0 [(0, vr 1 0), (1, vi x1), (2, vi x2), (3, vi x3), (4, vi x4)] []
  unfold fn_X2_isCurve at h
  refine zo_iload_n hY dX2_isCurve_0 rfl 1 rfl ?_
  refine zo_callS hY (fun q hq => mt_X2_isKind hJ hCon N x1 Ω q hq) (by decide) (by decide) cn_X2_isKind rfl q1535 q1536 q82 q1537 (Nat.le_of_ble_eq_true rfl) dX2_isCurve_1 rfl h (ci_k (fun r2 Ω1 res h => ?_))
  refine zo_if_eq hY 38 dX2_isCurve_4 (by decide) h (fun c3 h => ?_) (fun c3 h => ?_)
  · refine zo_sub [] rfl ?_
    exact ct_X2_isCurve_38 hY hJ hCon hr N Ω1 _ h
  · refine zo_iload_n hY dX2_isCurve_7 rfl 2 rfl ?_
    refine zo_iconst hY 0 (by decide) dX2_isCurve_8 ?_
    refine zo_iconst hY 1 (by decide) dX2_isCurve_9 ?_
    refine zo_callS hY (fun q hq => mt_X2_within hJ hCon N x2 0 1 Ω1 q hq) (by decide) (by decide) cn_X2_within rfl q1521 q1522 q82 q1523 (Nat.le_of_ble_eq_true rfl) dX2_isCurve_10 rfl h (ci_k (fun r5 Ω4 res h => ?_))
    refine zo_if_eq hY 38 dX2_isCurve_13 (by decide) h (fun c6 h => ?_) (fun c6 h => ?_)
    · refine zo_sub [] rfl ?_
      exact ct_X2_isCurve_38 hY hJ hCon hr N Ω4 _ h
    · refine zo_iload_n hY dX2_isCurve_16 rfl 3 rfl ?_
      refine zo_iconst hY 0 (by decide) dX2_isCurve_17 ?_
      refine zo_iconst hY 2 (by decide) dX2_isCurve_18 ?_
      refine zo_callS hY (fun q hq => mt_X2_within hJ hCon N x3 0 2 Ω4 q hq) (by decide) (by decide) cn_X2_within rfl q1521 q1522 q82 q1523 (Nat.le_of_ble_eq_true rfl) dX2_isCurve_19 rfl h (ci_k (fun r8 Ω7 res h => ?_))
      refine zo_if_eq hY 38 dX2_isCurve_22 (by decide) h (fun c9 h => ?_) (fun c9 h => ?_)
      · refine zo_sub [] rfl ?_
        exact ct_X2_isCurve_38 hY hJ hCon hr N Ω7 _ h
      · refine zo_aload_n hY dX2_isCurve_25 rfl 0 rfl ?_
        refine zo_iload hY dX2_isCurve_26 4 rfl ?_
        refine zo_callV hY (fun q hq => mt_X2_isKnown hJ hCon N x4 Ω7 q hq) (by decide) (by decide) (by decide) ⟨rfl, cn_X2_isKnown⟩ rfl q1649 q1651 qs49 q82 q1652 (Nat.le_of_ble_eq_true rfl) dX2_isCurve_28 rfl h (ci_k (fun r11 Ω10 res h => ?_))
        refine zo_if_eq hY 38 dX2_isCurve_31 (by decide) h (fun c12 h => ?_) (fun c12 h => ?_)
        · refine zo_sub [] rfl ?_
          exact ct_X2_isCurve_38 hY hJ hCon hr N Ω10 _ h
        · refine zo_iconst hY 1 (by decide) dX2_isCurve_34 ?_
          refine zo_goto hY 39 dX2_isCurve_35 (by decide) ?_
          refine zo_sub [] rfl ?_
          exact ct_X2_isCurve_39 hY hJ hCon hr N 1 Ω10 _ h
theorem dX2_struck_0 : decode cX2_struck 0 = .ok (.aload_n 0, 1) := by decide +kernel
theorem dX2_struck_1 : decode cX2_struck 1 = .ok (.iconst 0, 1) := by decide +kernel
theorem dX2_struck_2 : decode cX2_struck 2 = .ok (.putfield 187, 3) := by decide +kernel
theorem dX2_struck_5 : decode cX2_struck 5 = .ok (.aload_n 0, 1) := by decide +kernel
theorem dX2_struck_6 : decode cX2_struck 6 = .ok (.iload_n 1, 1) := by decide +kernel
theorem dX2_struck_7 : decode cX2_struck 7 = .ok (.iload_n 2, 1) := by decide +kernel
theorem dX2_struck_8 : decode cX2_struck 8 = .ok (.iload_n 3, 1) := by decide +kernel
theorem dX2_struck_9 : decode cX2_struck 9 = .ok (.iload 4, 2) := by decide +kernel
theorem dX2_struck_11 : decode cX2_struck 11 = .ok (.invokevirtual 404, 3) := by decide +kernel
theorem dX2_struck_14 : decode cX2_struck 14 = .ok (.ifCond .ne 5, 3) := by decide +kernel
theorem dX2_struck_17 : decode cX2_struck 17 = .ok (.iconst (-1), 1) := by decide +kernel
theorem dX2_struck_18 : decode cX2_struck 18 = .ok (.ireturn, 1) := by decide +kernel
theorem dX2_struck_19 : decode cX2_struck 19 = .ok (.aload_n 0, 1) := by decide +kernel
theorem dX2_struck_20 : decode cX2_struck 20 = .ok (.iload 4, 2) := by decide +kernel
theorem dX2_struck_22 : decode cX2_struck 22 = .ok (.invokevirtual 340, 3) := by decide +kernel
theorem dX2_struck_25 : decode cX2_struck 25 = .ok (.aload_n 0, 1) := by decide +kernel
theorem dX2_struck_26 : decode cX2_struck 26 = .ok (.iload_n 1, 1) := by decide +kernel
theorem dX2_struck_27 : decode cX2_struck 27 = .ok (.iload_n 2, 1) := by decide +kernel
theorem dX2_struck_28 : decode cX2_struck 28 = .ok (.iload_n 3, 1) := by decide +kernel
theorem dX2_struck_29 : decode cX2_struck 29 = .ok (.iload 4, 2) := by decide +kernel
theorem dX2_struck_31 : decode cX2_struck 31 = .ok (.iconst (-1), 1) := by decide +kernel
theorem dX2_struck_32 : decode cX2_struck 32 = .ok (.invokevirtual 407, 3) := by decide +kernel
theorem dX2_struck_35 : decode cX2_struck 35 = .ok (.aload_n 0, 1) := by decide +kernel
theorem dX2_struck_36 : decode cX2_struck 36 = .ok (.getfield 388, 3) := by decide +kernel
theorem dX2_struck_39 : decode cX2_struck 39 = .ok (.ireturn, 1) := by decide +kernel
def fn_X2_struck (N : Nat) (x1 : Int32) (x2 : Int32) (x3 : Int32) (x4 : Int32) (Ω : zo_O) : Option zo_R :=
  lt (sI Ω 1 0 0 0) fun Ω1 =>
  ci (fn_X2_isCurve N x1 x2 x3 x4 Ω1) fun r3 Ω2 =>
  if r3 = 0 then (
    rI ((-1)) Ω2
    ) else
  cv (fn_X2_habits N x4 Ω2) fun Ω5 =>
  cv (fn_X2_curve N x1 x2 x3 x4 ((-1)) Ω5) fun Ω6 =>
  rI (gI Ω6 1 0 73) Ω6
theorem mt_X2_struck {G : zo_G} {J : zo_O → Prop} (hJ : zo_JC J) (hCon : ∀ Ω, J Ω → zo_Con Ω) (N : Nat) (x1 : Int32) (x2 : Int32) (x3 : Int32) (x4 : Int32) (Ω : zo_O) (res : zo_R) (h : fn_X2_struck N x1 x2 x3 x4 Ω = some res) : zo_MT G J yX2_struck cX2_struck 5 (Option.some Jvm.ClassFile.FieldType.int) 5 [vr 1 0, vi x1, vi x2, vi x3, vi x4] Ω res := by
  refine zo_enter (by decide) rfl (Nat.le_of_ble_eq_true rfl) (fun Y hY eJ hr hmn => ?_)
  subst eJ
  show TW Y res Ω 0 [(0, vr 1 0), (1, vi x1), (2, vi x2), (3, vi x3), (4, vi x4)] []
  unfold fn_X2_struck at h
  refine zo_aload_n hY dX2_struck_0 rfl 0 rfl ?_
  refine zo_iconst hY 0 (by decide) dX2_struck_1 ?_
  refine zo_putI hY hJ LX2_187_1 rfl (Or.inl rfl) dX2_struck_2 h (fun Ω1 h => ?_)
  refine zo_aload_n hY dX2_struck_5 rfl 0 rfl ?_
  refine zo_iload_n hY dX2_struck_6 rfl 1 rfl ?_
  refine zo_iload_n hY dX2_struck_7 rfl 2 rfl ?_
  refine zo_iload_n hY dX2_struck_8 rfl 3 rfl ?_
  refine zo_iload hY dX2_struck_9 4 rfl ?_
  refine zo_callV hY (fun q hq => mt_X2_isCurve hJ hCon N x1 x2 x3 x4 Ω1 q hq) (by decide) (by decide) (by decide) ⟨rfl, cn_X2_isCurve⟩ rfl q1696 q1698 qs57 q82 q1699 (Nat.le_of_ble_eq_true rfl) dX2_struck_11 rfl h (ci_k (fun r3 Ω2 res h => ?_))
  refine zo_if_ne hY 19 dX2_struck_14 (by decide) h (fun c4 h => ?_) (fun c4 h => ?_)
  · refine zo_iconst hY (-1) (by decide) dX2_struck_17 ?_
    exact zo_iret hY hr dX2_struck_18 h
  · refine zo_aload_n hY dX2_struck_19 rfl 0 rfl ?_
    refine zo_iload hY dX2_struck_20 4 rfl ?_
    refine zo_callV hY (fun q hq => mt_X2_habits hJ hCon N x4 Ω2 q hq) (by decide) (by decide) (by decide) ⟨rfl, cn_X2_habits⟩ rfl q1653 q1655 qs50 q82 q1656 (Nat.le_of_ble_eq_true rfl) dX2_struck_22 rfl h (cv_k (fun Ω5 res h => ?_))
    refine zo_aload_n hY dX2_struck_25 rfl 0 rfl ?_
    refine zo_iload_n hY dX2_struck_26 rfl 1 rfl ?_
    refine zo_iload_n hY dX2_struck_27 rfl 2 rfl ?_
    refine zo_iload_n hY dX2_struck_28 rfl 3 rfl ?_
    refine zo_iload hY dX2_struck_29 4 rfl ?_
    refine zo_iconst hY (-1) (by decide) dX2_struck_31 ?_
    refine zo_callV hY (fun q hq => mt_X2_curve hJ hCon N x1 x2 x3 x4 ((-1)) Ω5 q hq) (by decide) (by decide) (by decide) ⟨rfl, cn_X2_curve⟩ rfl q1700 q1702 qs58 q82 q1703 (Nat.le_of_ble_eq_true rfl) dX2_struck_32 rfl h (cv_k (fun Ω6 res h => ?_))
    refine zo_aload_n hY dX2_struck_35 rfl 0 rfl ?_
    refine zo_getI hY LX2_388_1 rfl dX2_struck_36 ?_
    exact zo_iret hY hr dX2_struck_39 h
theorem dX2_size_0 : decode cX2_size 0 = .ok (.aload_n 0, 1) := by decide +kernel
theorem dX2_size_1 : decode cX2_size 1 = .ok (.iconst 0, 1) := by decide +kernel
theorem dX2_size_2 : decode cX2_size 2 = .ok (.putfield 187, 3) := by decide +kernel
theorem dX2_size_5 : decode cX2_size 5 = .ok (.aload_n 0, 1) := by decide +kernel
theorem dX2_size_6 : decode cX2_size 6 = .ok (.iload_n 1, 1) := by decide +kernel
theorem dX2_size_7 : decode cX2_size 7 = .ok (.iload_n 2, 1) := by decide +kernel
theorem dX2_size_8 : decode cX2_size 8 = .ok (.iload_n 3, 1) := by decide +kernel
theorem dX2_size_9 : decode cX2_size 9 = .ok (.iload 4, 2) := by decide +kernel
theorem dX2_size_11 : decode cX2_size 11 = .ok (.invokevirtual 404, 3) := by decide +kernel
theorem dX2_size_14 : decode cX2_size 14 = .ok (.ifCond .eq 25, 3) := by decide +kernel
theorem dX2_size_17 : decode cX2_size 17 = .ok (.iload 5, 2) := by decide +kernel
theorem dX2_size_19 : decode cX2_size 19 = .ok (.iconst 0, 1) := by decide +kernel
theorem dX2_size_20 : decode cX2_size 20 = .ok (.sipush 800, 3) := by decide +kernel
theorem dX2_size_23 : decode cX2_size 23 = .ok (.invokestatic 190, 3) := by decide +kernel
theorem dX2_size_26 : decode cX2_size 26 = .ok (.ifCond .eq 13, 3) := by decide +kernel
theorem dX2_size_29 : decode cX2_size 29 = .ok (.iload 6, 2) := by decide +kernel
theorem dX2_size_31 : decode cX2_size 31 = .ok (.iconst 0, 1) := by decide +kernel
theorem dX2_size_32 : decode cX2_size 32 = .ok (.iconst 1, 1) := by decide +kernel
theorem dX2_size_33 : decode cX2_size 33 = .ok (.invokestatic 190, 3) := by decide +kernel
theorem dX2_size_36 : decode cX2_size 36 = .ok (.ifCond .ne 5, 3) := by decide +kernel
theorem dX2_size_39 : decode cX2_size 39 = .ok (.iconst (-1), 1) := by decide +kernel
theorem dX2_size_40 : decode cX2_size 40 = .ok (.ireturn, 1) := by decide +kernel
theorem dX2_size_41 : decode cX2_size 41 = .ok (.aload_n 0, 1) := by decide +kernel
theorem dX2_size_42 : decode cX2_size 42 = .ok (.iload 4, 2) := by decide +kernel
theorem dX2_size_44 : decode cX2_size 44 = .ok (.invokevirtual 340, 3) := by decide +kernel
theorem dX2_size_47 : decode cX2_size 47 = .ok (.aload_n 0, 1) := by decide +kernel
theorem dX2_size_48 : decode cX2_size 48 = .ok (.iload_n 1, 1) := by decide +kernel
theorem dX2_size_49 : decode cX2_size 49 = .ok (.iload_n 2, 1) := by decide +kernel
theorem dX2_size_50 : decode cX2_size 50 = .ok (.iload_n 3, 1) := by decide +kernel
theorem dX2_size_51 : decode cX2_size 51 = .ok (.iload 4, 2) := by decide +kernel
theorem dX2_size_53 : decode cX2_size 53 = .ok (.iconst (-1), 1) := by decide +kernel
theorem dX2_size_54 : decode cX2_size 54 = .ok (.invokevirtual 407, 3) := by decide +kernel
theorem dX2_size_57 : decode cX2_size 57 = .ok (.iload 6, 2) := by decide +kernel
theorem dX2_size_59 : decode cX2_size 59 = .ok (.ifCond .ne 13, 3) := by decide +kernel
theorem dX2_size_62 : decode cX2_size 62 = .ok (.aload_n 0, 1) := by decide +kernel
theorem dX2_size_63 : decode cX2_size 63 = .ok (.getfield 169, 3) := by decide +kernel
theorem dX2_size_66 : decode cX2_size 66 = .ok (.iload 5, 2) := by decide +kernel
theorem dX2_size_68 : decode cX2_size 68 = .ok (.iaload, 1) := by decide +kernel
theorem dX2_size_69 : decode cX2_size 69 = .ok (.goto 10, 3) := by decide +kernel
theorem dX2_size_72 : decode cX2_size 72 = .ok (.aload_n 0, 1) := by decide +kernel
theorem dX2_size_73 : decode cX2_size 73 = .ok (.getfield 172, 3) := by decide +kernel
theorem dX2_size_76 : decode cX2_size 76 = .ok (.iload 5, 2) := by decide +kernel
theorem dX2_size_78 : decode cX2_size 78 = .ok (.iaload, 1) := by decide +kernel
theorem dX2_size_79 : decode cX2_size 79 = .ok (.ireturn, 1) := by decide +kernel
def fn_X2_size_39 (N : Nat)   (Ω : zo_O) : Option zo_R :=
  rI ((-1)) Ω
theorem ct_X2_size_39 {Y : zo_Y} (hY : zo_Gd Y cX2_size 7 RX2 5) (hJ : zo_JC (zo_J Y)) (hCon : ∀ Ω, zo_J Y Ω → zo_Con Ω) (hr : zo_rt Y (Option.some Jvm.ClassFile.FieldType.int)) (N : Nat)    (Ω : zo_O) (res : zo_R) (h : fn_X2_size_39 N   Ω = some res) : TW Y res Ω 39 [] [] := by
  unfold fn_X2_size_39 at h
  refine zo_iconst hY (-1) (by decide) dX2_size_39 ?_
  exact zo_iret hY hr dX2_size_40 h
def fn_X2_size_79 (N : Nat)  (s0 : Int32) (Ω : zo_O) : Option zo_R :=
  rI s0 Ω
theorem ct_X2_size_79 {Y : zo_Y} (hY : zo_Gd Y cX2_size 7 RX2 5) (hJ : zo_JC (zo_J Y)) (hCon : ∀ Ω, zo_J Y Ω → zo_Con Ω) (hr : zo_rt Y (Option.some Jvm.ClassFile.FieldType.int)) (N : Nat)   (s0 : Int32) (Ω : zo_O) (res : zo_R) (h : fn_X2_size_79 N  s0 Ω = some res) : TW Y res Ω 79 [] [vi s0] := by
  unfold fn_X2_size_79 at h
  exact zo_iret hY hr dX2_size_79 h
def fn_X2_size (N : Nat) (x1 : Int32) (x2 : Int32) (x3 : Int32) (x4 : Int32) (x5 : Int32) (x6 : Int32) (Ω : zo_O) : Option zo_R :=
  lt (sI Ω 1 0 0 0) fun Ω1 =>
  ci (fn_X2_isCurve N x1 x2 x3 x4 Ω1) fun r3 Ω2 =>
  if r3 = 0 then (
    fn_X2_size_39 N Ω2
    ) else
  ci (fn_X2_within N x5 0 800 Ω2) fun r6 Ω5 =>
  if r6 = 0 then (
    fn_X2_size_39 N Ω5
    ) else
  ci (fn_X2_within N x6 0 1 Ω5) fun r9 Ω8 =>
  if r9 = 0 then (
    fn_X2_size_39 N Ω8
    ) else
  cv (fn_X2_habits N x4 Ω8) fun Ω11 =>
  cv (fn_X2_curve N x1 x2 x3 x4 ((-1)) Ω11) fun Ω12 =>
  if x6 = 0 then (
    ix x5 801 fun j14 =>
    fn_X2_size_79 N (gI Ω12 32 42 j14) Ω12
    ) else
  ix x5 801 fun j15 =>
  fn_X2_size_79 N (gI Ω12 32 43 j15) Ω12
theorem mt_X2_size {G : zo_G} {J : zo_O → Prop} (hJ : zo_JC J) (hCon : ∀ Ω, J Ω → zo_Con Ω) (N : Nat) (x1 : Int32) (x2 : Int32) (x3 : Int32) (x4 : Int32) (x5 : Int32) (x6 : Int32) (Ω : zo_O) (res : zo_R) (h : fn_X2_size N x1 x2 x3 x4 x5 x6 Ω = some res) : zo_MT G J yX2_size cX2_size 7 (Option.some Jvm.ClassFile.FieldType.int) 5 [vr 1 0, vi x1, vi x2, vi x3, vi x4, vi x5, vi x6] Ω res := by
  refine zo_enter (by decide) rfl (Nat.le_of_ble_eq_true rfl) (fun Y hY eJ hr hmn => ?_)
  subst eJ
  show TW Y res Ω 0 [(0, vr 1 0), (1, vi x1), (2, vi x2), (3, vi x3), (4, vi x4), (5, vi x5), (6, vi x6)] []
  unfold fn_X2_size at h
  refine zo_aload_n hY dX2_size_0 rfl 0 rfl ?_
  refine zo_iconst hY 0 (by decide) dX2_size_1 ?_
  refine zo_putI hY hJ LX2_187_1 rfl (Or.inl rfl) dX2_size_2 h (fun Ω1 h => ?_)
  refine zo_aload_n hY dX2_size_5 rfl 0 rfl ?_
  refine zo_iload_n hY dX2_size_6 rfl 1 rfl ?_
  refine zo_iload_n hY dX2_size_7 rfl 2 rfl ?_
  refine zo_iload_n hY dX2_size_8 rfl 3 rfl ?_
  refine zo_iload hY dX2_size_9 4 rfl ?_
  refine zo_callV hY (fun q hq => mt_X2_isCurve hJ hCon N x1 x2 x3 x4 Ω1 q hq) (by decide) (by decide) (by decide) ⟨rfl, cn_X2_isCurve⟩ rfl q1696 q1698 qs57 q82 q1699 (Nat.le_of_ble_eq_true rfl) dX2_size_11 rfl h (ci_k (fun r3 Ω2 res h => ?_))
  refine zo_if_eq hY 39 dX2_size_14 (by decide) h (fun c4 h => ?_) (fun c4 h => ?_)
  · refine zo_sub [] rfl ?_
    exact ct_X2_size_39 hY hJ hCon hr N Ω2 _ h
  · refine zo_iload hY dX2_size_17 5 rfl ?_
    refine zo_iconst hY 0 (by decide) dX2_size_19 ?_
    refine zo_sipush hY 800 (by decide) dX2_size_20 ?_
    refine zo_callS hY (fun q hq => mt_X2_within hJ hCon N x5 0 800 Ω2 q hq) (by decide) (by decide) cn_X2_within rfl q1521 q1522 q82 q1523 (Nat.le_of_ble_eq_true rfl) dX2_size_23 rfl h (ci_k (fun r6 Ω5 res h => ?_))
    refine zo_if_eq hY 39 dX2_size_26 (by decide) h (fun c7 h => ?_) (fun c7 h => ?_)
    · refine zo_sub [] rfl ?_
      exact ct_X2_size_39 hY hJ hCon hr N Ω5 _ h
    · refine zo_iload hY dX2_size_29 6 rfl ?_
      refine zo_iconst hY 0 (by decide) dX2_size_31 ?_
      refine zo_iconst hY 1 (by decide) dX2_size_32 ?_
      refine zo_callS hY (fun q hq => mt_X2_within hJ hCon N x6 0 1 Ω5 q hq) (by decide) (by decide) cn_X2_within rfl q1521 q1522 q82 q1523 (Nat.le_of_ble_eq_true rfl) dX2_size_33 rfl h (ci_k (fun r9 Ω8 res h => ?_))
      refine zo_if_ne hY 41 dX2_size_36 (by decide) h (fun c10 h => ?_) (fun c10 h => ?_)
      · refine zo_sub [] rfl ?_
        exact ct_X2_size_39 hY hJ hCon hr N Ω8 _ h
      · refine zo_aload_n hY dX2_size_41 rfl 0 rfl ?_
        refine zo_iload hY dX2_size_42 4 rfl ?_
        refine zo_callV hY (fun q hq => mt_X2_habits hJ hCon N x4 Ω8 q hq) (by decide) (by decide) (by decide) ⟨rfl, cn_X2_habits⟩ rfl q1653 q1655 qs50 q82 q1656 (Nat.le_of_ble_eq_true rfl) dX2_size_44 rfl h (cv_k (fun Ω11 res h => ?_))
        refine zo_aload_n hY dX2_size_47 rfl 0 rfl ?_
        refine zo_iload_n hY dX2_size_48 rfl 1 rfl ?_
        refine zo_iload_n hY dX2_size_49 rfl 2 rfl ?_
        refine zo_iload_n hY dX2_size_50 rfl 3 rfl ?_
        refine zo_iload hY dX2_size_51 4 rfl ?_
        refine zo_iconst hY (-1) (by decide) dX2_size_53 ?_
        refine zo_callV hY (fun q hq => mt_X2_curve hJ hCon N x1 x2 x3 x4 ((-1)) Ω11 q hq) (by decide) (by decide) (by decide) ⟨rfl, cn_X2_curve⟩ rfl q1700 q1702 qs58 q82 q1703 (Nat.le_of_ble_eq_true rfl) dX2_size_54 rfl h (cv_k (fun Ω12 res h => ?_))
        refine zo_iload hY dX2_size_57 6 rfl ?_
        refine zo_if_ne hY 72 dX2_size_59 (by decide) h (fun c13 h => ?_) (fun c13 h => ?_)
        · refine zo_aload_n hY dX2_size_62 rfl 0 rfl ?_
          refine zo_getC hY LX2_169_1 rfl (fun Ω q => (hCon Ω q).2.1 74 _ rfl) dX2_size_63 ?_
          refine zo_iload hY dX2_size_66 5 rfl ?_
          refine zo_ald hY (by decide) (Or.inl ⟨rfl, dX2_size_68⟩) (fun q => (hCon _ q).2.2.2 32 42 801 rfl) h (fun j14 h => ?_)
          refine zo_goto hY 79 dX2_size_69 (by decide) ?_
          refine zo_sub [] rfl ?_
          exact ct_X2_size_79 hY hJ hCon hr N (gI Ω12 32 42 j14) Ω12 _ h
        · refine zo_aload_n hY dX2_size_72 rfl 0 rfl ?_
          refine zo_getC hY LX2_172_1 rfl (fun Ω q => (hCon Ω q).2.1 75 _ rfl) dX2_size_73 ?_
          refine zo_iload hY dX2_size_76 5 rfl ?_
          refine zo_ald hY (by decide) (Or.inl ⟨rfl, dX2_size_78⟩) (fun q => (hCon _ q).2.2.2 32 43 801 rfl) h (fun j15 h => ?_)
          refine zo_sub [] rfl ?_
          exact ct_X2_size_79 hY hJ hCon hr N (gI Ω12 32 43 j15) Ω12 _ h
theorem dX2_ageFrom_0 : decode cX2_ageFrom 0 = .ok (.iconst 0, 1) := by decide +kernel
theorem dX2_ageFrom_1 : decode cX2_ageFrom 1 = .ok (.istore_n 2, 1) := by decide +kernel
theorem dX2_ageFrom_2 : decode cX2_ageFrom 2 = .ok (.iload_n 2, 1) := by decide +kernel
theorem dX2_ageFrom_3 : decode cX2_ageFrom 3 = .ok (.sipush 800, 3) := by decide +kernel
theorem dX2_ageFrom_6 : decode cX2_ageFrom 6 = .ok (.if_icmp .gt 19, 3) := by decide +kernel
theorem dX2_ageFrom_9 : decode cX2_ageFrom 9 = .ok (.aload_n 0, 1) := by decide +kernel
theorem dX2_ageFrom_10 : decode cX2_ageFrom 10 = .ok (.getfield 172, 3) := by decide +kernel
theorem dX2_ageFrom_13 : decode cX2_ageFrom 13 = .ok (.iload_n 2, 1) := by decide +kernel
theorem dX2_ageFrom_14 : decode cX2_ageFrom 14 = .ok (.iaload, 1) := by decide +kernel
theorem dX2_ageFrom_15 : decode cX2_ageFrom 15 = .ok (.iload_n 1, 1) := by decide +kernel
theorem dX2_ageFrom_16 : decode cX2_ageFrom 16 = .ok (.if_icmp .ge 9, 3) := by decide +kernel
theorem dX2_ageFrom_19 : decode cX2_ageFrom 19 = .ok (.iinc 2 1, 3) := by decide +kernel
theorem dX2_ageFrom_22 : decode cX2_ageFrom 22 = .ok (.goto (-20), 3) := by decide +kernel
theorem dX2_ageFrom_25 : decode cX2_ageFrom 25 = .ok (.iload_n 2, 1) := by decide +kernel
theorem dX2_ageFrom_26 : decode cX2_ageFrom 26 = .ok (.ireturn, 1) := by decide +kernel
def fn_X2_ageFrom_25 (N : Nat)  (x2 : Int32) (Ω : zo_O) : Option zo_R :=
  rI x2 Ω
theorem ct_X2_ageFrom_25 {Y : zo_Y} (hY : zo_Gd Y cX2_ageFrom 3 RX2 0) (hJ : zo_JC (zo_J Y)) (hCon : ∀ Ω, zo_J Y Ω → zo_Con Ω) (hr : zo_rt Y (Option.some Jvm.ClassFile.FieldType.int)) (N : Nat)   (x2 : Int32) (Ω : zo_O) (res : zo_R) (h : fn_X2_ageFrom_25 N  x2 Ω = some res) : TW Y res Ω 25 [(2, vi x2)] [] := by
  unfold fn_X2_ageFrom_25 at h
  refine zo_iload_n hY dX2_ageFrom_25 rfl 0 rfl ?_
  exact zo_iret hY hr dX2_ageFrom_26 h
def bd_X2_ageFrom_2 (N : Nat)  (K2 : Int32 → Int32 → zo_O → Option zo_R) (x1 : Int32) (x2 : Int32) (Ω : zo_O) : Option zo_R :=
  if 800 < x2 then (
    fn_X2_ageFrom_25 N x2 Ω
    ) else
  ix x2 801 fun j2 =>
  if x1 ≤ gI Ω 32 43 j2 then (
    fn_X2_ageFrom_25 N x2 Ω
    ) else
  K2 x1 (x2 + 1) Ω
theorem cb_X2_ageFrom_2 {Y : zo_Y} (hY : zo_Gd Y cX2_ageFrom 3 RX2 0) (hJ : zo_JC (zo_J Y)) (hCon : ∀ Ω, zo_J Y Ω → zo_Con Ω) (hr : zo_rt Y (Option.some Jvm.ClassFile.FieldType.int)) (N : Nat)  (K2 : Int32 → Int32 → zo_O → Option zo_R)  (hK2 : ∀ (x1 : Int32) (x2 : Int32) (Ω : zo_O) (res : zo_R), K2 x1 x2 Ω = some res → TW Y res Ω 2 [(0, vr 1 0), (1, vi x1), (2, vi x2)] []) (x1 : Int32) (x2 : Int32) (Ω : zo_O) (res : zo_R) (h : bd_X2_ageFrom_2 N  K2 x1 x2 Ω = some res) : TW Y res Ω 2 [(0, vr 1 0), (1, vi x1), (2, vi x2)] [] := by
  unfold bd_X2_ageFrom_2 at h
  refine zo_iload_n hY dX2_ageFrom_2 rfl 2 rfl ?_
  refine zo_sipush hY 800 (by decide) dX2_ageFrom_3 ?_
  refine zo_icmp_gt hY 25 dX2_ageFrom_6 (by decide) h (fun c1 h => ?_) (fun c1 h => ?_)
  · refine zo_sub [2] rfl ?_
    exact ct_X2_ageFrom_25 hY hJ hCon hr N x2 Ω _ h
  · refine zo_aload_n hY dX2_ageFrom_9 rfl 0 rfl ?_
    refine zo_getC hY LX2_172_1 rfl (fun Ω q => (hCon Ω q).2.1 75 _ rfl) dX2_ageFrom_10 ?_
    refine zo_iload_n hY dX2_ageFrom_13 rfl 2 rfl ?_
    refine zo_ald hY (by decide) (Or.inl ⟨rfl, dX2_ageFrom_14⟩) (fun q => (hCon _ q).2.2.2 32 43 801 rfl) h (fun j2 h => ?_)
    refine zo_iload_n hY dX2_ageFrom_15 rfl 1 rfl ?_
    refine zo_icmp_ge hY 25 dX2_ageFrom_16 (by decide) h (fun c3 h => ?_) (fun c3 h => ?_)
    · refine zo_sub [2] rfl ?_
      exact ct_X2_ageFrom_25 hY hJ hCon hr N x2 Ω _ h
    · refine zo_iinc hY 1 dX2_ageFrom_19 (by decide) (by decide) 2 rfl rfl (ls' := [(2, vi (x2 + 1)), (0, vr 1 0), (1, vi x1)]) rfl ?_
      refine zo_goto hY 2 dX2_ageFrom_22 (by decide) ?_
      refine zo_sub [1, 2, 0] rfl ?_
      exact hK2 x1 (x2 + 1) Ω _ h
def fn_X2_ageFrom_2 (N : Nat)  : Nat → Int32 → Int32 → zo_O → Option zo_R
  | 0, _, _, _ => none
  | n + 1, x1, x2, Ω => bd_X2_ageFrom_2 N  (fn_X2_ageFrom_2 N  n) x1 x2 Ω
theorem ct_X2_ageFrom_2 {Y : zo_Y} (hY : zo_Gd Y cX2_ageFrom 3 RX2 0) (hJ : zo_JC (zo_J Y)) (hCon : ∀ Ω, zo_J Y Ω → zo_Con Ω) (hr : zo_rt Y (Option.some Jvm.ClassFile.FieldType.int)) (N : Nat)   : ∀ (n : Nat) (x1 : Int32) (x2 : Int32) (Ω : zo_O) (res : zo_R), fn_X2_ageFrom_2 N  n x1 x2 Ω = some res → TW Y res Ω 2 [(0, vr 1 0), (1, vi x1), (2, vi x2)] [] := by
  intro n
  induction n with
  | zero => intro x1 x2 Ω res h; exact nomatch (show (none : Option zo_R) = some res from h)
  | succ n ih => intro x1 x2 Ω res h; exact cb_X2_ageFrom_2 hY hJ hCon hr N  (fn_X2_ageFrom_2 N  n)  ih x1 x2 Ω res h
def fn_X2_ageFrom (N : Nat) (x1 : Int32) (Ω : zo_O) : Option zo_R :=
  fn_X2_ageFrom_2 N N x1 0 Ω
theorem mt_X2_ageFrom {G : zo_G} {J : zo_O → Prop} (hJ : zo_JC J) (hCon : ∀ Ω, J Ω → zo_Con Ω) (N : Nat) (x1 : Int32) (Ω : zo_O) (res : zo_R) (h : fn_X2_ageFrom N x1 Ω = some res) : zo_MT G J yX2_ageFrom cX2_ageFrom 3 (Option.some Jvm.ClassFile.FieldType.int) 0 [vr 1 0, vi x1] Ω res := by
  refine zo_enter (by decide) rfl (Nat.le_of_ble_eq_true rfl) (fun Y hY eJ hr hmn => ?_)
  subst eJ
  show TW Y res Ω 0 [(0, vr 1 0), (1, vi x1)] []
  unfold fn_X2_ageFrom at h
  refine zo_iconst hY 0 (by decide) dX2_ageFrom_0 ?_
  refine zo_istore_n hY dX2_ageFrom_1 rfl (by decide) rfl (ls' := [(2, vi 0), (0, vr 1 0), (1, vi x1)]) rfl ?_
  refine zo_sub [1, 2, 0] rfl ?_
  exact ct_X2_ageFrom_2 hY hJ hCon hr N N x1 0 Ω _ h
theorem dX2_ageTo_0 : decode cX2_ageTo 0 = .ok (.sipush 800, 3) := by decide +kernel
theorem dX2_ageTo_3 : decode cX2_ageTo 3 = .ok (.istore_n 2, 1) := by decide +kernel
theorem dX2_ageTo_4 : decode cX2_ageTo 4 = .ok (.iload_n 2, 1) := by decide +kernel
theorem dX2_ageTo_5 : decode cX2_ageTo 5 = .ok (.ifCond .lt 19, 3) := by decide +kernel
theorem dX2_ageTo_8 : decode cX2_ageTo 8 = .ok (.aload_n 0, 1) := by decide +kernel
theorem dX2_ageTo_9 : decode cX2_ageTo 9 = .ok (.getfield 169, 3) := by decide +kernel
theorem dX2_ageTo_12 : decode cX2_ageTo 12 = .ok (.iload_n 2, 1) := by decide +kernel
theorem dX2_ageTo_13 : decode cX2_ageTo 13 = .ok (.iaload, 1) := by decide +kernel
theorem dX2_ageTo_14 : decode cX2_ageTo 14 = .ok (.iload_n 1, 1) := by decide +kernel
theorem dX2_ageTo_15 : decode cX2_ageTo 15 = .ok (.if_icmp .le 9, 3) := by decide +kernel
theorem dX2_ageTo_18 : decode cX2_ageTo 18 = .ok (.iinc 2 (-1), 3) := by decide +kernel
theorem dX2_ageTo_21 : decode cX2_ageTo 21 = .ok (.goto (-17), 3) := by decide +kernel
theorem dX2_ageTo_24 : decode cX2_ageTo 24 = .ok (.iload_n 2, 1) := by decide +kernel
theorem dX2_ageTo_25 : decode cX2_ageTo 25 = .ok (.ireturn, 1) := by decide +kernel
def fn_X2_ageTo_24 (N : Nat)  (x2 : Int32) (Ω : zo_O) : Option zo_R :=
  rI x2 Ω
theorem ct_X2_ageTo_24 {Y : zo_Y} (hY : zo_Gd Y cX2_ageTo 3 RX2 0) (hJ : zo_JC (zo_J Y)) (hCon : ∀ Ω, zo_J Y Ω → zo_Con Ω) (hr : zo_rt Y (Option.some Jvm.ClassFile.FieldType.int)) (N : Nat)   (x2 : Int32) (Ω : zo_O) (res : zo_R) (h : fn_X2_ageTo_24 N  x2 Ω = some res) : TW Y res Ω 24 [(2, vi x2)] [] := by
  unfold fn_X2_ageTo_24 at h
  refine zo_iload_n hY dX2_ageTo_24 rfl 0 rfl ?_
  exact zo_iret hY hr dX2_ageTo_25 h
def bd_X2_ageTo_4 (N : Nat)  (K4 : Int32 → Int32 → zo_O → Option zo_R) (x1 : Int32) (x2 : Int32) (Ω : zo_O) : Option zo_R :=
  if x2 < 0 then (
    fn_X2_ageTo_24 N x2 Ω
    ) else
  ix x2 801 fun j2 =>
  if gI Ω 32 42 j2 ≤ x1 then (
    fn_X2_ageTo_24 N x2 Ω
    ) else
  K4 x1 (x2 + (-1)) Ω
theorem cb_X2_ageTo_4 {Y : zo_Y} (hY : zo_Gd Y cX2_ageTo 3 RX2 0) (hJ : zo_JC (zo_J Y)) (hCon : ∀ Ω, zo_J Y Ω → zo_Con Ω) (hr : zo_rt Y (Option.some Jvm.ClassFile.FieldType.int)) (N : Nat)  (K4 : Int32 → Int32 → zo_O → Option zo_R)  (hK4 : ∀ (x1 : Int32) (x2 : Int32) (Ω : zo_O) (res : zo_R), K4 x1 x2 Ω = some res → TW Y res Ω 4 [(0, vr 1 0), (1, vi x1), (2, vi x2)] []) (x1 : Int32) (x2 : Int32) (Ω : zo_O) (res : zo_R) (h : bd_X2_ageTo_4 N  K4 x1 x2 Ω = some res) : TW Y res Ω 4 [(0, vr 1 0), (1, vi x1), (2, vi x2)] [] := by
  unfold bd_X2_ageTo_4 at h
  refine zo_iload_n hY dX2_ageTo_4 rfl 2 rfl ?_
  refine zo_if_lt hY 24 dX2_ageTo_5 (by decide) h (fun c1 h => ?_) (fun c1 h => ?_)
  · refine zo_sub [2] rfl ?_
    exact ct_X2_ageTo_24 hY hJ hCon hr N x2 Ω _ h
  · refine zo_aload_n hY dX2_ageTo_8 rfl 0 rfl ?_
    refine zo_getC hY LX2_169_1 rfl (fun Ω q => (hCon Ω q).2.1 74 _ rfl) dX2_ageTo_9 ?_
    refine zo_iload_n hY dX2_ageTo_12 rfl 2 rfl ?_
    refine zo_ald hY (by decide) (Or.inl ⟨rfl, dX2_ageTo_13⟩) (fun q => (hCon _ q).2.2.2 32 42 801 rfl) h (fun j2 h => ?_)
    refine zo_iload_n hY dX2_ageTo_14 rfl 1 rfl ?_
    refine zo_icmp_le hY 24 dX2_ageTo_15 (by decide) h (fun c3 h => ?_) (fun c3 h => ?_)
    · refine zo_sub [2] rfl ?_
      exact ct_X2_ageTo_24 hY hJ hCon hr N x2 Ω _ h
    · refine zo_iinc hY (-1) dX2_ageTo_18 (by decide) (by decide) 2 rfl rfl (ls' := [(2, vi (x2 + (-1))), (0, vr 1 0), (1, vi x1)]) rfl ?_
      refine zo_goto hY 4 dX2_ageTo_21 (by decide) ?_
      refine zo_sub [1, 2, 0] rfl ?_
      exact hK4 x1 (x2 + (-1)) Ω _ h
def fn_X2_ageTo_4 (N : Nat)  : Nat → Int32 → Int32 → zo_O → Option zo_R
  | 0, _, _, _ => none
  | n + 1, x1, x2, Ω => bd_X2_ageTo_4 N  (fn_X2_ageTo_4 N  n) x1 x2 Ω
theorem ct_X2_ageTo_4 {Y : zo_Y} (hY : zo_Gd Y cX2_ageTo 3 RX2 0) (hJ : zo_JC (zo_J Y)) (hCon : ∀ Ω, zo_J Y Ω → zo_Con Ω) (hr : zo_rt Y (Option.some Jvm.ClassFile.FieldType.int)) (N : Nat)   : ∀ (n : Nat) (x1 : Int32) (x2 : Int32) (Ω : zo_O) (res : zo_R), fn_X2_ageTo_4 N  n x1 x2 Ω = some res → TW Y res Ω 4 [(0, vr 1 0), (1, vi x1), (2, vi x2)] [] := by
  intro n
  induction n with
  | zero => intro x1 x2 Ω res h; exact nomatch (show (none : Option zo_R) = some res from h)
  | succ n ih => intro x1 x2 Ω res h; exact cb_X2_ageTo_4 hY hJ hCon hr N  (fn_X2_ageTo_4 N  n)  ih x1 x2 Ω res h
def fn_X2_ageTo (N : Nat) (x1 : Int32) (Ω : zo_O) : Option zo_R :=
  fn_X2_ageTo_4 N N x1 800 Ω
theorem mt_X2_ageTo {G : zo_G} {J : zo_O → Prop} (hJ : zo_JC J) (hCon : ∀ Ω, J Ω → zo_Con Ω) (N : Nat) (x1 : Int32) (Ω : zo_O) (res : zo_R) (h : fn_X2_ageTo N x1 Ω = some res) : zo_MT G J yX2_ageTo cX2_ageTo 3 (Option.some Jvm.ClassFile.FieldType.int) 0 [vr 1 0, vi x1] Ω res := by
  refine zo_enter (by decide) rfl (Nat.le_of_ble_eq_true rfl) (fun Y hY eJ hr hmn => ?_)
  subst eJ
  show TW Y res Ω 0 [(0, vr 1 0), (1, vi x1)] []
  unfold fn_X2_ageTo at h
  refine zo_sipush hY 800 (by decide) dX2_ageTo_0 ?_
  refine zo_istore_n hY dX2_ageTo_3 rfl (by decide) rfl (ls' := [(2, vi 800), (0, vr 1 0), (1, vi x1)]) rfl ?_
  refine zo_sub [1, 2, 0] rfl ?_
  exact ct_X2_ageTo_4 hY hJ hCon hr N N x1 800 Ω _ h
theorem dX2_isThere_0 : decode cX2_isThere 0 = .ok (.aload_n 0, 1) := by decide +kernel
theorem dX2_isThere_1 : decode cX2_isThere 1 = .ok (.getfield 22, 3) := by decide +kernel
theorem dX2_isThere_4 : decode cX2_isThere 4 = .ok (.iload_n 1, 1) := by decide +kernel
theorem dX2_isThere_5 : decode cX2_isThere 5 = .ok (.iaload, 1) := by decide +kernel
theorem dX2_isThere_6 : decode cX2_isThere 6 = .ok (.iload_n 2, 1) := by decide +kernel
theorem dX2_isThere_7 : decode cX2_isThere 7 = .ok (.if_icmp .gt 7, 3) := by decide +kernel
theorem dX2_isThere_10 : decode cX2_isThere 10 = .ok (.iconst 1, 1) := by decide +kernel
theorem dX2_isThere_11 : decode cX2_isThere 11 = .ok (.goto 4, 3) := by decide +kernel
theorem dX2_isThere_14 : decode cX2_isThere 14 = .ok (.iconst 0, 1) := by decide +kernel
theorem dX2_isThere_15 : decode cX2_isThere 15 = .ok (.ireturn, 1) := by decide +kernel
def fn_X2_isThere_15 (N : Nat)  (s0 : Int32) (Ω : zo_O) : Option zo_R :=
  rZ s0 Ω
theorem ct_X2_isThere_15 {Y : zo_Y} (hY : zo_Gd Y cX2_isThere 3 RX2 0) (hJ : zo_JC (zo_J Y)) (hCon : ∀ Ω, zo_J Y Ω → zo_Con Ω) (hr : zo_rt Y (Option.some Jvm.ClassFile.FieldType.boolean)) (N : Nat)   (s0 : Int32) (Ω : zo_O) (res : zo_R) (h : fn_X2_isThere_15 N  s0 Ω = some res) : TW Y res Ω 15 [] [vi s0] := by
  unfold fn_X2_isThere_15 at h
  exact zo_zret hY hr dX2_isThere_15 h
def fn_X2_isThere (N : Nat) (x1 : Int32) (x2 : Int32) (Ω : zo_O) : Option zo_R :=
  ix x1 14 fun j1 =>
  if x2 < gI Ω 32 4 j1 then (
    fn_X2_isThere_15 N 0 Ω
    ) else
  fn_X2_isThere_15 N 1 Ω
theorem mt_X2_isThere {G : zo_G} {J : zo_O → Prop} (hJ : zo_JC J) (hCon : ∀ Ω, J Ω → zo_Con Ω) (N : Nat) (x1 : Int32) (x2 : Int32) (Ω : zo_O) (res : zo_R) (h : fn_X2_isThere N x1 x2 Ω = some res) : zo_MT G J yX2_isThere cX2_isThere 3 (Option.some Jvm.ClassFile.FieldType.boolean) 0 [vr 1 0, vi x1, vi x2] Ω res := by
  refine zo_enter (by decide) rfl (Nat.le_of_ble_eq_true rfl) (fun Y hY eJ hr hmn => ?_)
  subst eJ
  show TW Y res Ω 0 [(0, vr 1 0), (1, vi x1), (2, vi x2)] []
  unfold fn_X2_isThere at h
  refine zo_aload_n hY dX2_isThere_0 rfl 0 rfl ?_
  refine zo_getC hY LX2_22_1 rfl (fun Ω q => (hCon Ω q).2.1 7 _ rfl) dX2_isThere_1 ?_
  refine zo_iload_n hY dX2_isThere_4 rfl 1 rfl ?_
  refine zo_ald hY (by decide) (Or.inl ⟨rfl, dX2_isThere_5⟩) (fun q => (hCon _ q).2.2.2 32 4 14 rfl) h (fun j1 h => ?_)
  refine zo_iload_n hY dX2_isThere_6 rfl 2 rfl ?_
  refine zo_icmp_gt hY 14 dX2_isThere_7 (by decide) h (fun c2 h => ?_) (fun c2 h => ?_)
  · refine zo_iconst hY 0 (by decide) dX2_isThere_14 ?_
    refine zo_sub [] rfl ?_
    exact ct_X2_isThere_15 hY hJ hCon hr N 0 Ω _ h
  · refine zo_iconst hY 1 (by decide) dX2_isThere_10 ?_
    refine zo_goto hY 15 dX2_isThere_11 (by decide) ?_
    refine zo_sub [] rfl ?_
    exact ct_X2_isThere_15 hY hJ hCon hr N 1 Ω _ h
theorem dX2_lays_0 : decode cX2_lays 0 = .ok (.aload_n 0, 1) := by decide +kernel
theorem dX2_lays_1 : decode cX2_lays 1 = .ok (.getfield 178, 3) := by decide +kernel
theorem dX2_lays_4 : decode cX2_lays 4 = .ok (.iload_n 1, 1) := by decide +kernel
theorem dX2_lays_5 : decode cX2_lays 5 = .ok (.sipush 1000, 3) := by decide +kernel
theorem dX2_lays_8 : decode cX2_lays 8 = .ok (.iastore, 1) := by decide +kernel
theorem dX2_lays_9 : decode cX2_lays 9 = .ok (.aload_n 0, 1) := by decide +kernel
theorem dX2_lays_10 : decode cX2_lays 10 = .ok (.getfield 181, 3) := by decide +kernel
theorem dX2_lays_13 : decode cX2_lays 13 = .ok (.iload_n 1, 1) := by decide +kernel
theorem dX2_lays_14 : decode cX2_lays 14 = .ok (.sipush 2100, 3) := by decide +kernel
theorem dX2_lays_17 : decode cX2_lays 17 = .ok (.iastore, 1) := by decide +kernel
theorem dX2_lays_18 : decode cX2_lays 18 = .ok (.iconst 0, 1) := by decide +kernel
theorem dX2_lays_19 : decode cX2_lays 19 = .ok (.istore_n 3, 1) := by decide +kernel
theorem dX2_lays_20 : decode cX2_lays 20 = .ok (.iload_n 3, 1) := by decide +kernel
theorem dX2_lays_21 : decode cX2_lays 21 = .ok (.iconst 3, 1) := by decide +kernel
theorem dX2_lays_22 : decode cX2_lays 22 = .ok (.if_icmp .ge 269, 3) := by decide +kernel
theorem dX2_lays_25 : decode cX2_lays 25 = .ok (.iconst 0, 1) := by decide +kernel
theorem dX2_lays_26 : decode cX2_lays 26 = .ok (.istore 4, 2) := by decide +kernel
theorem dX2_lays_28 : decode cX2_lays 28 = .ok (.iconst 0, 1) := by decide +kernel
theorem dX2_lays_29 : decode cX2_lays 29 = .ok (.istore 5, 2) := by decide +kernel
theorem dX2_lays_31 : decode cX2_lays 31 = .ok (.iload 5, 2) := by decide +kernel
theorem dX2_lays_33 : decode cX2_lays 33 = .ok (.aload_n 0, 1) := by decide +kernel
theorem dX2_lays_34 : decode cX2_lays 34 = .ok (.getfield 197, 3) := by decide +kernel
theorem dX2_lays_37 : decode cX2_lays 37 = .ok (.if_icmp .ge 53, 3) := by decide +kernel
theorem dX2_lays_40 : decode cX2_lays 40 = .ok (.iload 4, 2) := by decide +kernel
theorem dX2_lays_42 : decode cX2_lays 42 = .ok (.ifCond .ne 35, 3) := by decide +kernel
theorem dX2_lays_45 : decode cX2_lays 45 = .ok (.aload_n 0, 1) := by decide +kernel
theorem dX2_lays_46 : decode cX2_lays 46 = .ok (.getfield 25, 3) := by decide +kernel
theorem dX2_lays_49 : decode cX2_lays 49 = .ok (.iload 5, 2) := by decide +kernel
theorem dX2_lays_51 : decode cX2_lays 51 = .ok (.iaload, 1) := by decide +kernel
theorem dX2_lays_52 : decode cX2_lays 52 = .ok (.iload_n 1, 1) := by decide +kernel
theorem dX2_lays_53 : decode cX2_lays 53 = .ok (.if_icmp .ne 28, 3) := by decide +kernel
theorem dX2_lays_56 : decode cX2_lays 56 = .ok (.aload_n 0, 1) := by decide +kernel
theorem dX2_lays_57 : decode cX2_lays 57 = .ok (.getfield 28, 3) := by decide +kernel
theorem dX2_lays_60 : decode cX2_lays 60 = .ok (.iload 5, 2) := by decide +kernel
theorem dX2_lays_62 : decode cX2_lays 62 = .ok (.iaload, 1) := by decide +kernel
theorem dX2_lays_63 : decode cX2_lays 63 = .ok (.iload_n 3, 1) := by decide +kernel
theorem dX2_lays_64 : decode cX2_lays 64 = .ok (.if_icmp .ne 17, 3) := by decide +kernel
theorem dX2_lays_67 : decode cX2_lays 67 = .ok (.aload_n 0, 1) := by decide +kernel
theorem dX2_lays_68 : decode cX2_lays 68 = .ok (.iload 5, 2) := by decide +kernel
theorem dX2_lays_70 : decode cX2_lays 70 = .ok (.iload_n 2, 1) := by decide +kernel
theorem dX2_lays_71 : decode cX2_lays 71 = .ok (.invokevirtual 353, 3) := by decide +kernel
theorem dX2_lays_74 : decode cX2_lays 74 = .ok (.ifCond .eq 7, 3) := by decide +kernel
theorem dX2_lays_77 : decode cX2_lays 77 = .ok (.iconst 1, 1) := by decide +kernel
theorem dX2_lays_78 : decode cX2_lays 78 = .ok (.goto 4, 3) := by decide +kernel
theorem dX2_lays_81 : decode cX2_lays 81 = .ok (.iconst 0, 1) := by decide +kernel
theorem dX2_lays_82 : decode cX2_lays 82 = .ok (.istore 4, 2) := by decide +kernel
theorem dX2_lays_84 : decode cX2_lays 84 = .ok (.iinc 5 1, 3) := by decide +kernel
theorem dX2_lays_87 : decode cX2_lays 87 = .ok (.goto (-56), 3) := by decide +kernel
theorem dX2_lays_90 : decode cX2_lays 90 = .ok (.iload 4, 2) := by decide +kernel
theorem dX2_lays_92 : decode cX2_lays 92 = .ok (.ifCond .ne 6, 3) := by decide +kernel
theorem dX2_lays_95 : decode cX2_lays 95 = .ok (.goto 190, 3) := by decide +kernel
theorem dX2_lays_98 : decode cX2_lays 98 = .ok (.aload_n 0, 1) := by decide +kernel
theorem dX2_lays_99 : decode cX2_lays 99 = .ok (.iload_n 3, 1) := by decide +kernel
theorem dX2_lays_100 : decode cX2_lays 100 = .ok (.aload_n 0, 1) := by decide +kernel
theorem dX2_lays_101 : decode cX2_lays 101 = .ok (.getfield 7, 3) := by decide +kernel
theorem dX2_lays_104 : decode cX2_lays 104 = .ok (.iload_n 1, 1) := by decide +kernel
theorem dX2_lays_105 : decode cX2_lays 105 = .ok (.iaload, 1) := by decide +kernel
theorem dX2_lays_106 : decode cX2_lays 106 = .ok (.aload_n 0, 1) := by decide +kernel
theorem dX2_lays_107 : decode cX2_lays 107 = .ok (.getfield 13, 3) := by decide +kernel
theorem dX2_lays_110 : decode cX2_lays 110 = .ok (.iload_n 1, 1) := by decide +kernel
theorem dX2_lays_111 : decode cX2_lays 111 = .ok (.iaload, 1) := by decide +kernel
theorem dX2_lays_112 : decode cX2_lays 112 = .ok (.iload_n 2, 1) := by decide +kernel
theorem dX2_lays_113 : decode cX2_lays 113 = .ok (.iload_n 1, 1) := by decide +kernel
theorem dX2_lays_114 : decode cX2_lays 114 = .ok (.invokevirtual 407, 3) := by decide +kernel
theorem dX2_lays_117 : decode cX2_lays 117 = .ok (.iconst 0, 1) := by decide +kernel
theorem dX2_lays_118 : decode cX2_lays 118 = .ok (.istore 5, 2) := by decide +kernel
theorem dX2_lays_120 : decode cX2_lays 120 = .ok (.iload 5, 2) := by decide +kernel
theorem dX2_lays_122 : decode cX2_lays 122 = .ok (.aload_n 0, 1) := by decide +kernel
theorem dX2_lays_123 : decode cX2_lays 123 = .ok (.getfield 197, 3) := by decide +kernel
theorem dX2_lays_126 : decode cX2_lays 126 = .ok (.if_icmp .ge 159, 3) := by decide +kernel
theorem dX2_lays_129 : decode cX2_lays 129 = .ok (.aload_n 0, 1) := by decide +kernel
theorem dX2_lays_130 : decode cX2_lays 130 = .ok (.getfield 25, 3) := by decide +kernel
theorem dX2_lays_133 : decode cX2_lays 133 = .ok (.iload 5, 2) := by decide +kernel
theorem dX2_lays_135 : decode cX2_lays 135 = .ok (.iaload, 1) := by decide +kernel
theorem dX2_lays_136 : decode cX2_lays 136 = .ok (.iload_n 1, 1) := by decide +kernel
theorem dX2_lays_137 : decode cX2_lays 137 = .ok (.if_icmp .ne 142, 3) := by decide +kernel
theorem dX2_lays_140 : decode cX2_lays 140 = .ok (.aload_n 0, 1) := by decide +kernel
theorem dX2_lays_141 : decode cX2_lays 141 = .ok (.getfield 28, 3) := by decide +kernel
theorem dX2_lays_144 : decode cX2_lays 144 = .ok (.iload 5, 2) := by decide +kernel
theorem dX2_lays_146 : decode cX2_lays 146 = .ok (.iaload, 1) := by decide +kernel
theorem dX2_lays_147 : decode cX2_lays 147 = .ok (.iload_n 3, 1) := by decide +kernel
theorem dX2_lays_148 : decode cX2_lays 148 = .ok (.if_icmp .ne 131, 3) := by decide +kernel
theorem dX2_lays_151 : decode cX2_lays 151 = .ok (.aload_n 0, 1) := by decide +kernel
theorem dX2_lays_152 : decode cX2_lays 152 = .ok (.iload 5, 2) := by decide +kernel
theorem dX2_lays_154 : decode cX2_lays 154 = .ok (.invokevirtual 370, 3) := by decide +kernel
theorem dX2_lays_157 : decode cX2_lays 157 = .ok (.ifCond .eq 122, 3) := by decide +kernel
theorem dX2_lays_160 : decode cX2_lays 160 = .ok (.aload_n 0, 1) := by decide +kernel
theorem dX2_lays_161 : decode cX2_lays 161 = .ok (.iload_n 1, 1) := by decide +kernel
theorem dX2_lays_162 : decode cX2_lays 162 = .ok (.iload_n 3, 1) := by decide +kernel
theorem dX2_lays_163 : decode cX2_lays 163 = .ok (.aload_n 0, 1) := by decide +kernel
theorem dX2_lays_164 : decode cX2_lays 164 = .ok (.getfield 40, 3) := by decide +kernel
theorem dX2_lays_167 : decode cX2_lays 167 = .ok (.iload 5, 2) := by decide +kernel
theorem dX2_lays_169 : decode cX2_lays 169 = .ok (.iaload, 1) := by decide +kernel
theorem dX2_lays_170 : decode cX2_lays 170 = .ok (.iload_n 2, 1) := by decide +kernel
theorem dX2_lays_171 : decode cX2_lays 171 = .ok (.invokevirtual 373, 3) := by decide +kernel
theorem dX2_lays_174 : decode cX2_lays 174 = .ok (.ifCond .ne 6, 3) := by decide +kernel
theorem dX2_lays_177 : decode cX2_lays 177 = .ok (.goto 102, 3) := by decide +kernel
theorem dX2_lays_180 : decode cX2_lays 180 = .ok (.aload_n 0, 1) := by decide +kernel
theorem dX2_lays_181 : decode cX2_lays 181 = .ok (.aload_n 0, 1) := by decide +kernel
theorem dX2_lays_182 : decode cX2_lays 182 = .ok (.getfield 362, 3) := by decide +kernel
theorem dX2_lays_185 : decode cX2_lays 185 = .ok (.invokevirtual 411, 3) := by decide +kernel
theorem dX2_lays_188 : decode cX2_lays 188 = .ok (.istore 6, 2) := by decide +kernel
theorem dX2_lays_190 : decode cX2_lays 190 = .ok (.aload_n 0, 1) := by decide +kernel
theorem dX2_lays_191 : decode cX2_lays 191 = .ok (.getfield 181, 3) := by decide +kernel
theorem dX2_lays_194 : decode cX2_lays 194 = .ok (.iload_n 1, 1) := by decide +kernel
theorem dX2_lays_195 : decode cX2_lays 195 = .ok (.aload_n 0, 1) := by decide +kernel
theorem dX2_lays_196 : decode cX2_lays 196 = .ok (.getfield 181, 3) := by decide +kernel
theorem dX2_lays_199 : decode cX2_lays 199 = .ok (.iload_n 1, 1) := by decide +kernel
theorem dX2_lays_200 : decode cX2_lays 200 = .ok (.iaload, 1) := by decide +kernel
theorem dX2_lays_201 : decode cX2_lays 201 = .ok (.iload 6, 2) := by decide +kernel
theorem dX2_lays_203 : decode cX2_lays 203 = .ok (.sipush 800, 3) := by decide +kernel
theorem dX2_lays_206 : decode cX2_lays 206 = .ok (.if_icmp .le 7, 3) := by decide +kernel
theorem dX2_lays_209 : decode cX2_lays 209 = .ok (.iconst 0, 1) := by decide +kernel
theorem dX2_lays_210 : decode cX2_lays 210 = .ok (.goto 13, 3) := by decide +kernel
theorem dX2_lays_213 : decode cX2_lays 213 = .ok (.aload_n 0, 1) := by decide +kernel
theorem dX2_lays_214 : decode cX2_lays 214 = .ok (.getfield 40, 3) := by decide +kernel
theorem dX2_lays_217 : decode cX2_lays 217 = .ok (.iload 5, 2) := by decide +kernel
theorem dX2_lays_219 : decode cX2_lays 219 = .ok (.iaload, 1) := by decide +kernel
theorem dX2_lays_220 : decode cX2_lays 220 = .ok (.iload 6, 2) := by decide +kernel
theorem dX2_lays_222 : decode cX2_lays 222 = .ok (.isub, 1) := by decide +kernel
theorem dX2_lays_223 : decode cX2_lays 223 = .ok (.invokestatic 401, 3) := by decide +kernel
theorem dX2_lays_226 : decode cX2_lays 226 = .ok (.iastore, 1) := by decide +kernel
theorem dX2_lays_227 : decode cX2_lays 227 = .ok (.aload_n 0, 1) := by decide +kernel
theorem dX2_lays_228 : decode cX2_lays 228 = .ok (.iload_n 1, 1) := by decide +kernel
theorem dX2_lays_229 : decode cX2_lays 229 = .ok (.iload_n 3, 1) := by decide +kernel
theorem dX2_lays_230 : decode cX2_lays 230 = .ok (.iload_n 2, 1) := by decide +kernel
theorem dX2_lays_231 : decode cX2_lays 231 = .ok (.invokevirtual 381, 3) := by decide +kernel
theorem dX2_lays_234 : decode cX2_lays 234 = .ok (.aload_n 0, 1) := by decide +kernel
theorem dX2_lays_235 : decode cX2_lays 235 = .ok (.getfield 114, 3) := by decide +kernel
theorem dX2_lays_238 : decode cX2_lays 238 = .ok (.if_icmp .lt 41, 3) := by decide +kernel
theorem dX2_lays_241 : decode cX2_lays 241 = .ok (.aload_n 0, 1) := by decide +kernel
theorem dX2_lays_242 : decode cX2_lays 242 = .ok (.getfield 178, 3) := by decide +kernel
theorem dX2_lays_245 : decode cX2_lays 245 = .ok (.iload_n 1, 1) := by decide +kernel
theorem dX2_lays_246 : decode cX2_lays 246 = .ok (.aload_n 0, 1) := by decide +kernel
theorem dX2_lays_247 : decode cX2_lays 247 = .ok (.getfield 178, 3) := by decide +kernel
theorem dX2_lays_250 : decode cX2_lays 250 = .ok (.iload_n 1, 1) := by decide +kernel
theorem dX2_lays_251 : decode cX2_lays 251 = .ok (.iaload, 1) := by decide +kernel
theorem dX2_lays_252 : decode cX2_lays 252 = .ok (.aload_n 0, 1) := by decide +kernel
theorem dX2_lays_253 : decode cX2_lays 253 = .ok (.getfield 40, 3) := by decide +kernel
theorem dX2_lays_256 : decode cX2_lays 256 = .ok (.iload 5, 2) := by decide +kernel
theorem dX2_lays_258 : decode cX2_lays 258 = .ok (.iaload, 1) := by decide +kernel
theorem dX2_lays_259 : decode cX2_lays 259 = .ok (.aload_n 0, 1) := by decide +kernel
theorem dX2_lays_260 : decode cX2_lays 260 = .ok (.aload_n 0, 1) := by decide +kernel
theorem dX2_lays_261 : decode cX2_lays 261 = .ok (.getfield 365, 3) := by decide +kernel
theorem dX2_lays_264 : decode cX2_lays 264 = .ok (.invokevirtual 414, 3) := by decide +kernel
theorem dX2_lays_267 : decode cX2_lays 267 = .ok (.isub, 1) := by decide +kernel
theorem dX2_lays_268 : decode cX2_lays 268 = .ok (.aload_n 0, 1) := by decide +kernel
theorem dX2_lays_269 : decode cX2_lays 269 = .ok (.getfield 117, 3) := by decide +kernel
theorem dX2_lays_272 : decode cX2_lays 272 = .ok (.iload_n 3, 1) := by decide +kernel
theorem dX2_lays_273 : decode cX2_lays 273 = .ok (.iaload, 1) := by decide +kernel
theorem dX2_lays_274 : decode cX2_lays 274 = .ok (.isub, 1) := by decide +kernel
theorem dX2_lays_275 : decode cX2_lays 275 = .ok (.invokestatic 348, 3) := by decide +kernel
theorem dX2_lays_278 : decode cX2_lays 278 = .ok (.iastore, 1) := by decide +kernel
theorem dX2_lays_279 : decode cX2_lays 279 = .ok (.iinc 5 1, 3) := by decide +kernel
theorem dX2_lays_282 : decode cX2_lays 282 = .ok (.goto (-162), 3) := by decide +kernel
theorem dX2_lays_285 : decode cX2_lays 285 = .ok (.iinc 3 1, 3) := by decide +kernel
theorem dX2_lays_288 : decode cX2_lays 288 = .ok (.goto (-268), 3) := by decide +kernel
theorem dX2_lays_291 : decode cX2_lays 291 = .ok (.iconst 0, 1) := by decide +kernel
theorem dX2_lays_292 : decode cX2_lays 292 = .ok (.istore_n 3, 1) := by decide +kernel
theorem dX2_lays_293 : decode cX2_lays 293 = .ok (.iload_n 3, 1) := by decide +kernel
theorem dX2_lays_294 : decode cX2_lays 294 = .ok (.aload_n 0, 1) := by decide +kernel
theorem dX2_lays_295 : decode cX2_lays 295 = .ok (.getfield 222, 3) := by decide +kernel
theorem dX2_lays_298 : decode cX2_lays 298 = .ok (.if_icmp .ge 74, 3) := by decide +kernel
theorem dX2_lays_301 : decode cX2_lays 301 = .ok (.aload_n 0, 1) := by decide +kernel
theorem dX2_lays_302 : decode cX2_lays 302 = .ok (.getfield 74, 3) := by decide +kernel
theorem dX2_lays_305 : decode cX2_lays 305 = .ok (.iload_n 3, 1) := by decide +kernel
theorem dX2_lays_306 : decode cX2_lays 306 = .ok (.iaload, 1) := by decide +kernel
theorem dX2_lays_307 : decode cX2_lays 307 = .ok (.iload_n 1, 1) := by decide +kernel
theorem dX2_lays_308 : decode cX2_lays 308 = .ok (.if_icmp .ne 58, 3) := by decide +kernel
theorem dX2_lays_311 : decode cX2_lays 311 = .ok (.aload_n 0, 1) := by decide +kernel
theorem dX2_lays_312 : decode cX2_lays 312 = .ok (.getfield 83, 3) := by decide +kernel
theorem dX2_lays_315 : decode cX2_lays 315 = .ok (.iload_n 3, 1) := by decide +kernel
theorem dX2_lays_316 : decode cX2_lays 316 = .ok (.iaload, 1) := by decide +kernel
theorem dX2_lays_317 : decode cX2_lays 317 = .ok (.iload_n 2, 1) := by decide +kernel
theorem dX2_lays_318 : decode cX2_lays 318 = .ok (.if_icmp .le 6, 3) := by decide +kernel
theorem dX2_lays_321 : decode cX2_lays 321 = .ok (.goto 45, 3) := by decide +kernel
theorem dX2_lays_324 : decode cX2_lays 324 = .ok (.aload_n 0, 1) := by decide +kernel
theorem dX2_lays_325 : decode cX2_lays 325 = .ok (.getfield 178, 3) := by decide +kernel
theorem dX2_lays_328 : decode cX2_lays 328 = .ok (.iload_n 1, 1) := by decide +kernel
theorem dX2_lays_329 : decode cX2_lays 329 = .ok (.aload_n 0, 1) := by decide +kernel
theorem dX2_lays_330 : decode cX2_lays 330 = .ok (.getfield 178, 3) := by decide +kernel
theorem dX2_lays_333 : decode cX2_lays 333 = .ok (.iload_n 1, 1) := by decide +kernel
theorem dX2_lays_334 : decode cX2_lays 334 = .ok (.iaload, 1) := by decide +kernel
theorem dX2_lays_335 : decode cX2_lays 335 = .ok (.aload_n 0, 1) := by decide +kernel
theorem dX2_lays_336 : decode cX2_lays 336 = .ok (.getfield 77, 3) := by decide +kernel
theorem dX2_lays_339 : decode cX2_lays 339 = .ok (.iload_n 3, 1) := by decide +kernel
theorem dX2_lays_340 : decode cX2_lays 340 = .ok (.iaload, 1) := by decide +kernel
theorem dX2_lays_341 : decode cX2_lays 341 = .ok (.invokestatic 348, 3) := by decide +kernel
theorem dX2_lays_344 : decode cX2_lays 344 = .ok (.iastore, 1) := by decide +kernel
theorem dX2_lays_345 : decode cX2_lays 345 = .ok (.aload_n 0, 1) := by decide +kernel
theorem dX2_lays_346 : decode cX2_lays 346 = .ok (.getfield 181, 3) := by decide +kernel
theorem dX2_lays_349 : decode cX2_lays 349 = .ok (.iload_n 1, 1) := by decide +kernel
theorem dX2_lays_350 : decode cX2_lays 350 = .ok (.aload_n 0, 1) := by decide +kernel
theorem dX2_lays_351 : decode cX2_lays 351 = .ok (.getfield 181, 3) := by decide +kernel
theorem dX2_lays_354 : decode cX2_lays 354 = .ok (.iload_n 1, 1) := by decide +kernel
theorem dX2_lays_355 : decode cX2_lays 355 = .ok (.iaload, 1) := by decide +kernel
theorem dX2_lays_356 : decode cX2_lays 356 = .ok (.aload_n 0, 1) := by decide +kernel
theorem dX2_lays_357 : decode cX2_lays 357 = .ok (.getfield 80, 3) := by decide +kernel
theorem dX2_lays_360 : decode cX2_lays 360 = .ok (.iload_n 3, 1) := by decide +kernel
theorem dX2_lays_361 : decode cX2_lays 361 = .ok (.iaload, 1) := by decide +kernel
theorem dX2_lays_362 : decode cX2_lays 362 = .ok (.invokestatic 401, 3) := by decide +kernel
theorem dX2_lays_365 : decode cX2_lays 365 = .ok (.iastore, 1) := by decide +kernel
theorem dX2_lays_366 : decode cX2_lays 366 = .ok (.iinc 3 1, 3) := by decide +kernel
theorem dX2_lays_369 : decode cX2_lays 369 = .ok (.goto (-76), 3) := by decide +kernel
theorem dX2_lays_372 : decode cX2_lays 372 = .ok (.return_, 1) := by decide +kernel
def fn_X2_lays_82 (N : Nat) (K20 : Int32 → Int32 → Int32 → zo_O → Option zo_R) (K31 : Int32 → Int32 → Int32 → Int32 → Int32 → zo_O → Option zo_R) (x1 : Int32) (x2 : Int32) (x3 : Int32) (x5 : Int32) (s0 : Int32) (Ω : zo_O) : Option zo_R :=
  K31 x1 x2 x3 s0 (x5 + 1) Ω
theorem ct_X2_lays_82 {Y : zo_Y} (hY : zo_Gd Y cX2_lays 7 RX2 5) (hJ : zo_JC (zo_J Y)) (hCon : ∀ Ω, zo_J Y Ω → zo_Con Ω) (hr : zo_rt Y (Option.none : Option Jvm.ClassFile.FieldType)) (N : Nat) (K20 : Int32 → Int32 → Int32 → zo_O → Option zo_R) (K31 : Int32 → Int32 → Int32 → Int32 → Int32 → zo_O → Option zo_R) (hK20 : ∀ (x1 : Int32) (x2 : Int32) (x3 : Int32) (Ω : zo_O) (res : zo_R), K20 x1 x2 x3 Ω = some res → TW Y res Ω 20 [(0, vr 1 0), (1, vi x1), (2, vi x2), (3, vi x3)] []) (hK31 : ∀ (x1 : Int32) (x2 : Int32) (x3 : Int32) (x4 : Int32) (x5 : Int32) (Ω : zo_O) (res : zo_R), K31 x1 x2 x3 x4 x5 Ω = some res → TW Y res Ω 31 [(0, vr 1 0), (1, vi x1), (2, vi x2), (3, vi x3), (4, vi x4), (5, vi x5)] []) (x1 : Int32) (x2 : Int32) (x3 : Int32) (x5 : Int32) (s0 : Int32) (Ω : zo_O) (res : zo_R) (h : fn_X2_lays_82 N K20 K31 x1 x2 x3 x5 s0 Ω = some res) : TW Y res Ω 82 [(0, vr 1 0), (1, vi x1), (2, vi x2), (3, vi x3), (5, vi x5)] [vi s0] := by
  unfold fn_X2_lays_82 at h
  refine zo_istore hY dX2_lays_82 (by decide) rfl (ls' := [(4, vi s0), (0, vr 1 0), (1, vi x1), (2, vi x2), (3, vi x3), (5, vi x5)]) rfl ?_
  refine zo_iinc hY 1 dX2_lays_84 (by decide) (by decide) 5 rfl rfl (ls' := [(5, vi (x5 + 1)), (4, vi s0), (0, vr 1 0), (1, vi x1), (2, vi x2), (3, vi x3)]) rfl ?_
  refine zo_goto hY 31 dX2_lays_87 (by decide) ?_
  refine zo_sub [2, 3, 4, 5, 1, 0] rfl ?_
  exact hK31 x1 x2 x3 s0 (x5 + 1) Ω _ h
def fn_X2_lays_77 (N : Nat) (K20 : Int32 → Int32 → Int32 → zo_O → Option zo_R) (K31 : Int32 → Int32 → Int32 → Int32 → Int32 → zo_O → Option zo_R) (x1 : Int32) (x2 : Int32) (x3 : Int32) (x5 : Int32) (Ω : zo_O) : Option zo_R :=
  fn_X2_lays_82 N K20 K31 x1 x2 x3 x5 1 Ω
theorem ct_X2_lays_77 {Y : zo_Y} (hY : zo_Gd Y cX2_lays 7 RX2 5) (hJ : zo_JC (zo_J Y)) (hCon : ∀ Ω, zo_J Y Ω → zo_Con Ω) (hr : zo_rt Y (Option.none : Option Jvm.ClassFile.FieldType)) (N : Nat) (K20 : Int32 → Int32 → Int32 → zo_O → Option zo_R) (K31 : Int32 → Int32 → Int32 → Int32 → Int32 → zo_O → Option zo_R) (hK20 : ∀ (x1 : Int32) (x2 : Int32) (x3 : Int32) (Ω : zo_O) (res : zo_R), K20 x1 x2 x3 Ω = some res → TW Y res Ω 20 [(0, vr 1 0), (1, vi x1), (2, vi x2), (3, vi x3)] []) (hK31 : ∀ (x1 : Int32) (x2 : Int32) (x3 : Int32) (x4 : Int32) (x5 : Int32) (Ω : zo_O) (res : zo_R), K31 x1 x2 x3 x4 x5 Ω = some res → TW Y res Ω 31 [(0, vr 1 0), (1, vi x1), (2, vi x2), (3, vi x3), (4, vi x4), (5, vi x5)] []) (x1 : Int32) (x2 : Int32) (x3 : Int32) (x5 : Int32) (Ω : zo_O) (res : zo_R) (h : fn_X2_lays_77 N K20 K31 x1 x2 x3 x5 Ω = some res) : TW Y res Ω 77 [(0, vr 1 0), (1, vi x1), (2, vi x2), (3, vi x3), (5, vi x5)] [] := by
  unfold fn_X2_lays_77 at h
  refine zo_iconst hY 1 (by decide) dX2_lays_77 ?_
  refine zo_goto hY 82 dX2_lays_78 (by decide) ?_
  exact ct_X2_lays_82 hY hJ hCon hr N K20 K31 hK20 hK31 x1 x2 x3 x5 1 Ω _ h
def fn_X2_lays_81 (N : Nat) (K20 : Int32 → Int32 → Int32 → zo_O → Option zo_R) (K31 : Int32 → Int32 → Int32 → Int32 → Int32 → zo_O → Option zo_R) (x1 : Int32) (x2 : Int32) (x3 : Int32) (x5 : Int32) (Ω : zo_O) : Option zo_R :=
  fn_X2_lays_82 N K20 K31 x1 x2 x3 x5 0 Ω
theorem ct_X2_lays_81 {Y : zo_Y} (hY : zo_Gd Y cX2_lays 7 RX2 5) (hJ : zo_JC (zo_J Y)) (hCon : ∀ Ω, zo_J Y Ω → zo_Con Ω) (hr : zo_rt Y (Option.none : Option Jvm.ClassFile.FieldType)) (N : Nat) (K20 : Int32 → Int32 → Int32 → zo_O → Option zo_R) (K31 : Int32 → Int32 → Int32 → Int32 → Int32 → zo_O → Option zo_R) (hK20 : ∀ (x1 : Int32) (x2 : Int32) (x3 : Int32) (Ω : zo_O) (res : zo_R), K20 x1 x2 x3 Ω = some res → TW Y res Ω 20 [(0, vr 1 0), (1, vi x1), (2, vi x2), (3, vi x3)] []) (hK31 : ∀ (x1 : Int32) (x2 : Int32) (x3 : Int32) (x4 : Int32) (x5 : Int32) (Ω : zo_O) (res : zo_R), K31 x1 x2 x3 x4 x5 Ω = some res → TW Y res Ω 31 [(0, vr 1 0), (1, vi x1), (2, vi x2), (3, vi x3), (4, vi x4), (5, vi x5)] []) (x1 : Int32) (x2 : Int32) (x3 : Int32) (x5 : Int32) (Ω : zo_O) (res : zo_R) (h : fn_X2_lays_81 N K20 K31 x1 x2 x3 x5 Ω = some res) : TW Y res Ω 81 [(0, vr 1 0), (1, vi x1), (2, vi x2), (3, vi x3), (5, vi x5)] [] := by
  unfold fn_X2_lays_81 at h
  refine zo_iconst hY 0 (by decide) dX2_lays_81 ?_
  exact ct_X2_lays_82 hY hJ hCon hr N K20 K31 hK20 hK31 x1 x2 x3 x5 0 Ω _ h
def fn_X2_lays_279 (N : Nat) (K20 : Int32 → Int32 → Int32 → zo_O → Option zo_R) (K120 : Int32 → Int32 → Int32 → Int32 → zo_O → Option zo_R) (x1 : Int32) (x2 : Int32) (x3 : Int32) (x5 : Int32) (Ω : zo_O) : Option zo_R :=
  K120 x1 x2 x3 (x5 + 1) Ω
theorem ct_X2_lays_279 {Y : zo_Y} (hY : zo_Gd Y cX2_lays 7 RX2 5) (hJ : zo_JC (zo_J Y)) (hCon : ∀ Ω, zo_J Y Ω → zo_Con Ω) (hr : zo_rt Y (Option.none : Option Jvm.ClassFile.FieldType)) (N : Nat) (K20 : Int32 → Int32 → Int32 → zo_O → Option zo_R) (K120 : Int32 → Int32 → Int32 → Int32 → zo_O → Option zo_R) (hK20 : ∀ (x1 : Int32) (x2 : Int32) (x3 : Int32) (Ω : zo_O) (res : zo_R), K20 x1 x2 x3 Ω = some res → TW Y res Ω 20 [(0, vr 1 0), (1, vi x1), (2, vi x2), (3, vi x3)] []) (hK120 : ∀ (x1 : Int32) (x2 : Int32) (x3 : Int32) (x5 : Int32) (Ω : zo_O) (res : zo_R), K120 x1 x2 x3 x5 Ω = some res → TW Y res Ω 120 [(0, vr 1 0), (1, vi x1), (2, vi x2), (3, vi x3), (5, vi x5)] []) (x1 : Int32) (x2 : Int32) (x3 : Int32) (x5 : Int32) (Ω : zo_O) (res : zo_R) (h : fn_X2_lays_279 N K20 K120 x1 x2 x3 x5 Ω = some res) : TW Y res Ω 279 [(0, vr 1 0), (1, vi x1), (2, vi x2), (3, vi x3), (5, vi x5)] [] := by
  unfold fn_X2_lays_279 at h
  refine zo_iinc hY 1 dX2_lays_279 (by decide) (by decide) 4 rfl rfl (ls' := [(5, vi (x5 + 1)), (0, vr 1 0), (1, vi x1), (2, vi x2), (3, vi x3)]) rfl ?_
  refine zo_goto hY 120 dX2_lays_282 (by decide) ?_
  refine zo_sub [1, 2, 3, 4, 0] rfl ?_
  exact hK120 x1 x2 x3 (x5 + 1) Ω _ h
def fn_X2_lays_223 (N : Nat) (K20 : Int32 → Int32 → Int32 → zo_O → Option zo_R) (K120 : Int32 → Int32 → Int32 → Int32 → zo_O → Option zo_R) (x1 : Int32) (x2 : Int32) (x3 : Int32) (x5 : Int32) (s0 : Int32) (s1 : Int32) (s2 : Int32) (Ω : zo_O) : Option zo_R :=
  ix s2 14 fun j1 => lt (sI Ω 32 46 j1 (mn s1 s0)) fun Ω2 =>
  ci (fn_X2_lookedAt N x1 x3 x2 Ω2) fun r4 Ω3 =>
  if r4 < gI Ω3 1 0 43 then (
    fn_X2_lays_279 N K20 K120 x1 x2 x3 x5 Ω3
    ) else
  ix x1 14 fun j6 =>
  ix x5 120 fun j7 =>
  ci (fn_X2_ageTo N (gI Ω3 1 0 67) Ω3) fun r9 Ω8 =>
  ix x3 3 fun j10 =>
  ix x1 14 fun j11 => lt (sI Ω8 32 45 j11 (mx (gI Ω3 32 45 j6) (((gI Ω3 32 10 j7) - r9) - (gI Ω8 32 31 j10)))) fun Ω12 =>
  fn_X2_lays_279 N K20 K120 x1 x2 x3 x5 Ω12
theorem ct_X2_lays_223 {Y : zo_Y} (hY : zo_Gd Y cX2_lays 7 RX2 5) (hJ : zo_JC (zo_J Y)) (hCon : ∀ Ω, zo_J Y Ω → zo_Con Ω) (hr : zo_rt Y (Option.none : Option Jvm.ClassFile.FieldType)) (N : Nat) (K20 : Int32 → Int32 → Int32 → zo_O → Option zo_R) (K120 : Int32 → Int32 → Int32 → Int32 → zo_O → Option zo_R) (hK20 : ∀ (x1 : Int32) (x2 : Int32) (x3 : Int32) (Ω : zo_O) (res : zo_R), K20 x1 x2 x3 Ω = some res → TW Y res Ω 20 [(0, vr 1 0), (1, vi x1), (2, vi x2), (3, vi x3)] []) (hK120 : ∀ (x1 : Int32) (x2 : Int32) (x3 : Int32) (x5 : Int32) (Ω : zo_O) (res : zo_R), K120 x1 x2 x3 x5 Ω = some res → TW Y res Ω 120 [(0, vr 1 0), (1, vi x1), (2, vi x2), (3, vi x3), (5, vi x5)] []) (x1 : Int32) (x2 : Int32) (x3 : Int32) (x5 : Int32) (s0 : Int32) (s1 : Int32) (s2 : Int32) (Ω : zo_O) (res : zo_R) (h : fn_X2_lays_223 N K20 K120 x1 x2 x3 x5 s0 s1 s2 Ω = some res) : TW Y res Ω 223 [(0, vr 1 0), (1, vi x1), (2, vi x2), (3, vi x3), (5, vi x5)] [vi s0, vi s1, vi s2, vr 32 46] := by
  unfold fn_X2_lays_223 at h
  refine zo_mmin hY (by decide) q1733 (Nat.le_of_ble_eq_true rfl) dX2_lays_223 ?_
  refine zo_ast hY hJ (by decide) (Or.inl ⟨rfl, rfl, dX2_lays_226⟩) (fun q => (hCon _ q).2.2.2 32 46 14 rfl) h (fun j1 Ω2 h => ?_)
  refine zo_aload_n hY dX2_lays_227 rfl 0 rfl ?_
  refine zo_iload_n hY dX2_lays_228 rfl 1 rfl ?_
  refine zo_iload_n hY dX2_lays_229 rfl 3 rfl ?_
  refine zo_iload_n hY dX2_lays_230 rfl 2 rfl ?_
  refine zo_callV hY (fun q hq => mt_X2_lookedAt hJ hCon N x1 x3 x2 Ω2 q hq) (by decide) (by decide) (by decide) ⟨rfl, cn_X2_lookedAt⟩ rfl q1716 q1718 qs62 q82 q1719 (Nat.le_of_ble_eq_true rfl) dX2_lays_231 rfl h (ci_k (fun r4 Ω3 res h => ?_))
  refine zo_aload_n hY dX2_lays_234 rfl 0 rfl ?_
  refine zo_getI hY LX2_114_1 rfl dX2_lays_235 ?_
  refine zo_icmp_lt hY 279 dX2_lays_238 (by decide) h (fun c5 h => ?_) (fun c5 h => ?_)
  · exact ct_X2_lays_279 hY hJ hCon hr N K20 K120 hK20 hK120 x1 x2 x3 x5 Ω3 _ h
  · refine zo_aload_n hY dX2_lays_241 rfl 0 rfl ?_
    refine zo_getC hY LX2_178_1 rfl (fun Ω q => (hCon Ω q).2.1 77 _ rfl) dX2_lays_242 ?_
    refine zo_iload_n hY dX2_lays_245 rfl 1 rfl ?_
    refine zo_aload_n hY dX2_lays_246 rfl 0 rfl ?_
    refine zo_getC hY LX2_178_1 rfl (fun Ω q => (hCon Ω q).2.1 77 _ rfl) dX2_lays_247 ?_
    refine zo_iload_n hY dX2_lays_250 rfl 1 rfl ?_
    refine zo_ald hY (by decide) (Or.inl ⟨rfl, dX2_lays_251⟩) (fun q => (hCon _ q).2.2.2 32 45 14 rfl) h (fun j6 h => ?_)
    refine zo_aload_n hY dX2_lays_252 rfl 0 rfl ?_
    refine zo_getC hY LX2_40_1 rfl (fun Ω q => (hCon Ω q).2.1 14 _ rfl) dX2_lays_253 ?_
    refine zo_iload hY dX2_lays_256 4 rfl ?_
    refine zo_ald hY (by decide) (Or.inl ⟨rfl, dX2_lays_258⟩) (fun q => (hCon _ q).2.2.2 32 10 120 rfl) h (fun j7 h => ?_)
    refine zo_aload_n hY dX2_lays_259 rfl 0 rfl ?_
    refine zo_aload_n hY dX2_lays_260 rfl 0 rfl ?_
    refine zo_getI hY LX2_365_1 rfl dX2_lays_261 ?_
    refine zo_callV hY (fun q hq => mt_X2_ageTo hJ hCon N (gI Ω3 1 0 67) Ω3 q hq) (by decide) (by decide) (by decide) ⟨rfl, cn_X2_ageTo⟩ rfl q1758 q1760 qs70 q82 q1761 (Nat.le_of_ble_eq_true rfl) dX2_lays_264 rfl h (ci_k (fun r9 Ω8 res h => ?_))
    refine zo_isub hY dX2_lays_267 ?_
    refine zo_aload_n hY dX2_lays_268 rfl 0 rfl ?_
    refine zo_getC hY LX2_117_1 rfl (fun Ω q => (hCon Ω q).2.1 44 _ rfl) dX2_lays_269 ?_
    refine zo_iload_n hY dX2_lays_272 rfl 3 rfl ?_
    refine zo_ald hY (by decide) (Or.inl ⟨rfl, dX2_lays_273⟩) (fun q => (hCon _ q).2.2.2 32 31 3 rfl) h (fun j10 h => ?_)
    refine zo_isub hY dX2_lays_274 ?_
    refine zo_mmax hY (by decide) q1687 (Nat.le_of_ble_eq_true rfl) dX2_lays_275 ?_
    refine zo_ast hY hJ (by decide) (Or.inl ⟨rfl, rfl, dX2_lays_278⟩) (fun q => (hCon _ q).2.2.2 32 45 14 rfl) h (fun j11 Ω12 h => ?_)
    exact ct_X2_lays_279 hY hJ hCon hr N K20 K120 hK20 hK120 x1 x2 x3 x5 Ω12 _ h
def fn_X2_lays_285 (N : Nat) (K20 : Int32 → Int32 → Int32 → zo_O → Option zo_R) (x1 : Int32) (x2 : Int32) (x3 : Int32) (Ω : zo_O) : Option zo_R :=
  K20 x1 x2 (x3 + 1) Ω
theorem ct_X2_lays_285 {Y : zo_Y} (hY : zo_Gd Y cX2_lays 7 RX2 5) (hJ : zo_JC (zo_J Y)) (hCon : ∀ Ω, zo_J Y Ω → zo_Con Ω) (hr : zo_rt Y (Option.none : Option Jvm.ClassFile.FieldType)) (N : Nat) (K20 : Int32 → Int32 → Int32 → zo_O → Option zo_R) (hK20 : ∀ (x1 : Int32) (x2 : Int32) (x3 : Int32) (Ω : zo_O) (res : zo_R), K20 x1 x2 x3 Ω = some res → TW Y res Ω 20 [(0, vr 1 0), (1, vi x1), (2, vi x2), (3, vi x3)] []) (x1 : Int32) (x2 : Int32) (x3 : Int32) (Ω : zo_O) (res : zo_R) (h : fn_X2_lays_285 N K20 x1 x2 x3 Ω = some res) : TW Y res Ω 285 [(0, vr 1 0), (1, vi x1), (2, vi x2), (3, vi x3)] [] := by
  unfold fn_X2_lays_285 at h
  refine zo_iinc hY 1 dX2_lays_285 (by decide) (by decide) 3 rfl rfl (ls' := [(3, vi (x3 + 1)), (0, vr 1 0), (1, vi x1), (2, vi x2)]) rfl ?_
  refine zo_goto hY 20 dX2_lays_288 (by decide) ?_
  refine zo_sub [1, 2, 3, 0] rfl ?_
  exact hK20 x1 x2 (x3 + 1) Ω _ h
def bd_X2_lays_120 (N : Nat) (K20 : Int32 → Int32 → Int32 → zo_O → Option zo_R) (K120 : Int32 → Int32 → Int32 → Int32 → zo_O → Option zo_R) (x1 : Int32) (x2 : Int32) (x3 : Int32) (x5 : Int32) (Ω : zo_O) : Option zo_R :=
  if gI Ω 1 0 8 ≤ x5 then (
    fn_X2_lays_285 N K20 x1 x2 x3 Ω
    ) else
  ix x5 120 fun j2 =>
  if gI Ω 32 5 j2 = x1 then (
    ix x5 120 fun j4 =>
    if gI Ω 32 6 j4 = x3 then (
      ci (fn_X2_isFirst N x5 Ω) fun r7 Ω6 =>
      if r7 = 0 then (
        fn_X2_lays_279 N K20 K120 x1 x2 x3 x5 Ω6
        ) else
      ix x5 120 fun j9 =>
      ci (fn_X2_gathers N x1 x3 (gI Ω6 32 10 j9) x2 Ω6) fun r11 Ω10 =>
      if r11 = 0 then (
        fn_X2_lays_279 N K20 K120 x1 x2 x3 x5 Ω10
        ) else
      ci (fn_X2_ageFrom N (gI Ω10 1 0 66) Ω10) fun r14 Ω13 =>
      ix x1 14 fun j15 =>
      if r14 ≤ 800 then (
        ix x5 120 fun j17 =>
        fn_X2_lays_223 N K20 K120 x1 x2 x3 x5 ((gI Ω13 32 10 j17) - r14) (gI Ω13 32 46 j15) x1 Ω13
        ) else
      fn_X2_lays_223 N K20 K120 x1 x2 x3 x5 0 (gI Ω13 32 46 j15) x1 Ω13
      ) else
    fn_X2_lays_279 N K20 K120 x1 x2 x3 x5 Ω
    ) else
  fn_X2_lays_279 N K20 K120 x1 x2 x3 x5 Ω
theorem cb_X2_lays_120 {Y : zo_Y} (hY : zo_Gd Y cX2_lays 7 RX2 5) (hJ : zo_JC (zo_J Y)) (hCon : ∀ Ω, zo_J Y Ω → zo_Con Ω) (hr : zo_rt Y (Option.none : Option Jvm.ClassFile.FieldType)) (N : Nat) (K20 : Int32 → Int32 → Int32 → zo_O → Option zo_R) (K120 : Int32 → Int32 → Int32 → Int32 → zo_O → Option zo_R) (hK20 : ∀ (x1 : Int32) (x2 : Int32) (x3 : Int32) (Ω : zo_O) (res : zo_R), K20 x1 x2 x3 Ω = some res → TW Y res Ω 20 [(0, vr 1 0), (1, vi x1), (2, vi x2), (3, vi x3)] []) (hK120 : ∀ (x1 : Int32) (x2 : Int32) (x3 : Int32) (x5 : Int32) (Ω : zo_O) (res : zo_R), K120 x1 x2 x3 x5 Ω = some res → TW Y res Ω 120 [(0, vr 1 0), (1, vi x1), (2, vi x2), (3, vi x3), (5, vi x5)] []) (x1 : Int32) (x2 : Int32) (x3 : Int32) (x5 : Int32) (Ω : zo_O) (res : zo_R) (h : bd_X2_lays_120 N K20 K120 x1 x2 x3 x5 Ω = some res) : TW Y res Ω 120 [(0, vr 1 0), (1, vi x1), (2, vi x2), (3, vi x3), (5, vi x5)] [] := by
  unfold bd_X2_lays_120 at h
  refine zo_iload hY dX2_lays_120 4 rfl ?_
  refine zo_aload_n hY dX2_lays_122 rfl 0 rfl ?_
  refine zo_getI hY LX2_197_1 rfl dX2_lays_123 ?_
  refine zo_icmp_ge hY 285 dX2_lays_126 (by decide) h (fun c1 h => ?_) (fun c1 h => ?_)
  · refine zo_sub [0, 1, 2, 3] rfl ?_
    exact ct_X2_lays_285 hY hJ hCon hr N K20 hK20 x1 x2 x3 Ω _ h
  · refine zo_aload_n hY dX2_lays_129 rfl 0 rfl ?_
    refine zo_getC hY LX2_25_1 rfl (fun Ω q => (hCon Ω q).2.1 9 _ rfl) dX2_lays_130 ?_
    refine zo_iload hY dX2_lays_133 4 rfl ?_
    refine zo_ald hY (by decide) (Or.inl ⟨rfl, dX2_lays_135⟩) (fun q => (hCon _ q).2.2.2 32 5 120 rfl) h (fun j2 h => ?_)
    refine zo_iload_n hY dX2_lays_136 rfl 1 rfl ?_
    refine zo_icmp_ne hY 279 dX2_lays_137 (by decide) h (fun c3 h => ?_) (fun c3 h => ?_)
    · refine zo_aload_n hY dX2_lays_140 rfl 0 rfl ?_
      refine zo_getC hY LX2_28_1 rfl (fun Ω q => (hCon Ω q).2.1 10 _ rfl) dX2_lays_141 ?_
      refine zo_iload hY dX2_lays_144 4 rfl ?_
      refine zo_ald hY (by decide) (Or.inl ⟨rfl, dX2_lays_146⟩) (fun q => (hCon _ q).2.2.2 32 6 120 rfl) h (fun j4 h => ?_)
      refine zo_iload_n hY dX2_lays_147 rfl 3 rfl ?_
      refine zo_icmp_ne hY 279 dX2_lays_148 (by decide) h (fun c5 h => ?_) (fun c5 h => ?_)
      · refine zo_aload_n hY dX2_lays_151 rfl 0 rfl ?_
        refine zo_iload hY dX2_lays_152 4 rfl ?_
        refine zo_callV hY (fun q hq => mt_X2_isFirst hJ hCon N x5 Ω q hq) (by decide) (by decide) (by decide) ⟨rfl, cn_X2_isFirst⟩ rfl q1704 q1706 qs59 q82 q1707 (Nat.le_of_ble_eq_true rfl) dX2_lays_154 rfl h (ci_k (fun r7 Ω6 res h => ?_))
        refine zo_if_eq hY 279 dX2_lays_157 (by decide) h (fun c8 h => ?_) (fun c8 h => ?_)
        · exact ct_X2_lays_279 hY hJ hCon hr N K20 K120 hK20 hK120 x1 x2 x3 x5 Ω6 _ h
        · refine zo_aload_n hY dX2_lays_160 rfl 0 rfl ?_
          refine zo_iload_n hY dX2_lays_161 rfl 1 rfl ?_
          refine zo_iload_n hY dX2_lays_162 rfl 3 rfl ?_
          refine zo_aload_n hY dX2_lays_163 rfl 0 rfl ?_
          refine zo_getC hY LX2_40_1 rfl (fun Ω q => (hCon Ω q).2.1 14 _ rfl) dX2_lays_164 ?_
          refine zo_iload hY dX2_lays_167 4 rfl ?_
          refine zo_ald hY (by decide) (Or.inl ⟨rfl, dX2_lays_169⟩) (fun q => (hCon _ q).2.2.2 32 10 120 rfl) h (fun j9 h => ?_)
          refine zo_iload_n hY dX2_lays_170 rfl 2 rfl ?_
          refine zo_callV hY (fun q hq => mt_X2_gathers hJ hCon N x1 x3 (gI Ω6 32 10 j9) x2 Ω6 q hq) (by decide) (by decide) (by decide) ⟨rfl, cn_X2_gathers⟩ rfl q1708 q1710 qs60 q82 q1711 (Nat.le_of_ble_eq_true rfl) dX2_lays_171 rfl h (ci_k (fun r11 Ω10 res h => ?_))
          refine zo_if_ne hY 180 dX2_lays_174 (by decide) h (fun c12 h => ?_) (fun c12 h => ?_)
          · refine zo_goto hY 279 dX2_lays_177 (by decide) ?_
            exact ct_X2_lays_279 hY hJ hCon hr N K20 K120 hK20 hK120 x1 x2 x3 x5 Ω10 _ h
          · refine zo_aload_n hY dX2_lays_180 rfl 0 rfl ?_
            refine zo_aload_n hY dX2_lays_181 rfl 0 rfl ?_
            refine zo_getI hY LX2_362_1 rfl dX2_lays_182 ?_
            refine zo_callV hY (fun q hq => mt_X2_ageFrom hJ hCon N (gI Ω10 1 0 66) Ω10 q hq) (by decide) (by decide) (by decide) ⟨rfl, cn_X2_ageFrom⟩ rfl q1754 q1756 qs69 q82 q1757 (Nat.le_of_ble_eq_true rfl) dX2_lays_185 rfl h (ci_k (fun r14 Ω13 res h => ?_))
            refine zo_istore hY dX2_lays_188 (by decide) rfl (ls' := [(6, vi r14), (0, vr 1 0), (1, vi x1), (2, vi x2), (3, vi x3), (5, vi x5)]) rfl ?_
            refine zo_aload_n hY dX2_lays_190 rfl 1 rfl ?_
            refine zo_getC hY LX2_181_1 rfl (fun Ω q => (hCon Ω q).2.1 78 _ rfl) dX2_lays_191 ?_
            refine zo_iload_n hY dX2_lays_194 rfl 2 rfl ?_
            refine zo_aload_n hY dX2_lays_195 rfl 1 rfl ?_
            refine zo_getC hY LX2_181_1 rfl (fun Ω q => (hCon Ω q).2.1 78 _ rfl) dX2_lays_196 ?_
            refine zo_iload_n hY dX2_lays_199 rfl 2 rfl ?_
            refine zo_ald hY (by decide) (Or.inl ⟨rfl, dX2_lays_200⟩) (fun q => (hCon _ q).2.2.2 32 46 14 rfl) h (fun j15 h => ?_)
            refine zo_iload hY dX2_lays_201 0 rfl ?_
            refine zo_sipush hY 800 (by decide) dX2_lays_203 ?_
            refine zo_icmp_le hY 213 dX2_lays_206 (by decide) h (fun c16 h => ?_) (fun c16 h => ?_)
            · refine zo_aload_n hY dX2_lays_213 rfl 1 rfl ?_
              refine zo_getC hY LX2_40_1 rfl (fun Ω q => (hCon Ω q).2.1 14 _ rfl) dX2_lays_214 ?_
              refine zo_iload hY dX2_lays_217 5 rfl ?_
              refine zo_ald hY (by decide) (Or.inl ⟨rfl, dX2_lays_219⟩) (fun q => (hCon _ q).2.2.2 32 10 120 rfl) h (fun j17 h => ?_)
              refine zo_iload hY dX2_lays_220 0 rfl ?_
              refine zo_isub hY dX2_lays_222 ?_
              refine zo_sub [1, 2, 3, 4, 5] rfl ?_
              exact ct_X2_lays_223 hY hJ hCon hr N K20 K120 hK20 hK120 x1 x2 x3 x5 ((gI Ω13 32 10 j17) - r14) (gI Ω13 32 46 j15) x1 Ω13 _ h
            · refine zo_iconst hY 0 (by decide) dX2_lays_209 ?_
              refine zo_goto hY 223 dX2_lays_210 (by decide) ?_
              refine zo_sub [1, 2, 3, 4, 5] rfl ?_
              exact ct_X2_lays_223 hY hJ hCon hr N K20 K120 hK20 hK120 x1 x2 x3 x5 0 (gI Ω13 32 46 j15) x1 Ω13 _ h
      · exact ct_X2_lays_279 hY hJ hCon hr N K20 K120 hK20 hK120 x1 x2 x3 x5 Ω _ h
    · exact ct_X2_lays_279 hY hJ hCon hr N K20 K120 hK20 hK120 x1 x2 x3 x5 Ω _ h
def fn_X2_lays_120 (N : Nat) (K20 : Int32 → Int32 → Int32 → zo_O → Option zo_R) : Nat → Int32 → Int32 → Int32 → Int32 → zo_O → Option zo_R
  | 0, _, _, _, _, _ => none
  | n + 1, x1, x2, x3, x5, Ω => bd_X2_lays_120 N K20 (fn_X2_lays_120 N K20 n) x1 x2 x3 x5 Ω
theorem ct_X2_lays_120 {Y : zo_Y} (hY : zo_Gd Y cX2_lays 7 RX2 5) (hJ : zo_JC (zo_J Y)) (hCon : ∀ Ω, zo_J Y Ω → zo_Con Ω) (hr : zo_rt Y (Option.none : Option Jvm.ClassFile.FieldType)) (N : Nat) (K20 : Int32 → Int32 → Int32 → zo_O → Option zo_R) (hK20 : ∀ (x1 : Int32) (x2 : Int32) (x3 : Int32) (Ω : zo_O) (res : zo_R), K20 x1 x2 x3 Ω = some res → TW Y res Ω 20 [(0, vr 1 0), (1, vi x1), (2, vi x2), (3, vi x3)] []) : ∀ (n : Nat) (x1 : Int32) (x2 : Int32) (x3 : Int32) (x5 : Int32) (Ω : zo_O) (res : zo_R), fn_X2_lays_120 N K20 n x1 x2 x3 x5 Ω = some res → TW Y res Ω 120 [(0, vr 1 0), (1, vi x1), (2, vi x2), (3, vi x3), (5, vi x5)] [] := by
  intro n
  induction n with
  | zero => intro x1 x2 x3 x5 Ω res h; exact nomatch (show (none : Option zo_R) = some res from h)
  | succ n ih => intro x1 x2 x3 x5 Ω res h; exact cb_X2_lays_120 hY hJ hCon hr N K20 (fn_X2_lays_120 N K20 n) hK20 ih x1 x2 x3 x5 Ω res h
def bd_X2_lays_31 (N : Nat) (K20 : Int32 → Int32 → Int32 → zo_O → Option zo_R) (K31 : Int32 → Int32 → Int32 → Int32 → Int32 → zo_O → Option zo_R) (x1 : Int32) (x2 : Int32) (x3 : Int32) (x4 : Int32) (x5 : Int32) (Ω : zo_O) : Option zo_R :=
  if gI Ω 1 0 8 ≤ x5 then (
    if x4 = 0 then (
      fn_X2_lays_285 N K20 x1 x2 x3 Ω
      ) else
    ix x1 14 fun j3 =>
    ix x1 14 fun j4 =>
    cv (fn_X2_curve N x3 (gI Ω 32 0 j3) (gI Ω 32 1 j4) x2 x1 Ω) fun Ω5 =>
    fn_X2_lays_120 N K20 N x1 x2 x3 0 Ω5
    ) else
  if x4 = 0 then (
    ix x5 120 fun j7 =>
    if gI Ω 32 5 j7 = x1 then (
      ix x5 120 fun j9 =>
      if gI Ω 32 6 j9 = x3 then (
        ci (fn_X2_isUsed N x5 x2 Ω) fun r12 Ω11 =>
        if r12 = 0 then (
          fn_X2_lays_81 N K20 K31 x1 x2 x3 x5 Ω11
          ) else
        fn_X2_lays_77 N K20 K31 x1 x2 x3 x5 Ω11
        ) else
      fn_X2_lays_81 N K20 K31 x1 x2 x3 x5 Ω
      ) else
    fn_X2_lays_81 N K20 K31 x1 x2 x3 x5 Ω
    ) else
  fn_X2_lays_77 N K20 K31 x1 x2 x3 x5 Ω
theorem cb_X2_lays_31 {Y : zo_Y} (hY : zo_Gd Y cX2_lays 7 RX2 5) (hJ : zo_JC (zo_J Y)) (hCon : ∀ Ω, zo_J Y Ω → zo_Con Ω) (hr : zo_rt Y (Option.none : Option Jvm.ClassFile.FieldType)) (N : Nat) (K20 : Int32 → Int32 → Int32 → zo_O → Option zo_R) (K31 : Int32 → Int32 → Int32 → Int32 → Int32 → zo_O → Option zo_R) (hK20 : ∀ (x1 : Int32) (x2 : Int32) (x3 : Int32) (Ω : zo_O) (res : zo_R), K20 x1 x2 x3 Ω = some res → TW Y res Ω 20 [(0, vr 1 0), (1, vi x1), (2, vi x2), (3, vi x3)] []) (hK31 : ∀ (x1 : Int32) (x2 : Int32) (x3 : Int32) (x4 : Int32) (x5 : Int32) (Ω : zo_O) (res : zo_R), K31 x1 x2 x3 x4 x5 Ω = some res → TW Y res Ω 31 [(0, vr 1 0), (1, vi x1), (2, vi x2), (3, vi x3), (4, vi x4), (5, vi x5)] []) (x1 : Int32) (x2 : Int32) (x3 : Int32) (x4 : Int32) (x5 : Int32) (Ω : zo_O) (res : zo_R) (h : bd_X2_lays_31 N K20 K31 x1 x2 x3 x4 x5 Ω = some res) : TW Y res Ω 31 [(0, vr 1 0), (1, vi x1), (2, vi x2), (3, vi x3), (4, vi x4), (5, vi x5)] [] := by
  unfold bd_X2_lays_31 at h
  refine zo_iload hY dX2_lays_31 5 rfl ?_
  refine zo_aload_n hY dX2_lays_33 rfl 0 rfl ?_
  refine zo_getI hY LX2_197_1 rfl dX2_lays_34 ?_
  refine zo_icmp_ge hY 90 dX2_lays_37 (by decide) h (fun c1 h => ?_) (fun c1 h => ?_)
  · refine zo_iload hY dX2_lays_90 4 rfl ?_
    refine zo_if_ne hY 98 dX2_lays_92 (by decide) h (fun c2 h => ?_) (fun c2 h => ?_)
    · refine zo_goto hY 285 dX2_lays_95 (by decide) ?_
      refine zo_sub [0, 1, 2, 3] rfl ?_
      exact ct_X2_lays_285 hY hJ hCon hr N K20 hK20 x1 x2 x3 Ω _ h
    · refine zo_aload_n hY dX2_lays_98 rfl 0 rfl ?_
      refine zo_iload_n hY dX2_lays_99 rfl 3 rfl ?_
      refine zo_aload_n hY dX2_lays_100 rfl 0 rfl ?_
      refine zo_getC hY LX2_7_1 rfl (fun Ω q => (hCon Ω q).2.1 3 _ rfl) dX2_lays_101 ?_
      refine zo_iload_n hY dX2_lays_104 rfl 1 rfl ?_
      refine zo_ald hY (by decide) (Or.inl ⟨rfl, dX2_lays_105⟩) (fun q => (hCon _ q).2.2.2 32 0 14 rfl) h (fun j3 h => ?_)
      refine zo_aload_n hY dX2_lays_106 rfl 0 rfl ?_
      refine zo_getC hY LX2_13_1 rfl (fun Ω q => (hCon Ω q).2.1 4 _ rfl) dX2_lays_107 ?_
      refine zo_iload_n hY dX2_lays_110 rfl 1 rfl ?_
      refine zo_ald hY (by decide) (Or.inl ⟨rfl, dX2_lays_111⟩) (fun q => (hCon _ q).2.2.2 32 1 14 rfl) h (fun j4 h => ?_)
      refine zo_iload_n hY dX2_lays_112 rfl 2 rfl ?_
      refine zo_iload_n hY dX2_lays_113 rfl 1 rfl ?_
      refine zo_callV hY (fun q hq => mt_X2_curve hJ hCon N x3 (gI Ω 32 0 j3) (gI Ω 32 1 j4) x2 x1 Ω q hq) (by decide) (by decide) (by decide) ⟨rfl, cn_X2_curve⟩ rfl q1700 q1702 qs58 q82 q1703 (Nat.le_of_ble_eq_true rfl) dX2_lays_114 rfl h (cv_k (fun Ω5 res h => ?_))
      refine zo_iconst hY 0 (by decide) dX2_lays_117 ?_
      refine zo_istore hY dX2_lays_118 (by decide) rfl (ls' := [(5, vi 0), (0, vr 1 0), (1, vi x1), (2, vi x2), (3, vi x3), (4, vi x4)]) rfl ?_
      refine zo_sub [1, 2, 3, 4, 0] rfl ?_
      exact ct_X2_lays_120 hY hJ hCon hr N K20 hK20 N x1 x2 x3 0 Ω5 _ h
  · refine zo_iload hY dX2_lays_40 4 rfl ?_
    refine zo_if_ne hY 77 dX2_lays_42 (by decide) h (fun c6 h => ?_) (fun c6 h => ?_)
    · refine zo_aload_n hY dX2_lays_45 rfl 0 rfl ?_
      refine zo_getC hY LX2_25_1 rfl (fun Ω q => (hCon Ω q).2.1 9 _ rfl) dX2_lays_46 ?_
      refine zo_iload hY dX2_lays_49 5 rfl ?_
      refine zo_ald hY (by decide) (Or.inl ⟨rfl, dX2_lays_51⟩) (fun q => (hCon _ q).2.2.2 32 5 120 rfl) h (fun j7 h => ?_)
      refine zo_iload_n hY dX2_lays_52 rfl 1 rfl ?_
      refine zo_icmp_ne hY 81 dX2_lays_53 (by decide) h (fun c8 h => ?_) (fun c8 h => ?_)
      · refine zo_aload_n hY dX2_lays_56 rfl 0 rfl ?_
        refine zo_getC hY LX2_28_1 rfl (fun Ω q => (hCon Ω q).2.1 10 _ rfl) dX2_lays_57 ?_
        refine zo_iload hY dX2_lays_60 5 rfl ?_
        refine zo_ald hY (by decide) (Or.inl ⟨rfl, dX2_lays_62⟩) (fun q => (hCon _ q).2.2.2 32 6 120 rfl) h (fun j9 h => ?_)
        refine zo_iload_n hY dX2_lays_63 rfl 3 rfl ?_
        refine zo_icmp_ne hY 81 dX2_lays_64 (by decide) h (fun c10 h => ?_) (fun c10 h => ?_)
        · refine zo_aload_n hY dX2_lays_67 rfl 0 rfl ?_
          refine zo_iload hY dX2_lays_68 5 rfl ?_
          refine zo_iload_n hY dX2_lays_70 rfl 2 rfl ?_
          refine zo_callV hY (fun q hq => mt_X2_isUsed hJ hCon N x5 x2 Ω q hq) (by decide) (by decide) (by decide) ⟨rfl, cn_X2_isUsed⟩ rfl q1667 q1669 qs52 q82 q1670 (Nat.le_of_ble_eq_true rfl) dX2_lays_71 rfl h (ci_k (fun r12 Ω11 res h => ?_))
          refine zo_if_eq hY 81 dX2_lays_74 (by decide) h (fun c13 h => ?_) (fun c13 h => ?_)
          · refine zo_sub [0, 1, 2, 3, 5] rfl ?_
            exact ct_X2_lays_81 hY hJ hCon hr N K20 K31 hK20 hK31 x1 x2 x3 x5 Ω11 _ h
          · refine zo_sub [0, 1, 2, 3, 5] rfl ?_
            exact ct_X2_lays_77 hY hJ hCon hr N K20 K31 hK20 hK31 x1 x2 x3 x5 Ω11 _ h
        · refine zo_sub [0, 1, 2, 3, 5] rfl ?_
          exact ct_X2_lays_81 hY hJ hCon hr N K20 K31 hK20 hK31 x1 x2 x3 x5 Ω _ h
      · refine zo_sub [0, 1, 2, 3, 5] rfl ?_
        exact ct_X2_lays_81 hY hJ hCon hr N K20 K31 hK20 hK31 x1 x2 x3 x5 Ω _ h
    · refine zo_sub [0, 1, 2, 3, 5] rfl ?_
      exact ct_X2_lays_77 hY hJ hCon hr N K20 K31 hK20 hK31 x1 x2 x3 x5 Ω _ h
def fn_X2_lays_31 (N : Nat) (K20 : Int32 → Int32 → Int32 → zo_O → Option zo_R) : Nat → Int32 → Int32 → Int32 → Int32 → Int32 → zo_O → Option zo_R
  | 0, _, _, _, _, _, _ => none
  | n + 1, x1, x2, x3, x4, x5, Ω => bd_X2_lays_31 N K20 (fn_X2_lays_31 N K20 n) x1 x2 x3 x4 x5 Ω
theorem ct_X2_lays_31 {Y : zo_Y} (hY : zo_Gd Y cX2_lays 7 RX2 5) (hJ : zo_JC (zo_J Y)) (hCon : ∀ Ω, zo_J Y Ω → zo_Con Ω) (hr : zo_rt Y (Option.none : Option Jvm.ClassFile.FieldType)) (N : Nat) (K20 : Int32 → Int32 → Int32 → zo_O → Option zo_R) (hK20 : ∀ (x1 : Int32) (x2 : Int32) (x3 : Int32) (Ω : zo_O) (res : zo_R), K20 x1 x2 x3 Ω = some res → TW Y res Ω 20 [(0, vr 1 0), (1, vi x1), (2, vi x2), (3, vi x3)] []) : ∀ (n : Nat) (x1 : Int32) (x2 : Int32) (x3 : Int32) (x4 : Int32) (x5 : Int32) (Ω : zo_O) (res : zo_R), fn_X2_lays_31 N K20 n x1 x2 x3 x4 x5 Ω = some res → TW Y res Ω 31 [(0, vr 1 0), (1, vi x1), (2, vi x2), (3, vi x3), (4, vi x4), (5, vi x5)] [] := by
  intro n
  induction n with
  | zero => intro x1 x2 x3 x4 x5 Ω res h; exact nomatch (show (none : Option zo_R) = some res from h)
  | succ n ih => intro x1 x2 x3 x4 x5 Ω res h; exact cb_X2_lays_31 hY hJ hCon hr N K20 (fn_X2_lays_31 N K20 n) hK20 ih x1 x2 x3 x4 x5 Ω res h
def fn_X2_lays_366 (N : Nat) (K293 : Int32 → Int32 → Int32 → zo_O → Option zo_R) (x1 : Int32) (x2 : Int32) (x3 : Int32) (Ω : zo_O) : Option zo_R :=
  K293 x1 x2 (x3 + 1) Ω
theorem ct_X2_lays_366 {Y : zo_Y} (hY : zo_Gd Y cX2_lays 7 RX2 5) (hJ : zo_JC (zo_J Y)) (hCon : ∀ Ω, zo_J Y Ω → zo_Con Ω) (hr : zo_rt Y (Option.none : Option Jvm.ClassFile.FieldType)) (N : Nat) (K293 : Int32 → Int32 → Int32 → zo_O → Option zo_R) (hK293 : ∀ (x1 : Int32) (x2 : Int32) (x3 : Int32) (Ω : zo_O) (res : zo_R), K293 x1 x2 x3 Ω = some res → TW Y res Ω 293 [(0, vr 1 0), (1, vi x1), (2, vi x2), (3, vi x3)] []) (x1 : Int32) (x2 : Int32) (x3 : Int32) (Ω : zo_O) (res : zo_R) (h : fn_X2_lays_366 N K293 x1 x2 x3 Ω = some res) : TW Y res Ω 366 [(0, vr 1 0), (1, vi x1), (2, vi x2), (3, vi x3)] [] := by
  unfold fn_X2_lays_366 at h
  refine zo_iinc hY 1 dX2_lays_366 (by decide) (by decide) 3 rfl rfl (ls' := [(3, vi (x3 + 1)), (0, vr 1 0), (1, vi x1), (2, vi x2)]) rfl ?_
  refine zo_goto hY 293 dX2_lays_369 (by decide) ?_
  refine zo_sub [1, 2, 3, 0] rfl ?_
  exact hK293 x1 x2 (x3 + 1) Ω _ h
def bd_X2_lays_293 (N : Nat)  (K293 : Int32 → Int32 → Int32 → zo_O → Option zo_R) (x1 : Int32) (x2 : Int32) (x3 : Int32) (Ω : zo_O) : Option zo_R :=
  if gI Ω 1 0 27 ≤ x3 then (
    rV Ω
    ) else
  ix x3 20 fun j2 =>
  if gI Ω 32 20 j2 = x1 then (
    ix x3 20 fun j4 =>
    if gI Ω 32 23 j4 ≤ x2 then (
      ix x1 14 fun j6 =>
      ix x3 20 fun j7 =>
      ix x1 14 fun j8 => lt (sI Ω 32 45 j8 (mx (gI Ω 32 45 j6) (gI Ω 32 21 j7))) fun Ω9 =>
      ix x1 14 fun j10 =>
      ix x3 20 fun j11 =>
      ix x1 14 fun j12 => lt (sI Ω9 32 46 j12 (mn (gI Ω9 32 46 j10) (gI Ω9 32 22 j11))) fun Ω13 =>
      fn_X2_lays_366 N K293 x1 x2 x3 Ω13
      ) else
    fn_X2_lays_366 N K293 x1 x2 x3 Ω
    ) else
  fn_X2_lays_366 N K293 x1 x2 x3 Ω
theorem cb_X2_lays_293 {Y : zo_Y} (hY : zo_Gd Y cX2_lays 7 RX2 5) (hJ : zo_JC (zo_J Y)) (hCon : ∀ Ω, zo_J Y Ω → zo_Con Ω) (hr : zo_rt Y (Option.none : Option Jvm.ClassFile.FieldType)) (N : Nat)  (K293 : Int32 → Int32 → Int32 → zo_O → Option zo_R)  (hK293 : ∀ (x1 : Int32) (x2 : Int32) (x3 : Int32) (Ω : zo_O) (res : zo_R), K293 x1 x2 x3 Ω = some res → TW Y res Ω 293 [(0, vr 1 0), (1, vi x1), (2, vi x2), (3, vi x3)] []) (x1 : Int32) (x2 : Int32) (x3 : Int32) (Ω : zo_O) (res : zo_R) (h : bd_X2_lays_293 N  K293 x1 x2 x3 Ω = some res) : TW Y res Ω 293 [(0, vr 1 0), (1, vi x1), (2, vi x2), (3, vi x3)] [] := by
  unfold bd_X2_lays_293 at h
  refine zo_iload_n hY dX2_lays_293 rfl 3 rfl ?_
  refine zo_aload_n hY dX2_lays_294 rfl 0 rfl ?_
  refine zo_getI hY LX2_222_1 rfl dX2_lays_295 ?_
  refine zo_icmp_ge hY 372 dX2_lays_298 (by decide) h (fun c1 h => ?_) (fun c1 h => ?_)
  · exact zo_vret hY hr dX2_lays_372 h
  · refine zo_aload_n hY dX2_lays_301 rfl 0 rfl ?_
    refine zo_getC hY LX2_74_1 rfl (fun Ω q => (hCon Ω q).2.1 28 _ rfl) dX2_lays_302 ?_
    refine zo_iload_n hY dX2_lays_305 rfl 3 rfl ?_
    refine zo_ald hY (by decide) (Or.inl ⟨rfl, dX2_lays_306⟩) (fun q => (hCon _ q).2.2.2 32 20 20 rfl) h (fun j2 h => ?_)
    refine zo_iload_n hY dX2_lays_307 rfl 1 rfl ?_
    refine zo_icmp_ne hY 366 dX2_lays_308 (by decide) h (fun c3 h => ?_) (fun c3 h => ?_)
    · refine zo_aload_n hY dX2_lays_311 rfl 0 rfl ?_
      refine zo_getC hY LX2_83_1 rfl (fun Ω q => (hCon Ω q).2.1 31 _ rfl) dX2_lays_312 ?_
      refine zo_iload_n hY dX2_lays_315 rfl 3 rfl ?_
      refine zo_ald hY (by decide) (Or.inl ⟨rfl, dX2_lays_316⟩) (fun q => (hCon _ q).2.2.2 32 23 20 rfl) h (fun j4 h => ?_)
      refine zo_iload_n hY dX2_lays_317 rfl 2 rfl ?_
      refine zo_icmp_le hY 324 dX2_lays_318 (by decide) h (fun c5 h => ?_) (fun c5 h => ?_)
      · refine zo_aload_n hY dX2_lays_324 rfl 0 rfl ?_
        refine zo_getC hY LX2_178_1 rfl (fun Ω q => (hCon Ω q).2.1 77 _ rfl) dX2_lays_325 ?_
        refine zo_iload_n hY dX2_lays_328 rfl 1 rfl ?_
        refine zo_aload_n hY dX2_lays_329 rfl 0 rfl ?_
        refine zo_getC hY LX2_178_1 rfl (fun Ω q => (hCon Ω q).2.1 77 _ rfl) dX2_lays_330 ?_
        refine zo_iload_n hY dX2_lays_333 rfl 1 rfl ?_
        refine zo_ald hY (by decide) (Or.inl ⟨rfl, dX2_lays_334⟩) (fun q => (hCon _ q).2.2.2 32 45 14 rfl) h (fun j6 h => ?_)
        refine zo_aload_n hY dX2_lays_335 rfl 0 rfl ?_
        refine zo_getC hY LX2_77_1 rfl (fun Ω q => (hCon Ω q).2.1 29 _ rfl) dX2_lays_336 ?_
        refine zo_iload_n hY dX2_lays_339 rfl 3 rfl ?_
        refine zo_ald hY (by decide) (Or.inl ⟨rfl, dX2_lays_340⟩) (fun q => (hCon _ q).2.2.2 32 21 20 rfl) h (fun j7 h => ?_)
        refine zo_mmax hY (by decide) q1687 (Nat.le_of_ble_eq_true rfl) dX2_lays_341 ?_
        refine zo_ast hY hJ (by decide) (Or.inl ⟨rfl, rfl, dX2_lays_344⟩) (fun q => (hCon _ q).2.2.2 32 45 14 rfl) h (fun j8 Ω9 h => ?_)
        refine zo_aload_n hY dX2_lays_345 rfl 0 rfl ?_
        refine zo_getC hY LX2_181_1 rfl (fun Ω q => (hCon Ω q).2.1 78 _ rfl) dX2_lays_346 ?_
        refine zo_iload_n hY dX2_lays_349 rfl 1 rfl ?_
        refine zo_aload_n hY dX2_lays_350 rfl 0 rfl ?_
        refine zo_getC hY LX2_181_1 rfl (fun Ω q => (hCon Ω q).2.1 78 _ rfl) dX2_lays_351 ?_
        refine zo_iload_n hY dX2_lays_354 rfl 1 rfl ?_
        refine zo_ald hY (by decide) (Or.inl ⟨rfl, dX2_lays_355⟩) (fun q => (hCon _ q).2.2.2 32 46 14 rfl) h (fun j10 h => ?_)
        refine zo_aload_n hY dX2_lays_356 rfl 0 rfl ?_
        refine zo_getC hY LX2_80_1 rfl (fun Ω q => (hCon Ω q).2.1 30 _ rfl) dX2_lays_357 ?_
        refine zo_iload_n hY dX2_lays_360 rfl 3 rfl ?_
        refine zo_ald hY (by decide) (Or.inl ⟨rfl, dX2_lays_361⟩) (fun q => (hCon _ q).2.2.2 32 22 20 rfl) h (fun j11 h => ?_)
        refine zo_mmin hY (by decide) q1733 (Nat.le_of_ble_eq_true rfl) dX2_lays_362 ?_
        refine zo_ast hY hJ (by decide) (Or.inl ⟨rfl, rfl, dX2_lays_365⟩) (fun q => (hCon _ q).2.2.2 32 46 14 rfl) h (fun j12 Ω13 h => ?_)
        exact ct_X2_lays_366 hY hJ hCon hr N K293 hK293 x1 x2 x3 Ω13 _ h
      · refine zo_goto hY 366 dX2_lays_321 (by decide) ?_
        exact ct_X2_lays_366 hY hJ hCon hr N K293 hK293 x1 x2 x3 Ω _ h
    · exact ct_X2_lays_366 hY hJ hCon hr N K293 hK293 x1 x2 x3 Ω _ h
def fn_X2_lays_293 (N : Nat)  : Nat → Int32 → Int32 → Int32 → zo_O → Option zo_R
  | 0, _, _, _, _ => none
  | n + 1, x1, x2, x3, Ω => bd_X2_lays_293 N  (fn_X2_lays_293 N  n) x1 x2 x3 Ω
theorem ct_X2_lays_293 {Y : zo_Y} (hY : zo_Gd Y cX2_lays 7 RX2 5) (hJ : zo_JC (zo_J Y)) (hCon : ∀ Ω, zo_J Y Ω → zo_Con Ω) (hr : zo_rt Y (Option.none : Option Jvm.ClassFile.FieldType)) (N : Nat)   : ∀ (n : Nat) (x1 : Int32) (x2 : Int32) (x3 : Int32) (Ω : zo_O) (res : zo_R), fn_X2_lays_293 N  n x1 x2 x3 Ω = some res → TW Y res Ω 293 [(0, vr 1 0), (1, vi x1), (2, vi x2), (3, vi x3)] [] := by
  intro n
  induction n with
  | zero => intro x1 x2 x3 Ω res h; exact nomatch (show (none : Option zo_R) = some res from h)
  | succ n ih => intro x1 x2 x3 Ω res h; exact cb_X2_lays_293 hY hJ hCon hr N  (fn_X2_lays_293 N  n)  ih x1 x2 x3 Ω res h
def bd_X2_lays_20 (N : Nat)  (K20 : Int32 → Int32 → Int32 → zo_O → Option zo_R) (x1 : Int32) (x2 : Int32) (x3 : Int32) (Ω : zo_O) : Option zo_R :=
  if 3 ≤ x3 then (
    fn_X2_lays_293 N N x1 x2 0 Ω
    ) else
  fn_X2_lays_31 N K20 N x1 x2 x3 0 0 Ω
theorem cb_X2_lays_20 {Y : zo_Y} (hY : zo_Gd Y cX2_lays 7 RX2 5) (hJ : zo_JC (zo_J Y)) (hCon : ∀ Ω, zo_J Y Ω → zo_Con Ω) (hr : zo_rt Y (Option.none : Option Jvm.ClassFile.FieldType)) (N : Nat)  (K20 : Int32 → Int32 → Int32 → zo_O → Option zo_R)  (hK20 : ∀ (x1 : Int32) (x2 : Int32) (x3 : Int32) (Ω : zo_O) (res : zo_R), K20 x1 x2 x3 Ω = some res → TW Y res Ω 20 [(0, vr 1 0), (1, vi x1), (2, vi x2), (3, vi x3)] []) (x1 : Int32) (x2 : Int32) (x3 : Int32) (Ω : zo_O) (res : zo_R) (h : bd_X2_lays_20 N  K20 x1 x2 x3 Ω = some res) : TW Y res Ω 20 [(0, vr 1 0), (1, vi x1), (2, vi x2), (3, vi x3)] [] := by
  unfold bd_X2_lays_20 at h
  refine zo_iload_n hY dX2_lays_20 rfl 3 rfl ?_
  refine zo_iconst hY 3 (by decide) dX2_lays_21 ?_
  refine zo_icmp_ge hY 291 dX2_lays_22 (by decide) h (fun c1 h => ?_) (fun c1 h => ?_)
  · refine zo_iconst hY 0 (by decide) dX2_lays_291 ?_
    refine zo_istore_n hY dX2_lays_292 rfl (by decide) rfl (ls' := [(3, vi 0), (0, vr 1 0), (1, vi x1), (2, vi x2)]) rfl ?_
    refine zo_sub [1, 2, 3, 0] rfl ?_
    exact ct_X2_lays_293 hY hJ hCon hr N N x1 x2 0 Ω _ h
  · refine zo_iconst hY 0 (by decide) dX2_lays_25 ?_
    refine zo_istore hY dX2_lays_26 (by decide) rfl (ls' := [(4, vi 0), (0, vr 1 0), (1, vi x1), (2, vi x2), (3, vi x3)]) rfl ?_
    refine zo_iconst hY 0 (by decide) dX2_lays_28 ?_
    refine zo_istore hY dX2_lays_29 (by decide) rfl (ls' := [(5, vi 0), (4, vi 0), (0, vr 1 0), (1, vi x1), (2, vi x2), (3, vi x3)]) rfl ?_
    refine zo_sub [2, 3, 4, 5, 1, 0] rfl ?_
    exact ct_X2_lays_31 hY hJ hCon hr N K20 hK20 N x1 x2 x3 0 0 Ω _ h
def fn_X2_lays_20 (N : Nat)  : Nat → Int32 → Int32 → Int32 → zo_O → Option zo_R
  | 0, _, _, _, _ => none
  | n + 1, x1, x2, x3, Ω => bd_X2_lays_20 N  (fn_X2_lays_20 N  n) x1 x2 x3 Ω
theorem ct_X2_lays_20 {Y : zo_Y} (hY : zo_Gd Y cX2_lays 7 RX2 5) (hJ : zo_JC (zo_J Y)) (hCon : ∀ Ω, zo_J Y Ω → zo_Con Ω) (hr : zo_rt Y (Option.none : Option Jvm.ClassFile.FieldType)) (N : Nat)   : ∀ (n : Nat) (x1 : Int32) (x2 : Int32) (x3 : Int32) (Ω : zo_O) (res : zo_R), fn_X2_lays_20 N  n x1 x2 x3 Ω = some res → TW Y res Ω 20 [(0, vr 1 0), (1, vi x1), (2, vi x2), (3, vi x3)] [] := by
  intro n
  induction n with
  | zero => intro x1 x2 x3 Ω res h; exact nomatch (show (none : Option zo_R) = some res from h)
  | succ n ih => intro x1 x2 x3 Ω res h; exact cb_X2_lays_20 hY hJ hCon hr N  (fn_X2_lays_20 N  n)  ih x1 x2 x3 Ω res h
def fn_X2_lays (N : Nat) (x1 : Int32) (x2 : Int32) (Ω : zo_O) : Option zo_R :=
  ix x1 14 fun j1 => lt (sI Ω 32 45 j1 1000) fun Ω2 =>
  ix x1 14 fun j3 => lt (sI Ω2 32 46 j3 2100) fun Ω4 =>
  fn_X2_lays_20 N N x1 x2 0 Ω4
theorem mt_X2_lays {G : zo_G} {J : zo_O → Prop} (hJ : zo_JC J) (hCon : ∀ Ω, J Ω → zo_Con Ω) (N : Nat) (x1 : Int32) (x2 : Int32) (Ω : zo_O) (res : zo_R) (h : fn_X2_lays N x1 x2 Ω = some res) : zo_MT G J yX2_lays cX2_lays 7 (Option.none : Option Jvm.ClassFile.FieldType) 5 [vr 1 0, vi x1, vi x2] Ω res := by
  refine zo_enter (by decide) rfl (Nat.le_of_ble_eq_true rfl) (fun Y hY eJ hr hmn => ?_)
  subst eJ
  show TW Y res Ω 0 [(0, vr 1 0), (1, vi x1), (2, vi x2)] []
  unfold fn_X2_lays at h
  refine zo_aload_n hY dX2_lays_0 rfl 0 rfl ?_
  refine zo_getC hY LX2_178_1 rfl (fun Ω q => (hCon Ω q).2.1 77 _ rfl) dX2_lays_1 ?_
  refine zo_iload_n hY dX2_lays_4 rfl 1 rfl ?_
  refine zo_sipush hY 1000 (by decide) dX2_lays_5 ?_
  refine zo_ast hY hJ (by decide) (Or.inl ⟨rfl, rfl, dX2_lays_8⟩) (fun q => (hCon _ q).2.2.2 32 45 14 rfl) h (fun j1 Ω2 h => ?_)
  refine zo_aload_n hY dX2_lays_9 rfl 0 rfl ?_
  refine zo_getC hY LX2_181_1 rfl (fun Ω q => (hCon Ω q).2.1 78 _ rfl) dX2_lays_10 ?_
  refine zo_iload_n hY dX2_lays_13 rfl 1 rfl ?_
  refine zo_sipush hY 2100 (by decide) dX2_lays_14 ?_
  refine zo_ast hY hJ (by decide) (Or.inl ⟨rfl, rfl, dX2_lays_17⟩) (fun q => (hCon _ q).2.2.2 32 46 14 rfl) h (fun j3 Ω4 h => ?_)
  refine zo_iconst hY 0 (by decide) dX2_lays_18 ?_
  refine zo_istore_n hY dX2_lays_19 rfl (by decide) rfl (ls' := [(3, vi 0), (0, vr 1 0), (1, vi x1), (2, vi x2)]) rfl ?_
  refine zo_sub [1, 2, 3, 0] rfl ?_
  exact ct_X2_lays_20 hY hJ hCon hr N N x1 x2 0 Ω4 _ h
theorem dX2_spans_0 : decode cX2_spans 0 = .ok (.aload_n 0, 1) := by decide +kernel
theorem dX2_spans_1 : decode cX2_spans 1 = .ok (.getfield 19, 3) := by decide +kernel
theorem dX2_spans_4 : decode cX2_spans 4 = .ok (.iload_n 1, 1) := by decide +kernel
theorem dX2_spans_5 : decode cX2_spans 5 = .ok (.iaload, 1) := by decide +kernel
theorem dX2_spans_6 : decode cX2_spans 6 = .ok (.iconst (-1), 1) := by decide +kernel
theorem dX2_spans_7 : decode cX2_spans 7 = .ok (.if_icmp .ne 10, 3) := by decide +kernel
theorem dX2_spans_10 : decode cX2_spans 10 = .ok (.aload_n 0, 1) := by decide +kernel
theorem dX2_spans_11 : decode cX2_spans 11 = .ok (.iload_n 1, 1) := by decide +kernel
theorem dX2_spans_12 : decode cX2_spans 12 = .ok (.iload_n 2, 1) := by decide +kernel
theorem dX2_spans_13 : decode cX2_spans 13 = .ok (.invokevirtual 417, 3) := by decide +kernel
theorem dX2_spans_16 : decode cX2_spans 16 = .ok (.return_, 1) := by decide +kernel
theorem dX2_spans_17 : decode cX2_spans 17 = .ok (.aload_n 0, 1) := by decide +kernel
theorem dX2_spans_18 : decode cX2_spans 18 = .ok (.getfield 178, 3) := by decide +kernel
theorem dX2_spans_21 : decode cX2_spans 21 = .ok (.iload_n 1, 1) := by decide +kernel
theorem dX2_spans_22 : decode cX2_spans 22 = .ok (.aload_n 0, 1) := by decide +kernel
theorem dX2_spans_23 : decode cX2_spans 23 = .ok (.getfield 19, 3) := by decide +kernel
theorem dX2_spans_26 : decode cX2_spans 26 = .ok (.iload_n 1, 1) := by decide +kernel
theorem dX2_spans_27 : decode cX2_spans 27 = .ok (.iaload, 1) := by decide +kernel
theorem dX2_spans_28 : decode cX2_spans 28 = .ok (.iastore, 1) := by decide +kernel
theorem dX2_spans_29 : decode cX2_spans 29 = .ok (.aload_n 0, 1) := by decide +kernel
theorem dX2_spans_30 : decode cX2_spans 30 = .ok (.getfield 181, 3) := by decide +kernel
theorem dX2_spans_33 : decode cX2_spans 33 = .ok (.iload_n 1, 1) := by decide +kernel
theorem dX2_spans_34 : decode cX2_spans 34 = .ok (.aload_n 0, 1) := by decide +kernel
theorem dX2_spans_35 : decode cX2_spans 35 = .ok (.getfield 19, 3) := by decide +kernel
theorem dX2_spans_38 : decode cX2_spans 38 = .ok (.iload_n 1, 1) := by decide +kernel
theorem dX2_spans_39 : decode cX2_spans 39 = .ok (.iaload, 1) := by decide +kernel
theorem dX2_spans_40 : decode cX2_spans 40 = .ok (.iastore, 1) := by decide +kernel
theorem dX2_spans_41 : decode cX2_spans 41 = .ok (.return_, 1) := by decide +kernel
def fn_X2_spans (N : Nat) (x1 : Int32) (x2 : Int32) (Ω : zo_O) : Option zo_R :=
  ix x1 14 fun j1 =>
  if gI Ω 32 3 j1 = (-1) then (
    cv (fn_X2_lays N x1 x2 Ω) fun Ω3 =>
    rV Ω3
    ) else
  ix x1 14 fun j4 =>
  ix x1 14 fun j5 => lt (sI Ω 32 45 j5 (gI Ω 32 3 j4)) fun Ω6 =>
  ix x1 14 fun j7 =>
  ix x1 14 fun j8 => lt (sI Ω6 32 46 j8 (gI Ω6 32 3 j7)) fun Ω9 =>
  rV Ω9
theorem mt_X2_spans {G : zo_G} {J : zo_O → Prop} (hJ : zo_JC J) (hCon : ∀ Ω, J Ω → zo_Con Ω) (N : Nat) (x1 : Int32) (x2 : Int32) (Ω : zo_O) (res : zo_R) (h : fn_X2_spans N x1 x2 Ω = some res) : zo_MT G J yX2_spans cX2_spans 3 (Option.none : Option Jvm.ClassFile.FieldType) 6 [vr 1 0, vi x1, vi x2] Ω res := by
  refine zo_enter (by decide) rfl (Nat.le_of_ble_eq_true rfl) (fun Y hY eJ hr hmn => ?_)
  subst eJ
  show TW Y res Ω 0 [(0, vr 1 0), (1, vi x1), (2, vi x2)] []
  unfold fn_X2_spans at h
  refine zo_aload_n hY dX2_spans_0 rfl 0 rfl ?_
  refine zo_getC hY LX2_19_1 rfl (fun Ω q => (hCon Ω q).2.1 6 _ rfl) dX2_spans_1 ?_
  refine zo_iload_n hY dX2_spans_4 rfl 1 rfl ?_
  refine zo_ald hY (by decide) (Or.inl ⟨rfl, dX2_spans_5⟩) (fun q => (hCon _ q).2.2.2 32 3 14 rfl) h (fun j1 h => ?_)
  refine zo_iconst hY (-1) (by decide) dX2_spans_6 ?_
  refine zo_icmp_ne hY 17 dX2_spans_7 (by decide) h (fun c2 h => ?_) (fun c2 h => ?_)
  · refine zo_aload_n hY dX2_spans_10 rfl 0 rfl ?_
    refine zo_iload_n hY dX2_spans_11 rfl 1 rfl ?_
    refine zo_iload_n hY dX2_spans_12 rfl 2 rfl ?_
    refine zo_callV hY (fun q hq => mt_X2_lays hJ hCon N x1 x2 Ω q hq) (by decide) (by decide) (by decide) ⟨rfl, cn_X2_lays⟩ rfl q1750 q1752 qs68 q82 q1753 (Nat.le_of_ble_eq_true rfl) dX2_spans_13 rfl h (cv_k (fun Ω3 res h => ?_))
    exact zo_vret hY hr dX2_spans_16 h
  · refine zo_aload_n hY dX2_spans_17 rfl 0 rfl ?_
    refine zo_getC hY LX2_178_1 rfl (fun Ω q => (hCon Ω q).2.1 77 _ rfl) dX2_spans_18 ?_
    refine zo_iload_n hY dX2_spans_21 rfl 1 rfl ?_
    refine zo_aload_n hY dX2_spans_22 rfl 0 rfl ?_
    refine zo_getC hY LX2_19_1 rfl (fun Ω q => (hCon Ω q).2.1 6 _ rfl) dX2_spans_23 ?_
    refine zo_iload_n hY dX2_spans_26 rfl 1 rfl ?_
    refine zo_ald hY (by decide) (Or.inl ⟨rfl, dX2_spans_27⟩) (fun q => (hCon _ q).2.2.2 32 3 14 rfl) h (fun j4 h => ?_)
    refine zo_ast hY hJ (by decide) (Or.inl ⟨rfl, rfl, dX2_spans_28⟩) (fun q => (hCon _ q).2.2.2 32 45 14 rfl) h (fun j5 Ω6 h => ?_)
    refine zo_aload_n hY dX2_spans_29 rfl 0 rfl ?_
    refine zo_getC hY LX2_181_1 rfl (fun Ω q => (hCon Ω q).2.1 78 _ rfl) dX2_spans_30 ?_
    refine zo_iload_n hY dX2_spans_33 rfl 1 rfl ?_
    refine zo_aload_n hY dX2_spans_34 rfl 0 rfl ?_
    refine zo_getC hY LX2_19_1 rfl (fun Ω q => (hCon Ω q).2.1 6 _ rfl) dX2_spans_35 ?_
    refine zo_iload_n hY dX2_spans_38 rfl 1 rfl ?_
    refine zo_ald hY (by decide) (Or.inl ⟨rfl, dX2_spans_39⟩) (fun q => (hCon _ q).2.2.2 32 3 14 rfl) h (fun j7 h => ?_)
    refine zo_ast hY hJ (by decide) (Or.inl ⟨rfl, rfl, dX2_spans_40⟩) (fun q => (hCon _ q).2.2.2 32 46 14 rfl) h (fun j8 Ω9 h => ?_)
    exact zo_vret hY hr dX2_spans_41 h
theorem dX2_span_0 : decode cX2_span 0 = .ok (.aload_n 0, 1) := by decide +kernel
theorem dX2_span_1 : decode cX2_span 1 = .ok (.iconst 0, 1) := by decide +kernel
theorem dX2_span_2 : decode cX2_span 2 = .ok (.putfield 187, 3) := by decide +kernel
theorem dX2_span_5 : decode cX2_span 5 = .ok (.aload_n 0, 1) := by decide +kernel
theorem dX2_span_6 : decode cX2_span 6 = .ok (.iload_n 1, 1) := by decide +kernel
theorem dX2_span_7 : decode cX2_span 7 = .ok (.invokevirtual 207, 3) := by decide +kernel
theorem dX2_span_10 : decode cX2_span 10 = .ok (.ifCond .eq 29, 3) := by decide +kernel
theorem dX2_span_13 : decode cX2_span 13 = .ok (.aload_n 0, 1) := by decide +kernel
theorem dX2_span_14 : decode cX2_span 14 = .ok (.iload_n 2, 1) := by decide +kernel
theorem dX2_span_15 : decode cX2_span 15 = .ok (.invokevirtual 337, 3) := by decide +kernel
theorem dX2_span_18 : decode cX2_span 18 = .ok (.ifCond .eq 21, 3) := by decide +kernel
theorem dX2_span_21 : decode cX2_span 21 = .ok (.aload_n 0, 1) := by decide +kernel
theorem dX2_span_22 : decode cX2_span 22 = .ok (.iload_n 1, 1) := by decide +kernel
theorem dX2_span_23 : decode cX2_span 23 = .ok (.iload_n 2, 1) := by decide +kernel
theorem dX2_span_24 : decode cX2_span 24 = .ok (.invokevirtual 421, 3) := by decide +kernel
theorem dX2_span_27 : decode cX2_span 27 = .ok (.ifCond .eq 12, 3) := by decide +kernel
theorem dX2_span_30 : decode cX2_span 30 = .ok (.iload_n 3, 1) := by decide +kernel
theorem dX2_span_31 : decode cX2_span 31 = .ok (.iconst 0, 1) := by decide +kernel
theorem dX2_span_32 : decode cX2_span 32 = .ok (.iconst 1, 1) := by decide +kernel
theorem dX2_span_33 : decode cX2_span 33 = .ok (.invokestatic 190, 3) := by decide +kernel
theorem dX2_span_36 : decode cX2_span 36 = .ok (.ifCond .ne 5, 3) := by decide +kernel
theorem dX2_span_39 : decode cX2_span 39 = .ok (.iconst (-1), 1) := by decide +kernel
theorem dX2_span_40 : decode cX2_span 40 = .ok (.ireturn, 1) := by decide +kernel
theorem dX2_span_41 : decode cX2_span 41 = .ok (.aload_n 0, 1) := by decide +kernel
theorem dX2_span_42 : decode cX2_span 42 = .ok (.iload_n 2, 1) := by decide +kernel
theorem dX2_span_43 : decode cX2_span 43 = .ok (.invokevirtual 340, 3) := by decide +kernel
theorem dX2_span_46 : decode cX2_span 46 = .ok (.aload_n 0, 1) := by decide +kernel
theorem dX2_span_47 : decode cX2_span 47 = .ok (.iload_n 1, 1) := by decide +kernel
theorem dX2_span_48 : decode cX2_span 48 = .ok (.iload_n 2, 1) := by decide +kernel
theorem dX2_span_49 : decode cX2_span 49 = .ok (.invokevirtual 424, 3) := by decide +kernel
theorem dX2_span_52 : decode cX2_span 52 = .ok (.aload_n 0, 1) := by decide +kernel
theorem dX2_span_53 : decode cX2_span 53 = .ok (.getfield 178, 3) := by decide +kernel
theorem dX2_span_56 : decode cX2_span 56 = .ok (.iload_n 1, 1) := by decide +kernel
theorem dX2_span_57 : decode cX2_span 57 = .ok (.iaload, 1) := by decide +kernel
theorem dX2_span_58 : decode cX2_span 58 = .ok (.aload_n 0, 1) := by decide +kernel
theorem dX2_span_59 : decode cX2_span 59 = .ok (.getfield 181, 3) := by decide +kernel
theorem dX2_span_62 : decode cX2_span 62 = .ok (.iload_n 1, 1) := by decide +kernel
theorem dX2_span_63 : decode cX2_span 63 = .ok (.iaload, 1) := by decide +kernel
theorem dX2_span_64 : decode cX2_span 64 = .ok (.if_icmp .le 8, 3) := by decide +kernel
theorem dX2_span_67 : decode cX2_span 67 = .ok (.bipush (-2), 2) := by decide +kernel
theorem dX2_span_69 : decode cX2_span 69 = .ok (.goto 22, 3) := by decide +kernel
theorem dX2_span_72 : decode cX2_span 72 = .ok (.iload_n 3, 1) := by decide +kernel
theorem dX2_span_73 : decode cX2_span 73 = .ok (.ifCond .ne 12, 3) := by decide +kernel
theorem dX2_span_76 : decode cX2_span 76 = .ok (.aload_n 0, 1) := by decide +kernel
theorem dX2_span_77 : decode cX2_span 77 = .ok (.getfield 178, 3) := by decide +kernel
theorem dX2_span_80 : decode cX2_span 80 = .ok (.iload_n 1, 1) := by decide +kernel
theorem dX2_span_81 : decode cX2_span 81 = .ok (.iaload, 1) := by decide +kernel
theorem dX2_span_82 : decode cX2_span 82 = .ok (.goto 9, 3) := by decide +kernel
theorem dX2_span_85 : decode cX2_span 85 = .ok (.aload_n 0, 1) := by decide +kernel
theorem dX2_span_86 : decode cX2_span 86 = .ok (.getfield 181, 3) := by decide +kernel
theorem dX2_span_89 : decode cX2_span 89 = .ok (.iload_n 1, 1) := by decide +kernel
theorem dX2_span_90 : decode cX2_span 90 = .ok (.iaload, 1) := by decide +kernel
theorem dX2_span_91 : decode cX2_span 91 = .ok (.ireturn, 1) := by decide +kernel
def fn_X2_span_39 (N : Nat)   (Ω : zo_O) : Option zo_R :=
  rI ((-1)) Ω
theorem ct_X2_span_39 {Y : zo_Y} (hY : zo_Gd Y cX2_span 4 RX2 7) (hJ : zo_JC (zo_J Y)) (hCon : ∀ Ω, zo_J Y Ω → zo_Con Ω) (hr : zo_rt Y (Option.some Jvm.ClassFile.FieldType.int)) (N : Nat)    (Ω : zo_O) (res : zo_R) (h : fn_X2_span_39 N   Ω = some res) : TW Y res Ω 39 [] [] := by
  unfold fn_X2_span_39 at h
  refine zo_iconst hY (-1) (by decide) dX2_span_39 ?_
  exact zo_iret hY hr dX2_span_40 h
def fn_X2_span_91 (N : Nat)  (s0 : Int32) (Ω : zo_O) : Option zo_R :=
  rI s0 Ω
theorem ct_X2_span_91 {Y : zo_Y} (hY : zo_Gd Y cX2_span 4 RX2 7) (hJ : zo_JC (zo_J Y)) (hCon : ∀ Ω, zo_J Y Ω → zo_Con Ω) (hr : zo_rt Y (Option.some Jvm.ClassFile.FieldType.int)) (N : Nat)   (s0 : Int32) (Ω : zo_O) (res : zo_R) (h : fn_X2_span_91 N  s0 Ω = some res) : TW Y res Ω 91 [] [vi s0] := by
  unfold fn_X2_span_91 at h
  exact zo_iret hY hr dX2_span_91 h
def fn_X2_span (N : Nat) (x1 : Int32) (x2 : Int32) (x3 : Int32) (Ω : zo_O) : Option zo_R :=
  lt (sI Ω 1 0 0 0) fun Ω1 =>
  ci (fn_X2_isSite N x1 Ω1) fun r3 Ω2 =>
  if r3 = 0 then (
    fn_X2_span_39 N Ω2
    ) else
  ci (fn_X2_isKnown N x2 Ω2) fun r6 Ω5 =>
  if r6 = 0 then (
    fn_X2_span_39 N Ω5
    ) else
  ci (fn_X2_isThere N x1 x2 Ω5) fun r9 Ω8 =>
  if r9 = 0 then (
    fn_X2_span_39 N Ω8
    ) else
  ci (fn_X2_within N x3 0 1 Ω8) fun r12 Ω11 =>
  if r12 = 0 then (
    fn_X2_span_39 N Ω11
    ) else
  cv (fn_X2_habits N x2 Ω11) fun Ω14 =>
  cv (fn_X2_spans N x1 x2 Ω14) fun Ω15 =>
  ix x1 14 fun j16 =>
  ix x1 14 fun j17 =>
  if gI Ω15 32 45 j16 ≤ gI Ω15 32 46 j17 then (
    if x3 = 0 then (
      ix x1 14 fun j20 =>
      fn_X2_span_91 N (gI Ω15 32 45 j20) Ω15
      ) else
    ix x1 14 fun j21 =>
    fn_X2_span_91 N (gI Ω15 32 46 j21) Ω15
    ) else
  fn_X2_span_91 N ((-2)) Ω15
theorem mt_X2_span {G : zo_G} {J : zo_O → Prop} (hJ : zo_JC J) (hCon : ∀ Ω, J Ω → zo_Con Ω) (N : Nat) (x1 : Int32) (x2 : Int32) (x3 : Int32) (Ω : zo_O) (res : zo_R) (h : fn_X2_span N x1 x2 x3 Ω = some res) : zo_MT G J yX2_span cX2_span 4 (Option.some Jvm.ClassFile.FieldType.int) 7 [vr 1 0, vi x1, vi x2, vi x3] Ω res := by
  refine zo_enter (by decide) rfl (Nat.le_of_ble_eq_true rfl) (fun Y hY eJ hr hmn => ?_)
  subst eJ
  show TW Y res Ω 0 [(0, vr 1 0), (1, vi x1), (2, vi x2), (3, vi x3)] []
  unfold fn_X2_span at h
  refine zo_aload_n hY dX2_span_0 rfl 0 rfl ?_
  refine zo_iconst hY 0 (by decide) dX2_span_1 ?_
  refine zo_putI hY hJ LX2_187_1 rfl (Or.inl rfl) dX2_span_2 h (fun Ω1 h => ?_)
  refine zo_aload_n hY dX2_span_5 rfl 0 rfl ?_
  refine zo_iload_n hY dX2_span_6 rfl 1 rfl ?_
  refine zo_callV hY (fun q hq => mt_X2_isSite hJ hCon N x1 Ω1 q hq) (by decide) (by decide) (by decide) ⟨rfl, cn_X2_isSite⟩ rfl q1531 q1533 qs39 q82 q1534 (Nat.le_of_ble_eq_true rfl) dX2_span_7 rfl h (ci_k (fun r3 Ω2 res h => ?_))
  refine zo_if_eq hY 39 dX2_span_10 (by decide) h (fun c4 h => ?_) (fun c4 h => ?_)
  · refine zo_sub [] rfl ?_
    exact ct_X2_span_39 hY hJ hCon hr N Ω2 _ h
  · refine zo_aload_n hY dX2_span_13 rfl 0 rfl ?_
    refine zo_iload_n hY dX2_span_14 rfl 2 rfl ?_
    refine zo_callV hY (fun q hq => mt_X2_isKnown hJ hCon N x2 Ω2 q hq) (by decide) (by decide) (by decide) ⟨rfl, cn_X2_isKnown⟩ rfl q1649 q1651 qs49 q82 q1652 (Nat.le_of_ble_eq_true rfl) dX2_span_15 rfl h (ci_k (fun r6 Ω5 res h => ?_))
    refine zo_if_eq hY 39 dX2_span_18 (by decide) h (fun c7 h => ?_) (fun c7 h => ?_)
    · refine zo_sub [] rfl ?_
      exact ct_X2_span_39 hY hJ hCon hr N Ω5 _ h
    · refine zo_aload_n hY dX2_span_21 rfl 0 rfl ?_
      refine zo_iload_n hY dX2_span_22 rfl 1 rfl ?_
      refine zo_iload_n hY dX2_span_23 rfl 2 rfl ?_
      refine zo_callV hY (fun q hq => mt_X2_isThere hJ hCon N x1 x2 Ω5 q hq) (by decide) (by decide) (by decide) ⟨rfl, cn_X2_isThere⟩ rfl q1742 q1744 qs66 q82 q1745 (Nat.le_of_ble_eq_true rfl) dX2_span_24 rfl h (ci_k (fun r9 Ω8 res h => ?_))
      refine zo_if_eq hY 39 dX2_span_27 (by decide) h (fun c10 h => ?_) (fun c10 h => ?_)
      · refine zo_sub [] rfl ?_
        exact ct_X2_span_39 hY hJ hCon hr N Ω8 _ h
      · refine zo_iload_n hY dX2_span_30 rfl 3 rfl ?_
        refine zo_iconst hY 0 (by decide) dX2_span_31 ?_
        refine zo_iconst hY 1 (by decide) dX2_span_32 ?_
        refine zo_callS hY (fun q hq => mt_X2_within hJ hCon N x3 0 1 Ω8 q hq) (by decide) (by decide) cn_X2_within rfl q1521 q1522 q82 q1523 (Nat.le_of_ble_eq_true rfl) dX2_span_33 rfl h (ci_k (fun r12 Ω11 res h => ?_))
        refine zo_if_ne hY 41 dX2_span_36 (by decide) h (fun c13 h => ?_) (fun c13 h => ?_)
        · refine zo_sub [] rfl ?_
          exact ct_X2_span_39 hY hJ hCon hr N Ω11 _ h
        · refine zo_aload_n hY dX2_span_41 rfl 0 rfl ?_
          refine zo_iload_n hY dX2_span_42 rfl 2 rfl ?_
          refine zo_callV hY (fun q hq => mt_X2_habits hJ hCon N x2 Ω11 q hq) (by decide) (by decide) (by decide) ⟨rfl, cn_X2_habits⟩ rfl q1653 q1655 qs50 q82 q1656 (Nat.le_of_ble_eq_true rfl) dX2_span_43 rfl h (cv_k (fun Ω14 res h => ?_))
          refine zo_aload_n hY dX2_span_46 rfl 0 rfl ?_
          refine zo_iload_n hY dX2_span_47 rfl 1 rfl ?_
          refine zo_iload_n hY dX2_span_48 rfl 2 rfl ?_
          refine zo_callV hY (fun q hq => mt_X2_spans hJ hCon N x1 x2 Ω14 q hq) (by decide) (by decide) (by decide) ⟨rfl, cn_X2_spans⟩ rfl q1746 q1748 qs67 q82 q1749 (Nat.le_of_ble_eq_true rfl) dX2_span_49 rfl h (cv_k (fun Ω15 res h => ?_))
          refine zo_aload_n hY dX2_span_52 rfl 0 rfl ?_
          refine zo_getC hY LX2_178_1 rfl (fun Ω q => (hCon Ω q).2.1 77 _ rfl) dX2_span_53 ?_
          refine zo_iload_n hY dX2_span_56 rfl 1 rfl ?_
          refine zo_ald hY (by decide) (Or.inl ⟨rfl, dX2_span_57⟩) (fun q => (hCon _ q).2.2.2 32 45 14 rfl) h (fun j16 h => ?_)
          refine zo_aload_n hY dX2_span_58 rfl 0 rfl ?_
          refine zo_getC hY LX2_181_1 rfl (fun Ω q => (hCon Ω q).2.1 78 _ rfl) dX2_span_59 ?_
          refine zo_iload_n hY dX2_span_62 rfl 1 rfl ?_
          refine zo_ald hY (by decide) (Or.inl ⟨rfl, dX2_span_63⟩) (fun q => (hCon _ q).2.2.2 32 46 14 rfl) h (fun j17 h => ?_)
          refine zo_icmp_le hY 72 dX2_span_64 (by decide) h (fun c18 h => ?_) (fun c18 h => ?_)
          · refine zo_iload_n hY dX2_span_72 rfl 3 rfl ?_
            refine zo_if_ne hY 85 dX2_span_73 (by decide) h (fun c19 h => ?_) (fun c19 h => ?_)
            · refine zo_aload_n hY dX2_span_76 rfl 0 rfl ?_
              refine zo_getC hY LX2_178_1 rfl (fun Ω q => (hCon Ω q).2.1 77 _ rfl) dX2_span_77 ?_
              refine zo_iload_n hY dX2_span_80 rfl 1 rfl ?_
              refine zo_ald hY (by decide) (Or.inl ⟨rfl, dX2_span_81⟩) (fun q => (hCon _ q).2.2.2 32 45 14 rfl) h (fun j20 h => ?_)
              refine zo_goto hY 91 dX2_span_82 (by decide) ?_
              refine zo_sub [] rfl ?_
              exact ct_X2_span_91 hY hJ hCon hr N (gI Ω15 32 45 j20) Ω15 _ h
            · refine zo_aload_n hY dX2_span_85 rfl 0 rfl ?_
              refine zo_getC hY LX2_181_1 rfl (fun Ω q => (hCon Ω q).2.1 78 _ rfl) dX2_span_86 ?_
              refine zo_iload_n hY dX2_span_89 rfl 1 rfl ?_
              refine zo_ald hY (by decide) (Or.inl ⟨rfl, dX2_span_90⟩) (fun q => (hCon _ q).2.2.2 32 46 14 rfl) h (fun j21 h => ?_)
              refine zo_sub [] rfl ?_
              exact ct_X2_span_91 hY hJ hCon hr N (gI Ω15 32 46 j21) Ω15 _ h
          · refine zo_bipush hY (-2) (by decide) dX2_span_67 ?_
            refine zo_goto hY 91 dX2_span_69 (by decide) ?_
            refine zo_sub [] rfl ?_
            exact ct_X2_span_91 hY hJ hCon hr N ((-2)) Ω15 _ h
