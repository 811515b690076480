set_option maxRecDepth 100000
theorem dX1_init_0 : decode cX1_init 0 = .ok (.aload_n 0, 1) := by decide +kernel
theorem dX1_init_1 : decode cX1_init 1 = .ok (.invokespecial 7, 3) := by decide +kernel
theorem dX1_init_4 : decode cX1_init 4 = .ok (.aload_n 0, 1) := by decide +kernel
theorem dX1_init_5 : decode cX1_init 5 = .ok (.new 13, 3) := by decide +kernel
theorem dX1_init_8 : decode cX1_init 8 = .ok (.dup, 1) := by decide +kernel
theorem dX1_init_9 : decode cX1_init 9 = .ok (.invokespecial 15, 3) := by decide +kernel
theorem dX1_init_12 : decode cX1_init 12 = .ok (.putfield 16, 3) := by decide +kernel
theorem dX1_init_15 : decode cX1_init 15 = .ok (.aload_n 0, 1) := by decide +kernel
theorem dX1_init_16 : decode cX1_init 16 = .ok (.new 13, 3) := by decide +kernel
theorem dX1_init_19 : decode cX1_init 19 = .ok (.dup, 1) := by decide +kernel
theorem dX1_init_20 : decode cX1_init 20 = .ok (.invokespecial 15, 3) := by decide +kernel
theorem dX1_init_23 : decode cX1_init 23 = .ok (.putfield 20, 3) := by decide +kernel
theorem dX1_init_26 : decode cX1_init 26 = .ok (.aload_n 0, 1) := by decide +kernel
theorem dX1_init_27 : decode cX1_init 27 = .ok (.new 13, 3) := by decide +kernel
theorem dX1_init_30 : decode cX1_init 30 = .ok (.dup, 1) := by decide +kernel
theorem dX1_init_31 : decode cX1_init 31 = .ok (.invokespecial 15, 3) := by decide +kernel
theorem dX1_init_34 : decode cX1_init 34 = .ok (.putfield 23, 3) := by decide +kernel
theorem dX1_init_37 : decode cX1_init 37 = .ok (.aload_n 0, 1) := by decide +kernel
theorem dX1_init_38 : decode cX1_init 38 = .ok (.new 13, 3) := by decide +kernel
theorem dX1_init_41 : decode cX1_init 41 = .ok (.dup, 1) := by decide +kernel
theorem dX1_init_42 : decode cX1_init 42 = .ok (.invokespecial 15, 3) := by decide +kernel
theorem dX1_init_45 : decode cX1_init 45 = .ok (.putfield 26, 3) := by decide +kernel
theorem dX1_init_48 : decode cX1_init 48 = .ok (.aload_n 0, 1) := by decide +kernel
theorem dX1_init_49 : decode cX1_init 49 = .ok (.new 13, 3) := by decide +kernel
theorem dX1_init_52 : decode cX1_init 52 = .ok (.dup, 1) := by decide +kernel
theorem dX1_init_53 : decode cX1_init 53 = .ok (.invokespecial 15, 3) := by decide +kernel
theorem dX1_init_56 : decode cX1_init 56 = .ok (.putfield 29, 3) := by decide +kernel
theorem dX1_init_59 : decode cX1_init 59 = .ok (.aload_n 0, 1) := by decide +kernel
theorem dX1_init_60 : decode cX1_init 60 = .ok (.new 13, 3) := by decide +kernel
theorem dX1_init_63 : decode cX1_init 63 = .ok (.dup, 1) := by decide +kernel
theorem dX1_init_64 : decode cX1_init 64 = .ok (.invokespecial 15, 3) := by decide +kernel
theorem dX1_init_67 : decode cX1_init 67 = .ok (.putfield 32, 3) := by decide +kernel
theorem dX1_init_70 : decode cX1_init 70 = .ok (.aload_n 0, 1) := by decide +kernel
theorem dX1_init_71 : decode cX1_init 71 = .ok (.new 13, 3) := by decide +kernel
theorem dX1_init_74 : decode cX1_init 74 = .ok (.dup, 1) := by decide +kernel
theorem dX1_init_75 : decode cX1_init 75 = .ok (.invokespecial 15, 3) := by decide +kernel
theorem dX1_init_78 : decode cX1_init 78 = .ok (.putfield 35, 3) := by decide +kernel
theorem dX1_init_81 : decode cX1_init 81 = .ok (.aload_n 0, 1) := by decide +kernel
theorem dX1_init_82 : decode cX1_init 82 = .ok (.iconst 3, 1) := by decide +kernel
theorem dX1_init_83 : decode cX1_init 83 = .ok (.newarray .int, 2) := by decide +kernel
theorem dX1_init_85 : decode cX1_init 85 = .ok (.dup, 1) := by decide +kernel
theorem dX1_init_86 : decode cX1_init 86 = .ok (.iconst 0, 1) := by decide +kernel
theorem dX1_init_87 : decode cX1_init 87 = .ok (.bipush 15, 2) := by decide +kernel
theorem dX1_init_89 : decode cX1_init 89 = .ok (.iastore, 1) := by decide +kernel
theorem dX1_init_90 : decode cX1_init 90 = .ok (.dup, 1) := by decide +kernel
theorem dX1_init_91 : decode cX1_init 91 = .ok (.iconst 1, 1) := by decide +kernel
theorem dX1_init_92 : decode cX1_init 92 = .ok (.bipush 15, 2) := by decide +kernel
theorem dX1_init_94 : decode cX1_init 94 = .ok (.iastore, 1) := by decide +kernel
theorem dX1_init_95 : decode cX1_init 95 = .ok (.dup, 1) := by decide +kernel
theorem dX1_init_96 : decode cX1_init 96 = .ok (.iconst 2, 1) := by decide +kernel
theorem dX1_init_97 : decode cX1_init 97 = .ok (.bipush 15, 2) := by decide +kernel
theorem dX1_init_99 : decode cX1_init 99 = .ok (.iastore, 1) := by decide +kernel
theorem dX1_init_100 : decode cX1_init 100 = .ok (.putfield 38, 3) := by decide +kernel
theorem dX1_init_103 : decode cX1_init 103 = .ok (.aload_n 0, 1) := by decide +kernel
theorem dX1_init_104 : decode cX1_init 104 = .ok (.iconst 3, 1) := by decide +kernel
theorem dX1_init_105 : decode cX1_init 105 = .ok (.putfield 42, 3) := by decide +kernel
theorem dX1_init_108 : decode cX1_init 108 = .ok (.aload_n 0, 1) := by decide +kernel
theorem dX1_init_109 : decode cX1_init 109 = .ok (.bipush 8, 2) := by decide +kernel
theorem dX1_init_111 : decode cX1_init 111 = .ok (.putfield 46, 3) := by decide +kernel
theorem dX1_init_114 : decode cX1_init 114 = .ok (.aload_n 0, 1) := by decide +kernel
theorem dX1_init_115 : decode cX1_init 115 = .ok (.bipush 20, 2) := by decide +kernel
theorem dX1_init_117 : decode cX1_init 117 = .ok (.putfield 49, 3) := by decide +kernel
theorem dX1_init_120 : decode cX1_init 120 = .ok (.aload_n 0, 1) := by decide +kernel
theorem dX1_init_121 : decode cX1_init 121 = .ok (.sipush 300, 3) := by decide +kernel
theorem dX1_init_124 : decode cX1_init 124 = .ok (.newarray .byte, 2) := by decide +kernel
theorem dX1_init_126 : decode cX1_init 126 = .ok (.putfield 52, 3) := by decide +kernel
theorem dX1_init_129 : decode cX1_init 129 = .ok (.aload_n 0, 1) := by decide +kernel
theorem dX1_init_130 : decode cX1_init 130 = .ok (.iconst (-1), 1) := by decide +kernel
theorem dX1_init_131 : decode cX1_init 131 = .ok (.putfield 56, 3) := by decide +kernel
theorem dX1_init_134 : decode cX1_init 134 = .ok (.aload_n 0, 1) := by decide +kernel
theorem dX1_init_135 : decode cX1_init 135 = .ok (.new 13, 3) := by decide +kernel
theorem dX1_init_138 : decode cX1_init 138 = .ok (.dup, 1) := by decide +kernel
theorem dX1_init_139 : decode cX1_init 139 = .ok (.invokespecial 15, 3) := by decide +kernel
theorem dX1_init_142 : decode cX1_init 142 = .ok (.putfield 59, 3) := by decide +kernel
theorem dX1_init_145 : decode cX1_init 145 = .ok (.aload_n 0, 1) := by decide +kernel
theorem dX1_init_146 : decode cX1_init 146 = .ok (.iconst 5, 1) := by decide +kernel
theorem dX1_init_147 : decode cX1_init 147 = .ok (.iconst 5, 1) := by decide +kernel
theorem dX1_init_148 : decode cX1_init 148 = .ok (.multianewarray 62 2, 4) := by decide +kernel
theorem dX1_init_152 : decode cX1_init 152 = .ok (.putfield 64, 3) := by decide +kernel
theorem dX1_init_155 : decode cX1_init 155 = .ok (.aload_n 0, 1) := by decide +kernel
theorem dX1_init_156 : decode cX1_init 156 = .ok (.bipush 18, 2) := by decide +kernel
theorem dX1_init_158 : decode cX1_init 158 = .ok (.anewarray 67, 3) := by decide +kernel
theorem dX1_init_161 : decode cX1_init 161 = .ok (.putfield 69, 3) := by decide +kernel
theorem dX1_init_164 : decode cX1_init 164 = .ok (.aload_n 0, 1) := by decide +kernel
theorem dX1_init_165 : decode cX1_init 165 = .ok (.iconst (-1), 1) := by decide +kernel
theorem dX1_init_166 : decode cX1_init 166 = .ok (.putfield 73, 3) := by decide +kernel
theorem dX1_init_169 : decode cX1_init 169 = .ok (.aload_n 0, 1) := by decide +kernel
theorem dX1_init_170 : decode cX1_init 170 = .ok (.bipush 14, 2) := by decide +kernel
theorem dX1_init_172 : decode cX1_init 172 = .ok (.anewarray 76, 3) := by decide +kernel
theorem dX1_init_175 : decode cX1_init 175 = .ok (.putfield 78, 3) := by decide +kernel
theorem dX1_init_178 : decode cX1_init 178 = .ok (.aload_n 0, 1) := by decide +kernel
theorem dX1_init_179 : decode cX1_init 179 = .ok (.iconst 0, 1) := by decide +kernel
theorem dX1_init_180 : decode cX1_init 180 = .ok (.newarray .int, 2) := by decide +kernel
theorem dX1_init_182 : decode cX1_init 182 = .ok (.putfield 82, 3) := by decide +kernel
theorem dX1_init_185 : decode cX1_init 185 = .ok (.return_, 1) := by decide +kernel
def fn_X1_init (N : Nat) (x0 : Nat) (Ω : zo_O) : Option zo_R :=
  ad 1 3 <| lt (nw Ω 20 0) fun Ω1 =>
  lt (sR Ω1 0 x0 0 (some (20, gC Ω 20))) fun Ω2 =>
  ad 1 3 <| lt (nw Ω2 20 0) fun Ω3 =>
  lt (sR Ω3 0 x0 1 (some (20, gC Ω2 20))) fun Ω4 =>
  ad 1 3 <| lt (nw Ω4 20 0) fun Ω5 =>
  lt (sR Ω5 0 x0 2 (some (20, gC Ω4 20))) fun Ω6 =>
  ad 1 3 <| lt (nw Ω6 20 0) fun Ω7 =>
  lt (sR Ω7 0 x0 3 (some (20, gC Ω6 20))) fun Ω8 =>
  ad 1 3 <| lt (nw Ω8 20 0) fun Ω9 =>
  lt (sR Ω9 0 x0 4 (some (20, gC Ω8 20))) fun Ω10 =>
  ad 1 3 <| lt (nw Ω10 20 0) fun Ω11 =>
  lt (sR Ω11 0 x0 5 (some (20, gC Ω10 20))) fun Ω12 =>
  ad 1 3 <| lt (nw Ω12 20 0) fun Ω13 =>
  lt (sR Ω13 0 x0 6 (some (20, gC Ω12 20))) fun Ω14 =>
  gd (¬ (3 : Int32) < 0 ∧ ((3 : Int32)).toNatClampNeg ≤ 65536) <| ad 1 ((3 : Int32)).toNatClampNeg <| lt (nw Ω14 43 ((3 : Int32)).toNatClampNeg) fun Ω15 =>
  ix 0 (gL Ω15 43 (gC Ω14 43)) fun j16 => lt (sI Ω15 43 (gC Ω14 43) j16 15) fun Ω17 =>
  ix 1 (gL Ω17 43 (gC Ω14 43)) fun j18 => lt (sI Ω17 43 (gC Ω14 43) j18 15) fun Ω19 =>
  ix 2 (gL Ω19 43 (gC Ω14 43)) fun j20 => lt (sI Ω19 43 (gC Ω14 43) j20 15) fun Ω21 =>
  lt (sR Ω21 0 x0 7 (some (43, gC Ω14 43))) fun Ω22 =>
  lt (sI Ω22 0 x0 9 3) fun Ω23 =>
  lt (sI Ω23 0 x0 10 8) fun Ω24 =>
  lt (sI Ω24 0 x0 11 20) fun Ω25 =>
  gd (¬ (300 : Int32) < 0 ∧ ((300 : Int32)).toNatClampNeg ≤ 65536) <| ad 1 ((300 : Int32)).toNatClampNeg <| lt (nw Ω25 38 ((300 : Int32)).toNatClampNeg) fun Ω26 =>
  lt (sR Ω26 0 x0 12 (some (38, gC Ω25 38))) fun Ω27 =>
  lt (sI Ω27 0 x0 14 ((-1))) fun Ω28 =>
  ad 1 3 <| lt (nw Ω28 20 0) fun Ω29 =>
  lt (sR Ω29 0 x0 15 (some (20, gC Ω28 20))) fun Ω30 =>
  ad 6 30 <| lt (zo_mo Ω30 5) fun Ω31 =>
  lt (sR Ω31 0 x0 16 (some (37, gC Ω30 37))) fun Ω32 =>
  gd (¬ (18 : Int32) < 0 ∧ ((18 : Int32)).toNatClampNeg ≤ 65536) <| ad 1 ((18 : Int32)).toNatClampNeg <| lt (nw Ω32 39 ((18 : Int32)).toNatClampNeg) fun Ω33 =>
  lt (sR Ω33 0 x0 18 (some (39, gC Ω32 39))) fun Ω34 =>
  lt (sI Ω34 0 x0 19 ((-1))) fun Ω35 =>
  gd (¬ (14 : Int32) < 0 ∧ ((14 : Int32)).toNatClampNeg ≤ 65536) <| ad 1 ((14 : Int32)).toNatClampNeg <| lt (nw Ω35 41 ((14 : Int32)).toNatClampNeg) fun Ω36 =>
  lt (sR Ω36 0 x0 20 (some (41, gC Ω35 41))) fun Ω37 =>
  gd (¬ (0 : Int32) < 0 ∧ ((0 : Int32)).toNatClampNeg ≤ 65536) <| ad 1 ((0 : Int32)).toNatClampNeg <| lt (nw Ω37 35 ((0 : Int32)).toNatClampNeg) fun Ω38 =>
  lt (sR Ω38 0 x0 21 (some (35, gC Ω37 35))) fun Ω39 =>
  rV Ω39
theorem mt_X1_init {G : zo_G} {J : zo_O → Prop} (hJ : zo_JC J) (hJ0 : ∀ Ω, J Ω) (N : Nat) (x0 : Nat) (Ω : zo_O) (res : zo_R) (h : fn_X1_init N x0 Ω = some res) : zo_MT G J yX1_init cX1_init 1 (Option.none : Option Jvm.ClassFile.FieldType) 5 [vr 0 x0] Ω res := by
  refine zo_enter (by decide) rfl (Nat.le_of_ble_eq_true rfl) (fun Y hY eJ hr hmn => ?_)
  subst eJ
  have hmn := hmn rfl
  show TW Y res Ω 0 [(0, vr 0 x0)] []
  unfold fn_X1_init at h
  refine zo_aload_n hY dX1_init_0 rfl 0 rfl ?_
  refine zo_oini hY (by decide) q123 (fun ρ => zo_room8 (Nat.le_of_ble_eq_true rfl)) dX1_init_1 ?_
  refine zo_aload_n hY dX1_init_4 rfl 0 rfl ?_
  refine zo_newL hY hJ (by decide) q126 q128 (Nat.le_of_ble_eq_true rfl) dX1_init_5 dX1_init_8 dX1_init_9 h (fun Ω1 res h => ?_)
  refine zo_putR hY hJ LX1_16_0 rfl (Or.inr (fun _ _ _ => hJ0 _)) (Or.inr ⟨rfl, hmn, rfl, _, q158, Or.inl rfl⟩) dX1_init_12 h (fun Ω2 h => ?_)
  refine zo_aload_n hY dX1_init_15 rfl 0 rfl ?_
  refine zo_newL hY hJ (by decide) q126 q128 (Nat.le_of_ble_eq_true rfl) dX1_init_16 dX1_init_19 dX1_init_20 h (fun Ω3 res h => ?_)
  refine zo_putR hY hJ LX1_20_0 rfl (Or.inr (fun _ _ _ => hJ0 _)) (Or.inr ⟨rfl, hmn, rfl, _, q159, Or.inl rfl⟩) dX1_init_23 h (fun Ω4 h => ?_)
  refine zo_aload_n hY dX1_init_26 rfl 0 rfl ?_
  refine zo_newL hY hJ (by decide) q126 q128 (Nat.le_of_ble_eq_true rfl) dX1_init_27 dX1_init_30 dX1_init_31 h (fun Ω5 res h => ?_)
  refine zo_putR hY hJ LX1_23_0 rfl (Or.inr (fun _ _ _ => hJ0 _)) (Or.inr ⟨rfl, hmn, rfl, _, q160, Or.inl rfl⟩) dX1_init_34 h (fun Ω6 h => ?_)
  refine zo_aload_n hY dX1_init_37 rfl 0 rfl ?_
  refine zo_newL hY hJ (by decide) q126 q128 (Nat.le_of_ble_eq_true rfl) dX1_init_38 dX1_init_41 dX1_init_42 h (fun Ω7 res h => ?_)
  refine zo_putR hY hJ LX1_26_0 rfl (Or.inr (fun _ _ _ => hJ0 _)) (Or.inr ⟨rfl, hmn, rfl, _, q161, Or.inl rfl⟩) dX1_init_45 h (fun Ω8 h => ?_)
  refine zo_aload_n hY dX1_init_48 rfl 0 rfl ?_
  refine zo_newL hY hJ (by decide) q126 q128 (Nat.le_of_ble_eq_true rfl) dX1_init_49 dX1_init_52 dX1_init_53 h (fun Ω9 res h => ?_)
  refine zo_putR hY hJ LX1_29_0 rfl (Or.inr (fun _ _ _ => hJ0 _)) (Or.inr ⟨rfl, hmn, rfl, _, q162, Or.inl rfl⟩) dX1_init_56 h (fun Ω10 h => ?_)
  refine zo_aload_n hY dX1_init_59 rfl 0 rfl ?_
  refine zo_newL hY hJ (by decide) q126 q128 (Nat.le_of_ble_eq_true rfl) dX1_init_60 dX1_init_63 dX1_init_64 h (fun Ω11 res h => ?_)
  refine zo_putR hY hJ LX1_32_0 rfl (Or.inr (fun _ _ _ => hJ0 _)) (Or.inr ⟨rfl, hmn, rfl, _, q163, Or.inl rfl⟩) dX1_init_67 h (fun Ω12 h => ?_)
  refine zo_aload_n hY dX1_init_70 rfl 0 rfl ?_
  refine zo_newL hY hJ (by decide) q126 q128 (Nat.le_of_ble_eq_true rfl) dX1_init_71 dX1_init_74 dX1_init_75 h (fun Ω13 res h => ?_)
  refine zo_putR hY hJ LX1_35_0 rfl (Or.inr (fun _ _ _ => hJ0 _)) (Or.inr ⟨rfl, hmn, rfl, _, q164, Or.inl rfl⟩) dX1_init_78 h (fun Ω14 h => ?_)
  refine zo_aload_n hY dX1_init_81 rfl 0 rfl ?_
  refine zo_iconst hY 3 (by decide) dX1_init_82 ?_
  refine zo_newa hY hJ (k := 43) (aty := .int) (by decide) rfl rfl (Or.inr (fun _ _ _ => hJ0 _)) q233 dX1_init_83 h (fun Ω15 res h => ?_)
  refine zo_dup hY dX1_init_85 (Or.inr ⟨_, rfl⟩) ?_
  refine zo_iconst hY 0 (by decide) dX1_init_86 ?_
  refine zo_bipush hY 15 (by decide) dX1_init_87 ?_
  refine zo_ast hY hJ (by decide) (Or.inl ⟨rfl, rfl, dX1_init_89⟩) (fun _ => rfl) h (fun j16 Ω17 h => ?_)
  refine zo_dup hY dX1_init_90 (Or.inr ⟨_, rfl⟩) ?_
  refine zo_iconst hY 1 (by decide) dX1_init_91 ?_
  refine zo_bipush hY 15 (by decide) dX1_init_92 ?_
  refine zo_ast hY hJ (by decide) (Or.inl ⟨rfl, rfl, dX1_init_94⟩) (fun _ => rfl) h (fun j18 Ω19 h => ?_)
  refine zo_dup hY dX1_init_95 (Or.inr ⟨_, rfl⟩) ?_
  refine zo_iconst hY 2 (by decide) dX1_init_96 ?_
  refine zo_bipush hY 15 (by decide) dX1_init_97 ?_
  refine zo_ast hY hJ (by decide) (Or.inl ⟨rfl, rfl, dX1_init_99⟩) (fun _ => rfl) h (fun j20 Ω21 h => ?_)
  refine zo_putR hY hJ LX1_38_0 rfl (Or.inr (fun _ _ _ => hJ0 _)) (Or.inr ⟨rfl, hmn, rfl, _, q166, Or.inl rfl⟩) dX1_init_100 h (fun Ω22 h => ?_)
  refine zo_aload_n hY dX1_init_103 rfl 0 rfl ?_
  refine zo_iconst hY 3 (by decide) dX1_init_104 ?_
  refine zo_putI hY hJ LX1_42_0 rfl (Or.inl rfl) dX1_init_105 h (fun Ω23 h => ?_)
  refine zo_aload_n hY dX1_init_108 rfl 0 rfl ?_
  refine zo_bipush hY 8 (by decide) dX1_init_109 ?_
  refine zo_putI hY hJ LX1_46_0 rfl (Or.inl rfl) dX1_init_111 h (fun Ω24 h => ?_)
  refine zo_aload_n hY dX1_init_114 rfl 0 rfl ?_
  refine zo_bipush hY 20 (by decide) dX1_init_115 ?_
  refine zo_putI hY hJ LX1_49_0 rfl (Or.inl rfl) dX1_init_117 h (fun Ω25 h => ?_)
  refine zo_aload_n hY dX1_init_120 rfl 0 rfl ?_
  refine zo_sipush hY 300 (by decide) dX1_init_121 ?_
  refine zo_newa hY hJ (k := 38) (aty := .byte) (by decide) rfl rfl (Or.inr (fun _ _ _ => hJ0 _)) q234 dX1_init_124 h (fun Ω26 res h => ?_)
  refine zo_putR hY hJ LX1_52_0 rfl (Or.inr (fun _ _ _ => hJ0 _)) (Or.inr ⟨rfl, hmn, rfl, _, q174, Or.inl rfl⟩) dX1_init_126 h (fun Ω27 h => ?_)
  refine zo_aload_n hY dX1_init_129 rfl 0 rfl ?_
  refine zo_iconst hY (-1) (by decide) dX1_init_130 ?_
  refine zo_putI hY hJ LX1_56_0 rfl (Or.inl rfl) dX1_init_131 h (fun Ω28 h => ?_)
  refine zo_aload_n hY dX1_init_134 rfl 0 rfl ?_
  refine zo_newL hY hJ (by decide) q126 q128 (Nat.le_of_ble_eq_true rfl) dX1_init_135 dX1_init_138 dX1_init_139 h (fun Ω29 res h => ?_)
  refine zo_putR hY hJ LX1_59_0 rfl (Or.inr (fun _ _ _ => hJ0 _)) (Or.inl rfl) dX1_init_142 h (fun Ω30 h => ?_)
  refine zo_aload_n hY dX1_init_145 rfl 0 rfl ?_
  refine zo_iconst hY 5 (by decide) dX1_init_146 ?_
  refine zo_iconst hY 5 (by decide) dX1_init_147 ?_
  refine zo_multi hY hJ0 q152 dX1_init_148 h (fun Ω31 res h => ?_)
  refine zo_putR hY hJ LX1_64_0 rfl (Or.inr (fun _ _ _ => hJ0 _)) (Or.inr ⟨rfl, hmn, rfl, _, q179, Or.inl rfl⟩) dX1_init_152 h (fun Ω32 h => ?_)
  refine zo_aload_n hY dX1_init_155 rfl 0 rfl ?_
  refine zo_bipush hY 18 (by decide) dX1_init_156 ?_
  refine zo_anew hY hJ0 (k := 39) (K := 14) (by decide) (by decide) rfl q154 q155 dX1_init_158 h (fun Ω33 res h => ?_)
  refine zo_putR hY hJ LX1_69_0 rfl (Or.inr (fun _ _ _ => hJ0 _)) (Or.inr ⟨rfl, hmn, rfl, _, q181, Or.inl rfl⟩) dX1_init_161 h (fun Ω34 h => ?_)
  refine zo_aload_n hY dX1_init_164 rfl 0 rfl ?_
  refine zo_iconst hY (-1) (by decide) dX1_init_165 ?_
  refine zo_putI hY hJ LX1_73_0 rfl (Or.inl rfl) dX1_init_166 h (fun Ω35 h => ?_)
  refine zo_aload_n hY dX1_init_169 rfl 0 rfl ?_
  refine zo_bipush hY 14 (by decide) dX1_init_170 ?_
  refine zo_anew hY hJ0 (k := 41) (K := 18) (by decide) (by decide) rfl q156 q157 dX1_init_172 h (fun Ω36 res h => ?_)
  refine zo_putR hY hJ LX1_78_0 rfl (Or.inr (fun _ _ _ => hJ0 _)) (Or.inr ⟨rfl, hmn, rfl, _, q183, Or.inl rfl⟩) dX1_init_175 h (fun Ω37 h => ?_)
  refine zo_aload_n hY dX1_init_178 rfl 0 rfl ?_
  refine zo_iconst hY 0 (by decide) dX1_init_179 ?_
  refine zo_newa hY hJ (k := 35) (aty := .int) (by decide) rfl rfl (Or.inr (fun _ _ _ => hJ0 _)) q233 dX1_init_180 h (fun Ω38 res h => ?_)
  refine zo_putR hY hJ LX1_82_0 rfl (Or.inr (fun _ _ _ => hJ0 _)) (Or.inl rfl) dX1_init_182 h (fun Ω39 h => ?_)
  exact zo_vret hY hr dX1_init_185 h
theorem dX2_init_0 : decode cX2_init 0 = .ok (.aload_n 0, 1) := by decide +kernel
theorem dX2_init_1 : decode cX2_init 1 = .ok (.invokespecial 1, 3) := by decide +kernel
theorem dX2_init_4 : decode cX2_init 4 = .ok (.aload_n 0, 1) := by decide +kernel
theorem dX2_init_5 : decode cX2_init 5 = .ok (.bipush 14, 2) := by decide +kernel
theorem dX2_init_7 : decode cX2_init 7 = .ok (.newarray .int, 2) := by decide +kernel
theorem dX2_init_9 : decode cX2_init 9 = .ok (.putfield 7, 3) := by decide +kernel
theorem dX2_init_12 : decode cX2_init 12 = .ok (.aload_n 0, 1) := by decide +kernel
theorem dX2_init_13 : decode cX2_init 13 = .ok (.bipush 14, 2) := by decide +kernel
theorem dX2_init_15 : decode cX2_init 15 = .ok (.newarray .int, 2) := by decide +kernel
theorem dX2_init_17 : decode cX2_init 17 = .ok (.putfield 13, 3) := by decide +kernel
theorem dX2_init_20 : decode cX2_init 20 = .ok (.aload_n 0, 1) := by decide +kernel
theorem dX2_init_21 : decode cX2_init 21 = .ok (.bipush 14, 2) := by decide +kernel
theorem dX2_init_23 : decode cX2_init 23 = .ok (.newarray .int, 2) := by decide +kernel
theorem dX2_init_25 : decode cX2_init 25 = .ok (.putfield 16, 3) := by decide +kernel
theorem dX2_init_28 : decode cX2_init 28 = .ok (.aload_n 0, 1) := by decide +kernel
theorem dX2_init_29 : decode cX2_init 29 = .ok (.bipush 14, 2) := by decide +kernel
theorem dX2_init_31 : decode cX2_init 31 = .ok (.newarray .int, 2) := by decide +kernel
theorem dX2_init_33 : decode cX2_init 33 = .ok (.putfield 19, 3) := by decide +kernel
theorem dX2_init_36 : decode cX2_init 36 = .ok (.aload_n 0, 1) := by decide +kernel
theorem dX2_init_37 : decode cX2_init 37 = .ok (.bipush 14, 2) := by decide +kernel
theorem dX2_init_39 : decode cX2_init 39 = .ok (.newarray .int, 2) := by decide +kernel
theorem dX2_init_41 : decode cX2_init 41 = .ok (.putfield 22, 3) := by decide +kernel
theorem dX2_init_44 : decode cX2_init 44 = .ok (.aload_n 0, 1) := by decide +kernel
theorem dX2_init_45 : decode cX2_init 45 = .ok (.bipush 120, 2) := by decide +kernel
theorem dX2_init_47 : decode cX2_init 47 = .ok (.newarray .int, 2) := by decide +kernel
theorem dX2_init_49 : decode cX2_init 49 = .ok (.putfield 25, 3) := by decide +kernel
theorem dX2_init_52 : decode cX2_init 52 = .ok (.aload_n 0, 1) := by decide +kernel
theorem dX2_init_53 : decode cX2_init 53 = .ok (.bipush 120, 2) := by decide +kernel
theorem dX2_init_55 : decode cX2_init 55 = .ok (.newarray .int, 2) := by decide +kernel
theorem dX2_init_57 : decode cX2_init 57 = .ok (.putfield 28, 3) := by decide +kernel
theorem dX2_init_60 : decode cX2_init 60 = .ok (.aload_n 0, 1) := by decide +kernel
theorem dX2_init_61 : decode cX2_init 61 = .ok (.bipush 120, 2) := by decide +kernel
theorem dX2_init_63 : decode cX2_init 63 = .ok (.newarray .int, 2) := by decide +kernel
theorem dX2_init_65 : decode cX2_init 65 = .ok (.putfield 31, 3) := by decide +kernel
theorem dX2_init_68 : decode cX2_init 68 = .ok (.aload_n 0, 1) := by decide +kernel
theorem dX2_init_69 : decode cX2_init 69 = .ok (.bipush 120, 2) := by decide +kernel
theorem dX2_init_71 : decode cX2_init 71 = .ok (.newarray .int, 2) := by decide +kernel
theorem dX2_init_73 : decode cX2_init 73 = .ok (.putfield 34, 3) := by decide +kernel
theorem dX2_init_76 : decode cX2_init 76 = .ok (.aload_n 0, 1) := by decide +kernel
theorem dX2_init_77 : decode cX2_init 77 = .ok (.bipush 120, 2) := by decide +kernel
theorem dX2_init_79 : decode cX2_init 79 = .ok (.newarray .int, 2) := by decide +kernel
theorem dX2_init_81 : decode cX2_init 81 = .ok (.putfield 37, 3) := by decide +kernel
theorem dX2_init_84 : decode cX2_init 84 = .ok (.aload_n 0, 1) := by decide +kernel
theorem dX2_init_85 : decode cX2_init 85 = .ok (.bipush 120, 2) := by decide +kernel
theorem dX2_init_87 : decode cX2_init 87 = .ok (.newarray .int, 2) := by decide +kernel
theorem dX2_init_89 : decode cX2_init 89 = .ok (.putfield 40, 3) := by decide +kernel
theorem dX2_init_92 : decode cX2_init 92 = .ok (.aload_n 0, 1) := by decide +kernel
theorem dX2_init_93 : decode cX2_init 93 = .ok (.bipush 120, 2) := by decide +kernel
theorem dX2_init_95 : decode cX2_init 95 = .ok (.newarray .boolean, 2) := by decide +kernel
theorem dX2_init_97 : decode cX2_init 97 = .ok (.putfield 43, 3) := by decide +kernel
theorem dX2_init_100 : decode cX2_init 100 = .ok (.aload_n 0, 1) := by decide +kernel
theorem dX2_init_101 : decode cX2_init 101 = .ok (.bipush 120, 2) := by decide +kernel
theorem dX2_init_103 : decode cX2_init 103 = .ok (.newarray .int, 2) := by decide +kernel
theorem dX2_init_105 : decode cX2_init 105 = .ok (.putfield 47, 3) := by decide +kernel
theorem dX2_init_108 : decode cX2_init 108 = .ok (.aload_n 0, 1) := by decide +kernel
theorem dX2_init_109 : decode cX2_init 109 = .ok (.bipush 100, 2) := by decide +kernel
theorem dX2_init_111 : decode cX2_init 111 = .ok (.newarray .int, 2) := by decide +kernel
theorem dX2_init_113 : decode cX2_init 113 = .ok (.putfield 50, 3) := by decide +kernel
theorem dX2_init_116 : decode cX2_init 116 = .ok (.aload_n 0, 1) := by decide +kernel
theorem dX2_init_117 : decode cX2_init 117 = .ok (.bipush 100, 2) := by decide +kernel
theorem dX2_init_119 : decode cX2_init 119 = .ok (.newarray .int, 2) := by decide +kernel
theorem dX2_init_121 : decode cX2_init 121 = .ok (.putfield 53, 3) := by decide +kernel
theorem dX2_init_124 : decode cX2_init 124 = .ok (.aload_n 0, 1) := by decide +kernel
theorem dX2_init_125 : decode cX2_init 125 = .ok (.bipush 100, 2) := by decide +kernel
theorem dX2_init_127 : decode cX2_init 127 = .ok (.newarray .int, 2) := by decide +kernel
theorem dX2_init_129 : decode cX2_init 129 = .ok (.putfield 56, 3) := by decide +kernel
theorem dX2_init_132 : decode cX2_init 132 = .ok (.aload_n 0, 1) := by decide +kernel
theorem dX2_init_133 : decode cX2_init 133 = .ok (.bipush 100, 2) := by decide +kernel
theorem dX2_init_135 : decode cX2_init 135 = .ok (.newarray .int, 2) := by decide +kernel
theorem dX2_init_137 : decode cX2_init 137 = .ok (.putfield 59, 3) := by decide +kernel
theorem dX2_init_140 : decode cX2_init 140 = .ok (.aload_n 0, 1) := by decide +kernel
theorem dX2_init_141 : decode cX2_init 141 = .ok (.bipush 40, 2) := by decide +kernel
theorem dX2_init_143 : decode cX2_init 143 = .ok (.newarray .int, 2) := by decide +kernel
theorem dX2_init_145 : decode cX2_init 145 = .ok (.putfield 62, 3) := by decide +kernel
theorem dX2_init_148 : decode cX2_init 148 = .ok (.aload_n 0, 1) := by decide +kernel
theorem dX2_init_149 : decode cX2_init 149 = .ok (.bipush 40, 2) := by decide +kernel
theorem dX2_init_151 : decode cX2_init 151 = .ok (.newarray .int, 2) := by decide +kernel
theorem dX2_init_153 : decode cX2_init 153 = .ok (.putfield 65, 3) := by decide +kernel
theorem dX2_init_156 : decode cX2_init 156 = .ok (.aload_n 0, 1) := by decide +kernel
theorem dX2_init_157 : decode cX2_init 157 = .ok (.bipush 40, 2) := by decide +kernel
theorem dX2_init_159 : decode cX2_init 159 = .ok (.newarray .int, 2) := by decide +kernel
theorem dX2_init_161 : decode cX2_init 161 = .ok (.putfield 68, 3) := by decide +kernel
theorem dX2_init_164 : decode cX2_init 164 = .ok (.aload_n 0, 1) := by decide +kernel
theorem dX2_init_165 : decode cX2_init 165 = .ok (.bipush 40, 2) := by decide +kernel
theorem dX2_init_167 : decode cX2_init 167 = .ok (.newarray .int, 2) := by decide +kernel
theorem dX2_init_169 : decode cX2_init 169 = .ok (.putfield 71, 3) := by decide +kernel
theorem dX2_init_172 : decode cX2_init 172 = .ok (.aload_n 0, 1) := by decide +kernel
theorem dX2_init_173 : decode cX2_init 173 = .ok (.bipush 20, 2) := by decide +kernel
theorem dX2_init_175 : decode cX2_init 175 = .ok (.newarray .int, 2) := by decide +kernel
theorem dX2_init_177 : decode cX2_init 177 = .ok (.putfield 74, 3) := by decide +kernel
theorem dX2_init_180 : decode cX2_init 180 = .ok (.aload_n 0, 1) := by decide +kernel
theorem dX2_init_181 : decode cX2_init 181 = .ok (.bipush 20, 2) := by decide +kernel
theorem dX2_init_183 : decode cX2_init 183 = .ok (.newarray .int, 2) := by decide +kernel
theorem dX2_init_185 : decode cX2_init 185 = .ok (.putfield 77, 3) := by decide +kernel
theorem dX2_init_188 : decode cX2_init 188 = .ok (.aload_n 0, 1) := by decide +kernel
theorem dX2_init_189 : decode cX2_init 189 = .ok (.bipush 20, 2) := by decide +kernel
theorem dX2_init_191 : decode cX2_init 191 = .ok (.newarray .int, 2) := by decide +kernel
theorem dX2_init_193 : decode cX2_init 193 = .ok (.putfield 80, 3) := by decide +kernel
theorem dX2_init_196 : decode cX2_init 196 = .ok (.aload_n 0, 1) := by decide +kernel
theorem dX2_init_197 : decode cX2_init 197 = .ok (.bipush 20, 2) := by decide +kernel
theorem dX2_init_199 : decode cX2_init 199 = .ok (.newarray .int, 2) := by decide +kernel
theorem dX2_init_201 : decode cX2_init 201 = .ok (.putfield 83, 3) := by decide +kernel
theorem dX2_init_204 : decode cX2_init 204 = .ok (.aload_n 0, 1) := by decide +kernel
theorem dX2_init_205 : decode cX2_init 205 = .ok (.bipush 40, 2) := by decide +kernel
theorem dX2_init_207 : decode cX2_init 207 = .ok (.newarray .int, 2) := by decide +kernel
theorem dX2_init_209 : decode cX2_init 209 = .ok (.putfield 86, 3) := by decide +kernel
theorem dX2_init_212 : decode cX2_init 212 = .ok (.aload_n 0, 1) := by decide +kernel
theorem dX2_init_213 : decode cX2_init 213 = .ok (.bipush 40, 2) := by decide +kernel
theorem dX2_init_215 : decode cX2_init 215 = .ok (.newarray .int, 2) := by decide +kernel
theorem dX2_init_217 : decode cX2_init 217 = .ok (.putfield 89, 3) := by decide +kernel
theorem dX2_init_220 : decode cX2_init 220 = .ok (.aload_n 0, 1) := by decide +kernel
theorem dX2_init_221 : decode cX2_init 221 = .ok (.bipush 40, 2) := by decide +kernel
theorem dX2_init_223 : decode cX2_init 223 = .ok (.newarray .int, 2) := by decide +kernel
theorem dX2_init_225 : decode cX2_init 225 = .ok (.putfield 92, 3) := by decide +kernel
theorem dX2_init_228 : decode cX2_init 228 = .ok (.aload_n 0, 1) := by decide +kernel
theorem dX2_init_229 : decode cX2_init 229 = .ok (.bipush 40, 2) := by decide +kernel
theorem dX2_init_231 : decode cX2_init 231 = .ok (.newarray .int, 2) := by decide +kernel
theorem dX2_init_233 : decode cX2_init 233 = .ok (.putfield 95, 3) := by decide +kernel
theorem dX2_init_236 : decode cX2_init 236 = .ok (.aload_n 0, 1) := by decide +kernel
theorem dX2_init_237 : decode cX2_init 237 = .ok (.bipush 30, 2) := by decide +kernel
theorem dX2_init_239 : decode cX2_init 239 = .ok (.newarray .int, 2) := by decide +kernel
theorem dX2_init_241 : decode cX2_init 241 = .ok (.putfield 98, 3) := by decide +kernel
theorem dX2_init_244 : decode cX2_init 244 = .ok (.aload_n 0, 1) := by decide +kernel
theorem dX2_init_245 : decode cX2_init 245 = .ok (.bipush 30, 2) := by decide +kernel
theorem dX2_init_247 : decode cX2_init 247 = .ok (.newarray .int, 2) := by decide +kernel
theorem dX2_init_249 : decode cX2_init 249 = .ok (.putfield 101, 3) := by decide +kernel
theorem dX2_init_252 : decode cX2_init 252 = .ok (.aload_n 0, 1) := by decide +kernel
theorem dX2_init_253 : decode cX2_init 253 = .ok (.bipush 30, 2) := by decide +kernel
theorem dX2_init_255 : decode cX2_init 255 = .ok (.newarray .int, 2) := by decide +kernel
theorem dX2_init_257 : decode cX2_init 257 = .ok (.putfield 104, 3) := by decide +kernel
theorem dX2_init_260 : decode cX2_init 260 = .ok (.aload_n 0, 1) := by decide +kernel
theorem dX2_init_261 : decode cX2_init 261 = .ok (.iconst 3, 1) := by decide +kernel
theorem dX2_init_262 : decode cX2_init 262 = .ok (.putfield 107, 3) := by decide +kernel
theorem dX2_init_265 : decode cX2_init 265 = .ok (.aload_n 0, 1) := by decide +kernel
theorem dX2_init_266 : decode cX2_init 266 = .ok (.bipush 8, 2) := by decide +kernel
theorem dX2_init_268 : decode cX2_init 268 = .ok (.putfield 111, 3) := by decide +kernel
theorem dX2_init_271 : decode cX2_init 271 = .ok (.aload_n 0, 1) := by decide +kernel
theorem dX2_init_272 : decode cX2_init 272 = .ok (.bipush 20, 2) := by decide +kernel
theorem dX2_init_274 : decode cX2_init 274 = .ok (.putfield 114, 3) := by decide +kernel
theorem dX2_init_277 : decode cX2_init 277 = .ok (.aload_n 0, 1) := by decide +kernel
theorem dX2_init_278 : decode cX2_init 278 = .ok (.iconst 3, 1) := by decide +kernel
theorem dX2_init_279 : decode cX2_init 279 = .ok (.newarray .int, 2) := by decide +kernel
theorem dX2_init_281 : decode cX2_init 281 = .ok (.dup, 1) := by decide +kernel
theorem dX2_init_282 : decode cX2_init 282 = .ok (.iconst 0, 1) := by decide +kernel
theorem dX2_init_283 : decode cX2_init 283 = .ok (.bipush 15, 2) := by decide +kernel
theorem dX2_init_285 : decode cX2_init 285 = .ok (.iastore, 1) := by decide +kernel
theorem dX2_init_286 : decode cX2_init 286 = .ok (.dup, 1) := by decide +kernel
theorem dX2_init_287 : decode cX2_init 287 = .ok (.iconst 1, 1) := by decide +kernel
theorem dX2_init_288 : decode cX2_init 288 = .ok (.bipush 15, 2) := by decide +kernel
theorem dX2_init_290 : decode cX2_init 290 = .ok (.iastore, 1) := by decide +kernel
theorem dX2_init_291 : decode cX2_init 291 = .ok (.dup, 1) := by decide +kernel
theorem dX2_init_292 : decode cX2_init 292 = .ok (.iconst 2, 1) := by decide +kernel
theorem dX2_init_293 : decode cX2_init 293 = .ok (.bipush 15, 2) := by decide +kernel
theorem dX2_init_295 : decode cX2_init 295 = .ok (.iastore, 1) := by decide +kernel
theorem dX2_init_296 : decode cX2_init 296 = .ok (.putfield 117, 3) := by decide +kernel
theorem dX2_init_299 : decode cX2_init 299 = .ok (.aload_n 0, 1) := by decide +kernel
theorem dX2_init_300 : decode cX2_init 300 = .ok (.bipush 24, 2) := by decide +kernel
theorem dX2_init_302 : decode cX2_init 302 = .ok (.newarray .boolean, 2) := by decide +kernel
theorem dX2_init_304 : decode cX2_init 304 = .ok (.putfield 120, 3) := by decide +kernel
theorem dX2_init_307 : decode cX2_init 307 = .ok (.aload_n 0, 1) := by decide +kernel
theorem dX2_init_308 : decode cX2_init 308 = .ok (.bipush 24, 2) := by decide +kernel
theorem dX2_init_310 : decode cX2_init 310 = .ok (.newarray .int, 2) := by decide +kernel
theorem dX2_init_312 : decode cX2_init 312 = .ok (.putfield 123, 3) := by decide +kernel
theorem dX2_init_315 : decode cX2_init 315 = .ok (.aload_n 0, 1) := by decide +kernel
theorem dX2_init_316 : decode cX2_init 316 = .ok (.bipush 96, 2) := by decide +kernel
theorem dX2_init_318 : decode cX2_init 318 = .ok (.newarray .boolean, 2) := by decide +kernel
theorem dX2_init_320 : decode cX2_init 320 = .ok (.putfield 126, 3) := by decide +kernel
theorem dX2_init_323 : decode cX2_init 323 = .ok (.aload_n 0, 1) := by decide +kernel
theorem dX2_init_324 : decode cX2_init 324 = .ok (.bipush 96, 2) := by decide +kernel
theorem dX2_init_326 : decode cX2_init 326 = .ok (.newarray .int, 2) := by decide +kernel
theorem dX2_init_328 : decode cX2_init 328 = .ok (.putfield 129, 3) := by decide +kernel
theorem dX2_init_331 : decode cX2_init 331 = .ok (.aload_n 0, 1) := by decide +kernel
theorem dX2_init_332 : decode cX2_init 332 = .ok (.bipush 96, 2) := by decide +kernel
theorem dX2_init_334 : decode cX2_init 334 = .ok (.newarray .int, 2) := by decide +kernel
theorem dX2_init_336 : decode cX2_init 336 = .ok (.putfield 132, 3) := by decide +kernel
theorem dX2_init_339 : decode cX2_init 339 = .ok (.aload_n 0, 1) := by decide +kernel
theorem dX2_init_340 : decode cX2_init 340 = .ok (.bipush 96, 2) := by decide +kernel
theorem dX2_init_342 : decode cX2_init 342 = .ok (.newarray .int, 2) := by decide +kernel
theorem dX2_init_344 : decode cX2_init 344 = .ok (.putfield 135, 3) := by decide +kernel
theorem dX2_init_347 : decode cX2_init 347 = .ok (.aload_n 0, 1) := by decide +kernel
theorem dX2_init_348 : decode cX2_init 348 = .ok (.sipush 300, 3) := by decide +kernel
theorem dX2_init_351 : decode cX2_init 351 = .ok (.newarray .byte, 2) := by decide +kernel
theorem dX2_init_353 : decode cX2_init 353 = .ok (.putfield 138, 3) := by decide +kernel
theorem dX2_init_356 : decode cX2_init 356 = .ok (.aload_n 0, 1) := by decide +kernel
theorem dX2_init_357 : decode cX2_init 357 = .ok (.iconst (-1), 1) := by decide +kernel
theorem dX2_init_358 : decode cX2_init 358 = .ok (.putfield 142, 3) := by decide +kernel
theorem dX2_init_361 : decode cX2_init 361 = .ok (.aload_n 0, 1) := by decide +kernel
theorem dX2_init_362 : decode cX2_init 362 = .ok (.iconst 5, 1) := by decide +kernel
theorem dX2_init_363 : decode cX2_init 363 = .ok (.newarray .int, 2) := by decide +kernel
theorem dX2_init_365 : decode cX2_init 365 = .ok (.putfield 145, 3) := by decide +kernel
theorem dX2_init_368 : decode cX2_init 368 = .ok (.aload_n 0, 1) := by decide +kernel
theorem dX2_init_369 : decode cX2_init 369 = .ok (.iconst 5, 1) := by decide +kernel
theorem dX2_init_370 : decode cX2_init 370 = .ok (.newarray .int, 2) := by decide +kernel
theorem dX2_init_372 : decode cX2_init 372 = .ok (.putfield 148, 3) := by decide +kernel
theorem dX2_init_375 : decode cX2_init 375 = .ok (.aload_n 0, 1) := by decide +kernel
theorem dX2_init_376 : decode cX2_init 376 = .ok (.iconst 5, 1) := by decide +kernel
theorem dX2_init_377 : decode cX2_init 377 = .ok (.newarray .boolean, 2) := by decide +kernel
theorem dX2_init_379 : decode cX2_init 379 = .ok (.putfield 151, 3) := by decide +kernel
theorem dX2_init_382 : decode cX2_init 382 = .ok (.aload_n 0, 1) := by decide +kernel
theorem dX2_init_383 : decode cX2_init 383 = .ok (.bipush 25, 2) := by decide +kernel
theorem dX2_init_385 : decode cX2_init 385 = .ok (.newarray .int, 2) := by decide +kernel
theorem dX2_init_387 : decode cX2_init 387 = .ok (.putfield 154, 3) := by decide +kernel
theorem dX2_init_390 : decode cX2_init 390 = .ok (.aload_n 0, 1) := by decide +kernel
theorem dX2_init_391 : decode cX2_init 391 = .ok (.sipush 240, 3) := by decide +kernel
theorem dX2_init_394 : decode cX2_init 394 = .ok (.newarray .int, 2) := by decide +kernel
theorem dX2_init_396 : decode cX2_init 396 = .ok (.putfield 157, 3) := by decide +kernel
theorem dX2_init_399 : decode cX2_init 399 = .ok (.aload_n 0, 1) := by decide +kernel
theorem dX2_init_400 : decode cX2_init 400 = .ok (.sipush 240, 3) := by decide +kernel
theorem dX2_init_403 : decode cX2_init 403 = .ok (.newarray .int, 2) := by decide +kernel
theorem dX2_init_405 : decode cX2_init 405 = .ok (.putfield 160, 3) := by decide +kernel
theorem dX2_init_408 : decode cX2_init 408 = .ok (.aload_n 0, 1) := by decide +kernel
theorem dX2_init_409 : decode cX2_init 409 = .ok (.sipush 240, 3) := by decide +kernel
theorem dX2_init_412 : decode cX2_init 412 = .ok (.newarray .int, 2) := by decide +kernel
theorem dX2_init_414 : decode cX2_init 414 = .ok (.putfield 163, 3) := by decide +kernel
theorem dX2_init_417 : decode cX2_init 417 = .ok (.aload_n 0, 1) := by decide +kernel
theorem dX2_init_418 : decode cX2_init 418 = .ok (.sipush 240, 3) := by decide +kernel
theorem dX2_init_421 : decode cX2_init 421 = .ok (.newarray .boolean, 2) := by decide +kernel
theorem dX2_init_423 : decode cX2_init 423 = .ok (.putfield 166, 3) := by decide +kernel
theorem dX2_init_426 : decode cX2_init 426 = .ok (.aload_n 0, 1) := by decide +kernel
theorem dX2_init_427 : decode cX2_init 427 = .ok (.sipush 801, 3) := by decide +kernel
theorem dX2_init_430 : decode cX2_init 430 = .ok (.newarray .int, 2) := by decide +kernel
theorem dX2_init_432 : decode cX2_init 432 = .ok (.putfield 169, 3) := by decide +kernel
theorem dX2_init_435 : decode cX2_init 435 = .ok (.aload_n 0, 1) := by decide +kernel
theorem dX2_init_436 : decode cX2_init 436 = .ok (.sipush 801, 3) := by decide +kernel
theorem dX2_init_439 : decode cX2_init 439 = .ok (.newarray .int, 2) := by decide +kernel
theorem dX2_init_441 : decode cX2_init 441 = .ok (.putfield 172, 3) := by decide +kernel
theorem dX2_init_444 : decode cX2_init 444 = .ok (.aload_n 0, 1) := by decide +kernel
theorem dX2_init_445 : decode cX2_init 445 = .ok (.bipush 14, 2) := by decide +kernel
theorem dX2_init_447 : decode cX2_init 447 = .ok (.newarray .int, 2) := by decide +kernel
theorem dX2_init_449 : decode cX2_init 449 = .ok (.putfield 175, 3) := by decide +kernel
theorem dX2_init_452 : decode cX2_init 452 = .ok (.aload_n 0, 1) := by decide +kernel
theorem dX2_init_453 : decode cX2_init 453 = .ok (.bipush 14, 2) := by decide +kernel
theorem dX2_init_455 : decode cX2_init 455 = .ok (.newarray .int, 2) := by decide +kernel
theorem dX2_init_457 : decode cX2_init 457 = .ok (.putfield 178, 3) := by decide +kernel
theorem dX2_init_460 : decode cX2_init 460 = .ok (.aload_n 0, 1) := by decide +kernel
theorem dX2_init_461 : decode cX2_init 461 = .ok (.bipush 14, 2) := by decide +kernel
theorem dX2_init_463 : decode cX2_init 463 = .ok (.newarray .int, 2) := by decide +kernel
theorem dX2_init_465 : decode cX2_init 465 = .ok (.putfield 181, 3) := by decide +kernel
theorem dX2_init_468 : decode cX2_init 468 = .ok (.aload_n 0, 1) := by decide +kernel
theorem dX2_init_469 : decode cX2_init 469 = .ok (.bipush 120, 2) := by decide +kernel
theorem dX2_init_471 : decode cX2_init 471 = .ok (.newarray .int, 2) := by decide +kernel
theorem dX2_init_473 : decode cX2_init 473 = .ok (.putfield 184, 3) := by decide +kernel
theorem dX2_init_476 : decode cX2_init 476 = .ok (.return_, 1) := by decide +kernel
def fn_X2_init (N : Nat) (x0 : Nat) (Ω : zo_O) : Option zo_R :=
  gd (¬ (14 : Int32) < 0 ∧ ((14 : Int32)).toNatClampNeg ≤ 65536) <| ad 1 ((14 : Int32)).toNatClampNeg <| lt (nw Ω 32 ((14 : Int32)).toNatClampNeg) fun Ω1 =>
  lt (sR Ω1 1 x0 3 (some (32, gC Ω 32))) fun Ω2 =>
  gd (¬ (14 : Int32) < 0 ∧ ((14 : Int32)).toNatClampNeg ≤ 65536) <| ad 1 ((14 : Int32)).toNatClampNeg <| lt (nw Ω2 32 ((14 : Int32)).toNatClampNeg) fun Ω3 =>
  lt (sR Ω3 1 x0 4 (some (32, gC Ω2 32))) fun Ω4 =>
  gd (¬ (14 : Int32) < 0 ∧ ((14 : Int32)).toNatClampNeg ≤ 65536) <| ad 1 ((14 : Int32)).toNatClampNeg <| lt (nw Ω4 32 ((14 : Int32)).toNatClampNeg) fun Ω5 =>
  lt (sR Ω5 1 x0 5 (some (32, gC Ω4 32))) fun Ω6 =>
  gd (¬ (14 : Int32) < 0 ∧ ((14 : Int32)).toNatClampNeg ≤ 65536) <| ad 1 ((14 : Int32)).toNatClampNeg <| lt (nw Ω6 32 ((14 : Int32)).toNatClampNeg) fun Ω7 =>
  lt (sR Ω7 1 x0 6 (some (32, gC Ω6 32))) fun Ω8 =>
  gd (¬ (14 : Int32) < 0 ∧ ((14 : Int32)).toNatClampNeg ≤ 65536) <| ad 1 ((14 : Int32)).toNatClampNeg <| lt (nw Ω8 32 ((14 : Int32)).toNatClampNeg) fun Ω9 =>
  lt (sR Ω9 1 x0 7 (some (32, gC Ω8 32))) fun Ω10 =>
  gd (¬ (120 : Int32) < 0 ∧ ((120 : Int32)).toNatClampNeg ≤ 65536) <| ad 1 ((120 : Int32)).toNatClampNeg <| lt (nw Ω10 32 ((120 : Int32)).toNatClampNeg) fun Ω11 =>
  lt (sR Ω11 1 x0 9 (some (32, gC Ω10 32))) fun Ω12 =>
  gd (¬ (120 : Int32) < 0 ∧ ((120 : Int32)).toNatClampNeg ≤ 65536) <| ad 1 ((120 : Int32)).toNatClampNeg <| lt (nw Ω12 32 ((120 : Int32)).toNatClampNeg) fun Ω13 =>
  lt (sR Ω13 1 x0 10 (some (32, gC Ω12 32))) fun Ω14 =>
  gd (¬ (120 : Int32) < 0 ∧ ((120 : Int32)).toNatClampNeg ≤ 65536) <| ad 1 ((120 : Int32)).toNatClampNeg <| lt (nw Ω14 32 ((120 : Int32)).toNatClampNeg) fun Ω15 =>
  lt (sR Ω15 1 x0 11 (some (32, gC Ω14 32))) fun Ω16 =>
  gd (¬ (120 : Int32) < 0 ∧ ((120 : Int32)).toNatClampNeg ≤ 65536) <| ad 1 ((120 : Int32)).toNatClampNeg <| lt (nw Ω16 32 ((120 : Int32)).toNatClampNeg) fun Ω17 =>
  lt (sR Ω17 1 x0 12 (some (32, gC Ω16 32))) fun Ω18 =>
  gd (¬ (120 : Int32) < 0 ∧ ((120 : Int32)).toNatClampNeg ≤ 65536) <| ad 1 ((120 : Int32)).toNatClampNeg <| lt (nw Ω18 32 ((120 : Int32)).toNatClampNeg) fun Ω19 =>
  lt (sR Ω19 1 x0 13 (some (32, gC Ω18 32))) fun Ω20 =>
  gd (¬ (120 : Int32) < 0 ∧ ((120 : Int32)).toNatClampNeg ≤ 65536) <| ad 1 ((120 : Int32)).toNatClampNeg <| lt (nw Ω20 32 ((120 : Int32)).toNatClampNeg) fun Ω21 =>
  lt (sR Ω21 1 x0 14 (some (32, gC Ω20 32))) fun Ω22 =>
  gd (¬ (120 : Int32) < 0 ∧ ((120 : Int32)).toNatClampNeg ≤ 65536) <| ad 1 ((120 : Int32)).toNatClampNeg <| lt (nw Ω22 33 ((120 : Int32)).toNatClampNeg) fun Ω23 =>
  lt (sR Ω23 1 x0 15 (some (33, gC Ω22 33))) fun Ω24 =>
  gd (¬ (120 : Int32) < 0 ∧ ((120 : Int32)).toNatClampNeg ≤ 65536) <| ad 1 ((120 : Int32)).toNatClampNeg <| lt (nw Ω24 32 ((120 : Int32)).toNatClampNeg) fun Ω25 =>
  lt (sR Ω25 1 x0 16 (some (32, gC Ω24 32))) fun Ω26 =>
  gd (¬ (100 : Int32) < 0 ∧ ((100 : Int32)).toNatClampNeg ≤ 65536) <| ad 1 ((100 : Int32)).toNatClampNeg <| lt (nw Ω26 32 ((100 : Int32)).toNatClampNeg) fun Ω27 =>
  lt (sR Ω27 1 x0 18 (some (32, gC Ω26 32))) fun Ω28 =>
  gd (¬ (100 : Int32) < 0 ∧ ((100 : Int32)).toNatClampNeg ≤ 65536) <| ad 1 ((100 : Int32)).toNatClampNeg <| lt (nw Ω28 32 ((100 : Int32)).toNatClampNeg) fun Ω29 =>
  lt (sR Ω29 1 x0 19 (some (32, gC Ω28 32))) fun Ω30 =>
  gd (¬ (100 : Int32) < 0 ∧ ((100 : Int32)).toNatClampNeg ≤ 65536) <| ad 1 ((100 : Int32)).toNatClampNeg <| lt (nw Ω30 32 ((100 : Int32)).toNatClampNeg) fun Ω31 =>
  lt (sR Ω31 1 x0 20 (some (32, gC Ω30 32))) fun Ω32 =>
  gd (¬ (100 : Int32) < 0 ∧ ((100 : Int32)).toNatClampNeg ≤ 65536) <| ad 1 ((100 : Int32)).toNatClampNeg <| lt (nw Ω32 32 ((100 : Int32)).toNatClampNeg) fun Ω33 =>
  lt (sR Ω33 1 x0 21 (some (32, gC Ω32 32))) fun Ω34 =>
  gd (¬ (40 : Int32) < 0 ∧ ((40 : Int32)).toNatClampNeg ≤ 65536) <| ad 1 ((40 : Int32)).toNatClampNeg <| lt (nw Ω34 32 ((40 : Int32)).toNatClampNeg) fun Ω35 =>
  lt (sR Ω35 1 x0 23 (some (32, gC Ω34 32))) fun Ω36 =>
  gd (¬ (40 : Int32) < 0 ∧ ((40 : Int32)).toNatClampNeg ≤ 65536) <| ad 1 ((40 : Int32)).toNatClampNeg <| lt (nw Ω36 32 ((40 : Int32)).toNatClampNeg) fun Ω37 =>
  lt (sR Ω37 1 x0 24 (some (32, gC Ω36 32))) fun Ω38 =>
  gd (¬ (40 : Int32) < 0 ∧ ((40 : Int32)).toNatClampNeg ≤ 65536) <| ad 1 ((40 : Int32)).toNatClampNeg <| lt (nw Ω38 32 ((40 : Int32)).toNatClampNeg) fun Ω39 =>
  lt (sR Ω39 1 x0 25 (some (32, gC Ω38 32))) fun Ω40 =>
  gd (¬ (40 : Int32) < 0 ∧ ((40 : Int32)).toNatClampNeg ≤ 65536) <| ad 1 ((40 : Int32)).toNatClampNeg <| lt (nw Ω40 32 ((40 : Int32)).toNatClampNeg) fun Ω41 =>
  lt (sR Ω41 1 x0 26 (some (32, gC Ω40 32))) fun Ω42 =>
  gd (¬ (20 : Int32) < 0 ∧ ((20 : Int32)).toNatClampNeg ≤ 65536) <| ad 1 ((20 : Int32)).toNatClampNeg <| lt (nw Ω42 32 ((20 : Int32)).toNatClampNeg) fun Ω43 =>
  lt (sR Ω43 1 x0 28 (some (32, gC Ω42 32))) fun Ω44 =>
  gd (¬ (20 : Int32) < 0 ∧ ((20 : Int32)).toNatClampNeg ≤ 65536) <| ad 1 ((20 : Int32)).toNatClampNeg <| lt (nw Ω44 32 ((20 : Int32)).toNatClampNeg) fun Ω45 =>
  lt (sR Ω45 1 x0 29 (some (32, gC Ω44 32))) fun Ω46 =>
  gd (¬ (20 : Int32) < 0 ∧ ((20 : Int32)).toNatClampNeg ≤ 65536) <| ad 1 ((20 : Int32)).toNatClampNeg <| lt (nw Ω46 32 ((20 : Int32)).toNatClampNeg) fun Ω47 =>
  lt (sR Ω47 1 x0 30 (some (32, gC Ω46 32))) fun Ω48 =>
  gd (¬ (20 : Int32) < 0 ∧ ((20 : Int32)).toNatClampNeg ≤ 65536) <| ad 1 ((20 : Int32)).toNatClampNeg <| lt (nw Ω48 32 ((20 : Int32)).toNatClampNeg) fun Ω49 =>
  lt (sR Ω49 1 x0 31 (some (32, gC Ω48 32))) fun Ω50 =>
  gd (¬ (40 : Int32) < 0 ∧ ((40 : Int32)).toNatClampNeg ≤ 65536) <| ad 1 ((40 : Int32)).toNatClampNeg <| lt (nw Ω50 32 ((40 : Int32)).toNatClampNeg) fun Ω51 =>
  lt (sR Ω51 1 x0 33 (some (32, gC Ω50 32))) fun Ω52 =>
  gd (¬ (40 : Int32) < 0 ∧ ((40 : Int32)).toNatClampNeg ≤ 65536) <| ad 1 ((40 : Int32)).toNatClampNeg <| lt (nw Ω52 32 ((40 : Int32)).toNatClampNeg) fun Ω53 =>
  lt (sR Ω53 1 x0 34 (some (32, gC Ω52 32))) fun Ω54 =>
  gd (¬ (40 : Int32) < 0 ∧ ((40 : Int32)).toNatClampNeg ≤ 65536) <| ad 1 ((40 : Int32)).toNatClampNeg <| lt (nw Ω54 32 ((40 : Int32)).toNatClampNeg) fun Ω55 =>
  lt (sR Ω55 1 x0 35 (some (32, gC Ω54 32))) fun Ω56 =>
  gd (¬ (40 : Int32) < 0 ∧ ((40 : Int32)).toNatClampNeg ≤ 65536) <| ad 1 ((40 : Int32)).toNatClampNeg <| lt (nw Ω56 32 ((40 : Int32)).toNatClampNeg) fun Ω57 =>
  lt (sR Ω57 1 x0 36 (some (32, gC Ω56 32))) fun Ω58 =>
  gd (¬ (30 : Int32) < 0 ∧ ((30 : Int32)).toNatClampNeg ≤ 65536) <| ad 1 ((30 : Int32)).toNatClampNeg <| lt (nw Ω58 32 ((30 : Int32)).toNatClampNeg) fun Ω59 =>
  lt (sR Ω59 1 x0 38 (some (32, gC Ω58 32))) fun Ω60 =>
  gd (¬ (30 : Int32) < 0 ∧ ((30 : Int32)).toNatClampNeg ≤ 65536) <| ad 1 ((30 : Int32)).toNatClampNeg <| lt (nw Ω60 32 ((30 : Int32)).toNatClampNeg) fun Ω61 =>
  lt (sR Ω61 1 x0 39 (some (32, gC Ω60 32))) fun Ω62 =>
  gd (¬ (30 : Int32) < 0 ∧ ((30 : Int32)).toNatClampNeg ≤ 65536) <| ad 1 ((30 : Int32)).toNatClampNeg <| lt (nw Ω62 32 ((30 : Int32)).toNatClampNeg) fun Ω63 =>
  lt (sR Ω63 1 x0 40 (some (32, gC Ω62 32))) fun Ω64 =>
  lt (sI Ω64 1 x0 41 3) fun Ω65 =>
  lt (sI Ω65 1 x0 42 8) fun Ω66 =>
  lt (sI Ω66 1 x0 43 20) fun Ω67 =>
  gd (¬ (3 : Int32) < 0 ∧ ((3 : Int32)).toNatClampNeg ≤ 65536) <| ad 1 ((3 : Int32)).toNatClampNeg <| lt (nw Ω67 32 ((3 : Int32)).toNatClampNeg) fun Ω68 =>
  ix 0 (gL Ω68 32 (gC Ω67 32)) fun j69 => lt (sI Ω68 32 (gC Ω67 32) j69 15) fun Ω70 =>
  ix 1 (gL Ω70 32 (gC Ω67 32)) fun j71 => lt (sI Ω70 32 (gC Ω67 32) j71 15) fun Ω72 =>
  ix 2 (gL Ω72 32 (gC Ω67 32)) fun j73 => lt (sI Ω72 32 (gC Ω67 32) j73 15) fun Ω74 =>
  lt (sR Ω74 1 x0 44 (some (32, gC Ω67 32))) fun Ω75 =>
  gd (¬ (24 : Int32) < 0 ∧ ((24 : Int32)).toNatClampNeg ≤ 65536) <| ad 1 ((24 : Int32)).toNatClampNeg <| lt (nw Ω75 33 ((24 : Int32)).toNatClampNeg) fun Ω76 =>
  lt (sR Ω76 1 x0 47 (some (33, gC Ω75 33))) fun Ω77 =>
  gd (¬ (24 : Int32) < 0 ∧ ((24 : Int32)).toNatClampNeg ≤ 65536) <| ad 1 ((24 : Int32)).toNatClampNeg <| lt (nw Ω77 32 ((24 : Int32)).toNatClampNeg) fun Ω78 =>
  lt (sR Ω78 1 x0 48 (some (32, gC Ω77 32))) fun Ω79 =>
  gd (¬ (96 : Int32) < 0 ∧ ((96 : Int32)).toNatClampNeg ≤ 65536) <| ad 1 ((96 : Int32)).toNatClampNeg <| lt (nw Ω79 33 ((96 : Int32)).toNatClampNeg) fun Ω80 =>
  lt (sR Ω80 1 x0 49 (some (33, gC Ω79 33))) fun Ω81 =>
  gd (¬ (96 : Int32) < 0 ∧ ((96 : Int32)).toNatClampNeg ≤ 65536) <| ad 1 ((96 : Int32)).toNatClampNeg <| lt (nw Ω81 32 ((96 : Int32)).toNatClampNeg) fun Ω82 =>
  lt (sR Ω82 1 x0 50 (some (32, gC Ω81 32))) fun Ω83 =>
  gd (¬ (96 : Int32) < 0 ∧ ((96 : Int32)).toNatClampNeg ≤ 65536) <| ad 1 ((96 : Int32)).toNatClampNeg <| lt (nw Ω83 32 ((96 : Int32)).toNatClampNeg) fun Ω84 =>
  lt (sR Ω84 1 x0 51 (some (32, gC Ω83 32))) fun Ω85 =>
  gd (¬ (96 : Int32) < 0 ∧ ((96 : Int32)).toNatClampNeg ≤ 65536) <| ad 1 ((96 : Int32)).toNatClampNeg <| lt (nw Ω85 32 ((96 : Int32)).toNatClampNeg) fun Ω86 =>
  lt (sR Ω86 1 x0 52 (some (32, gC Ω85 32))) fun Ω87 =>
  gd (¬ (300 : Int32) < 0 ∧ ((300 : Int32)).toNatClampNeg ≤ 65536) <| ad 1 ((300 : Int32)).toNatClampNeg <| lt (nw Ω87 34 ((300 : Int32)).toNatClampNeg) fun Ω88 =>
  lt (sR Ω88 1 x0 53 (some (34, gC Ω87 34))) fun Ω89 =>
  lt (sI Ω89 1 x0 56 ((-1))) fun Ω90 =>
  gd (¬ (5 : Int32) < 0 ∧ ((5 : Int32)).toNatClampNeg ≤ 65536) <| ad 1 ((5 : Int32)).toNatClampNeg <| lt (nw Ω90 32 ((5 : Int32)).toNatClampNeg) fun Ω91 =>
  lt (sR Ω91 1 x0 61 (some (32, gC Ω90 32))) fun Ω92 =>
  gd (¬ (5 : Int32) < 0 ∧ ((5 : Int32)).toNatClampNeg ≤ 65536) <| ad 1 ((5 : Int32)).toNatClampNeg <| lt (nw Ω92 32 ((5 : Int32)).toNatClampNeg) fun Ω93 =>
  lt (sR Ω93 1 x0 62 (some (32, gC Ω92 32))) fun Ω94 =>
  gd (¬ (5 : Int32) < 0 ∧ ((5 : Int32)).toNatClampNeg ≤ 65536) <| ad 1 ((5 : Int32)).toNatClampNeg <| lt (nw Ω94 33 ((5 : Int32)).toNatClampNeg) fun Ω95 =>
  lt (sR Ω95 1 x0 63 (some (33, gC Ω94 33))) fun Ω96 =>
  gd (¬ (25 : Int32) < 0 ∧ ((25 : Int32)).toNatClampNeg ≤ 65536) <| ad 1 ((25 : Int32)).toNatClampNeg <| lt (nw Ω96 32 ((25 : Int32)).toNatClampNeg) fun Ω97 =>
  lt (sR Ω97 1 x0 64 (some (32, gC Ω96 32))) fun Ω98 =>
  gd (¬ (240 : Int32) < 0 ∧ ((240 : Int32)).toNatClampNeg ≤ 65536) <| ad 1 ((240 : Int32)).toNatClampNeg <| lt (nw Ω98 32 ((240 : Int32)).toNatClampNeg) fun Ω99 =>
  lt (sR Ω99 1 x0 69 (some (32, gC Ω98 32))) fun Ω100 =>
  gd (¬ (240 : Int32) < 0 ∧ ((240 : Int32)).toNatClampNeg ≤ 65536) <| ad 1 ((240 : Int32)).toNatClampNeg <| lt (nw Ω100 32 ((240 : Int32)).toNatClampNeg) fun Ω101 =>
  lt (sR Ω101 1 x0 70 (some (32, gC Ω100 32))) fun Ω102 =>
  gd (¬ (240 : Int32) < 0 ∧ ((240 : Int32)).toNatClampNeg ≤ 65536) <| ad 1 ((240 : Int32)).toNatClampNeg <| lt (nw Ω102 32 ((240 : Int32)).toNatClampNeg) fun Ω103 =>
  lt (sR Ω103 1 x0 71 (some (32, gC Ω102 32))) fun Ω104 =>
  gd (¬ (240 : Int32) < 0 ∧ ((240 : Int32)).toNatClampNeg ≤ 65536) <| ad 1 ((240 : Int32)).toNatClampNeg <| lt (nw Ω104 33 ((240 : Int32)).toNatClampNeg) fun Ω105 =>
  lt (sR Ω105 1 x0 72 (some (33, gC Ω104 33))) fun Ω106 =>
  gd (¬ (801 : Int32) < 0 ∧ ((801 : Int32)).toNatClampNeg ≤ 65536) <| ad 1 ((801 : Int32)).toNatClampNeg <| lt (nw Ω106 32 ((801 : Int32)).toNatClampNeg) fun Ω107 =>
  lt (sR Ω107 1 x0 74 (some (32, gC Ω106 32))) fun Ω108 =>
  gd (¬ (801 : Int32) < 0 ∧ ((801 : Int32)).toNatClampNeg ≤ 65536) <| ad 1 ((801 : Int32)).toNatClampNeg <| lt (nw Ω108 32 ((801 : Int32)).toNatClampNeg) fun Ω109 =>
  lt (sR Ω109 1 x0 75 (some (32, gC Ω108 32))) fun Ω110 =>
  gd (¬ (14 : Int32) < 0 ∧ ((14 : Int32)).toNatClampNeg ≤ 65536) <| ad 1 ((14 : Int32)).toNatClampNeg <| lt (nw Ω110 32 ((14 : Int32)).toNatClampNeg) fun Ω111 =>
  lt (sR Ω111 1 x0 76 (some (32, gC Ω110 32))) fun Ω112 =>
  gd (¬ (14 : Int32) < 0 ∧ ((14 : Int32)).toNatClampNeg ≤ 65536) <| ad 1 ((14 : Int32)).toNatClampNeg <| lt (nw Ω112 32 ((14 : Int32)).toNatClampNeg) fun Ω113 =>
  lt (sR Ω113 1 x0 77 (some (32, gC Ω112 32))) fun Ω114 =>
  gd (¬ (14 : Int32) < 0 ∧ ((14 : Int32)).toNatClampNeg ≤ 65536) <| ad 1 ((14 : Int32)).toNatClampNeg <| lt (nw Ω114 32 ((14 : Int32)).toNatClampNeg) fun Ω115 =>
  lt (sR Ω115 1 x0 78 (some (32, gC Ω114 32))) fun Ω116 =>
  gd (¬ (120 : Int32) < 0 ∧ ((120 : Int32)).toNatClampNeg ≤ 65536) <| ad 1 ((120 : Int32)).toNatClampNeg <| lt (nw Ω116 32 ((120 : Int32)).toNatClampNeg) fun Ω117 =>
  lt (sR Ω117 1 x0 79 (some (32, gC Ω116 32))) fun Ω118 =>
  rV Ω118
theorem mt_X2_init {G : zo_G} {J : zo_O → Prop} (hJ : zo_JC J) (hJ0 : ∀ Ω, J Ω) (N : Nat) (x0 : Nat) (Ω : zo_O) (res : zo_R) (h : fn_X2_init N x0 Ω = some res) : zo_MT G J yX2_init cX2_init 1 (Option.none : Option Jvm.ClassFile.FieldType) 1 [vr 1 x0] Ω res := by
  refine zo_enter (by decide) rfl (Nat.le_of_ble_eq_true rfl) (fun Y hY eJ hr hmn => ?_)
  subst eJ
  have hmn := hmn rfl
  show TW Y res Ω 0 [(0, vr 1 x0)] []
  unfold fn_X2_init at h
  refine zo_aload_n hY dX2_init_0 rfl 0 rfl ?_
  refine zo_oini hY (by decide) q1270 (fun ρ => zo_room8 (Nat.le_of_ble_eq_true rfl)) dX2_init_1 ?_
  refine zo_aload_n hY dX2_init_4 rfl 0 rfl ?_
  refine zo_bipush hY 14 (by decide) dX2_init_5 ?_
  refine zo_newa hY hJ (k := 32) (aty := .int) (by decide) rfl rfl (Or.inr (fun _ _ _ => hJ0 _)) q233 dX2_init_7 h (fun Ω1 res h => ?_)
  refine zo_putR hY hJ LX2_7_1 rfl (Or.inr (fun _ _ _ => hJ0 _)) (Or.inr ⟨rfl, hmn, rfl, _, q1274, Or.inl rfl⟩) dX2_init_9 h (fun Ω2 h => ?_)
  refine zo_aload_n hY dX2_init_12 rfl 0 rfl ?_
  refine zo_bipush hY 14 (by decide) dX2_init_13 ?_
  refine zo_newa hY hJ (k := 32) (aty := .int) (by decide) rfl rfl (Or.inr (fun _ _ _ => hJ0 _)) q233 dX2_init_15 h (fun Ω3 res h => ?_)
  refine zo_putR hY hJ LX2_13_1 rfl (Or.inr (fun _ _ _ => hJ0 _)) (Or.inr ⟨rfl, hmn, rfl, _, q1275, Or.inl rfl⟩) dX2_init_17 h (fun Ω4 h => ?_)
  refine zo_aload_n hY dX2_init_20 rfl 0 rfl ?_
  refine zo_bipush hY 14 (by decide) dX2_init_21 ?_
  refine zo_newa hY hJ (k := 32) (aty := .int) (by decide) rfl rfl (Or.inr (fun _ _ _ => hJ0 _)) q233 dX2_init_23 h (fun Ω5 res h => ?_)
  refine zo_putR hY hJ LX2_16_1 rfl (Or.inr (fun _ _ _ => hJ0 _)) (Or.inr ⟨rfl, hmn, rfl, _, q1276, Or.inl rfl⟩) dX2_init_25 h (fun Ω6 h => ?_)
  refine zo_aload_n hY dX2_init_28 rfl 0 rfl ?_
  refine zo_bipush hY 14 (by decide) dX2_init_29 ?_
  refine zo_newa hY hJ (k := 32) (aty := .int) (by decide) rfl rfl (Or.inr (fun _ _ _ => hJ0 _)) q233 dX2_init_31 h (fun Ω7 res h => ?_)
  refine zo_putR hY hJ LX2_19_1 rfl (Or.inr (fun _ _ _ => hJ0 _)) (Or.inr ⟨rfl, hmn, rfl, _, q1277, Or.inl rfl⟩) dX2_init_33 h (fun Ω8 h => ?_)
  refine zo_aload_n hY dX2_init_36 rfl 0 rfl ?_
  refine zo_bipush hY 14 (by decide) dX2_init_37 ?_
  refine zo_newa hY hJ (k := 32) (aty := .int) (by decide) rfl rfl (Or.inr (fun _ _ _ => hJ0 _)) q233 dX2_init_39 h (fun Ω9 res h => ?_)
  refine zo_putR hY hJ LX2_22_1 rfl (Or.inr (fun _ _ _ => hJ0 _)) (Or.inr ⟨rfl, hmn, rfl, _, q1278, Or.inl rfl⟩) dX2_init_41 h (fun Ω10 h => ?_)
  refine zo_aload_n hY dX2_init_44 rfl 0 rfl ?_
  refine zo_bipush hY 120 (by decide) dX2_init_45 ?_
  refine zo_newa hY hJ (k := 32) (aty := .int) (by decide) rfl rfl (Or.inr (fun _ _ _ => hJ0 _)) q233 dX2_init_47 h (fun Ω11 res h => ?_)
  refine zo_putR hY hJ LX2_25_1 rfl (Or.inr (fun _ _ _ => hJ0 _)) (Or.inr ⟨rfl, hmn, rfl, _, q1280, Or.inl rfl⟩) dX2_init_49 h (fun Ω12 h => ?_)
  refine zo_aload_n hY dX2_init_52 rfl 0 rfl ?_
  refine zo_bipush hY 120 (by decide) dX2_init_53 ?_
  refine zo_newa hY hJ (k := 32) (aty := .int) (by decide) rfl rfl (Or.inr (fun _ _ _ => hJ0 _)) q233 dX2_init_55 h (fun Ω13 res h => ?_)
  refine zo_putR hY hJ LX2_28_1 rfl (Or.inr (fun _ _ _ => hJ0 _)) (Or.inr ⟨rfl, hmn, rfl, _, q1281, Or.inl rfl⟩) dX2_init_57 h (fun Ω14 h => ?_)
  refine zo_aload_n hY dX2_init_60 rfl 0 rfl ?_
  refine zo_bipush hY 120 (by decide) dX2_init_61 ?_
  refine zo_newa hY hJ (k := 32) (aty := .int) (by decide) rfl rfl (Or.inr (fun _ _ _ => hJ0 _)) q233 dX2_init_63 h (fun Ω15 res h => ?_)
  refine zo_putR hY hJ LX2_31_1 rfl (Or.inr (fun _ _ _ => hJ0 _)) (Or.inr ⟨rfl, hmn, rfl, _, q1282, Or.inl rfl⟩) dX2_init_65 h (fun Ω16 h => ?_)
  refine zo_aload_n hY dX2_init_68 rfl 0 rfl ?_
  refine zo_bipush hY 120 (by decide) dX2_init_69 ?_
  refine zo_newa hY hJ (k := 32) (aty := .int) (by decide) rfl rfl (Or.inr (fun _ _ _ => hJ0 _)) q233 dX2_init_71 h (fun Ω17 res h => ?_)
  refine zo_putR hY hJ LX2_34_1 rfl (Or.inr (fun _ _ _ => hJ0 _)) (Or.inr ⟨rfl, hmn, rfl, _, q1283, Or.inl rfl⟩) dX2_init_73 h (fun Ω18 h => ?_)
  refine zo_aload_n hY dX2_init_76 rfl 0 rfl ?_
  refine zo_bipush hY 120 (by decide) dX2_init_77 ?_
  refine zo_newa hY hJ (k := 32) (aty := .int) (by decide) rfl rfl (Or.inr (fun _ _ _ => hJ0 _)) q233 dX2_init_79 h (fun Ω19 res h => ?_)
  refine zo_putR hY hJ LX2_37_1 rfl (Or.inr (fun _ _ _ => hJ0 _)) (Or.inr ⟨rfl, hmn, rfl, _, q1284, Or.inl rfl⟩) dX2_init_81 h (fun Ω20 h => ?_)
  refine zo_aload_n hY dX2_init_84 rfl 0 rfl ?_
  refine zo_bipush hY 120 (by decide) dX2_init_85 ?_
  refine zo_newa hY hJ (k := 32) (aty := .int) (by decide) rfl rfl (Or.inr (fun _ _ _ => hJ0 _)) q233 dX2_init_87 h (fun Ω21 res h => ?_)
  refine zo_putR hY hJ LX2_40_1 rfl (Or.inr (fun _ _ _ => hJ0 _)) (Or.inr ⟨rfl, hmn, rfl, _, q1285, Or.inl rfl⟩) dX2_init_89 h (fun Ω22 h => ?_)
  refine zo_aload_n hY dX2_init_92 rfl 0 rfl ?_
  refine zo_bipush hY 120 (by decide) dX2_init_93 ?_
  refine zo_newa hY hJ (k := 33) (aty := .boolean) (by decide) rfl rfl (Or.inr (fun _ _ _ => hJ0 _)) q1512 dX2_init_95 h (fun Ω23 res h => ?_)
  refine zo_putR hY hJ LX2_43_1 rfl (Or.inr (fun _ _ _ => hJ0 _)) (Or.inr ⟨rfl, hmn, rfl, _, q1286, Or.inl rfl⟩) dX2_init_97 h (fun Ω24 h => ?_)
  refine zo_aload_n hY dX2_init_100 rfl 0 rfl ?_
  refine zo_bipush hY 120 (by decide) dX2_init_101 ?_
  refine zo_newa hY hJ (k := 32) (aty := .int) (by decide) rfl rfl (Or.inr (fun _ _ _ => hJ0 _)) q233 dX2_init_103 h (fun Ω25 res h => ?_)
  refine zo_putR hY hJ LX2_47_1 rfl (Or.inr (fun _ _ _ => hJ0 _)) (Or.inr ⟨rfl, hmn, rfl, _, q1287, Or.inl rfl⟩) dX2_init_105 h (fun Ω26 h => ?_)
  refine zo_aload_n hY dX2_init_108 rfl 0 rfl ?_
  refine zo_bipush hY 100 (by decide) dX2_init_109 ?_
  refine zo_newa hY hJ (k := 32) (aty := .int) (by decide) rfl rfl (Or.inr (fun _ _ _ => hJ0 _)) q233 dX2_init_111 h (fun Ω27 res h => ?_)
  refine zo_putR hY hJ LX2_50_1 rfl (Or.inr (fun _ _ _ => hJ0 _)) (Or.inr ⟨rfl, hmn, rfl, _, q1289, Or.inl rfl⟩) dX2_init_113 h (fun Ω28 h => ?_)
  refine zo_aload_n hY dX2_init_116 rfl 0 rfl ?_
  refine zo_bipush hY 100 (by decide) dX2_init_117 ?_
  refine zo_newa hY hJ (k := 32) (aty := .int) (by decide) rfl rfl (Or.inr (fun _ _ _ => hJ0 _)) q233 dX2_init_119 h (fun Ω29 res h => ?_)
  refine zo_putR hY hJ LX2_53_1 rfl (Or.inr (fun _ _ _ => hJ0 _)) (Or.inr ⟨rfl, hmn, rfl, _, q1290, Or.inl rfl⟩) dX2_init_121 h (fun Ω30 h => ?_)
  refine zo_aload_n hY dX2_init_124 rfl 0 rfl ?_
  refine zo_bipush hY 100 (by decide) dX2_init_125 ?_
  refine zo_newa hY hJ (k := 32) (aty := .int) (by decide) rfl rfl (Or.inr (fun _ _ _ => hJ0 _)) q233 dX2_init_127 h (fun Ω31 res h => ?_)
  refine zo_putR hY hJ LX2_56_1 rfl (Or.inr (fun _ _ _ => hJ0 _)) (Or.inr ⟨rfl, hmn, rfl, _, q1291, Or.inl rfl⟩) dX2_init_129 h (fun Ω32 h => ?_)
  refine zo_aload_n hY dX2_init_132 rfl 0 rfl ?_
  refine zo_bipush hY 100 (by decide) dX2_init_133 ?_
  refine zo_newa hY hJ (k := 32) (aty := .int) (by decide) rfl rfl (Or.inr (fun _ _ _ => hJ0 _)) q233 dX2_init_135 h (fun Ω33 res h => ?_)
  refine zo_putR hY hJ LX2_59_1 rfl (Or.inr (fun _ _ _ => hJ0 _)) (Or.inr ⟨rfl, hmn, rfl, _, q1292, Or.inl rfl⟩) dX2_init_137 h (fun Ω34 h => ?_)
  refine zo_aload_n hY dX2_init_140 rfl 0 rfl ?_
  refine zo_bipush hY 40 (by decide) dX2_init_141 ?_
  refine zo_newa hY hJ (k := 32) (aty := .int) (by decide) rfl rfl (Or.inr (fun _ _ _ => hJ0 _)) q233 dX2_init_143 h (fun Ω35 res h => ?_)
  refine zo_putR hY hJ LX2_62_1 rfl (Or.inr (fun _ _ _ => hJ0 _)) (Or.inr ⟨rfl, hmn, rfl, _, q1294, Or.inl rfl⟩) dX2_init_145 h (fun Ω36 h => ?_)
  refine zo_aload_n hY dX2_init_148 rfl 0 rfl ?_
  refine zo_bipush hY 40 (by decide) dX2_init_149 ?_
  refine zo_newa hY hJ (k := 32) (aty := .int) (by decide) rfl rfl (Or.inr (fun _ _ _ => hJ0 _)) q233 dX2_init_151 h (fun Ω37 res h => ?_)
  refine zo_putR hY hJ LX2_65_1 rfl (Or.inr (fun _ _ _ => hJ0 _)) (Or.inr ⟨rfl, hmn, rfl, _, q1295, Or.inl rfl⟩) dX2_init_153 h (fun Ω38 h => ?_)
  refine zo_aload_n hY dX2_init_156 rfl 0 rfl ?_
  refine zo_bipush hY 40 (by decide) dX2_init_157 ?_
  refine zo_newa hY hJ (k := 32) (aty := .int) (by decide) rfl rfl (Or.inr (fun _ _ _ => hJ0 _)) q233 dX2_init_159 h (fun Ω39 res h => ?_)
  refine zo_putR hY hJ LX2_68_1 rfl (Or.inr (fun _ _ _ => hJ0 _)) (Or.inr ⟨rfl, hmn, rfl, _, q1296, Or.inl rfl⟩) dX2_init_161 h (fun Ω40 h => ?_)
  refine zo_aload_n hY dX2_init_164 rfl 0 rfl ?_
  refine zo_bipush hY 40 (by decide) dX2_init_165 ?_
  refine zo_newa hY hJ (k := 32) (aty := .int) (by decide) rfl rfl (Or.inr (fun _ _ _ => hJ0 _)) q233 dX2_init_167 h (fun Ω41 res h => ?_)
  refine zo_putR hY hJ LX2_71_1 rfl (Or.inr (fun _ _ _ => hJ0 _)) (Or.inr ⟨rfl, hmn, rfl, _, q1297, Or.inl rfl⟩) dX2_init_169 h (fun Ω42 h => ?_)
  refine zo_aload_n hY dX2_init_172 rfl 0 rfl ?_
  refine zo_bipush hY 20 (by decide) dX2_init_173 ?_
  refine zo_newa hY hJ (k := 32) (aty := .int) (by decide) rfl rfl (Or.inr (fun _ _ _ => hJ0 _)) q233 dX2_init_175 h (fun Ω43 res h => ?_)
  refine zo_putR hY hJ LX2_74_1 rfl (Or.inr (fun _ _ _ => hJ0 _)) (Or.inr ⟨rfl, hmn, rfl, _, q1299, Or.inl rfl⟩) dX2_init_177 h (fun Ω44 h => ?_)
  refine zo_aload_n hY dX2_init_180 rfl 0 rfl ?_
  refine zo_bipush hY 20 (by decide) dX2_init_181 ?_
  refine zo_newa hY hJ (k := 32) (aty := .int) (by decide) rfl rfl (Or.inr (fun _ _ _ => hJ0 _)) q233 dX2_init_183 h (fun Ω45 res h => ?_)
  refine zo_putR hY hJ LX2_77_1 rfl (Or.inr (fun _ _ _ => hJ0 _)) (Or.inr ⟨rfl, hmn, rfl, _, q1300, Or.inl rfl⟩) dX2_init_185 h (fun Ω46 h => ?_)
  refine zo_aload_n hY dX2_init_188 rfl 0 rfl ?_
  refine zo_bipush hY 20 (by decide) dX2_init_189 ?_
  refine zo_newa hY hJ (k := 32) (aty := .int) (by decide) rfl rfl (Or.inr (fun _ _ _ => hJ0 _)) q233 dX2_init_191 h (fun Ω47 res h => ?_)
  refine zo_putR hY hJ LX2_80_1 rfl (Or.inr (fun _ _ _ => hJ0 _)) (Or.inr ⟨rfl, hmn, rfl, _, q1301, Or.inl rfl⟩) dX2_init_193 h (fun Ω48 h => ?_)
  refine zo_aload_n hY dX2_init_196 rfl 0 rfl ?_
  refine zo_bipush hY 20 (by decide) dX2_init_197 ?_
  refine zo_newa hY hJ (k := 32) (aty := .int) (by decide) rfl rfl (Or.inr (fun _ _ _ => hJ0 _)) q233 dX2_init_199 h (fun Ω49 res h => ?_)
  refine zo_putR hY hJ LX2_83_1 rfl (Or.inr (fun _ _ _ => hJ0 _)) (Or.inr ⟨rfl, hmn, rfl, _, q1302, Or.inl rfl⟩) dX2_init_201 h (fun Ω50 h => ?_)
  refine zo_aload_n hY dX2_init_204 rfl 0 rfl ?_
  refine zo_bipush hY 40 (by decide) dX2_init_205 ?_
  refine zo_newa hY hJ (k := 32) (aty := .int) (by decide) rfl rfl (Or.inr (fun _ _ _ => hJ0 _)) q233 dX2_init_207 h (fun Ω51 res h => ?_)
  refine zo_putR hY hJ LX2_86_1 rfl (Or.inr (fun _ _ _ => hJ0 _)) (Or.inr ⟨rfl, hmn, rfl, _, q1304, Or.inl rfl⟩) dX2_init_209 h (fun Ω52 h => ?_)
  refine zo_aload_n hY dX2_init_212 rfl 0 rfl ?_
  refine zo_bipush hY 40 (by decide) dX2_init_213 ?_
  refine zo_newa hY hJ (k := 32) (aty := .int) (by decide) rfl rfl (Or.inr (fun _ _ _ => hJ0 _)) q233 dX2_init_215 h (fun Ω53 res h => ?_)
  refine zo_putR hY hJ LX2_89_1 rfl (Or.inr (fun _ _ _ => hJ0 _)) (Or.inr ⟨rfl, hmn, rfl, _, q1305, Or.inl rfl⟩) dX2_init_217 h (fun Ω54 h => ?_)
  refine zo_aload_n hY dX2_init_220 rfl 0 rfl ?_
  refine zo_bipush hY 40 (by decide) dX2_init_221 ?_
  refine zo_newa hY hJ (k := 32) (aty := .int) (by decide) rfl rfl (Or.inr (fun _ _ _ => hJ0 _)) q233 dX2_init_223 h (fun Ω55 res h => ?_)
  refine zo_putR hY hJ LX2_92_1 rfl (Or.inr (fun _ _ _ => hJ0 _)) (Or.inr ⟨rfl, hmn, rfl, _, q1306, Or.inl rfl⟩) dX2_init_225 h (fun Ω56 h => ?_)
  refine zo_aload_n hY dX2_init_228 rfl 0 rfl ?_
  refine zo_bipush hY 40 (by decide) dX2_init_229 ?_
  refine zo_newa hY hJ (k := 32) (aty := .int) (by decide) rfl rfl (Or.inr (fun _ _ _ => hJ0 _)) q233 dX2_init_231 h (fun Ω57 res h => ?_)
  refine zo_putR hY hJ LX2_95_1 rfl (Or.inr (fun _ _ _ => hJ0 _)) (Or.inr ⟨rfl, hmn, rfl, _, q1307, Or.inl rfl⟩) dX2_init_233 h (fun Ω58 h => ?_)
  refine zo_aload_n hY dX2_init_236 rfl 0 rfl ?_
  refine zo_bipush hY 30 (by decide) dX2_init_237 ?_
  refine zo_newa hY hJ (k := 32) (aty := .int) (by decide) rfl rfl (Or.inr (fun _ _ _ => hJ0 _)) q233 dX2_init_239 h (fun Ω59 res h => ?_)
  refine zo_putR hY hJ LX2_98_1 rfl (Or.inr (fun _ _ _ => hJ0 _)) (Or.inr ⟨rfl, hmn, rfl, _, q1309, Or.inl rfl⟩) dX2_init_241 h (fun Ω60 h => ?_)
  refine zo_aload_n hY dX2_init_244 rfl 0 rfl ?_
  refine zo_bipush hY 30 (by decide) dX2_init_245 ?_
  refine zo_newa hY hJ (k := 32) (aty := .int) (by decide) rfl rfl (Or.inr (fun _ _ _ => hJ0 _)) q233 dX2_init_247 h (fun Ω61 res h => ?_)
  refine zo_putR hY hJ LX2_101_1 rfl (Or.inr (fun _ _ _ => hJ0 _)) (Or.inr ⟨rfl, hmn, rfl, _, q1310, Or.inl rfl⟩) dX2_init_249 h (fun Ω62 h => ?_)
  refine zo_aload_n hY dX2_init_252 rfl 0 rfl ?_
  refine zo_bipush hY 30 (by decide) dX2_init_253 ?_
  refine zo_newa hY hJ (k := 32) (aty := .int) (by decide) rfl rfl (Or.inr (fun _ _ _ => hJ0 _)) q233 dX2_init_255 h (fun Ω63 res h => ?_)
  refine zo_putR hY hJ LX2_104_1 rfl (Or.inr (fun _ _ _ => hJ0 _)) (Or.inr ⟨rfl, hmn, rfl, _, q1311, Or.inl rfl⟩) dX2_init_257 h (fun Ω64 h => ?_)
  refine zo_aload_n hY dX2_init_260 rfl 0 rfl ?_
  refine zo_iconst hY 3 (by decide) dX2_init_261 ?_
  refine zo_putI hY hJ LX2_107_1 rfl (Or.inl rfl) dX2_init_262 h (fun Ω65 h => ?_)
  refine zo_aload_n hY dX2_init_265 rfl 0 rfl ?_
  refine zo_bipush hY 8 (by decide) dX2_init_266 ?_
  refine zo_putI hY hJ LX2_111_1 rfl (Or.inl rfl) dX2_init_268 h (fun Ω66 h => ?_)
  refine zo_aload_n hY dX2_init_271 rfl 0 rfl ?_
  refine zo_bipush hY 20 (by decide) dX2_init_272 ?_
  refine zo_putI hY hJ LX2_114_1 rfl (Or.inl rfl) dX2_init_274 h (fun Ω67 h => ?_)
  refine zo_aload_n hY dX2_init_277 rfl 0 rfl ?_
  refine zo_iconst hY 3 (by decide) dX2_init_278 ?_
  refine zo_newa hY hJ (k := 32) (aty := .int) (by decide) rfl rfl (Or.inr (fun _ _ _ => hJ0 _)) q233 dX2_init_279 h (fun Ω68 res h => ?_)
  refine zo_dup hY dX2_init_281 (Or.inr ⟨_, rfl⟩) ?_
  refine zo_iconst hY 0 (by decide) dX2_init_282 ?_
  refine zo_bipush hY 15 (by decide) dX2_init_283 ?_
  refine zo_ast hY hJ (by decide) (Or.inl ⟨rfl, rfl, dX2_init_285⟩) (fun _ => rfl) h (fun j69 Ω70 h => ?_)
  refine zo_dup hY dX2_init_286 (Or.inr ⟨_, rfl⟩) ?_
  refine zo_iconst hY 1 (by decide) dX2_init_287 ?_
  refine zo_bipush hY 15 (by decide) dX2_init_288 ?_
  refine zo_ast hY hJ (by decide) (Or.inl ⟨rfl, rfl, dX2_init_290⟩) (fun _ => rfl) h (fun j71 Ω72 h => ?_)
  refine zo_dup hY dX2_init_291 (Or.inr ⟨_, rfl⟩) ?_
  refine zo_iconst hY 2 (by decide) dX2_init_292 ?_
  refine zo_bipush hY 15 (by decide) dX2_init_293 ?_
  refine zo_ast hY hJ (by decide) (Or.inl ⟨rfl, rfl, dX2_init_295⟩) (fun _ => rfl) h (fun j73 Ω74 h => ?_)
  refine zo_putR hY hJ LX2_117_1 rfl (Or.inr (fun _ _ _ => hJ0 _)) (Or.inr ⟨rfl, hmn, rfl, _, q1315, Or.inl rfl⟩) dX2_init_296 h (fun Ω75 h => ?_)
  refine zo_aload_n hY dX2_init_299 rfl 0 rfl ?_
  refine zo_bipush hY 24 (by decide) dX2_init_300 ?_
  refine zo_newa hY hJ (k := 33) (aty := .boolean) (by decide) rfl rfl (Or.inr (fun _ _ _ => hJ0 _)) q1512 dX2_init_302 h (fun Ω76 res h => ?_)
  refine zo_putR hY hJ LX2_120_1 rfl (Or.inr (fun _ _ _ => hJ0 _)) (Or.inr ⟨rfl, hmn, rfl, _, q1318, Or.inl rfl⟩) dX2_init_304 h (fun Ω77 h => ?_)
  refine zo_aload_n hY dX2_init_307 rfl 0 rfl ?_
  refine zo_bipush hY 24 (by decide) dX2_init_308 ?_
  refine zo_newa hY hJ (k := 32) (aty := .int) (by decide) rfl rfl (Or.inr (fun _ _ _ => hJ0 _)) q233 dX2_init_310 h (fun Ω78 res h => ?_)
  refine zo_putR hY hJ LX2_123_1 rfl (Or.inr (fun _ _ _ => hJ0 _)) (Or.inr ⟨rfl, hmn, rfl, _, q1319, Or.inl rfl⟩) dX2_init_312 h (fun Ω79 h => ?_)
  refine zo_aload_n hY dX2_init_315 rfl 0 rfl ?_
  refine zo_bipush hY 96 (by decide) dX2_init_316 ?_
  refine zo_newa hY hJ (k := 33) (aty := .boolean) (by decide) rfl rfl (Or.inr (fun _ _ _ => hJ0 _)) q1512 dX2_init_318 h (fun Ω80 res h => ?_)
  refine zo_putR hY hJ LX2_126_1 rfl (Or.inr (fun _ _ _ => hJ0 _)) (Or.inr ⟨rfl, hmn, rfl, _, q1320, Or.inl rfl⟩) dX2_init_320 h (fun Ω81 h => ?_)
  refine zo_aload_n hY dX2_init_323 rfl 0 rfl ?_
  refine zo_bipush hY 96 (by decide) dX2_init_324 ?_
  refine zo_newa hY hJ (k := 32) (aty := .int) (by decide) rfl rfl (Or.inr (fun _ _ _ => hJ0 _)) q233 dX2_init_326 h (fun Ω82 res h => ?_)
  refine zo_putR hY hJ LX2_129_1 rfl (Or.inr (fun _ _ _ => hJ0 _)) (Or.inr ⟨rfl, hmn, rfl, _, q1321, Or.inl rfl⟩) dX2_init_328 h (fun Ω83 h => ?_)
  refine zo_aload_n hY dX2_init_331 rfl 0 rfl ?_
  refine zo_bipush hY 96 (by decide) dX2_init_332 ?_
  refine zo_newa hY hJ (k := 32) (aty := .int) (by decide) rfl rfl (Or.inr (fun _ _ _ => hJ0 _)) q233 dX2_init_334 h (fun Ω84 res h => ?_)
  refine zo_putR hY hJ LX2_132_1 rfl (Or.inr (fun _ _ _ => hJ0 _)) (Or.inr ⟨rfl, hmn, rfl, _, q1322, Or.inl rfl⟩) dX2_init_336 h (fun Ω85 h => ?_)
  refine zo_aload_n hY dX2_init_339 rfl 0 rfl ?_
  refine zo_bipush hY 96 (by decide) dX2_init_340 ?_
  refine zo_newa hY hJ (k := 32) (aty := .int) (by decide) rfl rfl (Or.inr (fun _ _ _ => hJ0 _)) q233 dX2_init_342 h (fun Ω86 res h => ?_)
  refine zo_putR hY hJ LX2_135_1 rfl (Or.inr (fun _ _ _ => hJ0 _)) (Or.inr ⟨rfl, hmn, rfl, _, q1323, Or.inl rfl⟩) dX2_init_344 h (fun Ω87 h => ?_)
  refine zo_aload_n hY dX2_init_347 rfl 0 rfl ?_
  refine zo_sipush hY 300 (by decide) dX2_init_348 ?_
  refine zo_newa hY hJ (k := 34) (aty := .byte) (by decide) rfl rfl (Or.inr (fun _ _ _ => hJ0 _)) q234 dX2_init_351 h (fun Ω88 res h => ?_)
  refine zo_putR hY hJ LX2_138_1 rfl (Or.inr (fun _ _ _ => hJ0 _)) (Or.inr ⟨rfl, hmn, rfl, _, q1324, Or.inl rfl⟩) dX2_init_353 h (fun Ω89 h => ?_)
  refine zo_aload_n hY dX2_init_356 rfl 0 rfl ?_
  refine zo_iconst hY (-1) (by decide) dX2_init_357 ?_
  refine zo_putI hY hJ LX2_142_1 rfl (Or.inl rfl) dX2_init_358 h (fun Ω90 h => ?_)
  refine zo_aload_n hY dX2_init_361 rfl 0 rfl ?_
  refine zo_iconst hY 5 (by decide) dX2_init_362 ?_
  refine zo_newa hY hJ (k := 32) (aty := .int) (by decide) rfl rfl (Or.inr (fun _ _ _ => hJ0 _)) q233 dX2_init_363 h (fun Ω91 res h => ?_)
  refine zo_putR hY hJ LX2_145_1 rfl (Or.inr (fun _ _ _ => hJ0 _)) (Or.inr ⟨rfl, hmn, rfl, _, q1332, Or.inl rfl⟩) dX2_init_365 h (fun Ω92 h => ?_)
  refine zo_aload_n hY dX2_init_368 rfl 0 rfl ?_
  refine zo_iconst hY 5 (by decide) dX2_init_369 ?_
  refine zo_newa hY hJ (k := 32) (aty := .int) (by decide) rfl rfl (Or.inr (fun _ _ _ => hJ0 _)) q233 dX2_init_370 h (fun Ω93 res h => ?_)
  refine zo_putR hY hJ LX2_148_1 rfl (Or.inr (fun _ _ _ => hJ0 _)) (Or.inr ⟨rfl, hmn, rfl, _, q1333, Or.inl rfl⟩) dX2_init_372 h (fun Ω94 h => ?_)
  refine zo_aload_n hY dX2_init_375 rfl 0 rfl ?_
  refine zo_iconst hY 5 (by decide) dX2_init_376 ?_
  refine zo_newa hY hJ (k := 33) (aty := .boolean) (by decide) rfl rfl (Or.inr (fun _ _ _ => hJ0 _)) q1512 dX2_init_377 h (fun Ω95 res h => ?_)
  refine zo_putR hY hJ LX2_151_1 rfl (Or.inr (fun _ _ _ => hJ0 _)) (Or.inr ⟨rfl, hmn, rfl, _, q1334, Or.inl rfl⟩) dX2_init_379 h (fun Ω96 h => ?_)
  refine zo_aload_n hY dX2_init_382 rfl 0 rfl ?_
  refine zo_bipush hY 25 (by decide) dX2_init_383 ?_
  refine zo_newa hY hJ (k := 32) (aty := .int) (by decide) rfl rfl (Or.inr (fun _ _ _ => hJ0 _)) q233 dX2_init_385 h (fun Ω97 res h => ?_)
  refine zo_putR hY hJ LX2_154_1 rfl (Or.inr (fun _ _ _ => hJ0 _)) (Or.inr ⟨rfl, hmn, rfl, _, q1335, Or.inl rfl⟩) dX2_init_387 h (fun Ω98 h => ?_)
  refine zo_aload_n hY dX2_init_390 rfl 0 rfl ?_
  refine zo_sipush hY 240 (by decide) dX2_init_391 ?_
  refine zo_newa hY hJ (k := 32) (aty := .int) (by decide) rfl rfl (Or.inr (fun _ _ _ => hJ0 _)) q233 dX2_init_394 h (fun Ω99 res h => ?_)
  refine zo_putR hY hJ LX2_157_1 rfl (Or.inr (fun _ _ _ => hJ0 _)) (Or.inr ⟨rfl, hmn, rfl, _, q1340, Or.inl rfl⟩) dX2_init_396 h (fun Ω100 h => ?_)
  refine zo_aload_n hY dX2_init_399 rfl 0 rfl ?_
  refine zo_sipush hY 240 (by decide) dX2_init_400 ?_
  refine zo_newa hY hJ (k := 32) (aty := .int) (by decide) rfl rfl (Or.inr (fun _ _ _ => hJ0 _)) q233 dX2_init_403 h (fun Ω101 res h => ?_)
  refine zo_putR hY hJ LX2_160_1 rfl (Or.inr (fun _ _ _ => hJ0 _)) (Or.inr ⟨rfl, hmn, rfl, _, q1341, Or.inl rfl⟩) dX2_init_405 h (fun Ω102 h => ?_)
  refine zo_aload_n hY dX2_init_408 rfl 0 rfl ?_
  refine zo_sipush hY 240 (by decide) dX2_init_409 ?_
  refine zo_newa hY hJ (k := 32) (aty := .int) (by decide) rfl rfl (Or.inr (fun _ _ _ => hJ0 _)) q233 dX2_init_412 h (fun Ω103 res h => ?_)
  refine zo_putR hY hJ LX2_163_1 rfl (Or.inr (fun _ _ _ => hJ0 _)) (Or.inr ⟨rfl, hmn, rfl, _, q1342, Or.inl rfl⟩) dX2_init_414 h (fun Ω104 h => ?_)
  refine zo_aload_n hY dX2_init_417 rfl 0 rfl ?_
  refine zo_sipush hY 240 (by decide) dX2_init_418 ?_
  refine zo_newa hY hJ (k := 33) (aty := .boolean) (by decide) rfl rfl (Or.inr (fun _ _ _ => hJ0 _)) q1512 dX2_init_421 h (fun Ω105 res h => ?_)
  refine zo_putR hY hJ LX2_166_1 rfl (Or.inr (fun _ _ _ => hJ0 _)) (Or.inr ⟨rfl, hmn, rfl, _, q1343, Or.inl rfl⟩) dX2_init_423 h (fun Ω106 h => ?_)
  refine zo_aload_n hY dX2_init_426 rfl 0 rfl ?_
  refine zo_sipush hY 801 (by decide) dX2_init_427 ?_
  refine zo_newa hY hJ (k := 32) (aty := .int) (by decide) rfl rfl (Or.inr (fun _ _ _ => hJ0 _)) q233 dX2_init_430 h (fun Ω107 res h => ?_)
  refine zo_putR hY hJ LX2_169_1 rfl (Or.inr (fun _ _ _ => hJ0 _)) (Or.inr ⟨rfl, hmn, rfl, _, q1345, Or.inl rfl⟩) dX2_init_432 h (fun Ω108 h => ?_)
  refine zo_aload_n hY dX2_init_435 rfl 0 rfl ?_
  refine zo_sipush hY 801 (by decide) dX2_init_436 ?_
  refine zo_newa hY hJ (k := 32) (aty := .int) (by decide) rfl rfl (Or.inr (fun _ _ _ => hJ0 _)) q233 dX2_init_439 h (fun Ω109 res h => ?_)
  refine zo_putR hY hJ LX2_172_1 rfl (Or.inr (fun _ _ _ => hJ0 _)) (Or.inr ⟨rfl, hmn, rfl, _, q1346, Or.inl rfl⟩) dX2_init_441 h (fun Ω110 h => ?_)
  refine zo_aload_n hY dX2_init_444 rfl 0 rfl ?_
  refine zo_bipush hY 14 (by decide) dX2_init_445 ?_
  refine zo_newa hY hJ (k := 32) (aty := .int) (by decide) rfl rfl (Or.inr (fun _ _ _ => hJ0 _)) q233 dX2_init_447 h (fun Ω111 res h => ?_)
  refine zo_putR hY hJ LX2_175_1 rfl (Or.inr (fun _ _ _ => hJ0 _)) (Or.inr ⟨rfl, hmn, rfl, _, q1347, Or.inl rfl⟩) dX2_init_449 h (fun Ω112 h => ?_)
  refine zo_aload_n hY dX2_init_452 rfl 0 rfl ?_
  refine zo_bipush hY 14 (by decide) dX2_init_453 ?_
  refine zo_newa hY hJ (k := 32) (aty := .int) (by decide) rfl rfl (Or.inr (fun _ _ _ => hJ0 _)) q233 dX2_init_455 h (fun Ω113 res h => ?_)
  refine zo_putR hY hJ LX2_178_1 rfl (Or.inr (fun _ _ _ => hJ0 _)) (Or.inr ⟨rfl, hmn, rfl, _, q1348, Or.inl rfl⟩) dX2_init_457 h (fun Ω114 h => ?_)
  refine zo_aload_n hY dX2_init_460 rfl 0 rfl ?_
  refine zo_bipush hY 14 (by decide) dX2_init_461 ?_
  refine zo_newa hY hJ (k := 32) (aty := .int) (by decide) rfl rfl (Or.inr (fun _ _ _ => hJ0 _)) q233 dX2_init_463 h (fun Ω115 res h => ?_)
  refine zo_putR hY hJ LX2_181_1 rfl (Or.inr (fun _ _ _ => hJ0 _)) (Or.inr ⟨rfl, hmn, rfl, _, q1349, Or.inl rfl⟩) dX2_init_465 h (fun Ω116 h => ?_)
  refine zo_aload_n hY dX2_init_468 rfl 0 rfl ?_
  refine zo_bipush hY 120 (by decide) dX2_init_469 ?_
  refine zo_newa hY hJ (k := 32) (aty := .int) (by decide) rfl rfl (Or.inr (fun _ _ _ => hJ0 _)) q233 dX2_init_471 h (fun Ω117 res h => ?_)
  refine zo_putR hY hJ LX2_184_1 rfl (Or.inr (fun _ _ _ => hJ0 _)) (Or.inr ⟨rfl, hmn, rfl, _, q1350, Or.inl rfl⟩) dX2_init_473 h (fun Ω118 h => ?_)
  exact zo_vret hY hr dX2_init_476 h
