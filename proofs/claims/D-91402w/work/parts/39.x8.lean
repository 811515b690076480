set_option maxRecDepth 100000
theorem LX1_82_0 : zo_FL RX1 82 0 21 := ⟨by decide, by decide, by decide, Or.inl ⟨_, q184, Or.inl rfl⟩⟩
theorem cn_J5_sort : zo_Cn yJ5_sort 1 := ⟨by decide, by decide, by decide +kernel⟩
theorem LX1_388_0 : zo_FL RX1 388 0 22 := ⟨by decide, by decide, by decide, Or.inl ⟨_, q185, Or.inl rfl⟩⟩
theorem cn_X1_findSizes : zo_Cn yX1_findSizes 5 := ⟨by decide, by decide, by decide +kernel⟩
theorem cn_X1_gapAt : zo_Cn yX1_gapAt 2 := ⟨by decide, by decide, by decide +kernel⟩
theorem cn_X1_habit : zo_Cn yX1_habit 3 := ⟨by decide, by decide, by decide +kernel⟩
theorem dX1_findSizes_0 : decode cX1_findSizes 0 = .ok (.aload_n 0, 1) := by decide +kernel
theorem dX1_findSizes_1 : decode cX1_findSizes 1 = .ok (.iload_n 1, 1) := by decide +kernel
theorem dX1_findSizes_2 : decode cX1_findSizes 2 = .ok (.iload 5, 2) := by decide +kernel
theorem dX1_findSizes_4 : decode cX1_findSizes 4 = .ok (.invokevirtual 352, 3) := by decide +kernel
theorem dX1_findSizes_7 : decode cX1_findSizes 7 = .ok (.ifCond .eq 29, 3) := by decide +kernel
theorem dX1_findSizes_10 : decode cX1_findSizes 10 = .ok (.iload_n 2, 1) := by decide +kernel
theorem dX1_findSizes_11 : decode cX1_findSizes 11 = .ok (.invokestatic 108, 3) := by decide +kernel
theorem dX1_findSizes_14 : decode cX1_findSizes 14 = .ok (.ifCond .eq 22, 3) := by decide +kernel
theorem dX1_findSizes_17 : decode cX1_findSizes 17 = .ok (.iload_n 3, 1) := by decide +kernel
theorem dX1_findSizes_18 : decode cX1_findSizes 18 = .ok (.invokestatic 89, 3) := by decide +kernel
theorem dX1_findSizes_21 : decode cX1_findSizes 21 = .ok (.ifCond .eq 15, 3) := by decide +kernel
theorem dX1_findSizes_24 : decode cX1_findSizes 24 = .ok (.iload 4, 2) := by decide +kernel
theorem dX1_findSizes_26 : decode cX1_findSizes 26 = .ok (.iconst 0, 1) := by decide +kernel
theorem dX1_findSizes_27 : decode cX1_findSizes 27 = .ok (.sipush 2000, 3) := by decide +kernel
theorem dX1_findSizes_30 : decode cX1_findSizes 30 = .ok (.invokestatic 3, 3) := by decide +kernel
theorem dX1_findSizes_33 : decode cX1_findSizes 33 = .ok (.ifCond .ne 5, 3) := by decide +kernel
theorem dX1_findSizes_36 : decode cX1_findSizes 36 = .ok (.iconst 0, 1) := by decide +kernel
theorem dX1_findSizes_37 : decode cX1_findSizes 37 = .ok (.ireturn, 1) := by decide +kernel
theorem dX1_findSizes_38 : decode cX1_findSizes 38 = .ok (.aload_n 0, 1) := by decide +kernel
theorem dX1_findSizes_39 : decode cX1_findSizes 39 = .ok (.iload 5, 2) := by decide +kernel
theorem dX1_findSizes_41 : decode cX1_findSizes 41 = .ok (.invokevirtual 305, 3) := by decide +kernel
theorem dX1_findSizes_44 : decode cX1_findSizes 44 = .ok (.iconst 0, 1) := by decide +kernel
theorem dX1_findSizes_45 : decode cX1_findSizes 45 = .ok (.istore 6, 2) := by decide +kernel
theorem dX1_findSizes_47 : decode cX1_findSizes 47 = .ok (.aload_n 0, 1) := by decide +kernel
theorem dX1_findSizes_48 : decode cX1_findSizes 48 = .ok (.getfield 20, 3) := by decide +kernel
theorem dX1_findSizes_51 : decode cX1_findSizes 51 = .ok (.invokevirtual 85, 3) := by decide +kernel
theorem dX1_findSizes_54 : decode cX1_findSizes 54 = .ok (.newarray .int, 2) := by decide +kernel
theorem dX1_findSizes_56 : decode cX1_findSizes 56 = .ok (.astore 7, 2) := by decide +kernel
theorem dX1_findSizes_58 : decode cX1_findSizes 58 = .ok (.iconst 0, 1) := by decide +kernel
theorem dX1_findSizes_59 : decode cX1_findSizes 59 = .ok (.istore 8, 2) := by decide +kernel
theorem dX1_findSizes_61 : decode cX1_findSizes 61 = .ok (.iload 8, 2) := by decide +kernel
theorem dX1_findSizes_63 : decode cX1_findSizes 63 = .ok (.aload_n 0, 1) := by decide +kernel
theorem dX1_findSizes_64 : decode cX1_findSizes 64 = .ok (.getfield 20, 3) := by decide +kernel
theorem dX1_findSizes_67 : decode cX1_findSizes 67 = .ok (.invokevirtual 85, 3) := by decide +kernel
theorem dX1_findSizes_70 : decode cX1_findSizes 70 = .ok (.if_icmp .ge 81, 3) := by decide +kernel
theorem dX1_findSizes_73 : decode cX1_findSizes 73 = .ok (.aload_n 0, 1) := by decide +kernel
theorem dX1_findSizes_74 : decode cX1_findSizes 74 = .ok (.getfield 20, 3) := by decide +kernel
theorem dX1_findSizes_77 : decode cX1_findSizes 77 = .ok (.iload 8, 2) := by decide +kernel
theorem dX1_findSizes_79 : decode cX1_findSizes 79 = .ok (.invokevirtual 116, 3) := by decide +kernel
theorem dX1_findSizes_82 : decode cX1_findSizes 82 = .ok (.checkcast 114, 3) := by decide +kernel
theorem dX1_findSizes_85 : decode cX1_findSizes 85 = .ok (.astore 9, 2) := by decide +kernel
theorem dX1_findSizes_87 : decode cX1_findSizes 87 = .ok (.aload 9, 2) := by decide +kernel
theorem dX1_findSizes_89 : decode cX1_findSizes 89 = .ok (.getfield 137, 3) := by decide +kernel
theorem dX1_findSizes_92 : decode cX1_findSizes 92 = .ok (.getfield 159, 3) := by decide +kernel
theorem dX1_findSizes_95 : decode cX1_findSizes 95 = .ok (.iload_n 1, 1) := by decide +kernel
theorem dX1_findSizes_96 : decode cX1_findSizes 96 = .ok (.if_icmp .ne 49, 3) := by decide +kernel
theorem dX1_findSizes_99 : decode cX1_findSizes 99 = .ok (.aload 9, 2) := by decide +kernel
theorem dX1_findSizes_101 : decode cX1_findSizes 101 = .ok (.getfield 141, 3) := by decide +kernel
theorem dX1_findSizes_104 : decode cX1_findSizes 104 = .ok (.iload_n 2, 1) := by decide +kernel
theorem dX1_findSizes_105 : decode cX1_findSizes 105 = .ok (.if_icmp .ne 40, 3) := by decide +kernel
theorem dX1_findSizes_108 : decode cX1_findSizes 108 = .ok (.aload 9, 2) := by decide +kernel
theorem dX1_findSizes_110 : decode cX1_findSizes 110 = .ok (.getfield 144, 3) := by decide +kernel
theorem dX1_findSizes_113 : decode cX1_findSizes 113 = .ok (.iload_n 3, 1) := by decide +kernel
theorem dX1_findSizes_114 : decode cX1_findSizes 114 = .ok (.if_icmp .ne 31, 3) := by decide +kernel
theorem dX1_findSizes_117 : decode cX1_findSizes 117 = .ok (.aload_n 0, 1) := by decide +kernel
theorem dX1_findSizes_118 : decode cX1_findSizes 118 = .ok (.aload 9, 2) := by decide +kernel
theorem dX1_findSizes_120 : decode cX1_findSizes 120 = .ok (.iload 5, 2) := by decide +kernel
theorem dX1_findSizes_122 : decode cX1_findSizes 122 = .ok (.invokevirtual 254, 3) := by decide +kernel
theorem dX1_findSizes_125 : decode cX1_findSizes 125 = .ok (.ifCond .ne 6, 3) := by decide +kernel
theorem dX1_findSizes_128 : decode cX1_findSizes 128 = .ok (.goto 17, 3) := by decide +kernel
theorem dX1_findSizes_131 : decode cX1_findSizes 131 = .ok (.aload 7, 2) := by decide +kernel
theorem dX1_findSizes_133 : decode cX1_findSizes 133 = .ok (.iload 6, 2) := by decide +kernel
theorem dX1_findSizes_135 : decode cX1_findSizes 135 = .ok (.aload_n 0, 1) := by decide +kernel
theorem dX1_findSizes_136 : decode cX1_findSizes 136 = .ok (.aload 9, 2) := by decide +kernel
theorem dX1_findSizes_138 : decode cX1_findSizes 138 = .ok (.invokevirtual 258, 3) := by decide +kernel
theorem dX1_findSizes_141 : decode cX1_findSizes 141 = .ok (.iastore, 1) := by decide +kernel
theorem dX1_findSizes_142 : decode cX1_findSizes 142 = .ok (.iinc 6 1, 3) := by decide +kernel
theorem dX1_findSizes_145 : decode cX1_findSizes 145 = .ok (.iinc 8 1, 3) := by decide +kernel
theorem dX1_findSizes_148 : decode cX1_findSizes 148 = .ok (.goto (-87), 3) := by decide +kernel
theorem dX1_findSizes_151 : decode cX1_findSizes 151 = .ok (.aload_n 0, 1) := by decide +kernel
theorem dX1_findSizes_152 : decode cX1_findSizes 152 = .ok (.iload 6, 2) := by decide +kernel
theorem dX1_findSizes_154 : decode cX1_findSizes 154 = .ok (.newarray .int, 2) := by decide +kernel
theorem dX1_findSizes_156 : decode cX1_findSizes 156 = .ok (.putfield 82, 3) := by decide +kernel
theorem dX1_findSizes_159 : decode cX1_findSizes 159 = .ok (.aload 7, 2) := by decide +kernel
theorem dX1_findSizes_161 : decode cX1_findSizes 161 = .ok (.iconst 0, 1) := by decide +kernel
theorem dX1_findSizes_162 : decode cX1_findSizes 162 = .ok (.aload_n 0, 1) := by decide +kernel
theorem dX1_findSizes_163 : decode cX1_findSizes 163 = .ok (.getfield 82, 3) := by decide +kernel
theorem dX1_findSizes_166 : decode cX1_findSizes 166 = .ok (.iconst 0, 1) := by decide +kernel
theorem dX1_findSizes_167 : decode cX1_findSizes 167 = .ok (.iload 6, 2) := by decide +kernel
theorem dX1_findSizes_169 : decode cX1_findSizes 169 = .ok (.invokestatic 376, 3) := by decide +kernel
theorem dX1_findSizes_172 : decode cX1_findSizes 172 = .ok (.aload_n 0, 1) := by decide +kernel
theorem dX1_findSizes_173 : decode cX1_findSizes 173 = .ok (.getfield 82, 3) := by decide +kernel
theorem dX1_findSizes_176 : decode cX1_findSizes 176 = .ok (.invokestatic 382, 3) := by decide +kernel
theorem dX1_findSizes_179 : decode cX1_findSizes 179 = .ok (.iconst 1, 1) := by decide +kernel
theorem dX1_findSizes_180 : decode cX1_findSizes 180 = .ok (.ireturn, 1) := by decide +kernel
def fn_X1_findSizes_36 (N : Nat)   (Ω : zo_O) : Option zo_R :=
  rZ 0 Ω
theorem ct_X1_findSizes_36 {Y : zo_Y} (hY : zo_Gd Y cX1_findSizes 10 RX1 5) (hJ : zo_JC (zo_J Y)) (hCon : ∀ Ω, zo_J Y Ω → zo_Con Ω) (hr : zo_rt Y (Option.some Jvm.ClassFile.FieldType.boolean)) (N : Nat)    (Ω : zo_O) (res : zo_R) (h : fn_X1_findSizes_36 N   Ω = some res) : TW Y res Ω 36 [] [] := by
  unfold fn_X1_findSizes_36 at h
  refine zo_iconst hY 0 (by decide) dX1_findSizes_36 ?_
  exact zo_zret hY hr dX1_findSizes_37 h
def fn_X1_findSizes_145 (N : Nat) (K61 : Int32 → Int32 → Int32 → Int32 → Int32 → Nat → Int32 → zo_O → Option zo_R) (x1 : Int32) (x2 : Int32) (x3 : Int32) (x5 : Int32) (x6 : Int32) (x7 : Nat) (x8 : Int32) (Ω : zo_O) : Option zo_R :=
  K61 x1 x2 x3 x5 x6 x7 (x8 + 1) Ω
theorem ct_X1_findSizes_145 {Y : zo_Y} (hY : zo_Gd Y cX1_findSizes 10 RX1 5) (hJ : zo_JC (zo_J Y)) (hCon : ∀ Ω, zo_J Y Ω → zo_Con Ω) (hr : zo_rt Y (Option.some Jvm.ClassFile.FieldType.boolean)) (N : Nat) (K61 : Int32 → Int32 → Int32 → Int32 → Int32 → Nat → Int32 → zo_O → Option zo_R) (hK61 : ∀ (x1 : Int32) (x2 : Int32) (x3 : Int32) (x5 : Int32) (x6 : Int32) (x7 : Nat) (x8 : Int32) (Ω : zo_O) (res : zo_R), K61 x1 x2 x3 x5 x6 x7 x8 Ω = some res → TW Y res Ω 61 [(0, vr 0 0), (1, vi x1), (2, vi x2), (3, vi x3), (5, vi x5), (6, vi x6), (7, vr 35 x7), (8, vi x8)] []) (x1 : Int32) (x2 : Int32) (x3 : Int32) (x5 : Int32) (x6 : Int32) (x7 : Nat) (x8 : Int32) (Ω : zo_O) (res : zo_R) (h : fn_X1_findSizes_145 N K61 x1 x2 x3 x5 x6 x7 x8 Ω = some res) : TW Y res Ω 145 [(0, vr 0 0), (1, vi x1), (2, vi x2), (3, vi x3), (5, vi x5), (6, vi x6), (7, vr 35 x7), (8, vi x8)] [] := by
  unfold fn_X1_findSizes_145 at h
  refine zo_iinc hY 1 dX1_findSizes_145 (by decide) (by decide) 7 rfl rfl (ls' := [(8, vi (x8 + 1)), (0, vr 0 0), (1, vi x1), (2, vi x2), (3, vi x3), (5, vi x5), (6, vi x6), (7, vr 35 x7)]) rfl ?_
  refine zo_goto hY 61 dX1_findSizes_148 (by decide) ?_
  refine zo_sub [1, 2, 3, 4, 5, 6, 7, 0] rfl ?_
  exact hK61 x1 x2 x3 x5 x6 x7 (x8 + 1) Ω _ h
def bd_X1_findSizes_61 (N : Nat)  (K61 : Int32 → Int32 → Int32 → Int32 → Int32 → Nat → Int32 → zo_O → Option zo_R) (x1 : Int32) (x2 : Int32) (x3 : Int32) (x5 : Int32) (x6 : Int32) (x7 : Nat) (x8 : Int32) (Ω : zo_O) : Option zo_R :=
  ci (fn_J2_size N 1 Ω) fun r2 Ω1 =>
  if r2 ≤ x8 then (
    gd (¬ x6 < 0 ∧ x6.toNatClampNeg ≤ 65536) <| ad 1 x6.toNatClampNeg <| lt (nw Ω1 35 x6.toNatClampNeg) fun Ω4 =>
    lt (sR Ω4 0 0 21 (some (35, gC Ω1 35))) fun Ω5 =>
    bk (gR Ω5 0 0 21) 35 fun j6 =>
    gd (zo_cpk Ω5 x7 0 j6 0 x6) <| lt (zo_cp Ω5 x7 0 j6 0 x6) fun Ω7 =>
    bk (gR Ω7 0 0 21) 35 fun j8 =>
    cv (fn_J5_sort N j8 Ω7) fun Ω9 =>
    rZ 1 Ω9
    ) else
  cr (fn_J2_get N 1 x8 Ω1) fun r11 Ω10 =>
  bk r11 3 fun j12 =>
  bk (gR Ω10 3 j12 6) 2 fun j13 =>
  if gI Ω10 2 j13 1 = x1 then (
    if gI Ω10 3 j12 1 = x2 then (
      if gI Ω10 3 j12 5 = x3 then (
        ci (fn_X1_isUsed N j12 x5 Ω10) fun r18 Ω17 =>
        if r18 = 0 then (
          fn_X1_findSizes_145 N K61 x1 x2 x3 x5 x6 x7 x8 Ω17
          ) else
        ci (fn_X1_least N j12 Ω17) fun r21 Ω20 =>
        ix x6 (gL Ω20 35 x7) fun j22 => lt (sI Ω20 35 x7 j22 r21) fun Ω23 =>
        fn_X1_findSizes_145 N K61 x1 x2 x3 x5 (x6 + 1) x7 x8 Ω23
        ) else
      fn_X1_findSizes_145 N K61 x1 x2 x3 x5 x6 x7 x8 Ω10
      ) else
    fn_X1_findSizes_145 N K61 x1 x2 x3 x5 x6 x7 x8 Ω10
    ) else
  fn_X1_findSizes_145 N K61 x1 x2 x3 x5 x6 x7 x8 Ω10
theorem cb_X1_findSizes_61 {Y : zo_Y} (hY : zo_Gd Y cX1_findSizes 10 RX1 5) (hJ : zo_JC (zo_J Y)) (hCon : ∀ Ω, zo_J Y Ω → zo_Con Ω) (hr : zo_rt Y (Option.some Jvm.ClassFile.FieldType.boolean)) (N : Nat)  (K61 : Int32 → Int32 → Int32 → Int32 → Int32 → Nat → Int32 → zo_O → Option zo_R)  (hK61 : ∀ (x1 : Int32) (x2 : Int32) (x3 : Int32) (x5 : Int32) (x6 : Int32) (x7 : Nat) (x8 : Int32) (Ω : zo_O) (res : zo_R), K61 x1 x2 x3 x5 x6 x7 x8 Ω = some res → TW Y res Ω 61 [(0, vr 0 0), (1, vi x1), (2, vi x2), (3, vi x3), (5, vi x5), (6, vi x6), (7, vr 35 x7), (8, vi x8)] []) (x1 : Int32) (x2 : Int32) (x3 : Int32) (x5 : Int32) (x6 : Int32) (x7 : Nat) (x8 : Int32) (Ω : zo_O) (res : zo_R) (h : bd_X1_findSizes_61 N  K61 x1 x2 x3 x5 x6 x7 x8 Ω = some res) : TW Y res Ω 61 [(0, vr 0 0), (1, vi x1), (2, vi x2), (3, vi x3), (5, vi x5), (6, vi x6), (7, vr 35 x7), (8, vi x8)] [] := by
  unfold bd_X1_findSizes_61 at h
  refine zo_iload hY dX1_findSizes_61 7 rfl ?_
  refine zo_aload_n hY dX1_findSizes_63 rfl 0 rfl ?_
  refine zo_getC hY LX1_20_0 rfl (fun Ω q => (hCon Ω q).1 1 _ rfl) dX1_findSizes_64 ?_
  refine zo_callV hY (fun q hq => mt_J2_size hJ hCon N 1 Ω q hq) (by decide) (by decide) (by decide) ⟨rfl, cn_J2_size⟩ rfl q245 q246 q247 q81 q248 (Nat.le_of_ble_eq_true rfl) dX1_findSizes_67 rfl h (ci_k (fun r2 Ω1 res h => ?_))
  refine zo_icmp_ge hY 151 dX1_findSizes_70 (by decide) h (fun c3 h => ?_) (fun c3 h => ?_)
  · refine zo_aload_n hY dX1_findSizes_151 rfl 0 rfl ?_
    refine zo_iload hY dX1_findSizes_152 5 rfl ?_
    refine zo_newa hY hJ (k := 35) (aty := .int) (by decide) rfl rfl (Or.inl rfl) q233 dX1_findSizes_154 h (fun Ω4 res h => ?_)
    refine zo_putR hY hJ LX1_82_0 rfl (Or.inl rfl) (Or.inl rfl) dX1_findSizes_156 h (fun Ω5 h => ?_)
    refine zo_aload hY dX1_findSizes_159 6 rfl ?_
    refine zo_iconst hY 0 (by decide) dX1_findSizes_161 ?_
    refine zo_aload_n hY dX1_findSizes_162 rfl 0 rfl ?_
    refine zo_getK hY LX1_82_0 rfl dX1_findSizes_163 h (fun j6 h => ?_)
    refine zo_iconst hY 0 (by decide) dX1_findSizes_166 ?_
    refine zo_iload hY dX1_findSizes_167 5 rfl ?_
    refine zo_acopy hY hJ (by decide) q1161 (Nat.le_of_ble_eq_true rfl) dX1_findSizes_169 h (fun Ω7 h => ?_)
    refine zo_aload_n hY dX1_findSizes_172 rfl 0 rfl ?_
    refine zo_getK hY LX1_82_0 rfl dX1_findSizes_173 h (fun j8 h => ?_)
    refine zo_callS hY (fun q hq => mt_J5_sort hJ hCon N j8 Ω7 q hq) (by decide) (by decide) cn_J5_sort rfl q1162 q1163 q87 q1164 (Nat.le_of_ble_eq_true rfl) dX1_findSizes_176 rfl h (cv_k (fun Ω9 res h => ?_))
    refine zo_iconst hY 1 (by decide) dX1_findSizes_179 ?_
    exact zo_zret hY hr dX1_findSizes_180 h
  · refine zo_aload_n hY dX1_findSizes_73 rfl 0 rfl ?_
    refine zo_getC hY LX1_20_0 rfl (fun Ω q => (hCon Ω q).1 1 _ rfl) dX1_findSizes_74 ?_
    refine zo_iload hY dX1_findSizes_77 7 rfl ?_
    refine zo_callV hY (fun q hq => mt_J2_get hJ hCon N 1 x8 Ω1 q hq) (by decide) (by decide) (by decide) ⟨rfl, cn_J2_get⟩ rfl q368 q369 q370 q81 q371 (Nat.le_of_ble_eq_true rfl) dX1_findSizes_79 rfl h (cr_k (fun r11 Ω10 res h => ?_))
    refine zo_castK hY (by decide) q366 (Or.inl rfl) dX1_findSizes_82 h (fun j12 h => ?_)
    refine zo_astore hY dX1_findSizes_85 (by decide) rfl (ls' := [(9, vr 3 j12), (0, vr 0 0), (1, vi x1), (2, vi x2), (3, vi x3), (5, vi x5), (6, vi x6), (7, vr 35 x7), (8, vi x8)]) rfl ?_
    refine zo_aload hY dX1_findSizes_87 0 rfl ?_
    refine zo_getK hY LX1_137_3 rfl dX1_findSizes_89 h (fun j13 h => ?_)
    refine zo_getI hY LX1_159_2 rfl dX1_findSizes_92 ?_
    refine zo_iload_n hY dX1_findSizes_95 rfl 2 rfl ?_
    refine zo_icmp_ne hY 145 dX1_findSizes_96 (by decide) h (fun c14 h => ?_) (fun c14 h => ?_)
    · refine zo_aload hY dX1_findSizes_99 0 rfl ?_
      refine zo_getI hY LX1_141_3 rfl dX1_findSizes_101 ?_
      refine zo_iload_n hY dX1_findSizes_104 rfl 3 rfl ?_
      refine zo_icmp_ne hY 145 dX1_findSizes_105 (by decide) h (fun c15 h => ?_) (fun c15 h => ?_)
      · refine zo_aload hY dX1_findSizes_108 0 rfl ?_
        refine zo_getI hY LX1_144_3 rfl dX1_findSizes_110 ?_
        refine zo_iload_n hY dX1_findSizes_113 rfl 4 rfl ?_
        refine zo_icmp_ne hY 145 dX1_findSizes_114 (by decide) h (fun c16 h => ?_) (fun c16 h => ?_)
        · refine zo_aload_n hY dX1_findSizes_117 rfl 1 rfl ?_
          refine zo_aload hY dX1_findSizes_118 0 rfl ?_
          refine zo_iload hY dX1_findSizes_120 5 rfl ?_
          refine zo_callV hY (fun q hq => mt_X1_isUsed hJ hCon N j12 x5 Ω10 q hq) (by decide) (by decide) (by decide) ⟨rfl, cn_X1_isUsed⟩ rfl q832 q834 qs19 q78 q835 (Nat.le_of_ble_eq_true rfl) dX1_findSizes_122 rfl h (ci_k (fun r18 Ω17 res h => ?_))
          refine zo_if_ne hY 131 dX1_findSizes_125 (by decide) h (fun c19 h => ?_) (fun c19 h => ?_)
          · refine zo_goto hY 145 dX1_findSizes_128 (by decide) ?_
            refine zo_sub [1, 2, 3, 4, 5, 6, 7, 8] rfl ?_
            exact ct_X1_findSizes_145 hY hJ hCon hr N K61 hK61 x1 x2 x3 x5 x6 x7 x8 Ω17 _ h
          · refine zo_aload hY dX1_findSizes_131 7 rfl ?_
            refine zo_iload hY dX1_findSizes_133 6 rfl ?_
            refine zo_aload_n hY dX1_findSizes_135 rfl 1 rfl ?_
            refine zo_aload hY dX1_findSizes_136 0 rfl ?_
            refine zo_callV hY (fun q hq => mt_X1_least hJ hCon N j12 Ω17 q hq) (by decide) (by decide) (by decide) ⟨rfl, cn_X1_least⟩ rfl q877 q879 qs21 q78 q880 (Nat.le_of_ble_eq_true rfl) dX1_findSizes_138 rfl h (ci_k (fun r21 Ω20 res h => ?_))
            refine zo_ast hY hJ (by decide) (Or.inl ⟨rfl, rfl, dX1_findSizes_141⟩) (fun _ => rfl) h (fun j22 Ω23 h => ?_)
            refine zo_iinc hY 1 dX1_findSizes_142 (by decide) (by decide) 6 rfl rfl (ls' := [(6, vi (x6 + 1)), (9, vr 3 j12), (0, vr 0 0), (1, vi x1), (2, vi x2), (3, vi x3), (5, vi x5), (7, vr 35 x7), (8, vi x8)]) rfl ?_
            refine zo_sub [2, 3, 4, 5, 6, 0, 7, 8] rfl ?_
            exact ct_X1_findSizes_145 hY hJ hCon hr N K61 hK61 x1 x2 x3 x5 (x6 + 1) x7 x8 Ω23 _ h
        · refine zo_sub [1, 2, 3, 4, 5, 6, 7, 8] rfl ?_
          exact ct_X1_findSizes_145 hY hJ hCon hr N K61 hK61 x1 x2 x3 x5 x6 x7 x8 Ω10 _ h
      · refine zo_sub [1, 2, 3, 4, 5, 6, 7, 8] rfl ?_
        exact ct_X1_findSizes_145 hY hJ hCon hr N K61 hK61 x1 x2 x3 x5 x6 x7 x8 Ω10 _ h
    · refine zo_sub [1, 2, 3, 4, 5, 6, 7, 8] rfl ?_
      exact ct_X1_findSizes_145 hY hJ hCon hr N K61 hK61 x1 x2 x3 x5 x6 x7 x8 Ω10 _ h
def fn_X1_findSizes_61 (N : Nat)  : Nat → Int32 → Int32 → Int32 → Int32 → Int32 → Nat → Int32 → zo_O → Option zo_R
  | 0, _, _, _, _, _, _, _, _ => none
  | n + 1, x1, x2, x3, x5, x6, x7, x8, Ω => bd_X1_findSizes_61 N  (fn_X1_findSizes_61 N  n) x1 x2 x3 x5 x6 x7 x8 Ω
theorem ct_X1_findSizes_61 {Y : zo_Y} (hY : zo_Gd Y cX1_findSizes 10 RX1 5) (hJ : zo_JC (zo_J Y)) (hCon : ∀ Ω, zo_J Y Ω → zo_Con Ω) (hr : zo_rt Y (Option.some Jvm.ClassFile.FieldType.boolean)) (N : Nat)   : ∀ (n : Nat) (x1 : Int32) (x2 : Int32) (x3 : Int32) (x5 : Int32) (x6 : Int32) (x7 : Nat) (x8 : Int32) (Ω : zo_O) (res : zo_R), fn_X1_findSizes_61 N  n x1 x2 x3 x5 x6 x7 x8 Ω = some res → TW Y res Ω 61 [(0, vr 0 0), (1, vi x1), (2, vi x2), (3, vi x3), (5, vi x5), (6, vi x6), (7, vr 35 x7), (8, vi x8)] [] := by
  intro n
  induction n with
  | zero => intro x1 x2 x3 x5 x6 x7 x8 Ω res h; exact nomatch (show (none : Option zo_R) = some res from h)
  | succ n ih => intro x1 x2 x3 x5 x6 x7 x8 Ω res h; exact cb_X1_findSizes_61 hY hJ hCon hr N  (fn_X1_findSizes_61 N  n)  ih x1 x2 x3 x5 x6 x7 x8 Ω res h
def fn_X1_findSizes (N : Nat) (x1 : Int32) (x2 : Int32) (x3 : Int32) (x4 : Int32) (x5 : Int32) (Ω : zo_O) : Option zo_R :=
  ci (fn_X1_isThere N x1 x5 Ω) fun r2 Ω1 =>
  if r2 = 0 then (
    fn_X1_findSizes_36 N Ω1
    ) else
  ci (fn_X1_isKind N x2 Ω1) fun r5 Ω4 =>
  if r5 = 0 then (
    fn_X1_findSizes_36 N Ω4
    ) else
  ci (fn_X1_isYear N x3 Ω4) fun r8 Ω7 =>
  if r8 = 0 then (
    fn_X1_findSizes_36 N Ω7
    ) else
  ci (fn_X1_in N x4 0 2000 Ω7) fun r11 Ω10 =>
  if r11 = 0 then (
    fn_X1_findSizes_36 N Ω10
    ) else
  cv (fn_X1_begins N x5 Ω10) fun Ω13 =>
  ci (fn_J2_size N 1 Ω13) fun r15 Ω14 =>
  gd (¬ r15 < 0 ∧ r15.toNatClampNeg ≤ 65536) <| ad 1 r15.toNatClampNeg <| lt (nw Ω14 35 r15.toNatClampNeg) fun Ω16 =>
  fn_X1_findSizes_61 N N x1 x2 x3 x5 0 (gC Ω14 35) 0 Ω16
theorem mt_X1_findSizes {G : zo_G} {J : zo_O → Prop} (hJ : zo_JC J) (hCon : ∀ Ω, J Ω → zo_Con Ω) (N : Nat) (x1 : Int32) (x2 : Int32) (x3 : Int32) (x4 : Int32) (x5 : Int32) (Ω : zo_O) (res : zo_R) (h : fn_X1_findSizes N x1 x2 x3 x4 x5 Ω = some res) : zo_MT G J yX1_findSizes cX1_findSizes 10 (Option.some Jvm.ClassFile.FieldType.boolean) 5 [vr 0 0, vi x1, vi x2, vi x3, vi x4, vi x5] Ω res := by
  refine zo_enter (by decide) rfl (Nat.le_of_ble_eq_true rfl) (fun Y hY eJ hr hmn => ?_)
  subst eJ
  show TW Y res Ω 0 [(0, vr 0 0), (1, vi x1), (2, vi x2), (3, vi x3), (4, vi x4), (5, vi x5)] []
  unfold fn_X1_findSizes at h
  refine zo_aload_n hY dX1_findSizes_0 rfl 0 rfl ?_
  refine zo_iload_n hY dX1_findSizes_1 rfl 1 rfl ?_
  refine zo_iload hY dX1_findSizes_2 5 rfl ?_
  refine zo_callV hY (fun q hq => mt_X1_isThere hJ hCon N x1 x5 Ω q hq) (by decide) (by decide) (by decide) ⟨rfl, cn_X1_isThere⟩ rfl q1076 q1078 qs31 q78 q1079 (Nat.le_of_ble_eq_true rfl) dX1_findSizes_4 rfl h (ci_k (fun r2 Ω1 res h => ?_))
  refine zo_if_eq hY 36 dX1_findSizes_7 (by decide) h (fun c3 h => ?_) (fun c3 h => ?_)
  · refine zo_sub [] rfl ?_
    exact ct_X1_findSizes_36 hY hJ hCon hr N Ω1 _ h
  · refine zo_iload_n hY dX1_findSizes_10 rfl 2 rfl ?_
    refine zo_callS hY (fun q hq => mt_X1_isKind hJ hCon N x2 Ω1 q hq) (by decide) (by decide) cn_X1_isKind rfl q360 q361 q78 q362 (Nat.le_of_ble_eq_true rfl) dX1_findSizes_11 rfl h (ci_k (fun r5 Ω4 res h => ?_))
    refine zo_if_eq hY 36 dX1_findSizes_14 (by decide) h (fun c6 h => ?_) (fun c6 h => ?_)
    · refine zo_sub [] rfl ?_
      exact ct_X1_findSizes_36 hY hJ hCon hr N Ω4 _ h
    · refine zo_iload_n hY dX1_findSizes_17 rfl 3 rfl ?_
      refine zo_callS hY (fun q hq => mt_X1_isYear hJ hCon N x3 Ω4 q hq) (by decide) (by decide) cn_X1_isYear rfl q242 q243 q78 q244 (Nat.le_of_ble_eq_true rfl) dX1_findSizes_18 rfl h (ci_k (fun r8 Ω7 res h => ?_))
      refine zo_if_eq hY 36 dX1_findSizes_21 (by decide) h (fun c9 h => ?_) (fun c9 h => ?_)
      · refine zo_sub [] rfl ?_
        exact ct_X1_findSizes_36 hY hJ hCon hr N Ω7 _ h
      · refine zo_iload hY dX1_findSizes_24 4 rfl ?_
        refine zo_iconst hY 0 (by decide) dX1_findSizes_26 ?_
        refine zo_sipush hY 2000 (by decide) dX1_findSizes_27 ?_
        refine zo_callS hY (fun q hq => mt_X1_in hJ hCon N x4 0 2000 Ω7 q hq) (by decide) (by decide) cn_X1_in rfl q239 q240 q78 q241 (Nat.le_of_ble_eq_true rfl) dX1_findSizes_30 rfl h (ci_k (fun r11 Ω10 res h => ?_))
        refine zo_if_ne hY 38 dX1_findSizes_33 (by decide) h (fun c12 h => ?_) (fun c12 h => ?_)
        · refine zo_sub [] rfl ?_
          exact ct_X1_findSizes_36 hY hJ hCon hr N Ω10 _ h
        · refine zo_aload_n hY dX1_findSizes_38 rfl 0 rfl ?_
          refine zo_iload hY dX1_findSizes_39 5 rfl ?_
          refine zo_callV hY (fun q hq => mt_X1_begins hJ hCon N x5 Ω10 q hq) (by decide) (by decide) (by decide) ⟨rfl, cn_X1_begins⟩ rfl q894 q896 qs24 q78 q897 (Nat.le_of_ble_eq_true rfl) dX1_findSizes_41 rfl h (cv_k (fun Ω13 res h => ?_))
          refine zo_iconst hY 0 (by decide) dX1_findSizes_44 ?_
          refine zo_istore hY dX1_findSizes_45 (by decide) rfl (ls' := [(6, vi 0), (0, vr 0 0), (1, vi x1), (2, vi x2), (3, vi x3), (4, vi x4), (5, vi x5)]) rfl ?_
          refine zo_aload_n hY dX1_findSizes_47 rfl 1 rfl ?_
          refine zo_getC hY LX1_20_0 rfl (fun Ω q => (hCon Ω q).1 1 _ rfl) dX1_findSizes_48 ?_
          refine zo_callV hY (fun q hq => mt_J2_size hJ hCon N 1 Ω13 q hq) (by decide) (by decide) (by decide) ⟨rfl, cn_J2_size⟩ rfl q245 q246 q247 q81 q248 (Nat.le_of_ble_eq_true rfl) dX1_findSizes_51 rfl h (ci_k (fun r15 Ω14 res h => ?_))
          refine zo_newa hY hJ (k := 35) (aty := .int) (by decide) rfl rfl (Or.inl rfl) q233 dX1_findSizes_54 h (fun Ω16 res h => ?_)
          refine zo_astore hY dX1_findSizes_56 (by decide) rfl (ls' := [(7, vr 35 (gC Ω14 35)), (6, vi 0), (0, vr 0 0), (1, vi x1), (2, vi x2), (3, vi x3), (4, vi x4), (5, vi x5)]) rfl ?_
          refine zo_iconst hY 0 (by decide) dX1_findSizes_58 ?_
          refine zo_istore hY dX1_findSizes_59 (by decide) rfl (ls' := [(8, vi 0), (7, vr 35 (gC Ω14 35)), (6, vi 0), (0, vr 0 0), (1, vi x1), (2, vi x2), (3, vi x3), (4, vi x4), (5, vi x5)]) rfl ?_
          refine zo_sub [3, 4, 5, 6, 8, 2, 1, 0] rfl ?_
          exact ct_X1_findSizes_61 hY hJ hCon hr N N x1 x2 x3 x5 0 (gC Ω14 35) 0 Ω16 _ h
theorem dX1_gapAt_0 : decode cX1_gapAt 0 = .ok (.aload_n 0, 1) := by decide +kernel
theorem dX1_gapAt_1 : decode cX1_gapAt 1 = .ok (.iconst 0, 1) := by decide +kernel
theorem dX1_gapAt_2 : decode cX1_gapAt 2 = .ok (.putfield 388, 3) := by decide +kernel
theorem dX1_gapAt_5 : decode cX1_gapAt 5 = .ok (.iconst 0, 1) := by decide +kernel
theorem dX1_gapAt_6 : decode cX1_gapAt 6 = .ok (.istore_n 3, 1) := by decide +kernel
theorem dX1_gapAt_7 : decode cX1_gapAt 7 = .ok (.iload_n 3, 1) := by decide +kernel
theorem dX1_gapAt_8 : decode cX1_gapAt 8 = .ok (.iconst 1, 1) := by decide +kernel
theorem dX1_gapAt_9 : decode cX1_gapAt 9 = .ok (.iadd, 1) := by decide +kernel
theorem dX1_gapAt_10 : decode cX1_gapAt 10 = .ok (.aload_n 0, 1) := by decide +kernel
theorem dX1_gapAt_11 : decode cX1_gapAt 11 = .ok (.getfield 82, 3) := by decide +kernel
theorem dX1_gapAt_14 : decode cX1_gapAt 14 = .ok (.arraylength, 1) := by decide +kernel
theorem dX1_gapAt_15 : decode cX1_gapAt 15 = .ok (.if_icmp .ge 51, 3) := by decide +kernel
theorem dX1_gapAt_18 : decode cX1_gapAt 18 = .ok (.aload_n 0, 1) := by decide +kernel
theorem dX1_gapAt_19 : decode cX1_gapAt 19 = .ok (.getfield 82, 3) := by decide +kernel
theorem dX1_gapAt_22 : decode cX1_gapAt 22 = .ok (.iload_n 3, 1) := by decide +kernel
theorem dX1_gapAt_23 : decode cX1_gapAt 23 = .ok (.iconst 1, 1) := by decide +kernel
theorem dX1_gapAt_24 : decode cX1_gapAt 24 = .ok (.iadd, 1) := by decide +kernel
theorem dX1_gapAt_25 : decode cX1_gapAt 25 = .ok (.iaload, 1) := by decide +kernel
theorem dX1_gapAt_26 : decode cX1_gapAt 26 = .ok (.aload_n 0, 1) := by decide +kernel
theorem dX1_gapAt_27 : decode cX1_gapAt 27 = .ok (.getfield 82, 3) := by decide +kernel
theorem dX1_gapAt_30 : decode cX1_gapAt 30 = .ok (.iload_n 3, 1) := by decide +kernel
theorem dX1_gapAt_31 : decode cX1_gapAt 31 = .ok (.iaload, 1) := by decide +kernel
theorem dX1_gapAt_32 : decode cX1_gapAt 32 = .ok (.isub, 1) := by decide +kernel
theorem dX1_gapAt_33 : decode cX1_gapAt 33 = .ok (.iload_n 1, 1) := by decide +kernel
theorem dX1_gapAt_34 : decode cX1_gapAt 34 = .ok (.if_icmp .gt 6, 3) := by decide +kernel
theorem dX1_gapAt_37 : decode cX1_gapAt 37 = .ok (.goto 23, 3) := by decide +kernel
theorem dX1_gapAt_40 : decode cX1_gapAt 40 = .ok (.aload_n 0, 1) := by decide +kernel
theorem dX1_gapAt_41 : decode cX1_gapAt 41 = .ok (.getfield 388, 3) := by decide +kernel
theorem dX1_gapAt_44 : decode cX1_gapAt 44 = .ok (.iload_n 2, 1) := by decide +kernel
theorem dX1_gapAt_45 : decode cX1_gapAt 45 = .ok (.if_icmp .ne 5, 3) := by decide +kernel
theorem dX1_gapAt_48 : decode cX1_gapAt 48 = .ok (.iload_n 3, 1) := by decide +kernel
theorem dX1_gapAt_49 : decode cX1_gapAt 49 = .ok (.ireturn, 1) := by decide +kernel
theorem dX1_gapAt_50 : decode cX1_gapAt 50 = .ok (.aload_n 0, 1) := by decide +kernel
theorem dX1_gapAt_51 : decode cX1_gapAt 51 = .ok (.dup, 1) := by decide +kernel
theorem dX1_gapAt_52 : decode cX1_gapAt 52 = .ok (.getfield 388, 3) := by decide +kernel
theorem dX1_gapAt_55 : decode cX1_gapAt 55 = .ok (.iconst 1, 1) := by decide +kernel
theorem dX1_gapAt_56 : decode cX1_gapAt 56 = .ok (.iadd, 1) := by decide +kernel
theorem dX1_gapAt_57 : decode cX1_gapAt 57 = .ok (.putfield 388, 3) := by decide +kernel
theorem dX1_gapAt_60 : decode cX1_gapAt 60 = .ok (.iinc 3 1, 3) := by decide +kernel
theorem dX1_gapAt_63 : decode cX1_gapAt 63 = .ok (.goto (-56), 3) := by decide +kernel
theorem dX1_gapAt_66 : decode cX1_gapAt 66 = .ok (.iconst (-1), 1) := by decide +kernel
theorem dX1_gapAt_67 : decode cX1_gapAt 67 = .ok (.ireturn, 1) := by decide +kernel
def fn_X1_gapAt_60 (N : Nat) (K7 : Int32 → Int32 → Int32 → zo_O → Option zo_R) (x1 : Int32) (x2 : Int32) (x3 : Int32) (Ω : zo_O) : Option zo_R :=
  K7 x1 x2 (x3 + 1) Ω
theorem ct_X1_gapAt_60 {Y : zo_Y} (hY : zo_Gd Y cX1_gapAt 4 RX1 0) (hJ : zo_JC (zo_J Y)) (hCon : ∀ Ω, zo_J Y Ω → zo_Con Ω) (hr : zo_rt Y (Option.some Jvm.ClassFile.FieldType.int)) (N : Nat) (K7 : Int32 → Int32 → Int32 → zo_O → Option zo_R) (hK7 : ∀ (x1 : Int32) (x2 : Int32) (x3 : Int32) (Ω : zo_O) (res : zo_R), K7 x1 x2 x3 Ω = some res → TW Y res Ω 7 [(0, vr 0 0), (1, vi x1), (2, vi x2), (3, vi x3)] []) (x1 : Int32) (x2 : Int32) (x3 : Int32) (Ω : zo_O) (res : zo_R) (h : fn_X1_gapAt_60 N K7 x1 x2 x3 Ω = some res) : TW Y res Ω 60 [(0, vr 0 0), (1, vi x1), (2, vi x2), (3, vi x3)] [] := by
  unfold fn_X1_gapAt_60 at h
  refine zo_iinc hY 1 dX1_gapAt_60 (by decide) (by decide) 3 rfl rfl (ls' := [(3, vi (x3 + 1)), (0, vr 0 0), (1, vi x1), (2, vi x2)]) rfl ?_
  refine zo_goto hY 7 dX1_gapAt_63 (by decide) ?_
  refine zo_sub [1, 2, 3, 0] rfl ?_
  exact hK7 x1 x2 (x3 + 1) Ω _ h
def bd_X1_gapAt_7 (N : Nat)  (K7 : Int32 → Int32 → Int32 → zo_O → Option zo_R) (x1 : Int32) (x2 : Int32) (x3 : Int32) (Ω : zo_O) : Option zo_R :=
  bk (gR Ω 0 0 21) 35 fun j1 =>
  if nI ((gL Ω 35 j1)) ≤ x3 + 1 then (
    rI ((-1)) Ω
    ) else
  bk (gR Ω 0 0 21) 35 fun j3 =>
  ix (x3 + 1) (gL Ω 35 j3) fun j4 =>
  bk (gR Ω 0 0 21) 35 fun j5 =>
  ix x3 (gL Ω 35 j5) fun j6 =>
  if x1 < (gI Ω 35 j3 j4) - (gI Ω 35 j5 j6) then (
    if gI Ω 0 0 22 = x2 then (
      rI x3 Ω
      ) else
    lt (sI Ω 0 0 22 ((gI Ω 0 0 22) + 1)) fun Ω9 =>
    fn_X1_gapAt_60 N K7 x1 x2 x3 Ω9
    ) else
  fn_X1_gapAt_60 N K7 x1 x2 x3 Ω
theorem cb_X1_gapAt_7 {Y : zo_Y} (hY : zo_Gd Y cX1_gapAt 4 RX1 0) (hJ : zo_JC (zo_J Y)) (hCon : ∀ Ω, zo_J Y Ω → zo_Con Ω) (hr : zo_rt Y (Option.some Jvm.ClassFile.FieldType.int)) (N : Nat)  (K7 : Int32 → Int32 → Int32 → zo_O → Option zo_R)  (hK7 : ∀ (x1 : Int32) (x2 : Int32) (x3 : Int32) (Ω : zo_O) (res : zo_R), K7 x1 x2 x3 Ω = some res → TW Y res Ω 7 [(0, vr 0 0), (1, vi x1), (2, vi x2), (3, vi x3)] []) (x1 : Int32) (x2 : Int32) (x3 : Int32) (Ω : zo_O) (res : zo_R) (h : bd_X1_gapAt_7 N  K7 x1 x2 x3 Ω = some res) : TW Y res Ω 7 [(0, vr 0 0), (1, vi x1), (2, vi x2), (3, vi x3)] [] := by
  unfold bd_X1_gapAt_7 at h
  refine zo_iload_n hY dX1_gapAt_7 rfl 3 rfl ?_
  refine zo_iconst hY 1 (by decide) dX1_gapAt_8 ?_
  refine zo_iadd hY dX1_gapAt_9 ?_
  refine zo_aload_n hY dX1_gapAt_10 rfl 0 rfl ?_
  refine zo_getK hY LX1_82_0 rfl dX1_gapAt_11 h (fun j1 h => ?_)
  refine zo_alen hY (by decide) (by decide) (fun _ => rfl) dX1_gapAt_14 ?_
  refine zo_icmp_ge hY 66 dX1_gapAt_15 (by decide) h (fun c2 h => ?_) (fun c2 h => ?_)
  · refine zo_iconst hY (-1) (by decide) dX1_gapAt_66 ?_
    exact zo_iret hY hr dX1_gapAt_67 h
  · refine zo_aload_n hY dX1_gapAt_18 rfl 0 rfl ?_
    refine zo_getK hY LX1_82_0 rfl dX1_gapAt_19 h (fun j3 h => ?_)
    refine zo_iload_n hY dX1_gapAt_22 rfl 3 rfl ?_
    refine zo_iconst hY 1 (by decide) dX1_gapAt_23 ?_
    refine zo_iadd hY dX1_gapAt_24 ?_
    refine zo_ald hY (by decide) (Or.inl ⟨rfl, dX1_gapAt_25⟩) (fun _ => rfl) h (fun j4 h => ?_)
    refine zo_aload_n hY dX1_gapAt_26 rfl 0 rfl ?_
    refine zo_getK hY LX1_82_0 rfl dX1_gapAt_27 h (fun j5 h => ?_)
    refine zo_iload_n hY dX1_gapAt_30 rfl 3 rfl ?_
    refine zo_ald hY (by decide) (Or.inl ⟨rfl, dX1_gapAt_31⟩) (fun _ => rfl) h (fun j6 h => ?_)
    refine zo_isub hY dX1_gapAt_32 ?_
    refine zo_iload_n hY dX1_gapAt_33 rfl 1 rfl ?_
    refine zo_icmp_gt hY 40 dX1_gapAt_34 (by decide) h (fun c7 h => ?_) (fun c7 h => ?_)
    · refine zo_aload_n hY dX1_gapAt_40 rfl 0 rfl ?_
      refine zo_getI hY LX1_388_0 rfl dX1_gapAt_41 ?_
      refine zo_iload_n hY dX1_gapAt_44 rfl 2 rfl ?_
      refine zo_icmp_ne hY 50 dX1_gapAt_45 (by decide) h (fun c8 h => ?_) (fun c8 h => ?_)
      · refine zo_iload_n hY dX1_gapAt_48 rfl 3 rfl ?_
        exact zo_iret hY hr dX1_gapAt_49 h
      · refine zo_aload_n hY dX1_gapAt_50 rfl 0 rfl ?_
        refine zo_dup hY dX1_gapAt_51 (Or.inr ⟨_, rfl⟩) ?_
        refine zo_getI hY LX1_388_0 rfl dX1_gapAt_52 ?_
        refine zo_iconst hY 1 (by decide) dX1_gapAt_55 ?_
        refine zo_iadd hY dX1_gapAt_56 ?_
        refine zo_putI hY hJ LX1_388_0 rfl (Or.inl rfl) dX1_gapAt_57 h (fun Ω9 h => ?_)
        exact ct_X1_gapAt_60 hY hJ hCon hr N K7 hK7 x1 x2 x3 Ω9 _ h
    · refine zo_goto hY 60 dX1_gapAt_37 (by decide) ?_
      exact ct_X1_gapAt_60 hY hJ hCon hr N K7 hK7 x1 x2 x3 Ω _ h
def fn_X1_gapAt_7 (N : Nat)  : Nat → Int32 → Int32 → Int32 → zo_O → Option zo_R
  | 0, _, _, _, _ => none
  | n + 1, x1, x2, x3, Ω => bd_X1_gapAt_7 N  (fn_X1_gapAt_7 N  n) x1 x2 x3 Ω
theorem ct_X1_gapAt_7 {Y : zo_Y} (hY : zo_Gd Y cX1_gapAt 4 RX1 0) (hJ : zo_JC (zo_J Y)) (hCon : ∀ Ω, zo_J Y Ω → zo_Con Ω) (hr : zo_rt Y (Option.some Jvm.ClassFile.FieldType.int)) (N : Nat)   : ∀ (n : Nat) (x1 : Int32) (x2 : Int32) (x3 : Int32) (Ω : zo_O) (res : zo_R), fn_X1_gapAt_7 N  n x1 x2 x3 Ω = some res → TW Y res Ω 7 [(0, vr 0 0), (1, vi x1), (2, vi x2), (3, vi x3)] [] := by
  intro n
  induction n with
  | zero => intro x1 x2 x3 Ω res h; exact nomatch (show (none : Option zo_R) = some res from h)
  | succ n ih => intro x1 x2 x3 Ω res h; exact cb_X1_gapAt_7 hY hJ hCon hr N  (fn_X1_gapAt_7 N  n)  ih x1 x2 x3 Ω res h
def fn_X1_gapAt (N : Nat) (x1 : Int32) (x2 : Int32) (Ω : zo_O) : Option zo_R :=
  lt (sI Ω 0 0 22 0) fun Ω1 =>
  fn_X1_gapAt_7 N N x1 x2 0 Ω1
theorem mt_X1_gapAt {G : zo_G} {J : zo_O → Prop} (hJ : zo_JC J) (hCon : ∀ Ω, J Ω → zo_Con Ω) (N : Nat) (x1 : Int32) (x2 : Int32) (Ω : zo_O) (res : zo_R) (h : fn_X1_gapAt N x1 x2 Ω = some res) : zo_MT G J yX1_gapAt cX1_gapAt 4 (Option.some Jvm.ClassFile.FieldType.int) 0 [vr 0 0, vi x1, vi x2] Ω res := by
  refine zo_enter (by decide) rfl (Nat.le_of_ble_eq_true rfl) (fun Y hY eJ hr hmn => ?_)
  subst eJ
  show TW Y res Ω 0 [(0, vr 0 0), (1, vi x1), (2, vi x2)] []
  unfold fn_X1_gapAt at h
  refine zo_aload_n hY dX1_gapAt_0 rfl 0 rfl ?_
  refine zo_iconst hY 0 (by decide) dX1_gapAt_1 ?_
  refine zo_putI hY hJ LX1_388_0 rfl (Or.inl rfl) dX1_gapAt_2 h (fun Ω1 h => ?_)
  refine zo_iconst hY 0 (by decide) dX1_gapAt_5 ?_
  refine zo_istore_n hY dX1_gapAt_6 rfl (by decide) rfl (ls' := [(3, vi 0), (0, vr 0 0), (1, vi x1), (2, vi x2)]) rfl ?_
  refine zo_sub [1, 2, 3, 0] rfl ?_
  exact ct_X1_gapAt_7 hY hJ hCon hr N N x1 x2 0 Ω1 _ h
theorem dX1_gaps_0 : decode cX1_gaps 0 = .ok (.aload_n 0, 1) := by decide +kernel
theorem dX1_gaps_1 : decode cX1_gaps 1 = .ok (.iload_n 1, 1) := by decide +kernel
theorem dX1_gaps_2 : decode cX1_gaps 2 = .ok (.iload_n 2, 1) := by decide +kernel
theorem dX1_gaps_3 : decode cX1_gaps 3 = .ok (.iload_n 3, 1) := by decide +kernel
theorem dX1_gaps_4 : decode cX1_gaps 4 = .ok (.iload 4, 2) := by decide +kernel
theorem dX1_gaps_6 : decode cX1_gaps 6 = .ok (.iload 5, 2) := by decide +kernel
theorem dX1_gaps_8 : decode cX1_gaps 8 = .ok (.invokevirtual 391, 3) := by decide +kernel
theorem dX1_gaps_11 : decode cX1_gaps 11 = .ok (.ifCond .ne 5, 3) := by decide +kernel
theorem dX1_gaps_14 : decode cX1_gaps 14 = .ok (.iconst (-1), 1) := by decide +kernel
theorem dX1_gaps_15 : decode cX1_gaps 15 = .ok (.ireturn, 1) := by decide +kernel
theorem dX1_gaps_16 : decode cX1_gaps 16 = .ok (.aload_n 0, 1) := by decide +kernel
theorem dX1_gaps_17 : decode cX1_gaps 17 = .ok (.iload 4, 2) := by decide +kernel
theorem dX1_gaps_19 : decode cX1_gaps 19 = .ok (.iconst (-1), 1) := by decide +kernel
theorem dX1_gaps_20 : decode cX1_gaps 20 = .ok (.invokevirtual 395, 3) := by decide +kernel
theorem dX1_gaps_23 : decode cX1_gaps 23 = .ok (.istore 6, 2) := by decide +kernel
theorem dX1_gaps_25 : decode cX1_gaps 25 = .ok (.aload_n 0, 1) := by decide +kernel
theorem dX1_gaps_26 : decode cX1_gaps 26 = .ok (.getfield 388, 3) := by decide +kernel
theorem dX1_gaps_29 : decode cX1_gaps 29 = .ok (.ireturn, 1) := by decide +kernel
def fn_X1_gaps (N : Nat) (x1 : Int32) (x2 : Int32) (x3 : Int32) (x4 : Int32) (x5 : Int32) (Ω : zo_O) : Option zo_R :=
  ci (fn_X1_findSizes N x1 x2 x3 x4 x5 Ω) fun r2 Ω1 =>
  if r2 = 0 then (
    rI ((-1)) Ω1
    ) else
  ci (fn_X1_gapAt N x4 ((-1)) Ω1) fun r5 Ω4 =>
  rI (gI Ω4 0 0 22) Ω4
theorem mt_X1_gaps {G : zo_G} {J : zo_O → Prop} (hJ : zo_JC J) (hCon : ∀ Ω, J Ω → zo_Con Ω) (N : Nat) (x1 : Int32) (x2 : Int32) (x3 : Int32) (x4 : Int32) (x5 : Int32) (Ω : zo_O) (res : zo_R) (h : fn_X1_gaps N x1 x2 x3 x4 x5 Ω = some res) : zo_MT G J yX1_gaps cX1_gaps 7 (Option.some Jvm.ClassFile.FieldType.int) 6 [vr 0 0, vi x1, vi x2, vi x3, vi x4, vi x5] Ω res := by
  refine zo_enter (by decide) rfl (Nat.le_of_ble_eq_true rfl) (fun Y hY eJ hr hmn => ?_)
  subst eJ
  show TW Y res Ω 0 [(0, vr 0 0), (1, vi x1), (2, vi x2), (3, vi x3), (4, vi x4), (5, vi x5)] []
  unfold fn_X1_gaps at h
  refine zo_aload_n hY dX1_gaps_0 rfl 0 rfl ?_
  refine zo_iload_n hY dX1_gaps_1 rfl 1 rfl ?_
  refine zo_iload_n hY dX1_gaps_2 rfl 2 rfl ?_
  refine zo_iload_n hY dX1_gaps_3 rfl 3 rfl ?_
  refine zo_iload hY dX1_gaps_4 4 rfl ?_
  refine zo_iload hY dX1_gaps_6 5 rfl ?_
  refine zo_callV hY (fun q hq => mt_X1_findSizes hJ hCon N x1 x2 x3 x4 x5 Ω q hq) (by decide) (by decide) (by decide) ⟨rfl, cn_X1_findSizes⟩ rfl q1157 q1159 qs37 q78 q1160 (Nat.le_of_ble_eq_true rfl) dX1_gaps_8 rfl h (ci_k (fun r2 Ω1 res h => ?_))
  refine zo_if_ne hY 16 dX1_gaps_11 (by decide) h (fun c3 h => ?_) (fun c3 h => ?_)
  · refine zo_iconst hY (-1) (by decide) dX1_gaps_14 ?_
    exact zo_iret hY hr dX1_gaps_15 h
  · refine zo_aload_n hY dX1_gaps_16 rfl 0 rfl ?_
    refine zo_iload hY dX1_gaps_17 4 rfl ?_
    refine zo_iconst hY (-1) (by decide) dX1_gaps_19 ?_
    refine zo_callV hY (fun q hq => mt_X1_gapAt hJ hCon N x4 ((-1)) Ω1 q hq) (by decide) (by decide) (by decide) ⟨rfl, cn_X1_gapAt⟩ rfl q1203 q1205 qs38 q78 q1206 (Nat.le_of_ble_eq_true rfl) dX1_gaps_20 rfl h (ci_k (fun r5 Ω4 res h => ?_))
    refine zo_istore hY dX1_gaps_23 (by decide) rfl (ls' := [(6, vi r5), (0, vr 0 0), (1, vi x1), (2, vi x2), (3, vi x3), (4, vi x4), (5, vi x5)]) rfl ?_
    refine zo_aload_n hY dX1_gaps_25 rfl 1 rfl ?_
    refine zo_getI hY LX1_388_0 rfl dX1_gaps_26 ?_
    exact zo_iret hY hr dX1_gaps_29 h
theorem dX1_gap_0 : decode cX1_gap 0 = .ok (.iload 7, 2) := by decide +kernel
theorem dX1_gap_2 : decode cX1_gap 2 = .ok (.iconst 0, 1) := by decide +kernel
theorem dX1_gap_3 : decode cX1_gap 3 = .ok (.iconst 1, 1) := by decide +kernel
theorem dX1_gap_4 : decode cX1_gap 4 = .ok (.invokestatic 3, 3) := by decide +kernel
theorem dX1_gap_7 : decode cX1_gap 7 = .ok (.ifCond .eq 22, 3) := by decide +kernel
theorem dX1_gap_10 : decode cX1_gap 10 = .ok (.iload 6, 2) := by decide +kernel
theorem dX1_gap_12 : decode cX1_gap 12 = .ok (.ifCond .lt 17, 3) := by decide +kernel
theorem dX1_gap_15 : decode cX1_gap 15 = .ok (.aload_n 0, 1) := by decide +kernel
theorem dX1_gap_16 : decode cX1_gap 16 = .ok (.iload_n 1, 1) := by decide +kernel
theorem dX1_gap_17 : decode cX1_gap 17 = .ok (.iload_n 2, 1) := by decide +kernel
theorem dX1_gap_18 : decode cX1_gap 18 = .ok (.iload_n 3, 1) := by decide +kernel
theorem dX1_gap_19 : decode cX1_gap 19 = .ok (.iload 4, 2) := by decide +kernel
theorem dX1_gap_21 : decode cX1_gap 21 = .ok (.iload 5, 2) := by decide +kernel
theorem dX1_gap_23 : decode cX1_gap 23 = .ok (.invokevirtual 391, 3) := by decide +kernel
theorem dX1_gap_26 : decode cX1_gap 26 = .ok (.ifCond .ne 5, 3) := by decide +kernel
theorem dX1_gap_29 : decode cX1_gap 29 = .ok (.iconst (-1), 1) := by decide +kernel
theorem dX1_gap_30 : decode cX1_gap 30 = .ok (.ireturn, 1) := by decide +kernel
theorem dX1_gap_31 : decode cX1_gap 31 = .ok (.aload_n 0, 1) := by decide +kernel
theorem dX1_gap_32 : decode cX1_gap 32 = .ok (.iload 4, 2) := by decide +kernel
theorem dX1_gap_34 : decode cX1_gap 34 = .ok (.iload 6, 2) := by decide +kernel
theorem dX1_gap_36 : decode cX1_gap 36 = .ok (.invokevirtual 395, 3) := by decide +kernel
theorem dX1_gap_39 : decode cX1_gap 39 = .ok (.istore 8, 2) := by decide +kernel
theorem dX1_gap_41 : decode cX1_gap 41 = .ok (.iload 8, 2) := by decide +kernel
theorem dX1_gap_43 : decode cX1_gap 43 = .ok (.iconst (-1), 1) := by decide +kernel
theorem dX1_gap_44 : decode cX1_gap 44 = .ok (.if_icmp .ne 5, 3) := by decide +kernel
theorem dX1_gap_47 : decode cX1_gap 47 = .ok (.iconst (-1), 1) := by decide +kernel
theorem dX1_gap_48 : decode cX1_gap 48 = .ok (.ireturn, 1) := by decide +kernel
theorem dX1_gap_49 : decode cX1_gap 49 = .ok (.aload_n 0, 1) := by decide +kernel
theorem dX1_gap_50 : decode cX1_gap 50 = .ok (.iload_n 2, 1) := by decide +kernel
theorem dX1_gap_51 : decode cX1_gap 51 = .ok (.aload_n 0, 1) := by decide +kernel
theorem dX1_gap_52 : decode cX1_gap 52 = .ok (.getfield 16, 3) := by decide +kernel
theorem dX1_gap_55 : decode cX1_gap 55 = .ok (.iload_n 1, 1) := by decide +kernel
theorem dX1_gap_56 : decode cX1_gap 56 = .ok (.invokevirtual 116, 3) := by decide +kernel
theorem dX1_gap_59 : decode cX1_gap 59 = .ok (.checkcast 93, 3) := by decide +kernel
theorem dX1_gap_62 : decode cX1_gap 62 = .ok (.getfield 177, 3) := by decide +kernel
theorem dX1_gap_65 : decode cX1_gap 65 = .ok (.aload_n 0, 1) := by decide +kernel
theorem dX1_gap_66 : decode cX1_gap 66 = .ok (.getfield 16, 3) := by decide +kernel
theorem dX1_gap_69 : decode cX1_gap 69 = .ok (.iload_n 1, 1) := by decide +kernel
theorem dX1_gap_70 : decode cX1_gap 70 = .ok (.invokevirtual 116, 3) := by decide +kernel
theorem dX1_gap_73 : decode cX1_gap 73 = .ok (.checkcast 93, 3) := by decide +kernel
theorem dX1_gap_76 : decode cX1_gap 76 = .ok (.getfield 180, 3) := by decide +kernel
theorem dX1_gap_79 : decode cX1_gap 79 = .ok (.iload 5, 2) := by decide +kernel
theorem dX1_gap_81 : decode cX1_gap 81 = .ok (.invokevirtual 308, 3) := by decide +kernel
theorem dX1_gap_84 : decode cX1_gap 84 = .ok (.astore 9, 2) := by decide +kernel
theorem dX1_gap_86 : decode cX1_gap 86 = .ok (.iload_n 3, 1) := by decide +kernel
theorem dX1_gap_87 : decode cX1_gap 87 = .ok (.iload 7, 2) := by decide +kernel
theorem dX1_gap_89 : decode cX1_gap 89 = .ok (.ifCond .ne 22, 3) := by decide +kernel
theorem dX1_gap_92 : decode cX1_gap 92 = .ok (.aload 9, 2) := by decide +kernel
theorem dX1_gap_94 : decode cX1_gap 94 = .ok (.aload_n 0, 1) := by decide +kernel
theorem dX1_gap_95 : decode cX1_gap 95 = .ok (.getfield 82, 3) := by decide +kernel
theorem dX1_gap_98 : decode cX1_gap 98 = .ok (.iload 8, 2) := by decide +kernel
theorem dX1_gap_100 : decode cX1_gap 100 = .ok (.iconst 1, 1) := by decide +kernel
theorem dX1_gap_101 : decode cX1_gap 101 = .ok (.iadd, 1) := by decide +kernel
theorem dX1_gap_102 : decode cX1_gap 102 = .ok (.iaload, 1) := by decide +kernel
theorem dX1_gap_103 : decode cX1_gap 103 = .ok (.iconst 1, 1) := by decide +kernel
theorem dX1_gap_104 : decode cX1_gap 104 = .ok (.isub, 1) := by decide +kernel
theorem dX1_gap_105 : decode cX1_gap 105 = .ok (.invokevirtual 336, 3) := by decide +kernel
theorem dX1_gap_108 : decode cX1_gap 108 = .ok (.goto 17, 3) := by decide +kernel
theorem dX1_gap_111 : decode cX1_gap 111 = .ok (.aload 9, 2) := by decide +kernel
theorem dX1_gap_113 : decode cX1_gap 113 = .ok (.aload_n 0, 1) := by decide +kernel
theorem dX1_gap_114 : decode cX1_gap 114 = .ok (.getfield 82, 3) := by decide +kernel
theorem dX1_gap_117 : decode cX1_gap 117 = .ok (.iload 8, 2) := by decide +kernel
theorem dX1_gap_119 : decode cX1_gap 119 = .ok (.iaload, 1) := by decide +kernel
theorem dX1_gap_120 : decode cX1_gap 120 = .ok (.iconst 1, 1) := by decide +kernel
theorem dX1_gap_121 : decode cX1_gap 121 = .ok (.iadd, 1) := by decide +kernel
theorem dX1_gap_122 : decode cX1_gap 122 = .ok (.invokevirtual 324, 3) := by decide +kernel
theorem dX1_gap_125 : decode cX1_gap 125 = .ok (.isub, 1) := by decide +kernel
theorem dX1_gap_126 : decode cX1_gap 126 = .ok (.ireturn, 1) := by decide +kernel
def fn_X1_gap_29 (N : Nat)   (Ω : zo_O) : Option zo_R :=
  rI ((-1)) Ω
theorem ct_X1_gap_29 {Y : zo_Y} (hY : zo_Gd Y cX1_gap 10 RX1 9) (hJ : zo_JC (zo_J Y)) (hCon : ∀ Ω, zo_J Y Ω → zo_Con Ω) (hr : zo_rt Y (Option.some Jvm.ClassFile.FieldType.int)) (N : Nat)    (Ω : zo_O) (res : zo_R) (h : fn_X1_gap_29 N   Ω = some res) : TW Y res Ω 29 [] [] := by
  unfold fn_X1_gap_29 at h
  refine zo_iconst hY (-1) (by decide) dX1_gap_29 ?_
  exact zo_iret hY hr dX1_gap_30 h
def fn_X1_gap_125 (N : Nat)  (s0 : Int32) (s1 : Int32) (Ω : zo_O) : Option zo_R :=
  rI (s1 - s0) Ω
theorem ct_X1_gap_125 {Y : zo_Y} (hY : zo_Gd Y cX1_gap 10 RX1 9) (hJ : zo_JC (zo_J Y)) (hCon : ∀ Ω, zo_J Y Ω → zo_Con Ω) (hr : zo_rt Y (Option.some Jvm.ClassFile.FieldType.int)) (N : Nat)   (s0 : Int32) (s1 : Int32) (Ω : zo_O) (res : zo_R) (h : fn_X1_gap_125 N  s0 s1 Ω = some res) : TW Y res Ω 125 [] [vi s0, vi s1] := by
  unfold fn_X1_gap_125 at h
  refine zo_isub hY dX1_gap_125 ?_
  exact zo_iret hY hr dX1_gap_126 h
def fn_X1_gap (N : Nat) (x1 : Int32) (x2 : Int32) (x3 : Int32) (x4 : Int32) (x5 : Int32) (x6 : Int32) (x7 : Int32) (Ω : zo_O) : Option zo_R :=
  ci (fn_X1_in N x7 0 1 Ω) fun r2 Ω1 =>
  if r2 = 0 then (
    fn_X1_gap_29 N Ω1
    ) else
  if x6 < 0 then (
    fn_X1_gap_29 N Ω1
    ) else
  ci (fn_X1_findSizes N x1 x2 x3 x4 x5 Ω1) fun r6 Ω5 =>
  if r6 = 0 then (
    fn_X1_gap_29 N Ω5
    ) else
  ci (fn_X1_gapAt N x4 x6 Ω5) fun r9 Ω8 =>
  if r9 = (-1) then (
    rI ((-1)) Ω8
    ) else
  cr (fn_J2_get N 0 x1 Ω8) fun r12 Ω11 =>
  bk r12 2 fun j13 =>
  cr (fn_J2_get N 0 x1 Ω11) fun r15 Ω14 =>
  bk r15 2 fun j16 =>
  ck (fn_X1_curve N x2 (gI Ω11 2 j13 2) (gI Ω14 2 j16 3) x5 Ω14) 14 fun r18 Ω17 =>
  if x7 = 0 then (
    bk (gR Ω17 0 0 21) 35 fun j20 =>
    ix (r9 + 1) (gL Ω17 35 j20) fun j21 =>
    ci (fn_X17_lastAge N r18 ((gI Ω17 35 j20 j21) - 1) Ω17) fun r23 Ω22 =>
    fn_X1_gap_125 N r23 x3 Ω22
    ) else
  bk (gR Ω17 0 0 21) 35 fun j24 =>
  ix r9 (gL Ω17 35 j24) fun j25 =>
  ci (fn_X17_firstAge N r18 ((gI Ω17 35 j24 j25) + 1) Ω17) fun r27 Ω26 =>
  fn_X1_gap_125 N r27 x3 Ω26
theorem mt_X1_gap {G : zo_G} {J : zo_O → Prop} (hJ : zo_JC J) (hCon : ∀ Ω, J Ω → zo_Con Ω) (N : Nat) (x1 : Int32) (x2 : Int32) (x3 : Int32) (x4 : Int32) (x5 : Int32) (x6 : Int32) (x7 : Int32) (Ω : zo_O) (res : zo_R) (h : fn_X1_gap N x1 x2 x3 x4 x5 x6 x7 Ω = some res) : zo_MT G J yX1_gap cX1_gap 10 (Option.some Jvm.ClassFile.FieldType.int) 9 [vr 0 0, vi x1, vi x2, vi x3, vi x4, vi x5, vi x6, vi x7] Ω res := by
  refine zo_enter (by decide) rfl (Nat.le_of_ble_eq_true rfl) (fun Y hY eJ hr hmn => ?_)
  subst eJ
  show TW Y res Ω 0 [(0, vr 0 0), (1, vi x1), (2, vi x2), (3, vi x3), (4, vi x4), (5, vi x5), (6, vi x6), (7, vi x7)] []
  unfold fn_X1_gap at h
  refine zo_iload hY dX1_gap_0 7 rfl ?_
  refine zo_iconst hY 0 (by decide) dX1_gap_2 ?_
  refine zo_iconst hY 1 (by decide) dX1_gap_3 ?_
  refine zo_callS hY (fun q hq => mt_X1_in hJ hCon N x7 0 1 Ω q hq) (by decide) (by decide) cn_X1_in rfl q239 q240 q78 q241 (Nat.le_of_ble_eq_true rfl) dX1_gap_4 rfl h (ci_k (fun r2 Ω1 res h => ?_))
  refine zo_if_eq hY 29 dX1_gap_7 (by decide) h (fun c3 h => ?_) (fun c3 h => ?_)
  · refine zo_sub [] rfl ?_
    exact ct_X1_gap_29 hY hJ hCon hr N Ω1 _ h
  · refine zo_iload hY dX1_gap_10 6 rfl ?_
    refine zo_if_lt hY 29 dX1_gap_12 (by decide) h (fun c4 h => ?_) (fun c4 h => ?_)
    · refine zo_sub [] rfl ?_
      exact ct_X1_gap_29 hY hJ hCon hr N Ω1 _ h
    · refine zo_aload_n hY dX1_gap_15 rfl 0 rfl ?_
      refine zo_iload_n hY dX1_gap_16 rfl 1 rfl ?_
      refine zo_iload_n hY dX1_gap_17 rfl 2 rfl ?_
      refine zo_iload_n hY dX1_gap_18 rfl 3 rfl ?_
      refine zo_iload hY dX1_gap_19 4 rfl ?_
      refine zo_iload hY dX1_gap_21 5 rfl ?_
      refine zo_callV hY (fun q hq => mt_X1_findSizes hJ hCon N x1 x2 x3 x4 x5 Ω1 q hq) (by decide) (by decide) (by decide) ⟨rfl, cn_X1_findSizes⟩ rfl q1157 q1159 qs37 q78 q1160 (Nat.le_of_ble_eq_true rfl) dX1_gap_23 rfl h (ci_k (fun r6 Ω5 res h => ?_))
      refine zo_if_ne hY 31 dX1_gap_26 (by decide) h (fun c7 h => ?_) (fun c7 h => ?_)
      · refine zo_sub [] rfl ?_
        exact ct_X1_gap_29 hY hJ hCon hr N Ω5 _ h
      · refine zo_aload_n hY dX1_gap_31 rfl 0 rfl ?_
        refine zo_iload hY dX1_gap_32 4 rfl ?_
        refine zo_iload hY dX1_gap_34 6 rfl ?_
        refine zo_callV hY (fun q hq => mt_X1_gapAt hJ hCon N x4 x6 Ω5 q hq) (by decide) (by decide) (by decide) ⟨rfl, cn_X1_gapAt⟩ rfl q1203 q1205 qs38 q78 q1206 (Nat.le_of_ble_eq_true rfl) dX1_gap_36 rfl h (ci_k (fun r9 Ω8 res h => ?_))
        refine zo_istore hY dX1_gap_39 (by decide) rfl (ls' := [(8, vi r9), (0, vr 0 0), (1, vi x1), (2, vi x2), (3, vi x3), (4, vi x4), (5, vi x5), (6, vi x6), (7, vi x7)]) rfl ?_
        refine zo_iload hY dX1_gap_41 0 rfl ?_
        refine zo_iconst hY (-1) (by decide) dX1_gap_43 ?_
        refine zo_icmp_ne hY 49 dX1_gap_44 (by decide) h (fun c10 h => ?_) (fun c10 h => ?_)
        · refine zo_iconst hY (-1) (by decide) dX1_gap_47 ?_
          exact zo_iret hY hr dX1_gap_48 h
        · refine zo_aload_n hY dX1_gap_49 rfl 1 rfl ?_
          refine zo_iload_n hY dX1_gap_50 rfl 3 rfl ?_
          refine zo_aload_n hY dX1_gap_51 rfl 1 rfl ?_
          refine zo_getC hY LX1_16_0 rfl (fun Ω q => (hCon Ω q).1 0 _ rfl) dX1_gap_52 ?_
          refine zo_iload_n hY dX1_gap_55 rfl 2 rfl ?_
          refine zo_callV hY (fun q hq => mt_J2_get hJ hCon N 0 x1 Ω8 q hq) (by decide) (by decide) (by decide) ⟨rfl, cn_J2_get⟩ rfl q368 q369 q370 q81 q371 (Nat.le_of_ble_eq_true rfl) dX1_gap_56 rfl h (cr_k (fun r12 Ω11 res h => ?_))
          refine zo_castK hY (by decide) q249 (Or.inl rfl) dX1_gap_59 h (fun j13 h => ?_)
          refine zo_getI hY LX1_177_2 rfl dX1_gap_62 ?_
          refine zo_aload_n hY dX1_gap_65 rfl 1 rfl ?_
          refine zo_getC hY LX1_16_0 rfl (fun Ω q => (hCon Ω q).1 0 _ rfl) dX1_gap_66 ?_
          refine zo_iload_n hY dX1_gap_69 rfl 2 rfl ?_
          refine zo_callV hY (fun q hq => mt_J2_get hJ hCon N 0 x1 Ω11 q hq) (by decide) (by decide) (by decide) ⟨rfl, cn_J2_get⟩ rfl q368 q369 q370 q81 q371 (Nat.le_of_ble_eq_true rfl) dX1_gap_70 rfl h (cr_k (fun r15 Ω14 res h => ?_))
          refine zo_castK hY (by decide) q249 (Or.inl rfl) dX1_gap_73 h (fun j16 h => ?_)
          refine zo_getI hY LX1_180_2 rfl dX1_gap_76 ?_
          refine zo_iload hY dX1_gap_79 6 rfl ?_
          refine zo_callV hY (fun q hq => mt_X1_curve hJ hCon N x2 (gI Ω11 2 j13 2) (gI Ω14 2 j16 3) x5 Ω14 q hq) (by decide) (by decide) (by decide) ⟨rfl, cn_X1_curve⟩ rfl q898 q900 qs25 q78 q901 (Nat.le_of_ble_eq_true rfl) dX1_gap_81 rfl h (ck_k (fun r18 Ω17 res h => ?_))
          refine zo_astore hY dX1_gap_84 (by decide) rfl (ls' := [(9, vr 14 r18), (8, vi r9), (0, vr 0 0), (1, vi x1), (2, vi x2), (3, vi x3), (4, vi x4), (5, vi x5), (6, vi x6), (7, vi x7)]) rfl ?_
          refine zo_iload_n hY dX1_gap_86 rfl 5 rfl ?_
          refine zo_iload hY dX1_gap_87 9 rfl ?_
          refine zo_if_ne hY 111 dX1_gap_89 (by decide) h (fun c19 h => ?_) (fun c19 h => ?_)
          · refine zo_aload hY dX1_gap_92 0 rfl ?_
            refine zo_aload_n hY dX1_gap_94 rfl 2 rfl ?_
            refine zo_getK hY LX1_82_0 rfl dX1_gap_95 h (fun j20 h => ?_)
            refine zo_iload hY dX1_gap_98 1 rfl ?_
            refine zo_iconst hY 1 (by decide) dX1_gap_100 ?_
            refine zo_iadd hY dX1_gap_101 ?_
            refine zo_ald hY (by decide) (Or.inl ⟨rfl, dX1_gap_102⟩) (fun _ => rfl) h (fun j21 h => ?_)
            refine zo_iconst hY 1 (by decide) dX1_gap_103 ?_
            refine zo_isub hY dX1_gap_104 ?_
            refine zo_callV hY (fun q hq => mt_X17_lastAge hJ hCon N r18 ((gI Ω17 35 j20 j21) - 1) Ω17 q hq) (by decide) (by decide) (by decide) ⟨rfl, cn_X17_lastAge⟩ rfl q1114 q1115 q1116 q110 q1117 (Nat.le_of_ble_eq_true rfl) dX1_gap_105 rfl h (ci_k (fun r23 Ω22 res h => ?_))
            refine zo_goto hY 125 dX1_gap_108 (by decide) ?_
            refine zo_sub [] rfl ?_
            exact ct_X1_gap_125 hY hJ hCon hr N r23 x3 Ω22 _ h
          · refine zo_aload hY dX1_gap_111 0 rfl ?_
            refine zo_aload_n hY dX1_gap_113 rfl 2 rfl ?_
            refine zo_getK hY LX1_82_0 rfl dX1_gap_114 h (fun j24 h => ?_)
            refine zo_iload hY dX1_gap_117 1 rfl ?_
            refine zo_ald hY (by decide) (Or.inl ⟨rfl, dX1_gap_119⟩) (fun _ => rfl) h (fun j25 h => ?_)
            refine zo_iconst hY 1 (by decide) dX1_gap_120 ?_
            refine zo_iadd hY dX1_gap_121 ?_
            refine zo_callV hY (fun q hq => mt_X17_firstAge hJ hCon N r18 ((gI Ω17 35 j24 j25) + 1) Ω17 q hq) (by decide) (by decide) (by decide) ⟨rfl, cn_X17_firstAge⟩ rfl q1102 q1103 q1104 q110 q1105 (Nat.le_of_ble_eq_true rfl) dX1_gap_122 rfl h (ci_k (fun r27 Ω26 res h => ?_))
            refine zo_sub [] rfl ?_
            exact ct_X1_gap_125 hY hJ hCon hr N r27 x3 Ω26 _ h
theorem dX0_habit_0 : decode cX0_habit 0 = .ok (.aload 4, 2) := by decide +kernel
theorem dX0_habit_2 : decode cX0_habit 2 = .ok (.iconst 0, 1) := by decide +kernel
theorem dX0_habit_3 : decode cX0_habit 3 = .ok (.aload_n 0, 1) := by decide +kernel
theorem dX0_habit_4 : decode cX0_habit 4 = .ok (.iload_n 1, 1) := by decide +kernel
theorem dX0_habit_5 : decode cX0_habit 5 = .ok (.iload_n 2, 1) := by decide +kernel
theorem dX0_habit_6 : decode cX0_habit 6 = .ok (.iload_n 3, 1) := by decide +kernel
theorem dX0_habit_7 : decode cX0_habit 7 = .ok (.invokevirtual 7, 3) := by decide +kernel
theorem dX0_habit_10 : decode cX0_habit 10 = .ok (.i2l, 1) := by decide +kernel
theorem dX0_habit_11 : decode cX0_habit 11 = .ok (.lastore, 1) := by decide +kernel
theorem dX0_habit_12 : decode cX0_habit 12 = .ok (.goto 7, 3) := by decide +kernel
theorem dX0_habit_15 : decode cX0_habit 15 = .ok (.astore 5, 2) := by decide +kernel
theorem dX0_habit_17 : decode cX0_habit 17 = .ok (.iconst 1, 1) := by decide +kernel
theorem dX0_habit_18 : decode cX0_habit 18 = .ok (.ireturn, 1) := by decide +kernel
theorem dX0_habit_19 : decode cX0_habit 19 = .ok (.iconst 0, 1) := by decide +kernel
theorem dX0_habit_20 : decode cX0_habit 20 = .ok (.ireturn, 1) := by decide +kernel
def fn_X0_habit (N : Nat) (x1 : Int32) (x2 : Int32) (x3 : Int32) (Ω : zo_O) : Option zo_R :=
  chN (fn_X1_habit N x1 x2 x3 Ω) (fun r4 Ω1 =>
    ix 0 (gL Ω1 42 0) fun j5 => lt (sJ Ω1 42 0 j5 r4.toInt64) fun Ω6 =>
    rI 0 Ω6
    ) fun Ω3 =>
  rI 1 Ω3
theorem mt_X0_habit {G : zo_G} {J : zo_O → Prop} (hJ : zo_JC J) (hCon : ∀ Ω, J Ω → zo_Con Ω) (N : Nat) (x1 : Int32) (x2 : Int32) (x3 : Int32) (Ω : zo_O) (res : zo_R) (h : fn_X0_habit N x1 x2 x3 Ω = some res) : zo_MW G J yX0_habit cX0_habit 6 (Option.some Jvm.ClassFile.FieldType.int) [(0, 12, 15, 13)] 7 [vr 0 0, vi x1, vi x2, vi x3, vr 42 0] Ω res := by
  refine zo_enterW (by decide) rfl (Nat.le_of_ble_eq_true rfl) (fun Y hY eJ hr hh => ?_)
  subst eJ
  show TW Y res Ω 0 [(0, vr 0 0), (1, vi x1), (2, vi x2), (3, vi x3), (4, vr 42 0)] []
  unfold fn_X0_habit at h
  refine zo_aload hY dX0_habit_0 4 rfl ?_
  refine zo_iconst hY 0 (by decide) dX0_habit_2 ?_
  refine zo_aload_n hY dX0_habit_3 rfl 0 rfl ?_
  refine zo_iload_n hY dX0_habit_4 rfl 1 rfl ?_
  refine zo_iload_n hY dX0_habit_5 rfl 2 rfl ?_
  refine zo_iload_n hY dX0_habit_6 rfl 3 rfl ?_
  refine zo_callHN hY hh (fun q hq => mt_X1_habit hJ hCon N x1 x2 x3 Ω q hq) (by decide) (by decide) (by decide) ⟨rfl, cn_X1_habit⟩ rfl q1238 q1239 q1240 q78 q1241 q1237 (by decide) (by decide) (Nat.le_of_ble_eq_true rfl) dX0_habit_7 dX0_habit_15 (by decide) rfl rfl (ls' := [(0, vr 0 0), (1, vi x1), (2, vi x2), (3, vi x3), (4, vr 42 0)]) rfl h (fun r4 Ω1 res h => ?_) (fun Ω3 res h => ?_)
  · refine zo_i2l hY dX0_habit_10 ?_
    refine zo_last hY hJ dX0_habit_11 (fun _ => rfl) h (fun j5 Ω6 h => ?_)
    refine zo_goto hY 19 dX0_habit_12 (by decide) ?_
    refine zo_iconst hY 0 (by decide) dX0_habit_19 ?_
    exact zo_iret hY hr dX0_habit_20 h
  · refine zo_iconst hY 1 (by decide) dX0_habit_17 ?_
    exact zo_iret hY hr dX0_habit_18 h
