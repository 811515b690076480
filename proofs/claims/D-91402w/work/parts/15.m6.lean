set_option maxRecDepth 100000
theorem LX2_184_1 : zo_FL RX2 184 1 79 := ⟨by decide, by decide, by decide, Or.inl ⟨_, q1350, Or.inl rfl⟩⟩
theorem cn_X2_isGap : zo_Cn yX2_isGap 5 := ⟨by decide, by decide, by decide +kernel⟩
theorem cn_X2_sorts : zo_Cn yX2_sorts 4 := ⟨by decide, by decide, by decide +kernel⟩
theorem dX2_sorts_0 : decode cX2_sorts 0 = .ok (.iconst 0, 1) := by decide +kernel
theorem dX2_sorts_1 : decode cX2_sorts 1 = .ok (.istore 5, 2) := by decide +kernel
theorem dX2_sorts_3 : decode cX2_sorts 3 = .ok (.iconst 0, 1) := by decide +kernel
theorem dX2_sorts_4 : decode cX2_sorts 4 = .ok (.istore 6, 2) := by decide +kernel
theorem dX2_sorts_6 : decode cX2_sorts 6 = .ok (.iload 6, 2) := by decide +kernel
theorem dX2_sorts_8 : decode cX2_sorts 8 = .ok (.aload_n 0, 1) := by decide +kernel
theorem dX2_sorts_9 : decode cX2_sorts 9 = .ok (.getfield 197, 3) := by decide +kernel
theorem dX2_sorts_12 : decode cX2_sorts 12 = .ok (.if_icmp .ge 121, 3) := by decide +kernel
theorem dX2_sorts_15 : decode cX2_sorts 15 = .ok (.aload_n 0, 1) := by decide +kernel
theorem dX2_sorts_16 : decode cX2_sorts 16 = .ok (.getfield 25, 3) := by decide +kernel
theorem dX2_sorts_19 : decode cX2_sorts 19 = .ok (.iload 6, 2) := by decide +kernel
theorem dX2_sorts_21 : decode cX2_sorts 21 = .ok (.iaload, 1) := by decide +kernel
theorem dX2_sorts_22 : decode cX2_sorts 22 = .ok (.iload_n 1, 1) := by decide +kernel
theorem dX2_sorts_23 : decode cX2_sorts 23 = .ok (.if_icmp .ne 104, 3) := by decide +kernel
theorem dX2_sorts_26 : decode cX2_sorts 26 = .ok (.aload_n 0, 1) := by decide +kernel
theorem dX2_sorts_27 : decode cX2_sorts 27 = .ok (.getfield 28, 3) := by decide +kernel
theorem dX2_sorts_30 : decode cX2_sorts 30 = .ok (.iload 6, 2) := by decide +kernel
theorem dX2_sorts_32 : decode cX2_sorts 32 = .ok (.iaload, 1) := by decide +kernel
theorem dX2_sorts_33 : decode cX2_sorts 33 = .ok (.iload_n 2, 1) := by decide +kernel
theorem dX2_sorts_34 : decode cX2_sorts 34 = .ok (.if_icmp .ne 93, 3) := by decide +kernel
theorem dX2_sorts_37 : decode cX2_sorts 37 = .ok (.aload_n 0, 1) := by decide +kernel
theorem dX2_sorts_38 : decode cX2_sorts 38 = .ok (.getfield 40, 3) := by decide +kernel
theorem dX2_sorts_41 : decode cX2_sorts 41 = .ok (.iload 6, 2) := by decide +kernel
theorem dX2_sorts_43 : decode cX2_sorts 43 = .ok (.iaload, 1) := by decide +kernel
theorem dX2_sorts_44 : decode cX2_sorts 44 = .ok (.iload_n 3, 1) := by decide +kernel
theorem dX2_sorts_45 : decode cX2_sorts 45 = .ok (.if_icmp .ne 82, 3) := by decide +kernel
theorem dX2_sorts_48 : decode cX2_sorts 48 = .ok (.aload_n 0, 1) := by decide +kernel
theorem dX2_sorts_49 : decode cX2_sorts 49 = .ok (.iload 6, 2) := by decide +kernel
theorem dX2_sorts_51 : decode cX2_sorts 51 = .ok (.iload 4, 2) := by decide +kernel
theorem dX2_sorts_53 : decode cX2_sorts 53 = .ok (.invokevirtual 353, 3) := by decide +kernel
theorem dX2_sorts_56 : decode cX2_sorts 56 = .ok (.ifCond .ne 6, 3) := by decide +kernel
theorem dX2_sorts_59 : decode cX2_sorts 59 = .ok (.goto 68, 3) := by decide +kernel
theorem dX2_sorts_62 : decode cX2_sorts 62 = .ok (.iload 5, 2) := by decide +kernel
theorem dX2_sorts_64 : decode cX2_sorts 64 = .ok (.istore 7, 2) := by decide +kernel
theorem dX2_sorts_66 : decode cX2_sorts 66 = .ok (.iload 7, 2) := by decide +kernel
theorem dX2_sorts_68 : decode cX2_sorts 68 = .ok (.ifCond .le 43, 3) := by decide +kernel
theorem dX2_sorts_71 : decode cX2_sorts 71 = .ok (.aload_n 0, 1) := by decide +kernel
theorem dX2_sorts_72 : decode cX2_sorts 72 = .ok (.getfield 184, 3) := by decide +kernel
theorem dX2_sorts_75 : decode cX2_sorts 75 = .ok (.iload 7, 2) := by decide +kernel
theorem dX2_sorts_77 : decode cX2_sorts 77 = .ok (.iconst 1, 1) := by decide +kernel
theorem dX2_sorts_78 : decode cX2_sorts 78 = .ok (.isub, 1) := by decide +kernel
theorem dX2_sorts_79 : decode cX2_sorts 79 = .ok (.iaload, 1) := by decide +kernel
theorem dX2_sorts_80 : decode cX2_sorts 80 = .ok (.aload_n 0, 1) := by decide +kernel
theorem dX2_sorts_81 : decode cX2_sorts 81 = .ok (.iload 6, 2) := by decide +kernel
theorem dX2_sorts_83 : decode cX2_sorts 83 = .ok (.invokevirtual 356, 3) := by decide +kernel
theorem dX2_sorts_86 : decode cX2_sorts 86 = .ok (.if_icmp .le 25, 3) := by decide +kernel
theorem dX2_sorts_89 : decode cX2_sorts 89 = .ok (.aload_n 0, 1) := by decide +kernel
theorem dX2_sorts_90 : decode cX2_sorts 90 = .ok (.getfield 184, 3) := by decide +kernel
theorem dX2_sorts_93 : decode cX2_sorts 93 = .ok (.iload 7, 2) := by decide +kernel
theorem dX2_sorts_95 : decode cX2_sorts 95 = .ok (.aload_n 0, 1) := by decide +kernel
theorem dX2_sorts_96 : decode cX2_sorts 96 = .ok (.getfield 184, 3) := by decide +kernel
theorem dX2_sorts_99 : decode cX2_sorts 99 = .ok (.iload 7, 2) := by decide +kernel
theorem dX2_sorts_101 : decode cX2_sorts 101 = .ok (.iconst 1, 1) := by decide +kernel
theorem dX2_sorts_102 : decode cX2_sorts 102 = .ok (.isub, 1) := by decide +kernel
theorem dX2_sorts_103 : decode cX2_sorts 103 = .ok (.iaload, 1) := by decide +kernel
theorem dX2_sorts_104 : decode cX2_sorts 104 = .ok (.iastore, 1) := by decide +kernel
theorem dX2_sorts_105 : decode cX2_sorts 105 = .ok (.iinc 7 (-1), 3) := by decide +kernel
theorem dX2_sorts_108 : decode cX2_sorts 108 = .ok (.goto (-42), 3) := by decide +kernel
theorem dX2_sorts_111 : decode cX2_sorts 111 = .ok (.aload_n 0, 1) := by decide +kernel
theorem dX2_sorts_112 : decode cX2_sorts 112 = .ok (.getfield 184, 3) := by decide +kernel
theorem dX2_sorts_115 : decode cX2_sorts 115 = .ok (.iload 7, 2) := by decide +kernel
theorem dX2_sorts_117 : decode cX2_sorts 117 = .ok (.aload_n 0, 1) := by decide +kernel
theorem dX2_sorts_118 : decode cX2_sorts 118 = .ok (.iload 6, 2) := by decide +kernel
theorem dX2_sorts_120 : decode cX2_sorts 120 = .ok (.invokevirtual 356, 3) := by decide +kernel
theorem dX2_sorts_123 : decode cX2_sorts 123 = .ok (.iastore, 1) := by decide +kernel
theorem dX2_sorts_124 : decode cX2_sorts 124 = .ok (.iinc 5 1, 3) := by decide +kernel
theorem dX2_sorts_127 : decode cX2_sorts 127 = .ok (.iinc 6 1, 3) := by decide +kernel
theorem dX2_sorts_130 : decode cX2_sorts 130 = .ok (.goto (-124), 3) := by decide +kernel
theorem dX2_sorts_133 : decode cX2_sorts 133 = .ok (.iload 5, 2) := by decide +kernel
theorem dX2_sorts_135 : decode cX2_sorts 135 = .ok (.ireturn, 1) := by decide +kernel
def fn_X2_sorts_127 (N : Nat) (K6 : Int32 → Int32 → Int32 → Int32 → Int32 → Int32 → zo_O → Option zo_R) (x1 : Int32) (x2 : Int32) (x3 : Int32) (x4 : Int32) (x5 : Int32) (x6 : Int32) (Ω : zo_O) : Option zo_R :=
  K6 x1 x2 x3 x4 x5 (x6 + 1) Ω
theorem ct_X2_sorts_127 {Y : zo_Y} (hY : zo_Gd Y cX2_sorts 8 RX2 3) (hJ : zo_JC (zo_J Y)) (hCon : ∀ Ω, zo_J Y Ω → zo_Con Ω) (hr : zo_rt Y (Option.some Jvm.ClassFile.FieldType.int)) (N : Nat) (K6 : Int32 → Int32 → Int32 → Int32 → Int32 → Int32 → zo_O → Option zo_R) (hK6 : ∀ (x1 : Int32) (x2 : Int32) (x3 : Int32) (x4 : Int32) (x5 : Int32) (x6 : Int32) (Ω : zo_O) (res : zo_R), K6 x1 x2 x3 x4 x5 x6 Ω = some res → TW Y res Ω 6 [(0, vr 1 0), (1, vi x1), (2, vi x2), (3, vi x3), (4, vi x4), (5, vi x5), (6, vi x6)] []) (x1 : Int32) (x2 : Int32) (x3 : Int32) (x4 : Int32) (x5 : Int32) (x6 : Int32) (Ω : zo_O) (res : zo_R) (h : fn_X2_sorts_127 N K6 x1 x2 x3 x4 x5 x6 Ω = some res) : TW Y res Ω 127 [(0, vr 1 0), (1, vi x1), (2, vi x2), (3, vi x3), (4, vi x4), (5, vi x5), (6, vi x6)] [] := by
  unfold fn_X2_sorts_127 at h
  refine zo_iinc hY 1 dX2_sorts_127 (by decide) (by decide) 6 rfl rfl (ls' := [(6, vi (x6 + 1)), (0, vr 1 0), (1, vi x1), (2, vi x2), (3, vi x3), (4, vi x4), (5, vi x5)]) rfl ?_
  refine zo_goto hY 6 dX2_sorts_130 (by decide) ?_
  refine zo_sub [1, 2, 3, 4, 5, 6, 0] rfl ?_
  exact hK6 x1 x2 x3 x4 x5 (x6 + 1) Ω _ h
def fn_X2_sorts_111 (N : Nat) (K6 : Int32 → Int32 → Int32 → Int32 → Int32 → Int32 → zo_O → Option zo_R) (x1 : Int32) (x2 : Int32) (x3 : Int32) (x4 : Int32) (x5 : Int32) (x6 : Int32) (x7 : Int32) (Ω : zo_O) : Option zo_R :=
  ci (fn_X2_lowOf N x6 Ω) fun r2 Ω1 =>
  ix x7 120 fun j3 => lt (sI Ω1 32 47 j3 r2) fun Ω4 =>
  fn_X2_sorts_127 N K6 x1 x2 x3 x4 (x5 + 1) x6 Ω4
theorem ct_X2_sorts_111 {Y : zo_Y} (hY : zo_Gd Y cX2_sorts 8 RX2 3) (hJ : zo_JC (zo_J Y)) (hCon : ∀ Ω, zo_J Y Ω → zo_Con Ω) (hr : zo_rt Y (Option.some Jvm.ClassFile.FieldType.int)) (N : Nat) (K6 : Int32 → Int32 → Int32 → Int32 → Int32 → Int32 → zo_O → Option zo_R) (hK6 : ∀ (x1 : Int32) (x2 : Int32) (x3 : Int32) (x4 : Int32) (x5 : Int32) (x6 : Int32) (Ω : zo_O) (res : zo_R), K6 x1 x2 x3 x4 x5 x6 Ω = some res → TW Y res Ω 6 [(0, vr 1 0), (1, vi x1), (2, vi x2), (3, vi x3), (4, vi x4), (5, vi x5), (6, vi x6)] []) (x1 : Int32) (x2 : Int32) (x3 : Int32) (x4 : Int32) (x5 : Int32) (x6 : Int32) (x7 : Int32) (Ω : zo_O) (res : zo_R) (h : fn_X2_sorts_111 N K6 x1 x2 x3 x4 x5 x6 x7 Ω = some res) : TW Y res Ω 111 [(0, vr 1 0), (1, vi x1), (2, vi x2), (3, vi x3), (4, vi x4), (5, vi x5), (6, vi x6), (7, vi x7)] [] := by
  unfold fn_X2_sorts_111 at h
  refine zo_aload_n hY dX2_sorts_111 rfl 0 rfl ?_
  refine zo_getC hY LX2_184_1 rfl (fun Ω q => (hCon Ω q).2.1 79 _ rfl) dX2_sorts_112 ?_
  refine zo_iload hY dX2_sorts_115 7 rfl ?_
  refine zo_aload_n hY dX2_sorts_117 rfl 0 rfl ?_
  refine zo_iload hY dX2_sorts_118 6 rfl ?_
  refine zo_callV hY (fun q hq => mt_X2_lowOf hJ hCon N x6 Ω q hq) (by decide) (by decide) (by decide) ⟨rfl, cn_X2_lowOf⟩ rfl q1683 q1685 qs55 q82 q1686 (Nat.le_of_ble_eq_true rfl) dX2_sorts_120 rfl h (ci_k (fun r2 Ω1 res h => ?_))
  refine zo_ast hY hJ (by decide) (Or.inl ⟨rfl, rfl, dX2_sorts_123⟩) (fun q => (hCon _ q).2.2.2 32 47 120 rfl) h (fun j3 Ω4 h => ?_)
  refine zo_iinc hY 1 dX2_sorts_124 (by decide) (by decide) 5 rfl rfl (ls' := [(5, vi (x5 + 1)), (0, vr 1 0), (1, vi x1), (2, vi x2), (3, vi x3), (4, vi x4), (6, vi x6), (7, vi x7)]) rfl ?_
  refine zo_sub [1, 2, 3, 4, 5, 0, 6] rfl ?_
  exact ct_X2_sorts_127 hY hJ hCon hr N K6 hK6 x1 x2 x3 x4 (x5 + 1) x6 Ω4 _ h
def bd_X2_sorts_66 (N : Nat) (K6 : Int32 → Int32 → Int32 → Int32 → Int32 → Int32 → zo_O → Option zo_R) (K66 : Int32 → Int32 → Int32 → Int32 → Int32 → Int32 → Int32 → zo_O → Option zo_R) (x1 : Int32) (x2 : Int32) (x3 : Int32) (x4 : Int32) (x5 : Int32) (x6 : Int32) (x7 : Int32) (Ω : zo_O) : Option zo_R :=
  if x7 ≤ 0 then (
    fn_X2_sorts_111 N K6 x1 x2 x3 x4 x5 x6 x7 Ω
    ) else
  ix (x7 - 1) 120 fun j2 =>
  ci (fn_X2_lowOf N x6 Ω) fun r4 Ω3 =>
  if gI Ω 32 47 j2 ≤ r4 then (
    fn_X2_sorts_111 N K6 x1 x2 x3 x4 x5 x6 x7 Ω3
    ) else
  ix (x7 - 1) 120 fun j6 =>
  ix x7 120 fun j7 => lt (sI Ω3 32 47 j7 (gI Ω3 32 47 j6)) fun Ω8 =>
  K66 x1 x2 x3 x4 x5 x6 (x7 + (-1)) Ω8
theorem cb_X2_sorts_66 {Y : zo_Y} (hY : zo_Gd Y cX2_sorts 8 RX2 3) (hJ : zo_JC (zo_J Y)) (hCon : ∀ Ω, zo_J Y Ω → zo_Con Ω) (hr : zo_rt Y (Option.some Jvm.ClassFile.FieldType.int)) (N : Nat) (K6 : Int32 → Int32 → Int32 → Int32 → Int32 → Int32 → zo_O → Option zo_R) (K66 : Int32 → Int32 → Int32 → Int32 → Int32 → Int32 → Int32 → zo_O → Option zo_R) (hK6 : ∀ (x1 : Int32) (x2 : Int32) (x3 : Int32) (x4 : Int32) (x5 : Int32) (x6 : Int32) (Ω : zo_O) (res : zo_R), K6 x1 x2 x3 x4 x5 x6 Ω = some res → TW Y res Ω 6 [(0, vr 1 0), (1, vi x1), (2, vi x2), (3, vi x3), (4, vi x4), (5, vi x5), (6, vi x6)] []) (hK66 : ∀ (x1 : Int32) (x2 : Int32) (x3 : Int32) (x4 : Int32) (x5 : Int32) (x6 : Int32) (x7 : Int32) (Ω : zo_O) (res : zo_R), K66 x1 x2 x3 x4 x5 x6 x7 Ω = some res → TW Y res Ω 66 [(0, vr 1 0), (1, vi x1), (2, vi x2), (3, vi x3), (4, vi x4), (5, vi x5), (6, vi x6), (7, vi x7)] []) (x1 : Int32) (x2 : Int32) (x3 : Int32) (x4 : Int32) (x5 : Int32) (x6 : Int32) (x7 : Int32) (Ω : zo_O) (res : zo_R) (h : bd_X2_sorts_66 N K6 K66 x1 x2 x3 x4 x5 x6 x7 Ω = some res) : TW Y res Ω 66 [(0, vr 1 0), (1, vi x1), (2, vi x2), (3, vi x3), (4, vi x4), (5, vi x5), (6, vi x6), (7, vi x7)] [] := by
  unfold bd_X2_sorts_66 at h
  refine zo_iload hY dX2_sorts_66 7 rfl ?_
  refine zo_if_le hY 111 dX2_sorts_68 (by decide) h (fun c1 h => ?_) (fun c1 h => ?_)
  · exact ct_X2_sorts_111 hY hJ hCon hr N K6 hK6 x1 x2 x3 x4 x5 x6 x7 Ω _ h
  · refine zo_aload_n hY dX2_sorts_71 rfl 0 rfl ?_
    refine zo_getC hY LX2_184_1 rfl (fun Ω q => (hCon Ω q).2.1 79 _ rfl) dX2_sorts_72 ?_
    refine zo_iload hY dX2_sorts_75 7 rfl ?_
    refine zo_iconst hY 1 (by decide) dX2_sorts_77 ?_
    refine zo_isub hY dX2_sorts_78 ?_
    refine zo_ald hY (by decide) (Or.inl ⟨rfl, dX2_sorts_79⟩) (fun q => (hCon _ q).2.2.2 32 47 120 rfl) h (fun j2 h => ?_)
    refine zo_aload_n hY dX2_sorts_80 rfl 0 rfl ?_
    refine zo_iload hY dX2_sorts_81 6 rfl ?_
    refine zo_callV hY (fun q hq => mt_X2_lowOf hJ hCon N x6 Ω q hq) (by decide) (by decide) (by decide) ⟨rfl, cn_X2_lowOf⟩ rfl q1683 q1685 qs55 q82 q1686 (Nat.le_of_ble_eq_true rfl) dX2_sorts_83 rfl h (ci_k (fun r4 Ω3 res h => ?_))
    refine zo_icmp_le hY 111 dX2_sorts_86 (by decide) h (fun c5 h => ?_) (fun c5 h => ?_)
    · exact ct_X2_sorts_111 hY hJ hCon hr N K6 hK6 x1 x2 x3 x4 x5 x6 x7 Ω3 _ h
    · refine zo_aload_n hY dX2_sorts_89 rfl 0 rfl ?_
      refine zo_getC hY LX2_184_1 rfl (fun Ω q => (hCon Ω q).2.1 79 _ rfl) dX2_sorts_90 ?_
      refine zo_iload hY dX2_sorts_93 7 rfl ?_
      refine zo_aload_n hY dX2_sorts_95 rfl 0 rfl ?_
      refine zo_getC hY LX2_184_1 rfl (fun Ω q => (hCon Ω q).2.1 79 _ rfl) dX2_sorts_96 ?_
      refine zo_iload hY dX2_sorts_99 7 rfl ?_
      refine zo_iconst hY 1 (by decide) dX2_sorts_101 ?_
      refine zo_isub hY dX2_sorts_102 ?_
      refine zo_ald hY (by decide) (Or.inl ⟨rfl, dX2_sorts_103⟩) (fun q => (hCon _ q).2.2.2 32 47 120 rfl) h (fun j6 h => ?_)
      refine zo_ast hY hJ (by decide) (Or.inl ⟨rfl, rfl, dX2_sorts_104⟩) (fun q => (hCon _ q).2.2.2 32 47 120 rfl) h (fun j7 Ω8 h => ?_)
      refine zo_iinc hY (-1) dX2_sorts_105 (by decide) (by decide) 7 rfl rfl (ls' := [(7, vi (x7 + (-1))), (0, vr 1 0), (1, vi x1), (2, vi x2), (3, vi x3), (4, vi x4), (5, vi x5), (6, vi x6)]) rfl ?_
      refine zo_goto hY 66 dX2_sorts_108 (by decide) ?_
      refine zo_sub [1, 2, 3, 4, 5, 6, 7, 0] rfl ?_
      exact hK66 x1 x2 x3 x4 x5 x6 (x7 + (-1)) Ω8 _ h
def fn_X2_sorts_66 (N : Nat) (K6 : Int32 → Int32 → Int32 → Int32 → Int32 → Int32 → zo_O → Option zo_R) : Nat → Int32 → Int32 → Int32 → Int32 → Int32 → Int32 → Int32 → zo_O → Option zo_R
  | 0, _, _, _, _, _, _, _, _ => none
  | n + 1, x1, x2, x3, x4, x5, x6, x7, Ω => bd_X2_sorts_66 N K6 (fn_X2_sorts_66 N K6 n) x1 x2 x3 x4 x5 x6 x7 Ω
theorem ct_X2_sorts_66 {Y : zo_Y} (hY : zo_Gd Y cX2_sorts 8 RX2 3) (hJ : zo_JC (zo_J Y)) (hCon : ∀ Ω, zo_J Y Ω → zo_Con Ω) (hr : zo_rt Y (Option.some Jvm.ClassFile.FieldType.int)) (N : Nat) (K6 : Int32 → Int32 → Int32 → Int32 → Int32 → Int32 → zo_O → Option zo_R) (hK6 : ∀ (x1 : Int32) (x2 : Int32) (x3 : Int32) (x4 : Int32) (x5 : Int32) (x6 : Int32) (Ω : zo_O) (res : zo_R), K6 x1 x2 x3 x4 x5 x6 Ω = some res → TW Y res Ω 6 [(0, vr 1 0), (1, vi x1), (2, vi x2), (3, vi x3), (4, vi x4), (5, vi x5), (6, vi x6)] []) : ∀ (n : Nat) (x1 : Int32) (x2 : Int32) (x3 : Int32) (x4 : Int32) (x5 : Int32) (x6 : Int32) (x7 : Int32) (Ω : zo_O) (res : zo_R), fn_X2_sorts_66 N K6 n x1 x2 x3 x4 x5 x6 x7 Ω = some res → TW Y res Ω 66 [(0, vr 1 0), (1, vi x1), (2, vi x2), (3, vi x3), (4, vi x4), (5, vi x5), (6, vi x6), (7, vi x7)] [] := by
  intro n
  induction n with
  | zero => intro x1 x2 x3 x4 x5 x6 x7 Ω res h; exact nomatch (show (none : Option zo_R) = some res from h)
  | succ n ih => intro x1 x2 x3 x4 x5 x6 x7 Ω res h; exact cb_X2_sorts_66 hY hJ hCon hr N K6 (fn_X2_sorts_66 N K6 n) hK6 ih x1 x2 x3 x4 x5 x6 x7 Ω res h
def bd_X2_sorts_6 (N : Nat)  (K6 : Int32 → Int32 → Int32 → Int32 → Int32 → Int32 → zo_O → Option zo_R) (x1 : Int32) (x2 : Int32) (x3 : Int32) (x4 : Int32) (x5 : Int32) (x6 : Int32) (Ω : zo_O) : Option zo_R :=
  if gI Ω 1 0 8 ≤ x6 then (
    rI x5 Ω
    ) else
  ix x6 120 fun j2 =>
  if gI Ω 32 5 j2 = x1 then (
    ix x6 120 fun j4 =>
    if gI Ω 32 6 j4 = x2 then (
      ix x6 120 fun j6 =>
      if gI Ω 32 10 j6 = x3 then (
        ci (fn_X2_isUsed N x6 x4 Ω) fun r9 Ω8 =>
        if r9 = 0 then (
          fn_X2_sorts_127 N K6 x1 x2 x3 x4 x5 x6 Ω8
          ) else
        fn_X2_sorts_66 N K6 N x1 x2 x3 x4 x5 x6 x5 Ω8
        ) else
      fn_X2_sorts_127 N K6 x1 x2 x3 x4 x5 x6 Ω
      ) else
    fn_X2_sorts_127 N K6 x1 x2 x3 x4 x5 x6 Ω
    ) else
  fn_X2_sorts_127 N K6 x1 x2 x3 x4 x5 x6 Ω
theorem cb_X2_sorts_6 {Y : zo_Y} (hY : zo_Gd Y cX2_sorts 8 RX2 3) (hJ : zo_JC (zo_J Y)) (hCon : ∀ Ω, zo_J Y Ω → zo_Con Ω) (hr : zo_rt Y (Option.some Jvm.ClassFile.FieldType.int)) (N : Nat)  (K6 : Int32 → Int32 → Int32 → Int32 → Int32 → Int32 → zo_O → Option zo_R)  (hK6 : ∀ (x1 : Int32) (x2 : Int32) (x3 : Int32) (x4 : Int32) (x5 : Int32) (x6 : Int32) (Ω : zo_O) (res : zo_R), K6 x1 x2 x3 x4 x5 x6 Ω = some res → TW Y res Ω 6 [(0, vr 1 0), (1, vi x1), (2, vi x2), (3, vi x3), (4, vi x4), (5, vi x5), (6, vi x6)] []) (x1 : Int32) (x2 : Int32) (x3 : Int32) (x4 : Int32) (x5 : Int32) (x6 : Int32) (Ω : zo_O) (res : zo_R) (h : bd_X2_sorts_6 N  K6 x1 x2 x3 x4 x5 x6 Ω = some res) : TW Y res Ω 6 [(0, vr 1 0), (1, vi x1), (2, vi x2), (3, vi x3), (4, vi x4), (5, vi x5), (6, vi x6)] [] := by
  unfold bd_X2_sorts_6 at h
  refine zo_iload hY dX2_sorts_6 6 rfl ?_
  refine zo_aload_n hY dX2_sorts_8 rfl 0 rfl ?_
  refine zo_getI hY LX2_197_1 rfl dX2_sorts_9 ?_
  refine zo_icmp_ge hY 133 dX2_sorts_12 (by decide) h (fun c1 h => ?_) (fun c1 h => ?_)
  · refine zo_iload hY dX2_sorts_133 5 rfl ?_
    exact zo_iret hY hr dX2_sorts_135 h
  · refine zo_aload_n hY dX2_sorts_15 rfl 0 rfl ?_
    refine zo_getC hY LX2_25_1 rfl (fun Ω q => (hCon Ω q).2.1 9 _ rfl) dX2_sorts_16 ?_
    refine zo_iload hY dX2_sorts_19 6 rfl ?_
    refine zo_ald hY (by decide) (Or.inl ⟨rfl, dX2_sorts_21⟩) (fun q => (hCon _ q).2.2.2 32 5 120 rfl) h (fun j2 h => ?_)
    refine zo_iload_n hY dX2_sorts_22 rfl 1 rfl ?_
    refine zo_icmp_ne hY 127 dX2_sorts_23 (by decide) h (fun c3 h => ?_) (fun c3 h => ?_)
    · refine zo_aload_n hY dX2_sorts_26 rfl 0 rfl ?_
      refine zo_getC hY LX2_28_1 rfl (fun Ω q => (hCon Ω q).2.1 10 _ rfl) dX2_sorts_27 ?_
      refine zo_iload hY dX2_sorts_30 6 rfl ?_
      refine zo_ald hY (by decide) (Or.inl ⟨rfl, dX2_sorts_32⟩) (fun q => (hCon _ q).2.2.2 32 6 120 rfl) h (fun j4 h => ?_)
      refine zo_iload_n hY dX2_sorts_33 rfl 2 rfl ?_
      refine zo_icmp_ne hY 127 dX2_sorts_34 (by decide) h (fun c5 h => ?_) (fun c5 h => ?_)
      · refine zo_aload_n hY dX2_sorts_37 rfl 0 rfl ?_
        refine zo_getC hY LX2_40_1 rfl (fun Ω q => (hCon Ω q).2.1 14 _ rfl) dX2_sorts_38 ?_
        refine zo_iload hY dX2_sorts_41 6 rfl ?_
        refine zo_ald hY (by decide) (Or.inl ⟨rfl, dX2_sorts_43⟩) (fun q => (hCon _ q).2.2.2 32 10 120 rfl) h (fun j6 h => ?_)
        refine zo_iload_n hY dX2_sorts_44 rfl 3 rfl ?_
        refine zo_icmp_ne hY 127 dX2_sorts_45 (by decide) h (fun c7 h => ?_) (fun c7 h => ?_)
        · refine zo_aload_n hY dX2_sorts_48 rfl 0 rfl ?_
          refine zo_iload hY dX2_sorts_49 6 rfl ?_
          refine zo_iload hY dX2_sorts_51 4 rfl ?_
          refine zo_callV hY (fun q hq => mt_X2_isUsed hJ hCon N x6 x4 Ω q hq) (by decide) (by decide) (by decide) ⟨rfl, cn_X2_isUsed⟩ rfl q1667 q1669 qs52 q82 q1670 (Nat.le_of_ble_eq_true rfl) dX2_sorts_53 rfl h (ci_k (fun r9 Ω8 res h => ?_))
          refine zo_if_ne hY 62 dX2_sorts_56 (by decide) h (fun c10 h => ?_) (fun c10 h => ?_)
          · refine zo_goto hY 127 dX2_sorts_59 (by decide) ?_
            exact ct_X2_sorts_127 hY hJ hCon hr N K6 hK6 x1 x2 x3 x4 x5 x6 Ω8 _ h
          · refine zo_iload hY dX2_sorts_62 5 rfl ?_
            refine zo_istore hY dX2_sorts_64 (by decide) rfl (ls' := [(7, vi x5), (0, vr 1 0), (1, vi x1), (2, vi x2), (3, vi x3), (4, vi x4), (5, vi x5), (6, vi x6)]) rfl ?_
            refine zo_sub [1, 2, 3, 4, 5, 6, 7, 0] rfl ?_
            exact ct_X2_sorts_66 hY hJ hCon hr N K6 hK6 N x1 x2 x3 x4 x5 x6 x5 Ω8 _ h
        · exact ct_X2_sorts_127 hY hJ hCon hr N K6 hK6 x1 x2 x3 x4 x5 x6 Ω _ h
      · exact ct_X2_sorts_127 hY hJ hCon hr N K6 hK6 x1 x2 x3 x4 x5 x6 Ω _ h
    · exact ct_X2_sorts_127 hY hJ hCon hr N K6 hK6 x1 x2 x3 x4 x5 x6 Ω _ h
def fn_X2_sorts_6 (N : Nat)  : Nat → Int32 → Int32 → Int32 → Int32 → Int32 → Int32 → zo_O → Option zo_R
  | 0, _, _, _, _, _, _, _ => none
  | n + 1, x1, x2, x3, x4, x5, x6, Ω => bd_X2_sorts_6 N  (fn_X2_sorts_6 N  n) x1 x2 x3 x4 x5 x6 Ω
theorem ct_X2_sorts_6 {Y : zo_Y} (hY : zo_Gd Y cX2_sorts 8 RX2 3) (hJ : zo_JC (zo_J Y)) (hCon : ∀ Ω, zo_J Y Ω → zo_Con Ω) (hr : zo_rt Y (Option.some Jvm.ClassFile.FieldType.int)) (N : Nat)   : ∀ (n : Nat) (x1 : Int32) (x2 : Int32) (x3 : Int32) (x4 : Int32) (x5 : Int32) (x6 : Int32) (Ω : zo_O) (res : zo_R), fn_X2_sorts_6 N  n x1 x2 x3 x4 x5 x6 Ω = some res → TW Y res Ω 6 [(0, vr 1 0), (1, vi x1), (2, vi x2), (3, vi x3), (4, vi x4), (5, vi x5), (6, vi x6)] [] := by
  intro n
  induction n with
  | zero => intro x1 x2 x3 x4 x5 x6 Ω res h; exact nomatch (show (none : Option zo_R) = some res from h)
  | succ n ih => intro x1 x2 x3 x4 x5 x6 Ω res h; exact cb_X2_sorts_6 hY hJ hCon hr N  (fn_X2_sorts_6 N  n)  ih x1 x2 x3 x4 x5 x6 Ω res h
def fn_X2_sorts (N : Nat) (x1 : Int32) (x2 : Int32) (x3 : Int32) (x4 : Int32) (Ω : zo_O) : Option zo_R :=
  fn_X2_sorts_6 N N x1 x2 x3 x4 0 0 Ω
theorem mt_X2_sorts {G : zo_G} {J : zo_O → Prop} (hJ : zo_JC J) (hCon : ∀ Ω, J Ω → zo_Con Ω) (N : Nat) (x1 : Int32) (x2 : Int32) (x3 : Int32) (x4 : Int32) (Ω : zo_O) (res : zo_R) (h : fn_X2_sorts N x1 x2 x3 x4 Ω = some res) : zo_MT G J yX2_sorts cX2_sorts 8 (Option.some Jvm.ClassFile.FieldType.int) 3 [vr 1 0, vi x1, vi x2, vi x3, vi x4] Ω res := by
  refine zo_enter (by decide) rfl (Nat.le_of_ble_eq_true rfl) (fun Y hY eJ hr hmn => ?_)
  subst eJ
  show TW Y res Ω 0 [(0, vr 1 0), (1, vi x1), (2, vi x2), (3, vi x3), (4, vi x4)] []
  unfold fn_X2_sorts at h
  refine zo_iconst hY 0 (by decide) dX2_sorts_0 ?_
  refine zo_istore hY dX2_sorts_1 (by decide) rfl (ls' := [(5, vi 0), (0, vr 1 0), (1, vi x1), (2, vi x2), (3, vi x3), (4, vi x4)]) rfl ?_
  refine zo_iconst hY 0 (by decide) dX2_sorts_3 ?_
  refine zo_istore hY dX2_sorts_4 (by decide) rfl (ls' := [(6, vi 0), (5, vi 0), (0, vr 1 0), (1, vi x1), (2, vi x2), (3, vi x3), (4, vi x4)]) rfl ?_
  refine zo_sub [2, 3, 4, 5, 6, 1, 0] rfl ?_
  exact ct_X2_sorts_6 hY hJ hCon hr N N x1 x2 x3 x4 0 0 Ω _ h
theorem dX2_isGap_0 : decode cX2_isGap 0 = .ok (.aload_n 0, 1) := by decide +kernel
theorem dX2_isGap_1 : decode cX2_isGap 1 = .ok (.iload_n 1, 1) := by decide +kernel
theorem dX2_isGap_2 : decode cX2_isGap 2 = .ok (.invokevirtual 207, 3) := by decide +kernel
theorem dX2_isGap_5 : decode cX2_isGap 5 = .ok (.ifCond .eq 52, 3) := by decide +kernel
theorem dX2_isGap_8 : decode cX2_isGap 8 = .ok (.iload_n 2, 1) := by decide +kernel
theorem dX2_isGap_9 : decode cX2_isGap 9 = .ok (.invokestatic 210, 3) := by decide +kernel
theorem dX2_isGap_12 : decode cX2_isGap 12 = .ok (.ifCond .eq 45, 3) := by decide +kernel
theorem dX2_isGap_15 : decode cX2_isGap 15 = .ok (.iload_n 3, 1) := by decide +kernel
theorem dX2_isGap_16 : decode cX2_isGap 16 = .ok (.invokestatic 203, 3) := by decide +kernel
theorem dX2_isGap_19 : decode cX2_isGap 19 = .ok (.ifCond .eq 38, 3) := by decide +kernel
theorem dX2_isGap_22 : decode cX2_isGap 22 = .ok (.iload 4, 2) := by decide +kernel
theorem dX2_isGap_24 : decode cX2_isGap 24 = .ok (.iconst 0, 1) := by decide +kernel
theorem dX2_isGap_25 : decode cX2_isGap 25 = .ok (.sipush 2000, 3) := by decide +kernel
theorem dX2_isGap_28 : decode cX2_isGap 28 = .ok (.invokestatic 190, 3) := by decide +kernel
theorem dX2_isGap_31 : decode cX2_isGap 31 = .ok (.ifCond .eq 26, 3) := by decide +kernel
theorem dX2_isGap_34 : decode cX2_isGap 34 = .ok (.aload_n 0, 1) := by decide +kernel
theorem dX2_isGap_35 : decode cX2_isGap 35 = .ok (.iload 5, 2) := by decide +kernel
theorem dX2_isGap_37 : decode cX2_isGap 37 = .ok (.invokevirtual 337, 3) := by decide +kernel
theorem dX2_isGap_40 : decode cX2_isGap 40 = .ok (.ifCond .eq 17, 3) := by decide +kernel
theorem dX2_isGap_43 : decode cX2_isGap 43 = .ok (.aload_n 0, 1) := by decide +kernel
theorem dX2_isGap_44 : decode cX2_isGap 44 = .ok (.iload_n 1, 1) := by decide +kernel
theorem dX2_isGap_45 : decode cX2_isGap 45 = .ok (.iload 5, 2) := by decide +kernel
theorem dX2_isGap_47 : decode cX2_isGap 47 = .ok (.invokevirtual 421, 3) := by decide +kernel
theorem dX2_isGap_50 : decode cX2_isGap 50 = .ok (.ifCond .eq 7, 3) := by decide +kernel
theorem dX2_isGap_53 : decode cX2_isGap 53 = .ok (.iconst 1, 1) := by decide +kernel
theorem dX2_isGap_54 : decode cX2_isGap 54 = .ok (.goto 4, 3) := by decide +kernel
theorem dX2_isGap_57 : decode cX2_isGap 57 = .ok (.iconst 0, 1) := by decide +kernel
theorem dX2_isGap_58 : decode cX2_isGap 58 = .ok (.ireturn, 1) := by decide +kernel
def fn_X2_isGap_58 (N : Nat)  (s0 : Int32) (Ω : zo_O) : Option zo_R :=
  rZ s0 Ω
theorem ct_X2_isGap_58 {Y : zo_Y} (hY : zo_Gd Y cX2_isGap 6 RX2 2) (hJ : zo_JC (zo_J Y)) (hCon : ∀ Ω, zo_J Y Ω → zo_Con Ω) (hr : zo_rt Y (Option.some Jvm.ClassFile.FieldType.boolean)) (N : Nat)   (s0 : Int32) (Ω : zo_O) (res : zo_R) (h : fn_X2_isGap_58 N  s0 Ω = some res) : TW Y res Ω 58 [] [vi s0] := by
  unfold fn_X2_isGap_58 at h
  exact zo_zret hY hr dX2_isGap_58 h
def fn_X2_isGap_57 (N : Nat)   (Ω : zo_O) : Option zo_R :=
  fn_X2_isGap_58 N 0 Ω
theorem ct_X2_isGap_57 {Y : zo_Y} (hY : zo_Gd Y cX2_isGap 6 RX2 2) (hJ : zo_JC (zo_J Y)) (hCon : ∀ Ω, zo_J Y Ω → zo_Con Ω) (hr : zo_rt Y (Option.some Jvm.ClassFile.FieldType.boolean)) (N : Nat)    (Ω : zo_O) (res : zo_R) (h : fn_X2_isGap_57 N   Ω = some res) : TW Y res Ω 57 [] [] := by
  unfold fn_X2_isGap_57 at h
  refine zo_iconst hY 0 (by decide) dX2_isGap_57 ?_
  exact ct_X2_isGap_58 hY hJ hCon hr N 0 Ω _ h
def fn_X2_isGap (N : Nat) (x1 : Int32) (x2 : Int32) (x3 : Int32) (x4 : Int32) (x5 : Int32) (Ω : zo_O) : Option zo_R :=
  ci (fn_X2_isSite N x1 Ω) fun r2 Ω1 =>
  if r2 = 0 then (
    fn_X2_isGap_57 N Ω1
    ) else
  ci (fn_X2_isKind N x2 Ω1) fun r5 Ω4 =>
  if r5 = 0 then (
    fn_X2_isGap_57 N Ω4
    ) else
  ci (fn_X2_isYear N x3 Ω4) fun r8 Ω7 =>
  if r8 = 0 then (
    fn_X2_isGap_57 N Ω7
    ) else
  ci (fn_X2_within N x4 0 2000 Ω7) fun r11 Ω10 =>
  if r11 = 0 then (
    fn_X2_isGap_57 N Ω10
    ) else
  ci (fn_X2_isKnown N x5 Ω10) fun r14 Ω13 =>
  if r14 = 0 then (
    fn_X2_isGap_57 N Ω13
    ) else
  ci (fn_X2_isThere N x1 x5 Ω13) fun r17 Ω16 =>
  if r17 = 0 then (
    fn_X2_isGap_57 N Ω16
    ) else
  fn_X2_isGap_58 N 1 Ω16
theorem mt_X2_isGap {G : zo_G} {J : zo_O → Prop} (hJ : zo_JC J) (hCon : ∀ Ω, J Ω → zo_Con Ω) (N : Nat) (x1 : Int32) (x2 : Int32) (x3 : Int32) (x4 : Int32) (x5 : Int32) (Ω : zo_O) (res : zo_R) (h : fn_X2_isGap N x1 x2 x3 x4 x5 Ω = some res) : zo_MT G J yX2_isGap cX2_isGap 6 (Option.some Jvm.ClassFile.FieldType.boolean) 2 [vr 1 0, vi x1, vi x2, vi x3, vi x4, vi x5] Ω res := by
  refine zo_enter (by decide) rfl (Nat.le_of_ble_eq_true rfl) (fun Y hY eJ hr hmn => ?_)
  subst eJ
  show TW Y res Ω 0 [(0, vr 1 0), (1, vi x1), (2, vi x2), (3, vi x3), (4, vi x4), (5, vi x5)] []
  unfold fn_X2_isGap at h
  refine zo_aload_n hY dX2_isGap_0 rfl 0 rfl ?_
  refine zo_iload_n hY dX2_isGap_1 rfl 1 rfl ?_
  refine zo_callV hY (fun q hq => mt_X2_isSite hJ hCon N x1 Ω q hq) (by decide) (by decide) (by decide) ⟨rfl, cn_X2_isSite⟩ rfl q1531 q1533 qs39 q82 q1534 (Nat.le_of_ble_eq_true rfl) dX2_isGap_2 rfl h (ci_k (fun r2 Ω1 res h => ?_))
  refine zo_if_eq hY 57 dX2_isGap_5 (by decide) h (fun c3 h => ?_) (fun c3 h => ?_)
  · refine zo_sub [] rfl ?_
    exact ct_X2_isGap_57 hY hJ hCon hr N Ω1 _ h
  · refine zo_iload_n hY dX2_isGap_8 rfl 2 rfl ?_
    refine zo_callS hY (fun q hq => mt_X2_isKind hJ hCon N x2 Ω1 q hq) (by decide) (by decide) cn_X2_isKind rfl q1535 q1536 q82 q1537 (Nat.le_of_ble_eq_true rfl) dX2_isGap_9 rfl h (ci_k (fun r5 Ω4 res h => ?_))
    refine zo_if_eq hY 57 dX2_isGap_12 (by decide) h (fun c6 h => ?_) (fun c6 h => ?_)
    · refine zo_sub [] rfl ?_
      exact ct_X2_isGap_57 hY hJ hCon hr N Ω4 _ h
    · refine zo_iload_n hY dX2_isGap_15 rfl 3 rfl ?_
      refine zo_callS hY (fun q hq => mt_X2_isYear hJ hCon N x3 Ω4 q hq) (by decide) (by decide) cn_X2_isYear rfl q1524 q1525 q82 q1526 (Nat.le_of_ble_eq_true rfl) dX2_isGap_16 rfl h (ci_k (fun r8 Ω7 res h => ?_))
      refine zo_if_eq hY 57 dX2_isGap_19 (by decide) h (fun c9 h => ?_) (fun c9 h => ?_)
      · refine zo_sub [] rfl ?_
        exact ct_X2_isGap_57 hY hJ hCon hr N Ω7 _ h
      · refine zo_iload hY dX2_isGap_22 4 rfl ?_
        refine zo_iconst hY 0 (by decide) dX2_isGap_24 ?_
        refine zo_sipush hY 2000 (by decide) dX2_isGap_25 ?_
        refine zo_callS hY (fun q hq => mt_X2_within hJ hCon N x4 0 2000 Ω7 q hq) (by decide) (by decide) cn_X2_within rfl q1521 q1522 q82 q1523 (Nat.le_of_ble_eq_true rfl) dX2_isGap_28 rfl h (ci_k (fun r11 Ω10 res h => ?_))
        refine zo_if_eq hY 57 dX2_isGap_31 (by decide) h (fun c12 h => ?_) (fun c12 h => ?_)
        · refine zo_sub [] rfl ?_
          exact ct_X2_isGap_57 hY hJ hCon hr N Ω10 _ h
        · refine zo_aload_n hY dX2_isGap_34 rfl 0 rfl ?_
          refine zo_iload hY dX2_isGap_35 5 rfl ?_
          refine zo_callV hY (fun q hq => mt_X2_isKnown hJ hCon N x5 Ω10 q hq) (by decide) (by decide) (by decide) ⟨rfl, cn_X2_isKnown⟩ rfl q1649 q1651 qs49 q82 q1652 (Nat.le_of_ble_eq_true rfl) dX2_isGap_37 rfl h (ci_k (fun r14 Ω13 res h => ?_))
          refine zo_if_eq hY 57 dX2_isGap_40 (by decide) h (fun c15 h => ?_) (fun c15 h => ?_)
          · refine zo_sub [] rfl ?_
            exact ct_X2_isGap_57 hY hJ hCon hr N Ω13 _ h
          · refine zo_aload_n hY dX2_isGap_43 rfl 0 rfl ?_
            refine zo_iload_n hY dX2_isGap_44 rfl 1 rfl ?_
            refine zo_iload hY dX2_isGap_45 5 rfl ?_
            refine zo_callV hY (fun q hq => mt_X2_isThere hJ hCon N x1 x5 Ω13 q hq) (by decide) (by decide) (by decide) ⟨rfl, cn_X2_isThere⟩ rfl q1742 q1744 qs66 q82 q1745 (Nat.le_of_ble_eq_true rfl) dX2_isGap_47 rfl h (ci_k (fun r17 Ω16 res h => ?_))
            refine zo_if_eq hY 57 dX2_isGap_50 (by decide) h (fun c18 h => ?_) (fun c18 h => ?_)
            · refine zo_sub [] rfl ?_
              exact ct_X2_isGap_57 hY hJ hCon hr N Ω16 _ h
            · refine zo_iconst hY 1 (by decide) dX2_isGap_53 ?_
              refine zo_goto hY 58 dX2_isGap_54 (by decide) ?_
              refine zo_sub [] rfl ?_
              exact ct_X2_isGap_58 hY hJ hCon hr N 1 Ω16 _ h
theorem dX2_gaps_0 : decode cX2_gaps 0 = .ok (.aload_n 0, 1) := by decide +kernel
theorem dX2_gaps_1 : decode cX2_gaps 1 = .ok (.iconst 0, 1) := by decide +kernel
theorem dX2_gaps_2 : decode cX2_gaps 2 = .ok (.putfield 187, 3) := by decide +kernel
theorem dX2_gaps_5 : decode cX2_gaps 5 = .ok (.aload_n 0, 1) := by decide +kernel
theorem dX2_gaps_6 : decode cX2_gaps 6 = .ok (.iload_n 1, 1) := by decide +kernel
theorem dX2_gaps_7 : decode cX2_gaps 7 = .ok (.iload_n 2, 1) := by decide +kernel
theorem dX2_gaps_8 : decode cX2_gaps 8 = .ok (.iload_n 3, 1) := by decide +kernel
theorem dX2_gaps_9 : decode cX2_gaps 9 = .ok (.iload 4, 2) := by decide +kernel
theorem dX2_gaps_11 : decode cX2_gaps 11 = .ok (.iload 5, 2) := by decide +kernel
theorem dX2_gaps_13 : decode cX2_gaps 13 = .ok (.invokevirtual 439, 3) := by decide +kernel
theorem dX2_gaps_16 : decode cX2_gaps 16 = .ok (.ifCond .ne 5, 3) := by decide +kernel
theorem dX2_gaps_19 : decode cX2_gaps 19 = .ok (.iconst (-1), 1) := by decide +kernel
theorem dX2_gaps_20 : decode cX2_gaps 20 = .ok (.ireturn, 1) := by decide +kernel
theorem dX2_gaps_21 : decode cX2_gaps 21 = .ok (.aload_n 0, 1) := by decide +kernel
theorem dX2_gaps_22 : decode cX2_gaps 22 = .ok (.iload 5, 2) := by decide +kernel
theorem dX2_gaps_24 : decode cX2_gaps 24 = .ok (.invokevirtual 340, 3) := by decide +kernel
theorem dX2_gaps_27 : decode cX2_gaps 27 = .ok (.aload_n 0, 1) := by decide +kernel
theorem dX2_gaps_28 : decode cX2_gaps 28 = .ok (.iload_n 1, 1) := by decide +kernel
theorem dX2_gaps_29 : decode cX2_gaps 29 = .ok (.iload_n 2, 1) := by decide +kernel
theorem dX2_gaps_30 : decode cX2_gaps 30 = .ok (.iload_n 3, 1) := by decide +kernel
theorem dX2_gaps_31 : decode cX2_gaps 31 = .ok (.iload 5, 2) := by decide +kernel
theorem dX2_gaps_33 : decode cX2_gaps 33 = .ok (.invokevirtual 443, 3) := by decide +kernel
theorem dX2_gaps_36 : decode cX2_gaps 36 = .ok (.istore 6, 2) := by decide +kernel
theorem dX2_gaps_38 : decode cX2_gaps 38 = .ok (.iconst 0, 1) := by decide +kernel
theorem dX2_gaps_39 : decode cX2_gaps 39 = .ok (.istore 7, 2) := by decide +kernel
theorem dX2_gaps_41 : decode cX2_gaps 41 = .ok (.iconst 1, 1) := by decide +kernel
theorem dX2_gaps_42 : decode cX2_gaps 42 = .ok (.istore 8, 2) := by decide +kernel
theorem dX2_gaps_44 : decode cX2_gaps 44 = .ok (.iload 8, 2) := by decide +kernel
theorem dX2_gaps_46 : decode cX2_gaps 46 = .ok (.iload 6, 2) := by decide +kernel
theorem dX2_gaps_48 : decode cX2_gaps 48 = .ok (.if_icmp .ge 41, 3) := by decide +kernel
theorem dX2_gaps_51 : decode cX2_gaps 51 = .ok (.iload 7, 2) := by decide +kernel
theorem dX2_gaps_53 : decode cX2_gaps 53 = .ok (.aload_n 0, 1) := by decide +kernel
theorem dX2_gaps_54 : decode cX2_gaps 54 = .ok (.getfield 184, 3) := by decide +kernel
theorem dX2_gaps_57 : decode cX2_gaps 57 = .ok (.iload 8, 2) := by decide +kernel
theorem dX2_gaps_59 : decode cX2_gaps 59 = .ok (.iaload, 1) := by decide +kernel
theorem dX2_gaps_60 : decode cX2_gaps 60 = .ok (.aload_n 0, 1) := by decide +kernel
theorem dX2_gaps_61 : decode cX2_gaps 61 = .ok (.getfield 184, 3) := by decide +kernel
theorem dX2_gaps_64 : decode cX2_gaps 64 = .ok (.iload 8, 2) := by decide +kernel
theorem dX2_gaps_66 : decode cX2_gaps 66 = .ok (.iconst 1, 1) := by decide +kernel
theorem dX2_gaps_67 : decode cX2_gaps 67 = .ok (.isub, 1) := by decide +kernel
theorem dX2_gaps_68 : decode cX2_gaps 68 = .ok (.iaload, 1) := by decide +kernel
theorem dX2_gaps_69 : decode cX2_gaps 69 = .ok (.isub, 1) := by decide +kernel
theorem dX2_gaps_70 : decode cX2_gaps 70 = .ok (.iload 4, 2) := by decide +kernel
theorem dX2_gaps_72 : decode cX2_gaps 72 = .ok (.if_icmp .le 7, 3) := by decide +kernel
theorem dX2_gaps_75 : decode cX2_gaps 75 = .ok (.iconst 1, 1) := by decide +kernel
theorem dX2_gaps_76 : decode cX2_gaps 76 = .ok (.goto 4, 3) := by decide +kernel
theorem dX2_gaps_79 : decode cX2_gaps 79 = .ok (.iconst 0, 1) := by decide +kernel
theorem dX2_gaps_80 : decode cX2_gaps 80 = .ok (.iadd, 1) := by decide +kernel
theorem dX2_gaps_81 : decode cX2_gaps 81 = .ok (.istore 7, 2) := by decide +kernel
theorem dX2_gaps_83 : decode cX2_gaps 83 = .ok (.iinc 8 1, 3) := by decide +kernel
theorem dX2_gaps_86 : decode cX2_gaps 86 = .ok (.goto (-42), 3) := by decide +kernel
theorem dX2_gaps_89 : decode cX2_gaps 89 = .ok (.iload 7, 2) := by decide +kernel
theorem dX2_gaps_91 : decode cX2_gaps 91 = .ok (.ireturn, 1) := by decide +kernel
def fn_X2_gaps_80 (N : Nat) (K44 : Int32 → Int32 → Int32 → Int32 → zo_O → Option zo_R) (x4 : Int32) (x6 : Int32) (x8 : Int32) (s0 : Int32) (s1 : Int32) (Ω : zo_O) : Option zo_R :=
  li (s1 + s0) fun y1 =>
  K44 x4 x6 y1 (x8 + 1) Ω
theorem ct_X2_gaps_80 {Y : zo_Y} (hY : zo_Gd Y cX2_gaps 9 RX2 4) (hJ : zo_JC (zo_J Y)) (hCon : ∀ Ω, zo_J Y Ω → zo_Con Ω) (hr : zo_rt Y (Option.some Jvm.ClassFile.FieldType.int)) (N : Nat) (K44 : Int32 → Int32 → Int32 → Int32 → zo_O → Option zo_R) (hK44 : ∀ (x4 : Int32) (x6 : Int32) (x7 : Int32) (x8 : Int32) (Ω : zo_O) (res : zo_R), K44 x4 x6 x7 x8 Ω = some res → TW Y res Ω 44 [(0, vr 1 0), (4, vi x4), (6, vi x6), (7, vi x7), (8, vi x8)] []) (x4 : Int32) (x6 : Int32) (x8 : Int32) (s0 : Int32) (s1 : Int32) (Ω : zo_O) (res : zo_R) (h : fn_X2_gaps_80 N K44 x4 x6 x8 s0 s1 Ω = some res) : TW Y res Ω 80 [(0, vr 1 0), (4, vi x4), (6, vi x6), (8, vi x8)] [vi s0, vi s1] := by
  unfold fn_X2_gaps_80 at h
  refine zo_iadd hY dX2_gaps_80 ?_
  refine zo_nmi h (fun y1 h => ?_)
  refine zo_istore hY dX2_gaps_81 (by decide) rfl (ls' := [(7, vi y1), (0, vr 1 0), (4, vi x4), (6, vi x6), (8, vi x8)]) rfl ?_
  refine zo_iinc hY 1 dX2_gaps_83 (by decide) (by decide) 4 rfl rfl (ls' := [(8, vi (x8 + 1)), (7, vi y1), (0, vr 1 0), (4, vi x4), (6, vi x6)]) rfl ?_
  refine zo_goto hY 44 dX2_gaps_86 (by decide) ?_
  refine zo_sub [2, 3, 4, 1, 0] rfl ?_
  exact hK44 x4 x6 y1 (x8 + 1) Ω _ h
def bd_X2_gaps_44 (N : Nat)  (K44 : Int32 → Int32 → Int32 → Int32 → zo_O → Option zo_R) (x4 : Int32) (x6 : Int32) (x7 : Int32) (x8 : Int32) (Ω : zo_O) : Option zo_R :=
  if x6 ≤ x8 then (
    rI x7 Ω
    ) else
  ix x8 120 fun j2 =>
  ix (x8 - 1) 120 fun j3 =>
  if (gI Ω 32 47 j2) - (gI Ω 32 47 j3) ≤ x4 then (
    fn_X2_gaps_80 N K44 x4 x6 x8 0 x7 Ω
    ) else
  fn_X2_gaps_80 N K44 x4 x6 x8 1 x7 Ω
theorem cb_X2_gaps_44 {Y : zo_Y} (hY : zo_Gd Y cX2_gaps 9 RX2 4) (hJ : zo_JC (zo_J Y)) (hCon : ∀ Ω, zo_J Y Ω → zo_Con Ω) (hr : zo_rt Y (Option.some Jvm.ClassFile.FieldType.int)) (N : Nat)  (K44 : Int32 → Int32 → Int32 → Int32 → zo_O → Option zo_R)  (hK44 : ∀ (x4 : Int32) (x6 : Int32) (x7 : Int32) (x8 : Int32) (Ω : zo_O) (res : zo_R), K44 x4 x6 x7 x8 Ω = some res → TW Y res Ω 44 [(0, vr 1 0), (4, vi x4), (6, vi x6), (7, vi x7), (8, vi x8)] []) (x4 : Int32) (x6 : Int32) (x7 : Int32) (x8 : Int32) (Ω : zo_O) (res : zo_R) (h : bd_X2_gaps_44 N  K44 x4 x6 x7 x8 Ω = some res) : TW Y res Ω 44 [(0, vr 1 0), (4, vi x4), (6, vi x6), (7, vi x7), (8, vi x8)] [] := by
  unfold bd_X2_gaps_44 at h
  refine zo_iload hY dX2_gaps_44 4 rfl ?_
  refine zo_iload hY dX2_gaps_46 2 rfl ?_
  refine zo_icmp_ge hY 89 dX2_gaps_48 (by decide) h (fun c1 h => ?_) (fun c1 h => ?_)
  · refine zo_iload hY dX2_gaps_89 3 rfl ?_
    exact zo_iret hY hr dX2_gaps_91 h
  · refine zo_iload hY dX2_gaps_51 3 rfl ?_
    refine zo_aload_n hY dX2_gaps_53 rfl 0 rfl ?_
    refine zo_getC hY LX2_184_1 rfl (fun Ω q => (hCon Ω q).2.1 79 _ rfl) dX2_gaps_54 ?_
    refine zo_iload hY dX2_gaps_57 4 rfl ?_
    refine zo_ald hY (by decide) (Or.inl ⟨rfl, dX2_gaps_59⟩) (fun q => (hCon _ q).2.2.2 32 47 120 rfl) h (fun j2 h => ?_)
    refine zo_aload_n hY dX2_gaps_60 rfl 0 rfl ?_
    refine zo_getC hY LX2_184_1 rfl (fun Ω q => (hCon Ω q).2.1 79 _ rfl) dX2_gaps_61 ?_
    refine zo_iload hY dX2_gaps_64 4 rfl ?_
    refine zo_iconst hY 1 (by decide) dX2_gaps_66 ?_
    refine zo_isub hY dX2_gaps_67 ?_
    refine zo_ald hY (by decide) (Or.inl ⟨rfl, dX2_gaps_68⟩) (fun q => (hCon _ q).2.2.2 32 47 120 rfl) h (fun j3 h => ?_)
    refine zo_isub hY dX2_gaps_69 ?_
    refine zo_iload hY dX2_gaps_70 1 rfl ?_
    refine zo_icmp_le hY 79 dX2_gaps_72 (by decide) h (fun c4 h => ?_) (fun c4 h => ?_)
    · refine zo_iconst hY 0 (by decide) dX2_gaps_79 ?_
      refine zo_sub [0, 1, 2, 4] rfl ?_
      exact ct_X2_gaps_80 hY hJ hCon hr N K44 hK44 x4 x6 x8 0 x7 Ω _ h
    · refine zo_iconst hY 1 (by decide) dX2_gaps_75 ?_
      refine zo_goto hY 80 dX2_gaps_76 (by decide) ?_
      refine zo_sub [0, 1, 2, 4] rfl ?_
      exact ct_X2_gaps_80 hY hJ hCon hr N K44 hK44 x4 x6 x8 1 x7 Ω _ h
def fn_X2_gaps_44 (N : Nat)  : Nat → Int32 → Int32 → Int32 → Int32 → zo_O → Option zo_R
  | 0, _, _, _, _, _ => none
  | n + 1, x4, x6, x7, x8, Ω => bd_X2_gaps_44 N  (fn_X2_gaps_44 N  n) x4 x6 x7 x8 Ω
theorem ct_X2_gaps_44 {Y : zo_Y} (hY : zo_Gd Y cX2_gaps 9 RX2 4) (hJ : zo_JC (zo_J Y)) (hCon : ∀ Ω, zo_J Y Ω → zo_Con Ω) (hr : zo_rt Y (Option.some Jvm.ClassFile.FieldType.int)) (N : Nat)   : ∀ (n : Nat) (x4 : Int32) (x6 : Int32) (x7 : Int32) (x8 : Int32) (Ω : zo_O) (res : zo_R), fn_X2_gaps_44 N  n x4 x6 x7 x8 Ω = some res → TW Y res Ω 44 [(0, vr 1 0), (4, vi x4), (6, vi x6), (7, vi x7), (8, vi x8)] [] := by
  intro n
  induction n with
  | zero => intro x4 x6 x7 x8 Ω res h; exact nomatch (show (none : Option zo_R) = some res from h)
  | succ n ih => intro x4 x6 x7 x8 Ω res h; exact cb_X2_gaps_44 hY hJ hCon hr N  (fn_X2_gaps_44 N  n)  ih x4 x6 x7 x8 Ω res h
def fn_X2_gaps (N : Nat) (x1 : Int32) (x2 : Int32) (x3 : Int32) (x4 : Int32) (x5 : Int32) (Ω : zo_O) : Option zo_R :=
  lt (sI Ω 1 0 0 0) fun Ω1 =>
  ci (fn_X2_isGap N x1 x2 x3 x4 x5 Ω1) fun r3 Ω2 =>
  if r3 = 0 then (
    rI ((-1)) Ω2
    ) else
  cv (fn_X2_habits N x5 Ω2) fun Ω5 =>
  ci (fn_X2_sorts N x1 x2 x3 x5 Ω5) fun r7 Ω6 =>
  fn_X2_gaps_44 N N x4 r7 0 1 Ω6
theorem mt_X2_gaps {G : zo_G} {J : zo_O → Prop} (hJ : zo_JC J) (hCon : ∀ Ω, J Ω → zo_Con Ω) (N : Nat) (x1 : Int32) (x2 : Int32) (x3 : Int32) (x4 : Int32) (x5 : Int32) (Ω : zo_O) (res : zo_R) (h : fn_X2_gaps N x1 x2 x3 x4 x5 Ω = some res) : zo_MT G J yX2_gaps cX2_gaps 9 (Option.some Jvm.ClassFile.FieldType.int) 4 [vr 1 0, vi x1, vi x2, vi x3, vi x4, vi x5] Ω res := by
  refine zo_enter (by decide) rfl (Nat.le_of_ble_eq_true rfl) (fun Y hY eJ hr hmn => ?_)
  subst eJ
  show TW Y res Ω 0 [(0, vr 1 0), (1, vi x1), (2, vi x2), (3, vi x3), (4, vi x4), (5, vi x5)] []
  unfold fn_X2_gaps at h
  refine zo_aload_n hY dX2_gaps_0 rfl 0 rfl ?_
  refine zo_iconst hY 0 (by decide) dX2_gaps_1 ?_
  refine zo_putI hY hJ LX2_187_1 rfl (Or.inl rfl) dX2_gaps_2 h (fun Ω1 h => ?_)
  refine zo_aload_n hY dX2_gaps_5 rfl 0 rfl ?_
  refine zo_iload_n hY dX2_gaps_6 rfl 1 rfl ?_
  refine zo_iload_n hY dX2_gaps_7 rfl 2 rfl ?_
  refine zo_iload_n hY dX2_gaps_8 rfl 3 rfl ?_
  refine zo_iload hY dX2_gaps_9 4 rfl ?_
  refine zo_iload hY dX2_gaps_11 5 rfl ?_
  refine zo_callV hY (fun q hq => mt_X2_isGap hJ hCon N x1 x2 x3 x4 x5 Ω1 q hq) (by decide) (by decide) (by decide) ⟨rfl, cn_X2_isGap⟩ rfl q1802 q1804 qs75 q82 q1805 (Nat.le_of_ble_eq_true rfl) dX2_gaps_13 rfl h (ci_k (fun r3 Ω2 res h => ?_))
  refine zo_if_ne hY 21 dX2_gaps_16 (by decide) h (fun c4 h => ?_) (fun c4 h => ?_)
  · refine zo_iconst hY (-1) (by decide) dX2_gaps_19 ?_
    exact zo_iret hY hr dX2_gaps_20 h
  · refine zo_aload_n hY dX2_gaps_21 rfl 0 rfl ?_
    refine zo_iload hY dX2_gaps_22 5 rfl ?_
    refine zo_callV hY (fun q hq => mt_X2_habits hJ hCon N x5 Ω2 q hq) (by decide) (by decide) (by decide) ⟨rfl, cn_X2_habits⟩ rfl q1653 q1655 qs50 q82 q1656 (Nat.le_of_ble_eq_true rfl) dX2_gaps_24 rfl h (cv_k (fun Ω5 res h => ?_))
    refine zo_aload_n hY dX2_gaps_27 rfl 0 rfl ?_
    refine zo_iload_n hY dX2_gaps_28 rfl 1 rfl ?_
    refine zo_iload_n hY dX2_gaps_29 rfl 2 rfl ?_
    refine zo_iload_n hY dX2_gaps_30 rfl 3 rfl ?_
    refine zo_iload hY dX2_gaps_31 5 rfl ?_
    refine zo_callV hY (fun q hq => mt_X2_sorts hJ hCon N x1 x2 x3 x5 Ω5 q hq) (by decide) (by decide) (by decide) ⟨rfl, cn_X2_sorts⟩ rfl q1806 q1808 qs76 q82 q1809 (Nat.le_of_ble_eq_true rfl) dX2_gaps_33 rfl h (ci_k (fun r7 Ω6 res h => ?_))
    refine zo_istore hY dX2_gaps_36 (by decide) rfl (ls' := [(6, vi r7), (0, vr 1 0), (1, vi x1), (2, vi x2), (3, vi x3), (4, vi x4), (5, vi x5)]) rfl ?_
    refine zo_iconst hY 0 (by decide) dX2_gaps_38 ?_
    refine zo_istore hY dX2_gaps_39 (by decide) rfl (ls' := [(7, vi 0), (6, vi r7), (0, vr 1 0), (1, vi x1), (2, vi x2), (3, vi x3), (4, vi x4), (5, vi x5)]) rfl ?_
    refine zo_iconst hY 1 (by decide) dX2_gaps_41 ?_
    refine zo_istore hY dX2_gaps_42 (by decide) rfl (ls' := [(8, vi 1), (7, vi 0), (6, vi r7), (0, vr 1 0), (1, vi x1), (2, vi x2), (3, vi x3), (4, vi x4), (5, vi x5)]) rfl ?_
    refine zo_sub [3, 7, 2, 1, 0] rfl ?_
    exact ct_X2_gaps_44 hY hJ hCon hr N N x4 r7 0 1 Ω6 _ h
theorem dX2_gap_0 : decode cX2_gap 0 = .ok (.aload_n 0, 1) := by decide +kernel
theorem dX2_gap_1 : decode cX2_gap 1 = .ok (.iconst 0, 1) := by decide +kernel
theorem dX2_gap_2 : decode cX2_gap 2 = .ok (.putfield 187, 3) := by decide +kernel
theorem dX2_gap_5 : decode cX2_gap 5 = .ok (.aload_n 0, 1) := by decide +kernel
theorem dX2_gap_6 : decode cX2_gap 6 = .ok (.iload_n 1, 1) := by decide +kernel
theorem dX2_gap_7 : decode cX2_gap 7 = .ok (.iload_n 2, 1) := by decide +kernel
theorem dX2_gap_8 : decode cX2_gap 8 = .ok (.iload_n 3, 1) := by decide +kernel
theorem dX2_gap_9 : decode cX2_gap 9 = .ok (.iload 4, 2) := by decide +kernel
theorem dX2_gap_11 : decode cX2_gap 11 = .ok (.iload 5, 2) := by decide +kernel
theorem dX2_gap_13 : decode cX2_gap 13 = .ok (.invokevirtual 439, 3) := by decide +kernel
theorem dX2_gap_16 : decode cX2_gap 16 = .ok (.ifCond .eq 13, 3) := by decide +kernel
theorem dX2_gap_19 : decode cX2_gap 19 = .ok (.iload 7, 2) := by decide +kernel
theorem dX2_gap_21 : decode cX2_gap 21 = .ok (.iconst 0, 1) := by decide +kernel
theorem dX2_gap_22 : decode cX2_gap 22 = .ok (.iconst 1, 1) := by decide +kernel
theorem dX2_gap_23 : decode cX2_gap 23 = .ok (.invokestatic 190, 3) := by decide +kernel
theorem dX2_gap_26 : decode cX2_gap 26 = .ok (.ifCond .ne 5, 3) := by decide +kernel
theorem dX2_gap_29 : decode cX2_gap 29 = .ok (.iconst (-1), 1) := by decide +kernel
theorem dX2_gap_30 : decode cX2_gap 30 = .ok (.ireturn, 1) := by decide +kernel
theorem dX2_gap_31 : decode cX2_gap 31 = .ok (.aload_n 0, 1) := by decide +kernel
theorem dX2_gap_32 : decode cX2_gap 32 = .ok (.iload 5, 2) := by decide +kernel
theorem dX2_gap_34 : decode cX2_gap 34 = .ok (.invokevirtual 340, 3) := by decide +kernel
theorem dX2_gap_37 : decode cX2_gap 37 = .ok (.aload_n 0, 1) := by decide +kernel
theorem dX2_gap_38 : decode cX2_gap 38 = .ok (.iload_n 1, 1) := by decide +kernel
theorem dX2_gap_39 : decode cX2_gap 39 = .ok (.iload_n 2, 1) := by decide +kernel
theorem dX2_gap_40 : decode cX2_gap 40 = .ok (.iload_n 3, 1) := by decide +kernel
theorem dX2_gap_41 : decode cX2_gap 41 = .ok (.iload 5, 2) := by decide +kernel
theorem dX2_gap_43 : decode cX2_gap 43 = .ok (.invokevirtual 443, 3) := by decide +kernel
theorem dX2_gap_46 : decode cX2_gap 46 = .ok (.istore 8, 2) := by decide +kernel
theorem dX2_gap_48 : decode cX2_gap 48 = .ok (.iload 6, 2) := by decide +kernel
theorem dX2_gap_50 : decode cX2_gap 50 = .ok (.istore 9, 2) := by decide +kernel
theorem dX2_gap_52 : decode cX2_gap 52 = .ok (.iconst 1, 1) := by decide +kernel
theorem dX2_gap_53 : decode cX2_gap 53 = .ok (.istore 10, 2) := by decide +kernel
theorem dX2_gap_55 : decode cX2_gap 55 = .ok (.iload 10, 2) := by decide +kernel
theorem dX2_gap_57 : decode cX2_gap 57 = .ok (.iload 8, 2) := by decide +kernel
theorem dX2_gap_59 : decode cX2_gap 59 = .ok (.if_icmp .ge 103, 3) := by decide +kernel
theorem dX2_gap_62 : decode cX2_gap 62 = .ok (.aload_n 0, 1) := by decide +kernel
theorem dX2_gap_63 : decode cX2_gap 63 = .ok (.getfield 184, 3) := by decide +kernel
theorem dX2_gap_66 : decode cX2_gap 66 = .ok (.iload 10, 2) := by decide +kernel
theorem dX2_gap_68 : decode cX2_gap 68 = .ok (.iaload, 1) := by decide +kernel
theorem dX2_gap_69 : decode cX2_gap 69 = .ok (.aload_n 0, 1) := by decide +kernel
theorem dX2_gap_70 : decode cX2_gap 70 = .ok (.getfield 184, 3) := by decide +kernel
theorem dX2_gap_73 : decode cX2_gap 73 = .ok (.iload 10, 2) := by decide +kernel
theorem dX2_gap_75 : decode cX2_gap 75 = .ok (.iconst 1, 1) := by decide +kernel
theorem dX2_gap_76 : decode cX2_gap 76 = .ok (.isub, 1) := by decide +kernel
theorem dX2_gap_77 : decode cX2_gap 77 = .ok (.iaload, 1) := by decide +kernel
theorem dX2_gap_78 : decode cX2_gap 78 = .ok (.isub, 1) := by decide +kernel
theorem dX2_gap_79 : decode cX2_gap 79 = .ok (.iload 4, 2) := by decide +kernel
theorem dX2_gap_81 : decode cX2_gap 81 = .ok (.if_icmp .gt 6, 3) := by decide +kernel
theorem dX2_gap_84 : decode cX2_gap 84 = .ok (.goto 72, 3) := by decide +kernel
theorem dX2_gap_87 : decode cX2_gap 87 = .ok (.iload 9, 2) := by decide +kernel
theorem dX2_gap_89 : decode cX2_gap 89 = .ok (.ifCond .ne 64, 3) := by decide +kernel
theorem dX2_gap_92 : decode cX2_gap 92 = .ok (.aload_n 0, 1) := by decide +kernel
theorem dX2_gap_93 : decode cX2_gap 93 = .ok (.iload_n 2, 1) := by decide +kernel
theorem dX2_gap_94 : decode cX2_gap 94 = .ok (.aload_n 0, 1) := by decide +kernel
theorem dX2_gap_95 : decode cX2_gap 95 = .ok (.getfield 7, 3) := by decide +kernel
theorem dX2_gap_98 : decode cX2_gap 98 = .ok (.iload_n 1, 1) := by decide +kernel
theorem dX2_gap_99 : decode cX2_gap 99 = .ok (.iaload, 1) := by decide +kernel
theorem dX2_gap_100 : decode cX2_gap 100 = .ok (.aload_n 0, 1) := by decide +kernel
theorem dX2_gap_101 : decode cX2_gap 101 = .ok (.getfield 13, 3) := by decide +kernel
theorem dX2_gap_104 : decode cX2_gap 104 = .ok (.iload_n 1, 1) := by decide +kernel
theorem dX2_gap_105 : decode cX2_gap 105 = .ok (.iaload, 1) := by decide +kernel
theorem dX2_gap_106 : decode cX2_gap 106 = .ok (.iload 5, 2) := by decide +kernel
theorem dX2_gap_108 : decode cX2_gap 108 = .ok (.iconst (-1), 1) := by decide +kernel
theorem dX2_gap_109 : decode cX2_gap 109 = .ok (.invokevirtual 407, 3) := by decide +kernel
theorem dX2_gap_112 : decode cX2_gap 112 = .ok (.iload 7, 2) := by decide +kernel
theorem dX2_gap_114 : decode cX2_gap 114 = .ok (.ifCond .ne 21, 3) := by decide +kernel
theorem dX2_gap_117 : decode cX2_gap 117 = .ok (.iload_n 3, 1) := by decide +kernel
theorem dX2_gap_118 : decode cX2_gap 118 = .ok (.aload_n 0, 1) := by decide +kernel
theorem dX2_gap_119 : decode cX2_gap 119 = .ok (.aload_n 0, 1) := by decide +kernel
theorem dX2_gap_120 : decode cX2_gap 120 = .ok (.getfield 184, 3) := by decide +kernel
theorem dX2_gap_123 : decode cX2_gap 123 = .ok (.iload 10, 2) := by decide +kernel
theorem dX2_gap_125 : decode cX2_gap 125 = .ok (.iaload, 1) := by decide +kernel
theorem dX2_gap_126 : decode cX2_gap 126 = .ok (.iconst 1, 1) := by decide +kernel
theorem dX2_gap_127 : decode cX2_gap 127 = .ok (.isub, 1) := by decide +kernel
theorem dX2_gap_128 : decode cX2_gap 128 = .ok (.invokevirtual 414, 3) := by decide +kernel
theorem dX2_gap_131 : decode cX2_gap 131 = .ok (.isub, 1) := by decide +kernel
theorem dX2_gap_132 : decode cX2_gap 132 = .ok (.goto 20, 3) := by decide +kernel
theorem dX2_gap_135 : decode cX2_gap 135 = .ok (.iload_n 3, 1) := by decide +kernel
theorem dX2_gap_136 : decode cX2_gap 136 = .ok (.aload_n 0, 1) := by decide +kernel
theorem dX2_gap_137 : decode cX2_gap 137 = .ok (.aload_n 0, 1) := by decide +kernel
theorem dX2_gap_138 : decode cX2_gap 138 = .ok (.getfield 184, 3) := by decide +kernel
theorem dX2_gap_141 : decode cX2_gap 141 = .ok (.iload 10, 2) := by decide +kernel
theorem dX2_gap_143 : decode cX2_gap 143 = .ok (.iconst 1, 1) := by decide +kernel
theorem dX2_gap_144 : decode cX2_gap 144 = .ok (.isub, 1) := by decide +kernel
theorem dX2_gap_145 : decode cX2_gap 145 = .ok (.iaload, 1) := by decide +kernel
theorem dX2_gap_146 : decode cX2_gap 146 = .ok (.iconst 1, 1) := by decide +kernel
theorem dX2_gap_147 : decode cX2_gap 147 = .ok (.iadd, 1) := by decide +kernel
theorem dX2_gap_148 : decode cX2_gap 148 = .ok (.invokevirtual 411, 3) := by decide +kernel
theorem dX2_gap_151 : decode cX2_gap 151 = .ok (.isub, 1) := by decide +kernel
theorem dX2_gap_152 : decode cX2_gap 152 = .ok (.ireturn, 1) := by decide +kernel
theorem dX2_gap_153 : decode cX2_gap 153 = .ok (.iinc 9 (-1), 3) := by decide +kernel
theorem dX2_gap_156 : decode cX2_gap 156 = .ok (.iinc 10 1, 3) := by decide +kernel
theorem dX2_gap_159 : decode cX2_gap 159 = .ok (.goto (-104), 3) := by decide +kernel
theorem dX2_gap_162 : decode cX2_gap 162 = .ok (.iconst (-1), 1) := by decide +kernel
theorem dX2_gap_163 : decode cX2_gap 163 = .ok (.ireturn, 1) := by decide +kernel
def fn_X2_gap_29 (N : Nat)   (Ω : zo_O) : Option zo_R :=
  rI ((-1)) Ω
theorem ct_X2_gap_29 {Y : zo_Y} (hY : zo_Gd Y cX2_gap 11 RX2 5) (hJ : zo_JC (zo_J Y)) (hCon : ∀ Ω, zo_J Y Ω → zo_Con Ω) (hr : zo_rt Y (Option.some Jvm.ClassFile.FieldType.int)) (N : Nat)    (Ω : zo_O) (res : zo_R) (h : fn_X2_gap_29 N   Ω = some res) : TW Y res Ω 29 [] [] := by
  unfold fn_X2_gap_29 at h
  refine zo_iconst hY (-1) (by decide) dX2_gap_29 ?_
  exact zo_iret hY hr dX2_gap_30 h
def fn_X2_gap_152 (N : Nat)  (s0 : Int32) (Ω : zo_O) : Option zo_R :=
  rI s0 Ω
theorem ct_X2_gap_152 {Y : zo_Y} (hY : zo_Gd Y cX2_gap 11 RX2 5) (hJ : zo_JC (zo_J Y)) (hCon : ∀ Ω, zo_J Y Ω → zo_Con Ω) (hr : zo_rt Y (Option.some Jvm.ClassFile.FieldType.int)) (N : Nat)   (s0 : Int32) (Ω : zo_O) (res : zo_R) (h : fn_X2_gap_152 N  s0 Ω = some res) : TW Y res Ω 152 [] [vi s0] := by
  unfold fn_X2_gap_152 at h
  exact zo_iret hY hr dX2_gap_152 h
def fn_X2_gap_156 (N : Nat) (K55 : Int32 → Int32 → Int32 → Int32 → Int32 → Int32 → Int32 → Int32 → Int32 → zo_O → Option zo_R) (x1 : Int32) (x2 : Int32) (x3 : Int32) (x4 : Int32) (x5 : Int32) (x7 : Int32) (x8 : Int32) (x9 : Int32) (x10 : Int32) (Ω : zo_O) : Option zo_R :=
  K55 x1 x2 x3 x4 x5 x7 x8 x9 (x10 + 1) Ω
theorem ct_X2_gap_156 {Y : zo_Y} (hY : zo_Gd Y cX2_gap 11 RX2 5) (hJ : zo_JC (zo_J Y)) (hCon : ∀ Ω, zo_J Y Ω → zo_Con Ω) (hr : zo_rt Y (Option.some Jvm.ClassFile.FieldType.int)) (N : Nat) (K55 : Int32 → Int32 → Int32 → Int32 → Int32 → Int32 → Int32 → Int32 → Int32 → zo_O → Option zo_R) (hK55 : ∀ (x1 : Int32) (x2 : Int32) (x3 : Int32) (x4 : Int32) (x5 : Int32) (x7 : Int32) (x8 : Int32) (x9 : Int32) (x10 : Int32) (Ω : zo_O) (res : zo_R), K55 x1 x2 x3 x4 x5 x7 x8 x9 x10 Ω = some res → TW Y res Ω 55 [(0, vr 1 0), (1, vi x1), (2, vi x2), (3, vi x3), (4, vi x4), (5, vi x5), (7, vi x7), (8, vi x8), (9, vi x9), (10, vi x10)] []) (x1 : Int32) (x2 : Int32) (x3 : Int32) (x4 : Int32) (x5 : Int32) (x7 : Int32) (x8 : Int32) (x9 : Int32) (x10 : Int32) (Ω : zo_O) (res : zo_R) (h : fn_X2_gap_156 N K55 x1 x2 x3 x4 x5 x7 x8 x9 x10 Ω = some res) : TW Y res Ω 156 [(0, vr 1 0), (1, vi x1), (2, vi x2), (3, vi x3), (4, vi x4), (5, vi x5), (7, vi x7), (8, vi x8), (9, vi x9), (10, vi x10)] [] := by
  unfold fn_X2_gap_156 at h
  refine zo_iinc hY 1 dX2_gap_156 (by decide) (by decide) 9 rfl rfl (ls' := [(10, vi (x10 + 1)), (0, vr 1 0), (1, vi x1), (2, vi x2), (3, vi x3), (4, vi x4), (5, vi x5), (7, vi x7), (8, vi x8), (9, vi x9)]) rfl ?_
  refine zo_goto hY 55 dX2_gap_159 (by decide) ?_
  refine zo_sub [1, 2, 3, 4, 5, 6, 7, 8, 9, 0] rfl ?_
  exact hK55 x1 x2 x3 x4 x5 x7 x8 x9 (x10 + 1) Ω _ h
def bd_X2_gap_55 (N : Nat)  (K55 : Int32 → Int32 → Int32 → Int32 → Int32 → Int32 → Int32 → Int32 → Int32 → zo_O → Option zo_R) (x1 : Int32) (x2 : Int32) (x3 : Int32) (x4 : Int32) (x5 : Int32) (x7 : Int32) (x8 : Int32) (x9 : Int32) (x10 : Int32) (Ω : zo_O) : Option zo_R :=
  if x8 ≤ x10 then (
    rI ((-1)) Ω
    ) else
  ix x10 120 fun j2 =>
  ix (x10 - 1) 120 fun j3 =>
  if x4 < (gI Ω 32 47 j2) - (gI Ω 32 47 j3) then (
    if x9 = 0 then (
      ix x1 14 fun j6 =>
      ix x1 14 fun j7 =>
      cv (fn_X2_curve N x2 (gI Ω 32 0 j6) (gI Ω 32 1 j7) x5 ((-1)) Ω) fun Ω8 =>
      if x7 = 0 then (
        ix x10 120 fun j10 =>
        ci (fn_X2_ageTo N ((gI Ω8 32 47 j10) - 1) Ω8) fun r12 Ω11 =>
        fn_X2_gap_152 N (x3 - r12) Ω11
        ) else
      ix (x10 - 1) 120 fun j13 =>
      ci (fn_X2_ageFrom N ((gI Ω8 32 47 j13) + 1) Ω8) fun r15 Ω14 =>
      fn_X2_gap_152 N (x3 - r15) Ω14
      ) else
    fn_X2_gap_156 N K55 x1 x2 x3 x4 x5 x7 x8 (x9 + (-1)) x10 Ω
    ) else
  fn_X2_gap_156 N K55 x1 x2 x3 x4 x5 x7 x8 x9 x10 Ω
theorem cb_X2_gap_55 {Y : zo_Y} (hY : zo_Gd Y cX2_gap 11 RX2 5) (hJ : zo_JC (zo_J Y)) (hCon : ∀ Ω, zo_J Y Ω → zo_Con Ω) (hr : zo_rt Y (Option.some Jvm.ClassFile.FieldType.int)) (N : Nat)  (K55 : Int32 → Int32 → Int32 → Int32 → Int32 → Int32 → Int32 → Int32 → Int32 → zo_O → Option zo_R)  (hK55 : ∀ (x1 : Int32) (x2 : Int32) (x3 : Int32) (x4 : Int32) (x5 : Int32) (x7 : Int32) (x8 : Int32) (x9 : Int32) (x10 : Int32) (Ω : zo_O) (res : zo_R), K55 x1 x2 x3 x4 x5 x7 x8 x9 x10 Ω = some res → TW Y res Ω 55 [(0, vr 1 0), (1, vi x1), (2, vi x2), (3, vi x3), (4, vi x4), (5, vi x5), (7, vi x7), (8, vi x8), (9, vi x9), (10, vi x10)] []) (x1 : Int32) (x2 : Int32) (x3 : Int32) (x4 : Int32) (x5 : Int32) (x7 : Int32) (x8 : Int32) (x9 : Int32) (x10 : Int32) (Ω : zo_O) (res : zo_R) (h : bd_X2_gap_55 N  K55 x1 x2 x3 x4 x5 x7 x8 x9 x10 Ω = some res) : TW Y res Ω 55 [(0, vr 1 0), (1, vi x1), (2, vi x2), (3, vi x3), (4, vi x4), (5, vi x5), (7, vi x7), (8, vi x8), (9, vi x9), (10, vi x10)] [] := by
  unfold bd_X2_gap_55 at h
  refine zo_iload hY dX2_gap_55 9 rfl ?_
  refine zo_iload hY dX2_gap_57 7 rfl ?_
  refine zo_icmp_ge hY 162 dX2_gap_59 (by decide) h (fun c1 h => ?_) (fun c1 h => ?_)
  · refine zo_iconst hY (-1) (by decide) dX2_gap_162 ?_
    exact zo_iret hY hr dX2_gap_163 h
  · refine zo_aload_n hY dX2_gap_62 rfl 0 rfl ?_
    refine zo_getC hY LX2_184_1 rfl (fun Ω q => (hCon Ω q).2.1 79 _ rfl) dX2_gap_63 ?_
    refine zo_iload hY dX2_gap_66 9 rfl ?_
    refine zo_ald hY (by decide) (Or.inl ⟨rfl, dX2_gap_68⟩) (fun q => (hCon _ q).2.2.2 32 47 120 rfl) h (fun j2 h => ?_)
    refine zo_aload_n hY dX2_gap_69 rfl 0 rfl ?_
    refine zo_getC hY LX2_184_1 rfl (fun Ω q => (hCon Ω q).2.1 79 _ rfl) dX2_gap_70 ?_
    refine zo_iload hY dX2_gap_73 9 rfl ?_
    refine zo_iconst hY 1 (by decide) dX2_gap_75 ?_
    refine zo_isub hY dX2_gap_76 ?_
    refine zo_ald hY (by decide) (Or.inl ⟨rfl, dX2_gap_77⟩) (fun q => (hCon _ q).2.2.2 32 47 120 rfl) h (fun j3 h => ?_)
    refine zo_isub hY dX2_gap_78 ?_
    refine zo_iload hY dX2_gap_79 4 rfl ?_
    refine zo_icmp_gt hY 87 dX2_gap_81 (by decide) h (fun c4 h => ?_) (fun c4 h => ?_)
    · refine zo_iload hY dX2_gap_87 8 rfl ?_
      refine zo_if_ne hY 153 dX2_gap_89 (by decide) h (fun c5 h => ?_) (fun c5 h => ?_)
      · refine zo_aload_n hY dX2_gap_92 rfl 0 rfl ?_
        refine zo_iload_n hY dX2_gap_93 rfl 2 rfl ?_
        refine zo_aload_n hY dX2_gap_94 rfl 0 rfl ?_
        refine zo_getC hY LX2_7_1 rfl (fun Ω q => (hCon Ω q).2.1 3 _ rfl) dX2_gap_95 ?_
        refine zo_iload_n hY dX2_gap_98 rfl 1 rfl ?_
        refine zo_ald hY (by decide) (Or.inl ⟨rfl, dX2_gap_99⟩) (fun q => (hCon _ q).2.2.2 32 0 14 rfl) h (fun j6 h => ?_)
        refine zo_aload_n hY dX2_gap_100 rfl 0 rfl ?_
        refine zo_getC hY LX2_13_1 rfl (fun Ω q => (hCon Ω q).2.1 4 _ rfl) dX2_gap_101 ?_
        refine zo_iload_n hY dX2_gap_104 rfl 1 rfl ?_
        refine zo_ald hY (by decide) (Or.inl ⟨rfl, dX2_gap_105⟩) (fun q => (hCon _ q).2.2.2 32 1 14 rfl) h (fun j7 h => ?_)
        refine zo_iload hY dX2_gap_106 5 rfl ?_
        refine zo_iconst hY (-1) (by decide) dX2_gap_108 ?_
        refine zo_callV hY (fun q hq => mt_X2_curve hJ hCon N x2 (gI Ω 32 0 j6) (gI Ω 32 1 j7) x5 ((-1)) Ω q hq) (by decide) (by decide) (by decide) ⟨rfl, cn_X2_curve⟩ rfl q1700 q1702 qs58 q82 q1703 (Nat.le_of_ble_eq_true rfl) dX2_gap_109 rfl h (cv_k (fun Ω8 res h => ?_))
        refine zo_iload hY dX2_gap_112 6 rfl ?_
        refine zo_if_ne hY 135 dX2_gap_114 (by decide) h (fun c9 h => ?_) (fun c9 h => ?_)
        · refine zo_iload_n hY dX2_gap_117 rfl 3 rfl ?_
          refine zo_aload_n hY dX2_gap_118 rfl 0 rfl ?_
          refine zo_aload_n hY dX2_gap_119 rfl 0 rfl ?_
          refine zo_getC hY LX2_184_1 rfl (fun Ω q => (hCon Ω q).2.1 79 _ rfl) dX2_gap_120 ?_
          refine zo_iload hY dX2_gap_123 9 rfl ?_
          refine zo_ald hY (by decide) (Or.inl ⟨rfl, dX2_gap_125⟩) (fun q => (hCon _ q).2.2.2 32 47 120 rfl) h (fun j10 h => ?_)
          refine zo_iconst hY 1 (by decide) dX2_gap_126 ?_
          refine zo_isub hY dX2_gap_127 ?_
          refine zo_callV hY (fun q hq => mt_X2_ageTo hJ hCon N ((gI Ω8 32 47 j10) - 1) Ω8 q hq) (by decide) (by decide) (by decide) ⟨rfl, cn_X2_ageTo⟩ rfl q1758 q1760 qs70 q82 q1761 (Nat.le_of_ble_eq_true rfl) dX2_gap_128 rfl h (ci_k (fun r12 Ω11 res h => ?_))
          refine zo_isub hY dX2_gap_131 ?_
          refine zo_goto hY 152 dX2_gap_132 (by decide) ?_
          refine zo_sub [] rfl ?_
          exact ct_X2_gap_152 hY hJ hCon hr N (x3 - r12) Ω11 _ h
        · refine zo_iload_n hY dX2_gap_135 rfl 3 rfl ?_
          refine zo_aload_n hY dX2_gap_136 rfl 0 rfl ?_
          refine zo_aload_n hY dX2_gap_137 rfl 0 rfl ?_
          refine zo_getC hY LX2_184_1 rfl (fun Ω q => (hCon Ω q).2.1 79 _ rfl) dX2_gap_138 ?_
          refine zo_iload hY dX2_gap_141 9 rfl ?_
          refine zo_iconst hY 1 (by decide) dX2_gap_143 ?_
          refine zo_isub hY dX2_gap_144 ?_
          refine zo_ald hY (by decide) (Or.inl ⟨rfl, dX2_gap_145⟩) (fun q => (hCon _ q).2.2.2 32 47 120 rfl) h (fun j13 h => ?_)
          refine zo_iconst hY 1 (by decide) dX2_gap_146 ?_
          refine zo_iadd hY dX2_gap_147 ?_
          refine zo_callV hY (fun q hq => mt_X2_ageFrom hJ hCon N ((gI Ω8 32 47 j13) + 1) Ω8 q hq) (by decide) (by decide) (by decide) ⟨rfl, cn_X2_ageFrom⟩ rfl q1754 q1756 qs69 q82 q1757 (Nat.le_of_ble_eq_true rfl) dX2_gap_148 rfl h (ci_k (fun r15 Ω14 res h => ?_))
          refine zo_isub hY dX2_gap_151 ?_
          refine zo_sub [] rfl ?_
          exact ct_X2_gap_152 hY hJ hCon hr N (x3 - r15) Ω14 _ h
      · refine zo_iinc hY (-1) dX2_gap_153 (by decide) (by decide) 8 rfl rfl (ls' := [(9, vi (x9 + (-1))), (0, vr 1 0), (1, vi x1), (2, vi x2), (3, vi x3), (4, vi x4), (5, vi x5), (7, vi x7), (8, vi x8), (10, vi x10)]) rfl ?_
        refine zo_sub [1, 2, 3, 4, 5, 6, 7, 8, 0, 9] rfl ?_
        exact ct_X2_gap_156 hY hJ hCon hr N K55 hK55 x1 x2 x3 x4 x5 x7 x8 (x9 + (-1)) x10 Ω _ h
    · refine zo_goto hY 156 dX2_gap_84 (by decide) ?_
      exact ct_X2_gap_156 hY hJ hCon hr N K55 hK55 x1 x2 x3 x4 x5 x7 x8 x9 x10 Ω _ h
def fn_X2_gap_55 (N : Nat)  : Nat → Int32 → Int32 → Int32 → Int32 → Int32 → Int32 → Int32 → Int32 → Int32 → zo_O → Option zo_R
  | 0, _, _, _, _, _, _, _, _, _, _ => none
  | n + 1, x1, x2, x3, x4, x5, x7, x8, x9, x10, Ω => bd_X2_gap_55 N  (fn_X2_gap_55 N  n) x1 x2 x3 x4 x5 x7 x8 x9 x10 Ω
theorem ct_X2_gap_55 {Y : zo_Y} (hY : zo_Gd Y cX2_gap 11 RX2 5) (hJ : zo_JC (zo_J Y)) (hCon : ∀ Ω, zo_J Y Ω → zo_Con Ω) (hr : zo_rt Y (Option.some Jvm.ClassFile.FieldType.int)) (N : Nat)   : ∀ (n : Nat) (x1 : Int32) (x2 : Int32) (x3 : Int32) (x4 : Int32) (x5 : Int32) (x7 : Int32) (x8 : Int32) (x9 : Int32) (x10 : Int32) (Ω : zo_O) (res : zo_R), fn_X2_gap_55 N  n x1 x2 x3 x4 x5 x7 x8 x9 x10 Ω = some res → TW Y res Ω 55 [(0, vr 1 0), (1, vi x1), (2, vi x2), (3, vi x3), (4, vi x4), (5, vi x5), (7, vi x7), (8, vi x8), (9, vi x9), (10, vi x10)] [] := by
  intro n
  induction n with
  | zero => intro x1 x2 x3 x4 x5 x7 x8 x9 x10 Ω res h; exact nomatch (show (none : Option zo_R) = some res from h)
  | succ n ih => intro x1 x2 x3 x4 x5 x7 x8 x9 x10 Ω res h; exact cb_X2_gap_55 hY hJ hCon hr N  (fn_X2_gap_55 N  n)  ih x1 x2 x3 x4 x5 x7 x8 x9 x10 Ω res h
def fn_X2_gap (N : Nat) (x1 : Int32) (x2 : Int32) (x3 : Int32) (x4 : Int32) (x5 : Int32) (x6 : Int32) (x7 : Int32) (Ω : zo_O) : Option zo_R :=
  lt (sI Ω 1 0 0 0) fun Ω1 =>
  ci (fn_X2_isGap N x1 x2 x3 x4 x5 Ω1) fun r3 Ω2 =>
  if r3 = 0 then (
    fn_X2_gap_29 N Ω2
    ) else
  ci (fn_X2_within N x7 0 1 Ω2) fun r6 Ω5 =>
  if r6 = 0 then (
    fn_X2_gap_29 N Ω5
    ) else
  cv (fn_X2_habits N x5 Ω5) fun Ω8 =>
  ci (fn_X2_sorts N x1 x2 x3 x5 Ω8) fun r10 Ω9 =>
  fn_X2_gap_55 N N x1 x2 x3 x4 x5 x7 r10 x6 1 Ω9
theorem mt_X2_gap {G : zo_G} {J : zo_O → Prop} (hJ : zo_JC J) (hCon : ∀ Ω, J Ω → zo_Con Ω) (N : Nat) (x1 : Int32) (x2 : Int32) (x3 : Int32) (x4 : Int32) (x5 : Int32) (x6 : Int32) (x7 : Int32) (Ω : zo_O) (res : zo_R) (h : fn_X2_gap N x1 x2 x3 x4 x5 x6 x7 Ω = some res) : zo_MT G J yX2_gap cX2_gap 11 (Option.some Jvm.ClassFile.FieldType.int) 5 [vr 1 0, vi x1, vi x2, vi x3, vi x4, vi x5, vi x6, vi x7] Ω res := by
  refine zo_enter (by decide) rfl (Nat.le_of_ble_eq_true rfl) (fun Y hY eJ hr hmn => ?_)
  subst eJ
  show TW Y res Ω 0 [(0, vr 1 0), (1, vi x1), (2, vi x2), (3, vi x3), (4, vi x4), (5, vi x5), (6, vi x6), (7, vi x7)] []
  unfold fn_X2_gap at h
  refine zo_aload_n hY dX2_gap_0 rfl 0 rfl ?_
  refine zo_iconst hY 0 (by decide) dX2_gap_1 ?_
  refine zo_putI hY hJ LX2_187_1 rfl (Or.inl rfl) dX2_gap_2 h (fun Ω1 h => ?_)
  refine zo_aload_n hY dX2_gap_5 rfl 0 rfl ?_
  refine zo_iload_n hY dX2_gap_6 rfl 1 rfl ?_
  refine zo_iload_n hY dX2_gap_7 rfl 2 rfl ?_
  refine zo_iload_n hY dX2_gap_8 rfl 3 rfl ?_
  refine zo_iload hY dX2_gap_9 4 rfl ?_
  refine zo_iload hY dX2_gap_11 5 rfl ?_
  refine zo_callV hY (fun q hq => mt_X2_isGap hJ hCon N x1 x2 x3 x4 x5 Ω1 q hq) (by decide) (by decide) (by decide) ⟨rfl, cn_X2_isGap⟩ rfl q1802 q1804 qs75 q82 q1805 (Nat.le_of_ble_eq_true rfl) dX2_gap_13 rfl h (ci_k (fun r3 Ω2 res h => ?_))
  refine zo_if_eq hY 29 dX2_gap_16 (by decide) h (fun c4 h => ?_) (fun c4 h => ?_)
  · refine zo_sub [] rfl ?_
    exact ct_X2_gap_29 hY hJ hCon hr N Ω2 _ h
  · refine zo_iload hY dX2_gap_19 7 rfl ?_
    refine zo_iconst hY 0 (by decide) dX2_gap_21 ?_
    refine zo_iconst hY 1 (by decide) dX2_gap_22 ?_
    refine zo_callS hY (fun q hq => mt_X2_within hJ hCon N x7 0 1 Ω2 q hq) (by decide) (by decide) cn_X2_within rfl q1521 q1522 q82 q1523 (Nat.le_of_ble_eq_true rfl) dX2_gap_23 rfl h (ci_k (fun r6 Ω5 res h => ?_))
    refine zo_if_ne hY 31 dX2_gap_26 (by decide) h (fun c7 h => ?_) (fun c7 h => ?_)
    · refine zo_sub [] rfl ?_
      exact ct_X2_gap_29 hY hJ hCon hr N Ω5 _ h
    · refine zo_aload_n hY dX2_gap_31 rfl 0 rfl ?_
      refine zo_iload hY dX2_gap_32 5 rfl ?_
      refine zo_callV hY (fun q hq => mt_X2_habits hJ hCon N x5 Ω5 q hq) (by decide) (by decide) (by decide) ⟨rfl, cn_X2_habits⟩ rfl q1653 q1655 qs50 q82 q1656 (Nat.le_of_ble_eq_true rfl) dX2_gap_34 rfl h (cv_k (fun Ω8 res h => ?_))
      refine zo_aload_n hY dX2_gap_37 rfl 0 rfl ?_
      refine zo_iload_n hY dX2_gap_38 rfl 1 rfl ?_
      refine zo_iload_n hY dX2_gap_39 rfl 2 rfl ?_
      refine zo_iload_n hY dX2_gap_40 rfl 3 rfl ?_
      refine zo_iload hY dX2_gap_41 5 rfl ?_
      refine zo_callV hY (fun q hq => mt_X2_sorts hJ hCon N x1 x2 x3 x5 Ω8 q hq) (by decide) (by decide) (by decide) ⟨rfl, cn_X2_sorts⟩ rfl q1806 q1808 qs76 q82 q1809 (Nat.le_of_ble_eq_true rfl) dX2_gap_43 rfl h (ci_k (fun r10 Ω9 res h => ?_))
      refine zo_istore hY dX2_gap_46 (by decide) rfl (ls' := [(8, vi r10), (0, vr 1 0), (1, vi x1), (2, vi x2), (3, vi x3), (4, vi x4), (5, vi x5), (6, vi x6), (7, vi x7)]) rfl ?_
      refine zo_iload hY dX2_gap_48 7 rfl ?_
      refine zo_istore hY dX2_gap_50 (by decide) rfl (ls' := [(9, vi x6), (8, vi r10), (0, vr 1 0), (1, vi x1), (2, vi x2), (3, vi x3), (4, vi x4), (5, vi x5), (6, vi x6), (7, vi x7)]) rfl ?_
      refine zo_iconst hY 1 (by decide) dX2_gap_52 ?_
      refine zo_istore hY dX2_gap_53 (by decide) rfl (ls' := [(10, vi 1), (9, vi x6), (8, vi r10), (0, vr 1 0), (1, vi x1), (2, vi x2), (3, vi x3), (4, vi x4), (5, vi x5), (6, vi x6), (7, vi x7)]) rfl ?_
      refine zo_sub [3, 4, 5, 6, 7, 8, 10, 2, 1, 0] rfl ?_
      exact ct_X2_gap_55 hY hJ hCon hr N N x1 x2 x3 x4 x5 x7 r10 x6 1 Ω9 _ h
theorem dX2_grown_0 : decode cX2_grown 0 = .ok (.aload_n 0, 1) := by decide +kernel
theorem dX2_grown_1 : decode cX2_grown 1 = .ok (.iconst 0, 1) := by decide +kernel
theorem dX2_grown_2 : decode cX2_grown 2 = .ok (.putfield 187, 3) := by decide +kernel
theorem dX2_grown_5 : decode cX2_grown 5 = .ok (.iload_n 1, 1) := by decide +kernel
theorem dX2_grown_6 : decode cX2_grown 6 = .ok (.iconst 0, 1) := by decide +kernel
theorem dX2_grown_7 : decode cX2_grown 7 = .ok (.aload_n 0, 1) := by decide +kernel
theorem dX2_grown_8 : decode cX2_grown 8 = .ok (.getfield 231, 3) := by decide +kernel
theorem dX2_grown_11 : decode cX2_grown 11 = .ok (.iconst 1, 1) := by decide +kernel
theorem dX2_grown_12 : decode cX2_grown 12 = .ok (.isub, 1) := by decide +kernel
theorem dX2_grown_13 : decode cX2_grown 13 = .ok (.invokestatic 190, 3) := by decide +kernel
theorem dX2_grown_16 : decode cX2_grown 16 = .ok (.ifCond .eq 21, 3) := by decide +kernel
theorem dX2_grown_19 : decode cX2_grown 19 = .ok (.aload_n 0, 1) := by decide +kernel
theorem dX2_grown_20 : decode cX2_grown 20 = .ok (.iload_n 2, 1) := by decide +kernel
theorem dX2_grown_21 : decode cX2_grown 21 = .ok (.invokevirtual 337, 3) := by decide +kernel
theorem dX2_grown_24 : decode cX2_grown 24 = .ok (.ifCond .eq 13, 3) := by decide +kernel
theorem dX2_grown_27 : decode cX2_grown 27 = .ok (.aload_n 0, 1) := by decide +kernel
theorem dX2_grown_28 : decode cX2_grown 28 = .ok (.getfield 104, 3) := by decide +kernel
theorem dX2_grown_31 : decode cX2_grown 31 = .ok (.iload_n 1, 1) := by decide +kernel
theorem dX2_grown_32 : decode cX2_grown 32 = .ok (.iaload, 1) := by decide +kernel
theorem dX2_grown_33 : decode cX2_grown 33 = .ok (.iload_n 2, 1) := by decide +kernel
theorem dX2_grown_34 : decode cX2_grown 34 = .ok (.if_icmp .le 5, 3) := by decide +kernel
theorem dX2_grown_37 : decode cX2_grown 37 = .ok (.iconst (-1), 1) := by decide +kernel
theorem dX2_grown_38 : decode cX2_grown 38 = .ok (.ireturn, 1) := by decide +kernel
theorem dX2_grown_39 : decode cX2_grown 39 = .ok (.aload_n 0, 1) := by decide +kernel
theorem dX2_grown_40 : decode cX2_grown 40 = .ok (.iload_n 2, 1) := by decide +kernel
theorem dX2_grown_41 : decode cX2_grown 41 = .ok (.invokevirtual 340, 3) := by decide +kernel
theorem dX2_grown_44 : decode cX2_grown 44 = .ok (.aload_n 0, 1) := by decide +kernel
theorem dX2_grown_45 : decode cX2_grown 45 = .ok (.getfield 98, 3) := by decide +kernel
theorem dX2_grown_48 : decode cX2_grown 48 = .ok (.iload_n 1, 1) := by decide +kernel
theorem dX2_grown_49 : decode cX2_grown 49 = .ok (.iaload, 1) := by decide +kernel
theorem dX2_grown_50 : decode cX2_grown 50 = .ok (.istore_n 3, 1) := by decide +kernel
theorem dX2_grown_51 : decode cX2_grown 51 = .ok (.aload_n 0, 1) := by decide +kernel
theorem dX2_grown_52 : decode cX2_grown 52 = .ok (.getfield 101, 3) := by decide +kernel
theorem dX2_grown_55 : decode cX2_grown 55 = .ok (.iload_n 1, 1) := by decide +kernel
theorem dX2_grown_56 : decode cX2_grown 56 = .ok (.iaload, 1) := by decide +kernel
theorem dX2_grown_57 : decode cX2_grown 57 = .ok (.istore 4, 2) := by decide +kernel
theorem dX2_grown_59 : decode cX2_grown 59 = .ok (.aload_n 0, 1) := by decide +kernel
theorem dX2_grown_60 : decode cX2_grown 60 = .ok (.iload_n 3, 1) := by decide +kernel
theorem dX2_grown_61 : decode cX2_grown 61 = .ok (.iload_n 2, 1) := by decide +kernel
theorem dX2_grown_62 : decode cX2_grown 62 = .ok (.invokevirtual 353, 3) := by decide +kernel
theorem dX2_grown_65 : decode cX2_grown 65 = .ok (.ifCond .eq 13, 3) := by decide +kernel
theorem dX2_grown_68 : decode cX2_grown 68 = .ok (.aload_n 0, 1) := by decide +kernel
theorem dX2_grown_69 : decode cX2_grown 69 = .ok (.iload 4, 2) := by decide +kernel
theorem dX2_grown_71 : decode cX2_grown 71 = .ok (.iload_n 2, 1) := by decide +kernel
theorem dX2_grown_72 : decode cX2_grown 72 = .ok (.invokevirtual 353, 3) := by decide +kernel
theorem dX2_grown_75 : decode cX2_grown 75 = .ok (.ifCond .ne 5, 3) := by decide +kernel
theorem dX2_grown_78 : decode cX2_grown 78 = .ok (.iconst (-1), 1) := by decide +kernel
theorem dX2_grown_79 : decode cX2_grown 79 = .ok (.ireturn, 1) := by decide +kernel
theorem dX2_grown_80 : decode cX2_grown 80 = .ok (.aload_n 0, 1) := by decide +kernel
theorem dX2_grown_81 : decode cX2_grown 81 = .ok (.iload 4, 2) := by decide +kernel
theorem dX2_grown_83 : decode cX2_grown 83 = .ok (.invokevirtual 359, 3) := by decide +kernel
theorem dX2_grown_86 : decode cX2_grown 86 = .ok (.aload_n 0, 1) := by decide +kernel
theorem dX2_grown_87 : decode cX2_grown 87 = .ok (.iload_n 3, 1) := by decide +kernel
theorem dX2_grown_88 : decode cX2_grown 88 = .ok (.invokevirtual 356, 3) := by decide +kernel
theorem dX2_grown_91 : decode cX2_grown 91 = .ok (.if_icmp .lt 41, 3) := by decide +kernel
theorem dX2_grown_94 : decode cX2_grown 94 = .ok (.aload_n 0, 1) := by decide +kernel
theorem dX2_grown_95 : decode cX2_grown 95 = .ok (.iload 4, 2) := by decide +kernel
theorem dX2_grown_97 : decode cX2_grown 97 = .ok (.invokevirtual 356, 3) := by decide +kernel
theorem dX2_grown_100 : decode cX2_grown 100 = .ok (.aload_n 0, 1) := by decide +kernel
theorem dX2_grown_101 : decode cX2_grown 101 = .ok (.iload_n 3, 1) := by decide +kernel
theorem dX2_grown_102 : decode cX2_grown 102 = .ok (.invokevirtual 359, 3) := by decide +kernel
theorem dX2_grown_105 : decode cX2_grown 105 = .ok (.aload_n 0, 1) := by decide +kernel
theorem dX2_grown_106 : decode cX2_grown 106 = .ok (.getfield 111, 3) := by decide +kernel
theorem dX2_grown_109 : decode cX2_grown 109 = .ok (.aload_n 0, 1) := by decide +kernel
theorem dX2_grown_110 : decode cX2_grown 110 = .ok (.getfield 40, 3) := by decide +kernel
theorem dX2_grown_113 : decode cX2_grown 113 = .ok (.iload 4, 2) := by decide +kernel
theorem dX2_grown_115 : decode cX2_grown 115 = .ok (.iaload, 1) := by decide +kernel
theorem dX2_grown_116 : decode cX2_grown 116 = .ok (.aload_n 0, 1) := by decide +kernel
theorem dX2_grown_117 : decode cX2_grown 117 = .ok (.getfield 40, 3) := by decide +kernel
theorem dX2_grown_120 : decode cX2_grown 120 = .ok (.iload_n 3, 1) := by decide +kernel
theorem dX2_grown_121 : decode cX2_grown 121 = .ok (.iaload, 1) := by decide +kernel
theorem dX2_grown_122 : decode cX2_grown 122 = .ok (.isub, 1) := by decide +kernel
theorem dX2_grown_123 : decode cX2_grown 123 = .ok (.imul, 1) := by decide +kernel
theorem dX2_grown_124 : decode cX2_grown 124 = .ok (.iadd, 1) := by decide +kernel
theorem dX2_grown_125 : decode cX2_grown 125 = .ok (.if_icmp .gt 7, 3) := by decide +kernel
theorem dX2_grown_128 : decode cX2_grown 128 = .ok (.iconst 1, 1) := by decide +kernel
theorem dX2_grown_129 : decode cX2_grown 129 = .ok (.goto 4, 3) := by decide +kernel
theorem dX2_grown_132 : decode cX2_grown 132 = .ok (.iconst 0, 1) := by decide +kernel
theorem dX2_grown_133 : decode cX2_grown 133 = .ok (.ireturn, 1) := by decide +kernel
def fn_X2_grown_37 (N : Nat)   (Ω : zo_O) : Option zo_R :=
  rI ((-1)) Ω
theorem ct_X2_grown_37 {Y : zo_Y} (hY : zo_Gd Y cX2_grown 5 RX2 3) (hJ : zo_JC (zo_J Y)) (hCon : ∀ Ω, zo_J Y Ω → zo_Con Ω) (hr : zo_rt Y (Option.some Jvm.ClassFile.FieldType.int)) (N : Nat)    (Ω : zo_O) (res : zo_R) (h : fn_X2_grown_37 N   Ω = some res) : TW Y res Ω 37 [] [] := by
  unfold fn_X2_grown_37 at h
  refine zo_iconst hY (-1) (by decide) dX2_grown_37 ?_
  exact zo_iret hY hr dX2_grown_38 h
def fn_X2_grown_78 (N : Nat)   (Ω : zo_O) : Option zo_R :=
  rI ((-1)) Ω
theorem ct_X2_grown_78 {Y : zo_Y} (hY : zo_Gd Y cX2_grown 5 RX2 3) (hJ : zo_JC (zo_J Y)) (hCon : ∀ Ω, zo_J Y Ω → zo_Con Ω) (hr : zo_rt Y (Option.some Jvm.ClassFile.FieldType.int)) (N : Nat)    (Ω : zo_O) (res : zo_R) (h : fn_X2_grown_78 N   Ω = some res) : TW Y res Ω 78 [] [] := by
  unfold fn_X2_grown_78 at h
  refine zo_iconst hY (-1) (by decide) dX2_grown_78 ?_
  exact zo_iret hY hr dX2_grown_79 h
def fn_X2_grown_133 (N : Nat)  (s0 : Int32) (Ω : zo_O) : Option zo_R :=
  rI s0 Ω
theorem ct_X2_grown_133 {Y : zo_Y} (hY : zo_Gd Y cX2_grown 5 RX2 3) (hJ : zo_JC (zo_J Y)) (hCon : ∀ Ω, zo_J Y Ω → zo_Con Ω) (hr : zo_rt Y (Option.some Jvm.ClassFile.FieldType.int)) (N : Nat)   (s0 : Int32) (Ω : zo_O) (res : zo_R) (h : fn_X2_grown_133 N  s0 Ω = some res) : TW Y res Ω 133 [] [vi s0] := by
  unfold fn_X2_grown_133 at h
  exact zo_iret hY hr dX2_grown_133 h
def fn_X2_grown_132 (N : Nat)   (Ω : zo_O) : Option zo_R :=
  fn_X2_grown_133 N 0 Ω
theorem ct_X2_grown_132 {Y : zo_Y} (hY : zo_Gd Y cX2_grown 5 RX2 3) (hJ : zo_JC (zo_J Y)) (hCon : ∀ Ω, zo_J Y Ω → zo_Con Ω) (hr : zo_rt Y (Option.some Jvm.ClassFile.FieldType.int)) (N : Nat)    (Ω : zo_O) (res : zo_R) (h : fn_X2_grown_132 N   Ω = some res) : TW Y res Ω 132 [] [] := by
  unfold fn_X2_grown_132 at h
  refine zo_iconst hY 0 (by decide) dX2_grown_132 ?_
  exact ct_X2_grown_133 hY hJ hCon hr N 0 Ω _ h
def fn_X2_grown (N : Nat) (x1 : Int32) (x2 : Int32) (Ω : zo_O) : Option zo_R :=
  lt (sI Ω 1 0 0 0) fun Ω1 =>
  ci (fn_X2_within N x1 0 ((gI Ω1 1 0 37) - 1) Ω1) fun r3 Ω2 =>
  if r3 = 0 then (
    fn_X2_grown_37 N Ω2
    ) else
  ci (fn_X2_isKnown N x2 Ω2) fun r6 Ω5 =>
  if r6 = 0 then (
    fn_X2_grown_37 N Ω5
    ) else
  ix x1 30 fun j8 =>
  if gI Ω5 32 30 j8 ≤ x2 then (
    cv (fn_X2_habits N x2 Ω5) fun Ω10 =>
    ix x1 30 fun j11 =>
    li (gI Ω10 32 28 j11) fun y12 =>
    ix x1 30 fun j13 =>
    li (gI Ω10 32 29 j13) fun y14 =>
    ci (fn_X2_isUsed N y12 x2 Ω10) fun r16 Ω15 =>
    if r16 = 0 then (
      fn_X2_grown_78 N Ω15
      ) else
    ci (fn_X2_isUsed N y14 x2 Ω15) fun r19 Ω18 =>
    if r19 = 0 then (
      fn_X2_grown_78 N Ω18
      ) else
    ci (fn_X2_highOf N y14 Ω18) fun r22 Ω21 =>
    ci (fn_X2_lowOf N y12 Ω21) fun r24 Ω23 =>
    if r22 < r24 then (
      fn_X2_grown_132 N Ω23
      ) else
    ci (fn_X2_lowOf N y14 Ω23) fun r27 Ω26 =>
    ci (fn_X2_highOf N y12 Ω26) fun r29 Ω28 =>
    ix y14 120 fun j30 =>
    ix y12 120 fun j31 =>
    if r29 + ((gI Ω28 1 0 42) * ((gI Ω28 32 10 j30) - (gI Ω28 32 10 j31))) < r27 then (
      fn_X2_grown_132 N Ω28
      ) else
    fn_X2_grown_133 N 1 Ω28
    ) else
  fn_X2_grown_37 N Ω5
theorem mt_X2_grown {G : zo_G} {J : zo_O → Prop} (hJ : zo_JC J) (hCon : ∀ Ω, J Ω → zo_Con Ω) (N : Nat) (x1 : Int32) (x2 : Int32) (Ω : zo_O) (res : zo_R) (h : fn_X2_grown N x1 x2 Ω = some res) : zo_MT G J yX2_grown cX2_grown 5 (Option.some Jvm.ClassFile.FieldType.int) 3 [vr 1 0, vi x1, vi x2] Ω res := by
  refine zo_enter (by decide) rfl (Nat.le_of_ble_eq_true rfl) (fun Y hY eJ hr hmn => ?_)
  subst eJ
  show TW Y res Ω 0 [(0, vr 1 0), (1, vi x1), (2, vi x2)] []
  unfold fn_X2_grown at h
  refine zo_aload_n hY dX2_grown_0 rfl 0 rfl ?_
  refine zo_iconst hY 0 (by decide) dX2_grown_1 ?_
  refine zo_putI hY hJ LX2_187_1 rfl (Or.inl rfl) dX2_grown_2 h (fun Ω1 h => ?_)
  refine zo_iload_n hY dX2_grown_5 rfl 1 rfl ?_
  refine zo_iconst hY 0 (by decide) dX2_grown_6 ?_
  refine zo_aload_n hY dX2_grown_7 rfl 0 rfl ?_
  refine zo_getI hY LX2_231_1 rfl dX2_grown_8 ?_
  refine zo_iconst hY 1 (by decide) dX2_grown_11 ?_
  refine zo_isub hY dX2_grown_12 ?_
  refine zo_callS hY (fun q hq => mt_X2_within hJ hCon N x1 0 ((gI Ω1 1 0 37) - 1) Ω1 q hq) (by decide) (by decide) cn_X2_within rfl q1521 q1522 q82 q1523 (Nat.le_of_ble_eq_true rfl) dX2_grown_13 rfl h (ci_k (fun r3 Ω2 res h => ?_))
  refine zo_if_eq hY 37 dX2_grown_16 (by decide) h (fun c4 h => ?_) (fun c4 h => ?_)
  · refine zo_sub [] rfl ?_
    exact ct_X2_grown_37 hY hJ hCon hr N Ω2 _ h
  · refine zo_aload_n hY dX2_grown_19 rfl 0 rfl ?_
    refine zo_iload_n hY dX2_grown_20 rfl 2 rfl ?_
    refine zo_callV hY (fun q hq => mt_X2_isKnown hJ hCon N x2 Ω2 q hq) (by decide) (by decide) (by decide) ⟨rfl, cn_X2_isKnown⟩ rfl q1649 q1651 qs49 q82 q1652 (Nat.le_of_ble_eq_true rfl) dX2_grown_21 rfl h (ci_k (fun r6 Ω5 res h => ?_))
    refine zo_if_eq hY 37 dX2_grown_24 (by decide) h (fun c7 h => ?_) (fun c7 h => ?_)
    · refine zo_sub [] rfl ?_
      exact ct_X2_grown_37 hY hJ hCon hr N Ω5 _ h
    · refine zo_aload_n hY dX2_grown_27 rfl 0 rfl ?_
      refine zo_getC hY LX2_104_1 rfl (fun Ω q => (hCon Ω q).2.1 40 _ rfl) dX2_grown_28 ?_
      refine zo_iload_n hY dX2_grown_31 rfl 1 rfl ?_
      refine zo_ald hY (by decide) (Or.inl ⟨rfl, dX2_grown_32⟩) (fun q => (hCon _ q).2.2.2 32 30 30 rfl) h (fun j8 h => ?_)
      refine zo_iload_n hY dX2_grown_33 rfl 2 rfl ?_
      refine zo_icmp_le hY 39 dX2_grown_34 (by decide) h (fun c9 h => ?_) (fun c9 h => ?_)
      · refine zo_aload_n hY dX2_grown_39 rfl 0 rfl ?_
        refine zo_iload_n hY dX2_grown_40 rfl 2 rfl ?_
        refine zo_callV hY (fun q hq => mt_X2_habits hJ hCon N x2 Ω5 q hq) (by decide) (by decide) (by decide) ⟨rfl, cn_X2_habits⟩ rfl q1653 q1655 qs50 q82 q1656 (Nat.le_of_ble_eq_true rfl) dX2_grown_41 rfl h (cv_k (fun Ω10 res h => ?_))
        refine zo_aload_n hY dX2_grown_44 rfl 0 rfl ?_
        refine zo_getC hY LX2_98_1 rfl (fun Ω q => (hCon Ω q).2.1 38 _ rfl) dX2_grown_45 ?_
        refine zo_iload_n hY dX2_grown_48 rfl 1 rfl ?_
        refine zo_ald hY (by decide) (Or.inl ⟨rfl, dX2_grown_49⟩) (fun q => (hCon _ q).2.2.2 32 28 30 rfl) h (fun j11 h => ?_)
        refine zo_nmi h (fun y12 h => ?_)
        refine zo_istore_n hY dX2_grown_50 rfl (by decide) rfl (ls' := [(3, vi y12), (0, vr 1 0), (1, vi x1), (2, vi x2)]) rfl ?_
        refine zo_aload_n hY dX2_grown_51 rfl 1 rfl ?_
        refine zo_getC hY LX2_101_1 rfl (fun Ω q => (hCon Ω q).2.1 39 _ rfl) dX2_grown_52 ?_
        refine zo_iload_n hY dX2_grown_55 rfl 2 rfl ?_
        refine zo_ald hY (by decide) (Or.inl ⟨rfl, dX2_grown_56⟩) (fun q => (hCon _ q).2.2.2 32 29 30 rfl) h (fun j13 h => ?_)
        refine zo_nmi h (fun y14 h => ?_)
        refine zo_istore hY dX2_grown_57 (by decide) rfl (ls' := [(4, vi y14), (3, vi y12), (0, vr 1 0), (1, vi x1), (2, vi x2)]) rfl ?_
        refine zo_aload_n hY dX2_grown_59 rfl 2 rfl ?_
        refine zo_iload_n hY dX2_grown_60 rfl 1 rfl ?_
        refine zo_iload_n hY dX2_grown_61 rfl 4 rfl ?_
        refine zo_callV hY (fun q hq => mt_X2_isUsed hJ hCon N y12 x2 Ω10 q hq) (by decide) (by decide) (by decide) ⟨rfl, cn_X2_isUsed⟩ rfl q1667 q1669 qs52 q82 q1670 (Nat.le_of_ble_eq_true rfl) dX2_grown_62 rfl h (ci_k (fun r16 Ω15 res h => ?_))
        refine zo_if_eq hY 78 dX2_grown_65 (by decide) h (fun c17 h => ?_) (fun c17 h => ?_)
        · refine zo_sub [] rfl ?_
          exact ct_X2_grown_78 hY hJ hCon hr N Ω15 _ h
        · refine zo_aload_n hY dX2_grown_68 rfl 2 rfl ?_
          refine zo_iload hY dX2_grown_69 0 rfl ?_
          refine zo_iload_n hY dX2_grown_71 rfl 4 rfl ?_
          refine zo_callV hY (fun q hq => mt_X2_isUsed hJ hCon N y14 x2 Ω15 q hq) (by decide) (by decide) (by decide) ⟨rfl, cn_X2_isUsed⟩ rfl q1667 q1669 qs52 q82 q1670 (Nat.le_of_ble_eq_true rfl) dX2_grown_72 rfl h (ci_k (fun r19 Ω18 res h => ?_))
          refine zo_if_ne hY 80 dX2_grown_75 (by decide) h (fun c20 h => ?_) (fun c20 h => ?_)
          · refine zo_sub [] rfl ?_
            exact ct_X2_grown_78 hY hJ hCon hr N Ω18 _ h
          · refine zo_aload_n hY dX2_grown_80 rfl 2 rfl ?_
            refine zo_iload hY dX2_grown_81 0 rfl ?_
            refine zo_callV hY (fun q hq => mt_X2_highOf hJ hCon N y14 Ω18 q hq) (by decide) (by decide) (by decide) ⟨rfl, cn_X2_highOf⟩ rfl q1688 q1690 qs56 q82 q1691 (Nat.le_of_ble_eq_true rfl) dX2_grown_83 rfl h (ci_k (fun r22 Ω21 res h => ?_))
            refine zo_aload_n hY dX2_grown_86 rfl 2 rfl ?_
            refine zo_iload_n hY dX2_grown_87 rfl 1 rfl ?_
            refine zo_callV hY (fun q hq => mt_X2_lowOf hJ hCon N y12 Ω21 q hq) (by decide) (by decide) (by decide) ⟨rfl, cn_X2_lowOf⟩ rfl q1683 q1685 qs55 q82 q1686 (Nat.le_of_ble_eq_true rfl) dX2_grown_88 rfl h (ci_k (fun r24 Ω23 res h => ?_))
            refine zo_icmp_lt hY 132 dX2_grown_91 (by decide) h (fun c25 h => ?_) (fun c25 h => ?_)
            · refine zo_sub [] rfl ?_
              exact ct_X2_grown_132 hY hJ hCon hr N Ω23 _ h
            · refine zo_aload_n hY dX2_grown_94 rfl 2 rfl ?_
              refine zo_iload hY dX2_grown_95 0 rfl ?_
              refine zo_callV hY (fun q hq => mt_X2_lowOf hJ hCon N y14 Ω23 q hq) (by decide) (by decide) (by decide) ⟨rfl, cn_X2_lowOf⟩ rfl q1683 q1685 qs55 q82 q1686 (Nat.le_of_ble_eq_true rfl) dX2_grown_97 rfl h (ci_k (fun r27 Ω26 res h => ?_))
              refine zo_aload_n hY dX2_grown_100 rfl 2 rfl ?_
              refine zo_iload_n hY dX2_grown_101 rfl 1 rfl ?_
              refine zo_callV hY (fun q hq => mt_X2_highOf hJ hCon N y12 Ω26 q hq) (by decide) (by decide) (by decide) ⟨rfl, cn_X2_highOf⟩ rfl q1688 q1690 qs56 q82 q1691 (Nat.le_of_ble_eq_true rfl) dX2_grown_102 rfl h (ci_k (fun r29 Ω28 res h => ?_))
              refine zo_aload_n hY dX2_grown_105 rfl 2 rfl ?_
              refine zo_getI hY LX2_111_1 rfl dX2_grown_106 ?_
              refine zo_aload_n hY dX2_grown_109 rfl 2 rfl ?_
              refine zo_getC hY LX2_40_1 rfl (fun Ω q => (hCon Ω q).2.1 14 _ rfl) dX2_grown_110 ?_
              refine zo_iload hY dX2_grown_113 0 rfl ?_
              refine zo_ald hY (by decide) (Or.inl ⟨rfl, dX2_grown_115⟩) (fun q => (hCon _ q).2.2.2 32 10 120 rfl) h (fun j30 h => ?_)
              refine zo_aload_n hY dX2_grown_116 rfl 2 rfl ?_
              refine zo_getC hY LX2_40_1 rfl (fun Ω q => (hCon Ω q).2.1 14 _ rfl) dX2_grown_117 ?_
              refine zo_iload_n hY dX2_grown_120 rfl 1 rfl ?_
              refine zo_ald hY (by decide) (Or.inl ⟨rfl, dX2_grown_121⟩) (fun q => (hCon _ q).2.2.2 32 10 120 rfl) h (fun j31 h => ?_)
              refine zo_isub hY dX2_grown_122 ?_
              refine zo_imul hY dX2_grown_123 ?_
              refine zo_iadd hY dX2_grown_124 ?_
              refine zo_icmp_gt hY 132 dX2_grown_125 (by decide) h (fun c32 h => ?_) (fun c32 h => ?_)
              · refine zo_sub [] rfl ?_
                exact ct_X2_grown_132 hY hJ hCon hr N Ω28 _ h
              · refine zo_iconst hY 1 (by decide) dX2_grown_128 ?_
                refine zo_goto hY 133 dX2_grown_129 (by decide) ?_
                refine zo_sub [] rfl ?_
                exact ct_X2_grown_133 hY hJ hCon hr N 1 Ω28 _ h
      · refine zo_sub [] rfl ?_
        exact ct_X2_grown_37 hY hJ hCon hr N Ω5 _ h
theorem dX2_count_0 : decode cX2_count 0 = .ok (.aload_n 0, 1) := by decide +kernel
theorem dX2_count_1 : decode cX2_count 1 = .ok (.iconst 0, 1) := by decide +kernel
theorem dX2_count_2 : decode cX2_count 2 = .ok (.putfield 187, 3) := by decide +kernel
theorem dX2_count_5 : decode cX2_count 5 = .ok (.iload_n 1, 1) := by decide +kernel
theorem dX2_count_6 : decode cX2_count 6 = .ok (.tableswitch 153 0 15 #[78, 83, 88, 93, 98, 103, 108, 113, 118, 123, 128, 133, 138, 143, 143, 143], 78) := by decide +kernel
theorem dX2_count_84 : decode cX2_count 84 = .ok (.aload_n 0, 1) := by decide +kernel
theorem dX2_count_85 : decode cX2_count 85 = .ok (.getfield 194, 3) := by decide +kernel
theorem dX2_count_88 : decode cX2_count 88 = .ok (.ireturn, 1) := by decide +kernel
theorem dX2_count_89 : decode cX2_count 89 = .ok (.aload_n 0, 1) := by decide +kernel
theorem dX2_count_90 : decode cX2_count 90 = .ok (.getfield 197, 3) := by decide +kernel
theorem dX2_count_93 : decode cX2_count 93 = .ok (.ireturn, 1) := by decide +kernel
theorem dX2_count_94 : decode cX2_count 94 = .ok (.aload_n 0, 1) := by decide +kernel
theorem dX2_count_95 : decode cX2_count 95 = .ok (.getfield 216, 3) := by decide +kernel
theorem dX2_count_98 : decode cX2_count 98 = .ok (.ireturn, 1) := by decide +kernel
theorem dX2_count_99 : decode cX2_count 99 = .ok (.aload_n 0, 1) := by decide +kernel
theorem dX2_count_100 : decode cX2_count 100 = .ok (.getfield 219, 3) := by decide +kernel
theorem dX2_count_103 : decode cX2_count 103 = .ok (.ireturn, 1) := by decide +kernel
theorem dX2_count_104 : decode cX2_count 104 = .ok (.aload_n 0, 1) := by decide +kernel
theorem dX2_count_105 : decode cX2_count 105 = .ok (.getfield 222, 3) := by decide +kernel
theorem dX2_count_108 : decode cX2_count 108 = .ok (.ireturn, 1) := by decide +kernel
theorem dX2_count_109 : decode cX2_count 109 = .ok (.aload_n 0, 1) := by decide +kernel
theorem dX2_count_110 : decode cX2_count 110 = .ok (.getfield 225, 3) := by decide +kernel
theorem dX2_count_113 : decode cX2_count 113 = .ok (.ireturn, 1) := by decide +kernel
theorem dX2_count_114 : decode cX2_count 114 = .ok (.aload_n 0, 1) := by decide +kernel
theorem dX2_count_115 : decode cX2_count 115 = .ok (.getfield 231, 3) := by decide +kernel
theorem dX2_count_118 : decode cX2_count 118 = .ok (.ireturn, 1) := by decide +kernel
theorem dX2_count_119 : decode cX2_count 119 = .ok (.aload_n 0, 1) := by decide +kernel
theorem dX2_count_120 : decode cX2_count 120 = .ok (.getfield 200, 3) := by decide +kernel
theorem dX2_count_123 : decode cX2_count 123 = .ok (.ireturn, 1) := by decide +kernel
theorem dX2_count_124 : decode cX2_count 124 = .ok (.aload_n 0, 1) := by decide +kernel
theorem dX2_count_125 : decode cX2_count 125 = .ok (.getfield 235, 3) := by decide +kernel
theorem dX2_count_128 : decode cX2_count 128 = .ok (.ireturn, 1) := by decide +kernel
theorem dX2_count_129 : decode cX2_count 129 = .ok (.aload_n 0, 1) := by decide +kernel
theorem dX2_count_130 : decode cX2_count 130 = .ok (.getfield 321, 3) := by decide +kernel
theorem dX2_count_133 : decode cX2_count 133 = .ok (.ireturn, 1) := by decide +kernel
theorem dX2_count_134 : decode cX2_count 134 = .ok (.aload_n 0, 1) := by decide +kernel
theorem dX2_count_135 : decode cX2_count 135 = .ok (.getfield 107, 3) := by decide +kernel
theorem dX2_count_138 : decode cX2_count 138 = .ok (.ireturn, 1) := by decide +kernel
theorem dX2_count_139 : decode cX2_count 139 = .ok (.aload_n 0, 1) := by decide +kernel
theorem dX2_count_140 : decode cX2_count 140 = .ok (.getfield 111, 3) := by decide +kernel
theorem dX2_count_143 : decode cX2_count 143 = .ok (.ireturn, 1) := by decide +kernel
theorem dX2_count_144 : decode cX2_count 144 = .ok (.aload_n 0, 1) := by decide +kernel
theorem dX2_count_145 : decode cX2_count 145 = .ok (.getfield 114, 3) := by decide +kernel
theorem dX2_count_148 : decode cX2_count 148 = .ok (.ireturn, 1) := by decide +kernel
theorem dX2_count_149 : decode cX2_count 149 = .ok (.aload_n 0, 1) := by decide +kernel
theorem dX2_count_150 : decode cX2_count 150 = .ok (.getfield 117, 3) := by decide +kernel
theorem dX2_count_153 : decode cX2_count 153 = .ok (.iload_n 1, 1) := by decide +kernel
theorem dX2_count_154 : decode cX2_count 154 = .ok (.bipush 13, 2) := by decide +kernel
theorem dX2_count_156 : decode cX2_count 156 = .ok (.isub, 1) := by decide +kernel
theorem dX2_count_157 : decode cX2_count 157 = .ok (.iaload, 1) := by decide +kernel
theorem dX2_count_158 : decode cX2_count 158 = .ok (.ireturn, 1) := by decide +kernel
theorem dX2_count_159 : decode cX2_count 159 = .ok (.iconst (-1), 1) := by decide +kernel
theorem dX2_count_160 : decode cX2_count 160 = .ok (.ireturn, 1) := by decide +kernel
def fn_X2_count_149 (N : Nat)  (x1 : Int32) (Ω : zo_O) : Option zo_R :=
  ix (x1 - 13) 3 fun j1 =>
  rI (gI Ω 32 31 j1) Ω
theorem ct_X2_count_149 {Y : zo_Y} (hY : zo_Gd Y cX2_count 2 RX2 0) (hJ : zo_JC (zo_J Y)) (hCon : ∀ Ω, zo_J Y Ω → zo_Con Ω) (hr : zo_rt Y (Option.some Jvm.ClassFile.FieldType.int)) (N : Nat)   (x1 : Int32) (Ω : zo_O) (res : zo_R) (h : fn_X2_count_149 N  x1 Ω = some res) : TW Y res Ω 149 [(0, vr 1 0), (1, vi x1)] [] := by
  unfold fn_X2_count_149 at h
  refine zo_aload_n hY dX2_count_149 rfl 0 rfl ?_
  refine zo_getC hY LX2_117_1 rfl (fun Ω q => (hCon Ω q).2.1 44 _ rfl) dX2_count_150 ?_
  refine zo_iload_n hY dX2_count_153 rfl 1 rfl ?_
  refine zo_bipush hY 13 (by decide) dX2_count_154 ?_
  refine zo_isub hY dX2_count_156 ?_
  refine zo_ald hY (by decide) (Or.inl ⟨rfl, dX2_count_157⟩) (fun q => (hCon _ q).2.2.2 32 31 3 rfl) h (fun j1 h => ?_)
  exact zo_iret hY hr dX2_count_158 h
def fn_X2_count (N : Nat) (x1 : Int32) (Ω : zo_O) : Option zo_R :=
  lt (sI Ω 1 0 0 0) fun Ω1 =>
  if x1 = 0 then (
    rI (gI Ω1 1 0 2) Ω1
    ) else
  if x1 = 1 then (
    rI (gI Ω1 1 0 8) Ω1
    ) else
  if x1 = 2 then (
    rI (gI Ω1 1 0 17) Ω1
    ) else
  if x1 = 3 then (
    rI (gI Ω1 1 0 22) Ω1
    ) else
  if x1 = 4 then (
    rI (gI Ω1 1 0 27) Ω1
    ) else
  if x1 = 5 then (
    rI (gI Ω1 1 0 32) Ω1
    ) else
  if x1 = 6 then (
    rI (gI Ω1 1 0 37) Ω1
    ) else
  if x1 = 7 then (
    rI (gI Ω1 1 0 1) Ω1
    ) else
  if x1 = 8 then (
    rI (gI Ω1 1 0 54) Ω1
    ) else
  if x1 = 9 then (
    rI (gI Ω1 1 0 45) Ω1
    ) else
  if x1 = 10 then (
    rI (gI Ω1 1 0 41) Ω1
    ) else
  if x1 = 11 then (
    rI (gI Ω1 1 0 42) Ω1
    ) else
  if x1 = 12 then (
    rI (gI Ω1 1 0 43) Ω1
    ) else
  if x1 = 13 then (
    fn_X2_count_149 N x1 Ω1
    ) else
  if x1 = 14 then (
    fn_X2_count_149 N x1 Ω1
    ) else
  if x1 = 15 then (
    fn_X2_count_149 N x1 Ω1
    ) else
  rI ((-1)) Ω1
theorem mt_X2_count {G : zo_G} {J : zo_O → Prop} (hJ : zo_JC J) (hCon : ∀ Ω, J Ω → zo_Con Ω) (N : Nat) (x1 : Int32) (Ω : zo_O) (res : zo_R) (h : fn_X2_count N x1 Ω = some res) : zo_MT G J yX2_count cX2_count 2 (Option.some Jvm.ClassFile.FieldType.int) 0 [vr 1 0, vi x1] Ω res := by
  refine zo_enter (by decide) rfl (Nat.le_of_ble_eq_true rfl) (fun Y hY eJ hr hmn => ?_)
  subst eJ
  show TW Y res Ω 0 [(0, vr 1 0), (1, vi x1)] []
  unfold fn_X2_count at h
  refine zo_aload_n hY dX2_count_0 rfl 0 rfl ?_
  refine zo_iconst hY 0 (by decide) dX2_count_1 ?_
  refine zo_putI hY hJ LX2_187_1 rfl (Or.inl rfl) dX2_count_2 h (fun Ω1 h => ?_)
  refine zo_iload_n hY dX2_count_5 rfl 1 rfl ?_
  by_cases c2 : x1 = 0
  · rw [if_pos c2] at h
    refine zo_tsIn hY (off := 78) 0 84 c2 dX2_count_6 (by decide) (by decide) (by decide) (by decide) ?_
    refine zo_aload_n hY dX2_count_84 rfl 0 rfl ?_
    refine zo_getI hY LX2_194_1 rfl dX2_count_85 ?_
    exact zo_iret hY hr dX2_count_88 h
  · rw [if_neg c2] at h
    by_cases c3 : x1 = 1
    · rw [if_pos c3] at h
      refine zo_tsIn hY (off := 83) 1 89 c3 dX2_count_6 (by decide) (by decide) (by decide) (by decide) ?_
      refine zo_aload_n hY dX2_count_89 rfl 0 rfl ?_
      refine zo_getI hY LX2_197_1 rfl dX2_count_90 ?_
      exact zo_iret hY hr dX2_count_93 h
    · rw [if_neg c3] at h
      by_cases c4 : x1 = 2
      · rw [if_pos c4] at h
        refine zo_tsIn hY (off := 88) 2 94 c4 dX2_count_6 (by decide) (by decide) (by decide) (by decide) ?_
        refine zo_aload_n hY dX2_count_94 rfl 0 rfl ?_
        refine zo_getI hY LX2_216_1 rfl dX2_count_95 ?_
        exact zo_iret hY hr dX2_count_98 h
      · rw [if_neg c4] at h
        by_cases c5 : x1 = 3
        · rw [if_pos c5] at h
          refine zo_tsIn hY (off := 93) 3 99 c5 dX2_count_6 (by decide) (by decide) (by decide) (by decide) ?_
          refine zo_aload_n hY dX2_count_99 rfl 0 rfl ?_
          refine zo_getI hY LX2_219_1 rfl dX2_count_100 ?_
          exact zo_iret hY hr dX2_count_103 h
        · rw [if_neg c5] at h
          by_cases c6 : x1 = 4
          · rw [if_pos c6] at h
            refine zo_tsIn hY (off := 98) 4 104 c6 dX2_count_6 (by decide) (by decide) (by decide) (by decide) ?_
            refine zo_aload_n hY dX2_count_104 rfl 0 rfl ?_
            refine zo_getI hY LX2_222_1 rfl dX2_count_105 ?_
            exact zo_iret hY hr dX2_count_108 h
          · rw [if_neg c6] at h
            by_cases c7 : x1 = 5
            · rw [if_pos c7] at h
              refine zo_tsIn hY (off := 103) 5 109 c7 dX2_count_6 (by decide) (by decide) (by decide) (by decide) ?_
              refine zo_aload_n hY dX2_count_109 rfl 0 rfl ?_
              refine zo_getI hY LX2_225_1 rfl dX2_count_110 ?_
              exact zo_iret hY hr dX2_count_113 h
            · rw [if_neg c7] at h
              by_cases c8 : x1 = 6
              · rw [if_pos c8] at h
                refine zo_tsIn hY (off := 108) 6 114 c8 dX2_count_6 (by decide) (by decide) (by decide) (by decide) ?_
                refine zo_aload_n hY dX2_count_114 rfl 0 rfl ?_
                refine zo_getI hY LX2_231_1 rfl dX2_count_115 ?_
                exact zo_iret hY hr dX2_count_118 h
              · rw [if_neg c8] at h
                by_cases c9 : x1 = 7
                · rw [if_pos c9] at h
                  refine zo_tsIn hY (off := 113) 7 119 c9 dX2_count_6 (by decide) (by decide) (by decide) (by decide) ?_
                  refine zo_aload_n hY dX2_count_119 rfl 0 rfl ?_
                  refine zo_getI hY LX2_200_1 rfl dX2_count_120 ?_
                  exact zo_iret hY hr dX2_count_123 h
                · rw [if_neg c9] at h
                  by_cases c10 : x1 = 8
                  · rw [if_pos c10] at h
                    refine zo_tsIn hY (off := 118) 8 124 c10 dX2_count_6 (by decide) (by decide) (by decide) (by decide) ?_
                    refine zo_aload_n hY dX2_count_124 rfl 0 rfl ?_
                    refine zo_getI hY LX2_235_1 rfl dX2_count_125 ?_
                    exact zo_iret hY hr dX2_count_128 h
                  · rw [if_neg c10] at h
                    by_cases c11 : x1 = 9
                    · rw [if_pos c11] at h
                      refine zo_tsIn hY (off := 123) 9 129 c11 dX2_count_6 (by decide) (by decide) (by decide) (by decide) ?_
                      refine zo_aload_n hY dX2_count_129 rfl 0 rfl ?_
                      refine zo_getI hY LX2_321_1 rfl dX2_count_130 ?_
                      exact zo_iret hY hr dX2_count_133 h
                    · rw [if_neg c11] at h
                      by_cases c12 : x1 = 10
                      · rw [if_pos c12] at h
                        refine zo_tsIn hY (off := 128) 10 134 c12 dX2_count_6 (by decide) (by decide) (by decide) (by decide) ?_
                        refine zo_aload_n hY dX2_count_134 rfl 0 rfl ?_
                        refine zo_getI hY LX2_107_1 rfl dX2_count_135 ?_
                        exact zo_iret hY hr dX2_count_138 h
                      · rw [if_neg c12] at h
                        by_cases c13 : x1 = 11
                        · rw [if_pos c13] at h
                          refine zo_tsIn hY (off := 133) 11 139 c13 dX2_count_6 (by decide) (by decide) (by decide) (by decide) ?_
                          refine zo_aload_n hY dX2_count_139 rfl 0 rfl ?_
                          refine zo_getI hY LX2_111_1 rfl dX2_count_140 ?_
                          exact zo_iret hY hr dX2_count_143 h
                        · rw [if_neg c13] at h
                          by_cases c14 : x1 = 12
                          · rw [if_pos c14] at h
                            refine zo_tsIn hY (off := 138) 12 144 c14 dX2_count_6 (by decide) (by decide) (by decide) (by decide) ?_
                            refine zo_aload_n hY dX2_count_144 rfl 0 rfl ?_
                            refine zo_getI hY LX2_114_1 rfl dX2_count_145 ?_
                            exact zo_iret hY hr dX2_count_148 h
                          · rw [if_neg c14] at h
                            by_cases c15 : x1 = 13
                            · rw [if_pos c15] at h
                              refine zo_tsIn hY (off := 143) 13 149 c15 dX2_count_6 (by decide) (by decide) (by decide) (by decide) ?_
                              exact ct_X2_count_149 hY hJ hCon hr N x1 Ω1 _ h
                            · rw [if_neg c15] at h
                              by_cases c16 : x1 = 14
                              · rw [if_pos c16] at h
                                refine zo_tsIn hY (off := 143) 14 149 c16 dX2_count_6 (by decide) (by decide) (by decide) (by decide) ?_
                                exact ct_X2_count_149 hY hJ hCon hr N x1 Ω1 _ h
                              · rw [if_neg c16] at h
                                by_cases c17 : x1 = 15
                                · rw [if_pos c17] at h
                                  refine zo_tsIn hY (off := 143) 15 149 c17 dX2_count_6 (by decide) (by decide) (by decide) (by decide) ?_
                                  exact ct_X2_count_149 hY hJ hCon hr N x1 Ω1 _ h
                                · rw [if_neg c17] at h
                                  refine zo_tsOut hY 159 dX2_count_6 (by have z0 := lv_neT (a := 0) c2 (by decide); have z1 := lv_neT (a := 1) c3 (by decide); have z2 := lv_neT (a := 2) c4 (by decide); have z3 := lv_neT (a := 3) c5 (by decide); have z4 := lv_neT (a := 4) c6 (by decide); have z5 := lv_neT (a := 5) c7 (by decide); have z6 := lv_neT (a := 6) c8 (by decide); have z7 := lv_neT (a := 7) c9 (by decide); have z8 := lv_neT (a := 8) c10 (by decide); have z9 := lv_neT (a := 9) c11 (by decide); have z10 := lv_neT (a := 10) c12 (by decide); have z11 := lv_neT (a := 11) c13 (by decide); have z12 := lv_neT (a := 12) c14 (by decide); have z13 := lv_neT (a := 13) c15 (by decide); have z14 := lv_neT (a := 14) c16 (by decide); have z15 := lv_neT (a := 15) c17 (by decide); omega) (by decide) ?_
                                  refine zo_iconst hY (-1) (by decide) dX2_count_159 ?_
                                  exact zo_iret hY hr dX2_count_160 h
