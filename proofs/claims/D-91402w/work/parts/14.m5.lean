set_option maxRecDepth 100000
theorem cn_X2_cuts : zo_Cn yX2_cuts 3 := ⟨by decide, by decide, by decide +kernel⟩
theorem cn_X2_allSpans : zo_Cn yX2_allSpans 1 := ⟨by decide, by decide, by decide +kernel⟩
theorem cn_X2_binds : zo_Cn yX2_binds 3 := ⟨by decide, by decide, by decide +kernel⟩
theorem cn_X2_isBound : zo_Cn yX2_isBound 1 := ⟨by decide, by decide, by decide +kernel⟩
theorem dX2_allSpans_0 : decode cX2_allSpans 0 = .ok (.aload_n 0, 1) := by decide +kernel
theorem dX2_allSpans_1 : decode cX2_allSpans 1 = .ok (.iload_n 1, 1) := by decide +kernel
theorem dX2_allSpans_2 : decode cX2_allSpans 2 = .ok (.invokevirtual 340, 3) := by decide +kernel
theorem dX2_allSpans_5 : decode cX2_allSpans 5 = .ok (.iconst 1, 1) := by decide +kernel
theorem dX2_allSpans_6 : decode cX2_allSpans 6 = .ok (.istore_n 2, 1) := by decide +kernel
theorem dX2_allSpans_7 : decode cX2_allSpans 7 = .ok (.iconst 0, 1) := by decide +kernel
theorem dX2_allSpans_8 : decode cX2_allSpans 8 = .ok (.istore_n 3, 1) := by decide +kernel
theorem dX2_allSpans_9 : decode cX2_allSpans 9 = .ok (.iload_n 3, 1) := by decide +kernel
theorem dX2_allSpans_10 : decode cX2_allSpans 10 = .ok (.aload_n 0, 1) := by decide +kernel
theorem dX2_allSpans_11 : decode cX2_allSpans 11 = .ok (.getfield 194, 3) := by decide +kernel
theorem dX2_allSpans_14 : decode cX2_allSpans 14 = .ok (.if_icmp .ge 52, 3) := by decide +kernel
theorem dX2_allSpans_17 : decode cX2_allSpans 17 = .ok (.aload_n 0, 1) := by decide +kernel
theorem dX2_allSpans_18 : decode cX2_allSpans 18 = .ok (.iload_n 3, 1) := by decide +kernel
theorem dX2_allSpans_19 : decode cX2_allSpans 19 = .ok (.iload_n 1, 1) := by decide +kernel
theorem dX2_allSpans_20 : decode cX2_allSpans 20 = .ok (.invokevirtual 421, 3) := by decide +kernel
theorem dX2_allSpans_23 : decode cX2_allSpans 23 = .ok (.ifCond .ne 6, 3) := by decide +kernel
theorem dX2_allSpans_26 : decode cX2_allSpans 26 = .ok (.goto 34, 3) := by decide +kernel
theorem dX2_allSpans_29 : decode cX2_allSpans 29 = .ok (.aload_n 0, 1) := by decide +kernel
theorem dX2_allSpans_30 : decode cX2_allSpans 30 = .ok (.iload_n 3, 1) := by decide +kernel
theorem dX2_allSpans_31 : decode cX2_allSpans 31 = .ok (.iload_n 1, 1) := by decide +kernel
theorem dX2_allSpans_32 : decode cX2_allSpans 32 = .ok (.invokevirtual 424, 3) := by decide +kernel
theorem dX2_allSpans_35 : decode cX2_allSpans 35 = .ok (.iload_n 2, 1) := by decide +kernel
theorem dX2_allSpans_36 : decode cX2_allSpans 36 = .ok (.ifCond .eq 22, 3) := by decide +kernel
theorem dX2_allSpans_39 : decode cX2_allSpans 39 = .ok (.aload_n 0, 1) := by decide +kernel
theorem dX2_allSpans_40 : decode cX2_allSpans 40 = .ok (.getfield 178, 3) := by decide +kernel
theorem dX2_allSpans_43 : decode cX2_allSpans 43 = .ok (.iload_n 3, 1) := by decide +kernel
theorem dX2_allSpans_44 : decode cX2_allSpans 44 = .ok (.iaload, 1) := by decide +kernel
theorem dX2_allSpans_45 : decode cX2_allSpans 45 = .ok (.aload_n 0, 1) := by decide +kernel
theorem dX2_allSpans_46 : decode cX2_allSpans 46 = .ok (.getfield 181, 3) := by decide +kernel
theorem dX2_allSpans_49 : decode cX2_allSpans 49 = .ok (.iload_n 3, 1) := by decide +kernel
theorem dX2_allSpans_50 : decode cX2_allSpans 50 = .ok (.iaload, 1) := by decide +kernel
theorem dX2_allSpans_51 : decode cX2_allSpans 51 = .ok (.if_icmp .gt 7, 3) := by decide +kernel
theorem dX2_allSpans_54 : decode cX2_allSpans 54 = .ok (.iconst 1, 1) := by decide +kernel
theorem dX2_allSpans_55 : decode cX2_allSpans 55 = .ok (.goto 4, 3) := by decide +kernel
theorem dX2_allSpans_58 : decode cX2_allSpans 58 = .ok (.iconst 0, 1) := by decide +kernel
theorem dX2_allSpans_59 : decode cX2_allSpans 59 = .ok (.istore_n 2, 1) := by decide +kernel
theorem dX2_allSpans_60 : decode cX2_allSpans 60 = .ok (.iinc 3 1, 3) := by decide +kernel
theorem dX2_allSpans_63 : decode cX2_allSpans 63 = .ok (.goto (-54), 3) := by decide +kernel
theorem dX2_allSpans_66 : decode cX2_allSpans 66 = .ok (.iload_n 2, 1) := by decide +kernel
theorem dX2_allSpans_67 : decode cX2_allSpans 67 = .ok (.ireturn, 1) := by decide +kernel
def fn_X2_allSpans_60 (N : Nat) (K9 : Int32 → Int32 → Int32 → zo_O → Option zo_R) (x1 : Int32) (x2 : Int32) (x3 : Int32) (Ω : zo_O) : Option zo_R :=
  K9 x1 x2 (x3 + 1) Ω
theorem ct_X2_allSpans_60 {Y : zo_Y} (hY : zo_Gd Y cX2_allSpans 4 RX2 7) (hJ : zo_JC (zo_J Y)) (hCon : ∀ Ω, zo_J Y Ω → zo_Con Ω) (hr : zo_rt Y (Option.some Jvm.ClassFile.FieldType.boolean)) (N : Nat) (K9 : Int32 → Int32 → Int32 → zo_O → Option zo_R) (hK9 : ∀ (x1 : Int32) (x2 : Int32) (x3 : Int32) (Ω : zo_O) (res : zo_R), K9 x1 x2 x3 Ω = some res → TW Y res Ω 9 [(0, vr 1 0), (1, vi x1), (2, vi x2), (3, vi x3)] []) (x1 : Int32) (x2 : Int32) (x3 : Int32) (Ω : zo_O) (res : zo_R) (h : fn_X2_allSpans_60 N K9 x1 x2 x3 Ω = some res) : TW Y res Ω 60 [(0, vr 1 0), (1, vi x1), (2, vi x2), (3, vi x3)] [] := by
  unfold fn_X2_allSpans_60 at h
  refine zo_iinc hY 1 dX2_allSpans_60 (by decide) (by decide) 3 rfl rfl (ls' := [(3, vi (x3 + 1)), (0, vr 1 0), (1, vi x1), (2, vi x2)]) rfl ?_
  refine zo_goto hY 9 dX2_allSpans_63 (by decide) ?_
  refine zo_sub [1, 2, 3, 0] rfl ?_
  exact hK9 x1 x2 (x3 + 1) Ω _ h
def fn_X2_allSpans_59 (N : Nat) (K9 : Int32 → Int32 → Int32 → zo_O → Option zo_R) (x1 : Int32) (x3 : Int32) (s0 : Int32) (Ω : zo_O) : Option zo_R :=
  fn_X2_allSpans_60 N K9 x1 s0 x3 Ω
theorem ct_X2_allSpans_59 {Y : zo_Y} (hY : zo_Gd Y cX2_allSpans 4 RX2 7) (hJ : zo_JC (zo_J Y)) (hCon : ∀ Ω, zo_J Y Ω → zo_Con Ω) (hr : zo_rt Y (Option.some Jvm.ClassFile.FieldType.boolean)) (N : Nat) (K9 : Int32 → Int32 → Int32 → zo_O → Option zo_R) (hK9 : ∀ (x1 : Int32) (x2 : Int32) (x3 : Int32) (Ω : zo_O) (res : zo_R), K9 x1 x2 x3 Ω = some res → TW Y res Ω 9 [(0, vr 1 0), (1, vi x1), (2, vi x2), (3, vi x3)] []) (x1 : Int32) (x3 : Int32) (s0 : Int32) (Ω : zo_O) (res : zo_R) (h : fn_X2_allSpans_59 N K9 x1 x3 s0 Ω = some res) : TW Y res Ω 59 [(0, vr 1 0), (1, vi x1), (3, vi x3)] [vi s0] := by
  unfold fn_X2_allSpans_59 at h
  refine zo_istore_n hY dX2_allSpans_59 rfl (by decide) rfl (ls' := [(2, vi s0), (0, vr 1 0), (1, vi x1), (3, vi x3)]) rfl ?_
  refine zo_sub [1, 2, 0, 3] rfl ?_
  exact ct_X2_allSpans_60 hY hJ hCon hr N K9 hK9 x1 s0 x3 Ω _ h
def fn_X2_allSpans_58 (N : Nat) (K9 : Int32 → Int32 → Int32 → zo_O → Option zo_R) (x1 : Int32) (x3 : Int32) (Ω : zo_O) : Option zo_R :=
  fn_X2_allSpans_59 N K9 x1 x3 0 Ω
theorem ct_X2_allSpans_58 {Y : zo_Y} (hY : zo_Gd Y cX2_allSpans 4 RX2 7) (hJ : zo_JC (zo_J Y)) (hCon : ∀ Ω, zo_J Y Ω → zo_Con Ω) (hr : zo_rt Y (Option.some Jvm.ClassFile.FieldType.boolean)) (N : Nat) (K9 : Int32 → Int32 → Int32 → zo_O → Option zo_R) (hK9 : ∀ (x1 : Int32) (x2 : Int32) (x3 : Int32) (Ω : zo_O) (res : zo_R), K9 x1 x2 x3 Ω = some res → TW Y res Ω 9 [(0, vr 1 0), (1, vi x1), (2, vi x2), (3, vi x3)] []) (x1 : Int32) (x3 : Int32) (Ω : zo_O) (res : zo_R) (h : fn_X2_allSpans_58 N K9 x1 x3 Ω = some res) : TW Y res Ω 58 [(0, vr 1 0), (1, vi x1), (3, vi x3)] [] := by
  unfold fn_X2_allSpans_58 at h
  refine zo_iconst hY 0 (by decide) dX2_allSpans_58 ?_
  exact ct_X2_allSpans_59 hY hJ hCon hr N K9 hK9 x1 x3 0 Ω _ h
def bd_X2_allSpans_9 (N : Nat)  (K9 : Int32 → Int32 → Int32 → zo_O → Option zo_R) (x1 : Int32) (x2 : Int32) (x3 : Int32) (Ω : zo_O) : Option zo_R :=
  if gI Ω 1 0 2 ≤ x3 then (
    rZ x2 Ω
    ) else
  ci (fn_X2_isThere N x3 x1 Ω) fun r3 Ω2 =>
  if r3 = 0 then (
    fn_X2_allSpans_60 N K9 x1 x2 x3 Ω2
    ) else
  cv (fn_X2_spans N x3 x1 Ω2) fun Ω5 =>
  if x2 = 0 then (
    fn_X2_allSpans_58 N K9 x1 x3 Ω5
    ) else
  ix x3 14 fun j7 =>
  ix x3 14 fun j8 =>
  if gI Ω5 32 46 j8 < gI Ω5 32 45 j7 then (
    fn_X2_allSpans_58 N K9 x1 x3 Ω5
    ) else
  fn_X2_allSpans_59 N K9 x1 x3 1 Ω5
theorem cb_X2_allSpans_9 {Y : zo_Y} (hY : zo_Gd Y cX2_allSpans 4 RX2 7) (hJ : zo_JC (zo_J Y)) (hCon : ∀ Ω, zo_J Y Ω → zo_Con Ω) (hr : zo_rt Y (Option.some Jvm.ClassFile.FieldType.boolean)) (N : Nat)  (K9 : Int32 → Int32 → Int32 → zo_O → Option zo_R)  (hK9 : ∀ (x1 : Int32) (x2 : Int32) (x3 : Int32) (Ω : zo_O) (res : zo_R), K9 x1 x2 x3 Ω = some res → TW Y res Ω 9 [(0, vr 1 0), (1, vi x1), (2, vi x2), (3, vi x3)] []) (x1 : Int32) (x2 : Int32) (x3 : Int32) (Ω : zo_O) (res : zo_R) (h : bd_X2_allSpans_9 N  K9 x1 x2 x3 Ω = some res) : TW Y res Ω 9 [(0, vr 1 0), (1, vi x1), (2, vi x2), (3, vi x3)] [] := by
  unfold bd_X2_allSpans_9 at h
  refine zo_iload_n hY dX2_allSpans_9 rfl 3 rfl ?_
  refine zo_aload_n hY dX2_allSpans_10 rfl 0 rfl ?_
  refine zo_getI hY LX2_194_1 rfl dX2_allSpans_11 ?_
  refine zo_icmp_ge hY 66 dX2_allSpans_14 (by decide) h (fun c1 h => ?_) (fun c1 h => ?_)
  · refine zo_iload_n hY dX2_allSpans_66 rfl 2 rfl ?_
    exact zo_zret hY hr dX2_allSpans_67 h
  · refine zo_aload_n hY dX2_allSpans_17 rfl 0 rfl ?_
    refine zo_iload_n hY dX2_allSpans_18 rfl 3 rfl ?_
    refine zo_iload_n hY dX2_allSpans_19 rfl 1 rfl ?_
    refine zo_callV hY (fun q hq => mt_X2_isThere hJ hCon N x3 x1 Ω q hq) (by decide) (by decide) (by decide) ⟨rfl, cn_X2_isThere⟩ rfl q1742 q1744 qs66 q82 q1745 (Nat.le_of_ble_eq_true rfl) dX2_allSpans_20 rfl h (ci_k (fun r3 Ω2 res h => ?_))
    refine zo_if_ne hY 29 dX2_allSpans_23 (by decide) h (fun c4 h => ?_) (fun c4 h => ?_)
    · refine zo_goto hY 60 dX2_allSpans_26 (by decide) ?_
      exact ct_X2_allSpans_60 hY hJ hCon hr N K9 hK9 x1 x2 x3 Ω2 _ h
    · refine zo_aload_n hY dX2_allSpans_29 rfl 0 rfl ?_
      refine zo_iload_n hY dX2_allSpans_30 rfl 3 rfl ?_
      refine zo_iload_n hY dX2_allSpans_31 rfl 1 rfl ?_
      refine zo_callV hY (fun q hq => mt_X2_spans hJ hCon N x3 x1 Ω2 q hq) (by decide) (by decide) (by decide) ⟨rfl, cn_X2_spans⟩ rfl q1746 q1748 qs67 q82 q1749 (Nat.le_of_ble_eq_true rfl) dX2_allSpans_32 rfl h (cv_k (fun Ω5 res h => ?_))
      refine zo_iload_n hY dX2_allSpans_35 rfl 2 rfl ?_
      refine zo_if_eq hY 58 dX2_allSpans_36 (by decide) h (fun c6 h => ?_) (fun c6 h => ?_)
      · refine zo_sub [0, 1, 3] rfl ?_
        exact ct_X2_allSpans_58 hY hJ hCon hr N K9 hK9 x1 x3 Ω5 _ h
      · refine zo_aload_n hY dX2_allSpans_39 rfl 0 rfl ?_
        refine zo_getC hY LX2_178_1 rfl (fun Ω q => (hCon Ω q).2.1 77 _ rfl) dX2_allSpans_40 ?_
        refine zo_iload_n hY dX2_allSpans_43 rfl 3 rfl ?_
        refine zo_ald hY (by decide) (Or.inl ⟨rfl, dX2_allSpans_44⟩) (fun q => (hCon _ q).2.2.2 32 45 14 rfl) h (fun j7 h => ?_)
        refine zo_aload_n hY dX2_allSpans_45 rfl 0 rfl ?_
        refine zo_getC hY LX2_181_1 rfl (fun Ω q => (hCon Ω q).2.1 78 _ rfl) dX2_allSpans_46 ?_
        refine zo_iload_n hY dX2_allSpans_49 rfl 3 rfl ?_
        refine zo_ald hY (by decide) (Or.inl ⟨rfl, dX2_allSpans_50⟩) (fun q => (hCon _ q).2.2.2 32 46 14 rfl) h (fun j8 h => ?_)
        refine zo_icmp_gt hY 58 dX2_allSpans_51 (by decide) h (fun c9 h => ?_) (fun c9 h => ?_)
        · refine zo_sub [0, 1, 3] rfl ?_
          exact ct_X2_allSpans_58 hY hJ hCon hr N K9 hK9 x1 x3 Ω5 _ h
        · refine zo_iconst hY 1 (by decide) dX2_allSpans_54 ?_
          refine zo_goto hY 59 dX2_allSpans_55 (by decide) ?_
          refine zo_sub [0, 1, 3] rfl ?_
          exact ct_X2_allSpans_59 hY hJ hCon hr N K9 hK9 x1 x3 1 Ω5 _ h
def fn_X2_allSpans_9 (N : Nat)  : Nat → Int32 → Int32 → Int32 → zo_O → Option zo_R
  | 0, _, _, _, _ => none
  | n + 1, x1, x2, x3, Ω => bd_X2_allSpans_9 N  (fn_X2_allSpans_9 N  n) x1 x2 x3 Ω
theorem ct_X2_allSpans_9 {Y : zo_Y} (hY : zo_Gd Y cX2_allSpans 4 RX2 7) (hJ : zo_JC (zo_J Y)) (hCon : ∀ Ω, zo_J Y Ω → zo_Con Ω) (hr : zo_rt Y (Option.some Jvm.ClassFile.FieldType.boolean)) (N : Nat)   : ∀ (n : Nat) (x1 : Int32) (x2 : Int32) (x3 : Int32) (Ω : zo_O) (res : zo_R), fn_X2_allSpans_9 N  n x1 x2 x3 Ω = some res → TW Y res Ω 9 [(0, vr 1 0), (1, vi x1), (2, vi x2), (3, vi x3)] [] := by
  intro n
  induction n with
  | zero => intro x1 x2 x3 Ω res h; exact nomatch (show (none : Option zo_R) = some res from h)
  | succ n ih => intro x1 x2 x3 Ω res h; exact cb_X2_allSpans_9 hY hJ hCon hr N  (fn_X2_allSpans_9 N  n)  ih x1 x2 x3 Ω res h
def fn_X2_allSpans (N : Nat) (x1 : Int32) (Ω : zo_O) : Option zo_R :=
  cv (fn_X2_habits N x1 Ω) fun Ω1 =>
  fn_X2_allSpans_9 N N x1 1 0 Ω1
theorem mt_X2_allSpans {G : zo_G} {J : zo_O → Prop} (hJ : zo_JC J) (hCon : ∀ Ω, J Ω → zo_Con Ω) (N : Nat) (x1 : Int32) (Ω : zo_O) (res : zo_R) (h : fn_X2_allSpans N x1 Ω = some res) : zo_MT G J yX2_allSpans cX2_allSpans 4 (Option.some Jvm.ClassFile.FieldType.boolean) 7 [vr 1 0, vi x1] Ω res := by
  refine zo_enter (by decide) rfl (Nat.le_of_ble_eq_true rfl) (fun Y hY eJ hr hmn => ?_)
  subst eJ
  show TW Y res Ω 0 [(0, vr 1 0), (1, vi x1)] []
  unfold fn_X2_allSpans at h
  refine zo_aload_n hY dX2_allSpans_0 rfl 0 rfl ?_
  refine zo_iload_n hY dX2_allSpans_1 rfl 1 rfl ?_
  refine zo_callV hY (fun q hq => mt_X2_habits hJ hCon N x1 Ω q hq) (by decide) (by decide) (by decide) ⟨rfl, cn_X2_habits⟩ rfl q1653 q1655 qs50 q82 q1656 (Nat.le_of_ble_eq_true rfl) dX2_allSpans_2 rfl h (cv_k (fun Ω1 res h => ?_))
  refine zo_iconst hY 1 (by decide) dX2_allSpans_5 ?_
  refine zo_istore_n hY dX2_allSpans_6 rfl (by decide) rfl (ls' := [(2, vi 1), (0, vr 1 0), (1, vi x1)]) rfl ?_
  refine zo_iconst hY 0 (by decide) dX2_allSpans_7 ?_
  refine zo_istore_n hY dX2_allSpans_8 rfl (by decide) rfl (ls' := [(3, vi 0), (2, vi 1), (0, vr 1 0), (1, vi x1)]) rfl ?_
  refine zo_sub [2, 3, 1, 0] rfl ?_
  exact ct_X2_allSpans_9 hY hJ hCon hr N N x1 1 0 Ω1 _ h
theorem dX2_cuts_0 : decode cX2_cuts 0 = .ok (.aload_n 0, 1) := by decide +kernel
theorem dX2_cuts_1 : decode cX2_cuts 1 = .ok (.getfield 181, 3) := by decide +kernel
theorem dX2_cuts_4 : decode cX2_cuts 4 = .ok (.iload_n 1, 1) := by decide +kernel
theorem dX2_cuts_5 : decode cX2_cuts 5 = .ok (.iaload, 1) := by decide +kernel
theorem dX2_cuts_6 : decode cX2_cuts 6 = .ok (.aload_n 0, 1) := by decide +kernel
theorem dX2_cuts_7 : decode cX2_cuts 7 = .ok (.getfield 181, 3) := by decide +kernel
theorem dX2_cuts_10 : decode cX2_cuts 10 = .ok (.iload_n 2, 1) := by decide +kernel
theorem dX2_cuts_11 : decode cX2_cuts 11 = .ok (.iaload, 1) := by decide +kernel
theorem dX2_cuts_12 : decode cX2_cuts 12 = .ok (.iload_n 3, 1) := by decide +kernel
theorem dX2_cuts_13 : decode cX2_cuts 13 = .ok (.isub, 1) := by decide +kernel
theorem dX2_cuts_14 : decode cX2_cuts 14 = .ok (.if_icmp .gt 20, 3) := by decide +kernel
theorem dX2_cuts_17 : decode cX2_cuts 17 = .ok (.aload_n 0, 1) := by decide +kernel
theorem dX2_cuts_18 : decode cX2_cuts 18 = .ok (.getfield 178, 3) := by decide +kernel
theorem dX2_cuts_21 : decode cX2_cuts 21 = .ok (.iload_n 2, 1) := by decide +kernel
theorem dX2_cuts_22 : decode cX2_cuts 22 = .ok (.iaload, 1) := by decide +kernel
theorem dX2_cuts_23 : decode cX2_cuts 23 = .ok (.aload_n 0, 1) := by decide +kernel
theorem dX2_cuts_24 : decode cX2_cuts 24 = .ok (.getfield 178, 3) := by decide +kernel
theorem dX2_cuts_27 : decode cX2_cuts 27 = .ok (.iload_n 1, 1) := by decide +kernel
theorem dX2_cuts_28 : decode cX2_cuts 28 = .ok (.iaload, 1) := by decide +kernel
theorem dX2_cuts_29 : decode cX2_cuts 29 = .ok (.iload_n 3, 1) := by decide +kernel
theorem dX2_cuts_30 : decode cX2_cuts 30 = .ok (.iadd, 1) := by decide +kernel
theorem dX2_cuts_31 : decode cX2_cuts 31 = .ok (.if_icmp .ge 7, 3) := by decide +kernel
theorem dX2_cuts_34 : decode cX2_cuts 34 = .ok (.iconst 1, 1) := by decide +kernel
theorem dX2_cuts_35 : decode cX2_cuts 35 = .ok (.goto 4, 3) := by decide +kernel
theorem dX2_cuts_38 : decode cX2_cuts 38 = .ok (.iconst 0, 1) := by decide +kernel
theorem dX2_cuts_39 : decode cX2_cuts 39 = .ok (.istore 4, 2) := by decide +kernel
theorem dX2_cuts_41 : decode cX2_cuts 41 = .ok (.aload_n 0, 1) := by decide +kernel
theorem dX2_cuts_42 : decode cX2_cuts 42 = .ok (.getfield 181, 3) := by decide +kernel
theorem dX2_cuts_45 : decode cX2_cuts 45 = .ok (.iload_n 1, 1) := by decide +kernel
theorem dX2_cuts_46 : decode cX2_cuts 46 = .ok (.aload_n 0, 1) := by decide +kernel
theorem dX2_cuts_47 : decode cX2_cuts 47 = .ok (.getfield 181, 3) := by decide +kernel
theorem dX2_cuts_50 : decode cX2_cuts 50 = .ok (.iload_n 1, 1) := by decide +kernel
theorem dX2_cuts_51 : decode cX2_cuts 51 = .ok (.iaload, 1) := by decide +kernel
theorem dX2_cuts_52 : decode cX2_cuts 52 = .ok (.aload_n 0, 1) := by decide +kernel
theorem dX2_cuts_53 : decode cX2_cuts 53 = .ok (.getfield 181, 3) := by decide +kernel
theorem dX2_cuts_56 : decode cX2_cuts 56 = .ok (.iload_n 2, 1) := by decide +kernel
theorem dX2_cuts_57 : decode cX2_cuts 57 = .ok (.iaload, 1) := by decide +kernel
theorem dX2_cuts_58 : decode cX2_cuts 58 = .ok (.iload_n 3, 1) := by decide +kernel
theorem dX2_cuts_59 : decode cX2_cuts 59 = .ok (.isub, 1) := by decide +kernel
theorem dX2_cuts_60 : decode cX2_cuts 60 = .ok (.invokestatic 401, 3) := by decide +kernel
theorem dX2_cuts_63 : decode cX2_cuts 63 = .ok (.iastore, 1) := by decide +kernel
theorem dX2_cuts_64 : decode cX2_cuts 64 = .ok (.aload_n 0, 1) := by decide +kernel
theorem dX2_cuts_65 : decode cX2_cuts 65 = .ok (.getfield 178, 3) := by decide +kernel
theorem dX2_cuts_68 : decode cX2_cuts 68 = .ok (.iload_n 2, 1) := by decide +kernel
theorem dX2_cuts_69 : decode cX2_cuts 69 = .ok (.aload_n 0, 1) := by decide +kernel
theorem dX2_cuts_70 : decode cX2_cuts 70 = .ok (.getfield 178, 3) := by decide +kernel
theorem dX2_cuts_73 : decode cX2_cuts 73 = .ok (.iload_n 2, 1) := by decide +kernel
theorem dX2_cuts_74 : decode cX2_cuts 74 = .ok (.iaload, 1) := by decide +kernel
theorem dX2_cuts_75 : decode cX2_cuts 75 = .ok (.aload_n 0, 1) := by decide +kernel
theorem dX2_cuts_76 : decode cX2_cuts 76 = .ok (.getfield 178, 3) := by decide +kernel
theorem dX2_cuts_79 : decode cX2_cuts 79 = .ok (.iload_n 1, 1) := by decide +kernel
theorem dX2_cuts_80 : decode cX2_cuts 80 = .ok (.iaload, 1) := by decide +kernel
theorem dX2_cuts_81 : decode cX2_cuts 81 = .ok (.iload_n 3, 1) := by decide +kernel
theorem dX2_cuts_82 : decode cX2_cuts 82 = .ok (.iadd, 1) := by decide +kernel
theorem dX2_cuts_83 : decode cX2_cuts 83 = .ok (.invokestatic 348, 3) := by decide +kernel
theorem dX2_cuts_86 : decode cX2_cuts 86 = .ok (.iastore, 1) := by decide +kernel
theorem dX2_cuts_87 : decode cX2_cuts 87 = .ok (.iload 4, 2) := by decide +kernel
theorem dX2_cuts_89 : decode cX2_cuts 89 = .ok (.ireturn, 1) := by decide +kernel
def fn_X2_cuts_39 (N : Nat)  (x1 : Int32) (x2 : Int32) (x3 : Int32) (s0 : Int32) (Ω : zo_O) : Option zo_R :=
  ix x1 14 fun j1 =>
  ix x2 14 fun j2 =>
  ix x1 14 fun j3 => lt (sI Ω 32 46 j3 (mn (gI Ω 32 46 j1) ((gI Ω 32 46 j2) - x3))) fun Ω4 =>
  ix x2 14 fun j5 =>
  ix x1 14 fun j6 =>
  ix x2 14 fun j7 => lt (sI Ω4 32 45 j7 (mx (gI Ω4 32 45 j5) ((gI Ω4 32 45 j6) + x3))) fun Ω8 =>
  rZ s0 Ω8
theorem ct_X2_cuts_39 {Y : zo_Y} (hY : zo_Gd Y cX2_cuts 5 RX2 1) (hJ : zo_JC (zo_J Y)) (hCon : ∀ Ω, zo_J Y Ω → zo_Con Ω) (hr : zo_rt Y (Option.some Jvm.ClassFile.FieldType.boolean)) (N : Nat)   (x1 : Int32) (x2 : Int32) (x3 : Int32) (s0 : Int32) (Ω : zo_O) (res : zo_R) (h : fn_X2_cuts_39 N  x1 x2 x3 s0 Ω = some res) : TW Y res Ω 39 [(0, vr 1 0), (1, vi x1), (2, vi x2), (3, vi x3)] [vi s0] := by
  unfold fn_X2_cuts_39 at h
  refine zo_istore hY dX2_cuts_39 (by decide) rfl (ls' := [(4, vi s0), (0, vr 1 0), (1, vi x1), (2, vi x2), (3, vi x3)]) rfl ?_
  refine zo_aload_n hY dX2_cuts_41 rfl 1 rfl ?_
  refine zo_getC hY LX2_181_1 rfl (fun Ω q => (hCon Ω q).2.1 78 _ rfl) dX2_cuts_42 ?_
  refine zo_iload_n hY dX2_cuts_45 rfl 2 rfl ?_
  refine zo_aload_n hY dX2_cuts_46 rfl 1 rfl ?_
  refine zo_getC hY LX2_181_1 rfl (fun Ω q => (hCon Ω q).2.1 78 _ rfl) dX2_cuts_47 ?_
  refine zo_iload_n hY dX2_cuts_50 rfl 2 rfl ?_
  refine zo_ald hY (by decide) (Or.inl ⟨rfl, dX2_cuts_51⟩) (fun q => (hCon _ q).2.2.2 32 46 14 rfl) h (fun j1 h => ?_)
  refine zo_aload_n hY dX2_cuts_52 rfl 1 rfl ?_
  refine zo_getC hY LX2_181_1 rfl (fun Ω q => (hCon Ω q).2.1 78 _ rfl) dX2_cuts_53 ?_
  refine zo_iload_n hY dX2_cuts_56 rfl 3 rfl ?_
  refine zo_ald hY (by decide) (Or.inl ⟨rfl, dX2_cuts_57⟩) (fun q => (hCon _ q).2.2.2 32 46 14 rfl) h (fun j2 h => ?_)
  refine zo_iload_n hY dX2_cuts_58 rfl 4 rfl ?_
  refine zo_isub hY dX2_cuts_59 ?_
  refine zo_mmin hY (by decide) q1733 (Nat.le_of_ble_eq_true rfl) dX2_cuts_60 ?_
  refine zo_ast hY hJ (by decide) (Or.inl ⟨rfl, rfl, dX2_cuts_63⟩) (fun q => (hCon _ q).2.2.2 32 46 14 rfl) h (fun j3 Ω4 h => ?_)
  refine zo_aload_n hY dX2_cuts_64 rfl 1 rfl ?_
  refine zo_getC hY LX2_178_1 rfl (fun Ω q => (hCon Ω q).2.1 77 _ rfl) dX2_cuts_65 ?_
  refine zo_iload_n hY dX2_cuts_68 rfl 3 rfl ?_
  refine zo_aload_n hY dX2_cuts_69 rfl 1 rfl ?_
  refine zo_getC hY LX2_178_1 rfl (fun Ω q => (hCon Ω q).2.1 77 _ rfl) dX2_cuts_70 ?_
  refine zo_iload_n hY dX2_cuts_73 rfl 3 rfl ?_
  refine zo_ald hY (by decide) (Or.inl ⟨rfl, dX2_cuts_74⟩) (fun q => (hCon _ q).2.2.2 32 45 14 rfl) h (fun j5 h => ?_)
  refine zo_aload_n hY dX2_cuts_75 rfl 1 rfl ?_
  refine zo_getC hY LX2_178_1 rfl (fun Ω q => (hCon Ω q).2.1 77 _ rfl) dX2_cuts_76 ?_
  refine zo_iload_n hY dX2_cuts_79 rfl 2 rfl ?_
  refine zo_ald hY (by decide) (Or.inl ⟨rfl, dX2_cuts_80⟩) (fun q => (hCon _ q).2.2.2 32 45 14 rfl) h (fun j6 h => ?_)
  refine zo_iload_n hY dX2_cuts_81 rfl 4 rfl ?_
  refine zo_iadd hY dX2_cuts_82 ?_
  refine zo_mmax hY (by decide) q1687 (Nat.le_of_ble_eq_true rfl) dX2_cuts_83 ?_
  refine zo_ast hY hJ (by decide) (Or.inl ⟨rfl, rfl, dX2_cuts_86⟩) (fun q => (hCon _ q).2.2.2 32 45 14 rfl) h (fun j7 Ω8 h => ?_)
  refine zo_iload hY dX2_cuts_87 0 rfl ?_
  exact zo_zret hY hr dX2_cuts_89 h
def fn_X2_cuts_34 (N : Nat)  (x1 : Int32) (x2 : Int32) (x3 : Int32) (Ω : zo_O) : Option zo_R :=
  fn_X2_cuts_39 N x1 x2 x3 1 Ω
theorem ct_X2_cuts_34 {Y : zo_Y} (hY : zo_Gd Y cX2_cuts 5 RX2 1) (hJ : zo_JC (zo_J Y)) (hCon : ∀ Ω, zo_J Y Ω → zo_Con Ω) (hr : zo_rt Y (Option.some Jvm.ClassFile.FieldType.boolean)) (N : Nat)   (x1 : Int32) (x2 : Int32) (x3 : Int32) (Ω : zo_O) (res : zo_R) (h : fn_X2_cuts_34 N  x1 x2 x3 Ω = some res) : TW Y res Ω 34 [(0, vr 1 0), (1, vi x1), (2, vi x2), (3, vi x3)] [] := by
  unfold fn_X2_cuts_34 at h
  refine zo_iconst hY 1 (by decide) dX2_cuts_34 ?_
  refine zo_goto hY 39 dX2_cuts_35 (by decide) ?_
  exact ct_X2_cuts_39 hY hJ hCon hr N x1 x2 x3 1 Ω _ h
def fn_X2_cuts (N : Nat) (x1 : Int32) (x2 : Int32) (x3 : Int32) (Ω : zo_O) : Option zo_R :=
  ix x1 14 fun j1 =>
  ix x2 14 fun j2 =>
  if (gI Ω 32 46 j2) - x3 < gI Ω 32 46 j1 then (
    fn_X2_cuts_34 N x1 x2 x3 Ω
    ) else
  ix x2 14 fun j4 =>
  ix x1 14 fun j5 =>
  if (gI Ω 32 45 j5) + x3 ≤ gI Ω 32 45 j4 then (
    fn_X2_cuts_39 N x1 x2 x3 0 Ω
    ) else
  fn_X2_cuts_34 N x1 x2 x3 Ω
theorem mt_X2_cuts {G : zo_G} {J : zo_O → Prop} (hJ : zo_JC J) (hCon : ∀ Ω, J Ω → zo_Con Ω) (N : Nat) (x1 : Int32) (x2 : Int32) (x3 : Int32) (Ω : zo_O) (res : zo_R) (h : fn_X2_cuts N x1 x2 x3 Ω = some res) : zo_MT G J yX2_cuts cX2_cuts 5 (Option.some Jvm.ClassFile.FieldType.boolean) 1 [vr 1 0, vi x1, vi x2, vi x3] Ω res := by
  refine zo_enter (by decide) rfl (Nat.le_of_ble_eq_true rfl) (fun Y hY eJ hr hmn => ?_)
  subst eJ
  show TW Y res Ω 0 [(0, vr 1 0), (1, vi x1), (2, vi x2), (3, vi x3)] []
  unfold fn_X2_cuts at h
  refine zo_aload_n hY dX2_cuts_0 rfl 0 rfl ?_
  refine zo_getC hY LX2_181_1 rfl (fun Ω q => (hCon Ω q).2.1 78 _ rfl) dX2_cuts_1 ?_
  refine zo_iload_n hY dX2_cuts_4 rfl 1 rfl ?_
  refine zo_ald hY (by decide) (Or.inl ⟨rfl, dX2_cuts_5⟩) (fun q => (hCon _ q).2.2.2 32 46 14 rfl) h (fun j1 h => ?_)
  refine zo_aload_n hY dX2_cuts_6 rfl 0 rfl ?_
  refine zo_getC hY LX2_181_1 rfl (fun Ω q => (hCon Ω q).2.1 78 _ rfl) dX2_cuts_7 ?_
  refine zo_iload_n hY dX2_cuts_10 rfl 2 rfl ?_
  refine zo_ald hY (by decide) (Or.inl ⟨rfl, dX2_cuts_11⟩) (fun q => (hCon _ q).2.2.2 32 46 14 rfl) h (fun j2 h => ?_)
  refine zo_iload_n hY dX2_cuts_12 rfl 3 rfl ?_
  refine zo_isub hY dX2_cuts_13 ?_
  refine zo_icmp_gt hY 34 dX2_cuts_14 (by decide) h (fun c3 h => ?_) (fun c3 h => ?_)
  · exact ct_X2_cuts_34 hY hJ hCon hr N x1 x2 x3 Ω _ h
  · refine zo_aload_n hY dX2_cuts_17 rfl 0 rfl ?_
    refine zo_getC hY LX2_178_1 rfl (fun Ω q => (hCon Ω q).2.1 77 _ rfl) dX2_cuts_18 ?_
    refine zo_iload_n hY dX2_cuts_21 rfl 2 rfl ?_
    refine zo_ald hY (by decide) (Or.inl ⟨rfl, dX2_cuts_22⟩) (fun q => (hCon _ q).2.2.2 32 45 14 rfl) h (fun j4 h => ?_)
    refine zo_aload_n hY dX2_cuts_23 rfl 0 rfl ?_
    refine zo_getC hY LX2_178_1 rfl (fun Ω q => (hCon Ω q).2.1 77 _ rfl) dX2_cuts_24 ?_
    refine zo_iload_n hY dX2_cuts_27 rfl 1 rfl ?_
    refine zo_ald hY (by decide) (Or.inl ⟨rfl, dX2_cuts_28⟩) (fun q => (hCon _ q).2.2.2 32 45 14 rfl) h (fun j5 h => ?_)
    refine zo_iload_n hY dX2_cuts_29 rfl 3 rfl ?_
    refine zo_iadd hY dX2_cuts_30 ?_
    refine zo_icmp_ge hY 38 dX2_cuts_31 (by decide) h (fun c6 h => ?_) (fun c6 h => ?_)
    · refine zo_iconst hY 0 (by decide) dX2_cuts_38 ?_
      exact ct_X2_cuts_39 hY hJ hCon hr N x1 x2 x3 0 Ω _ h
    · exact ct_X2_cuts_34 hY hJ hCon hr N x1 x2 x3 Ω _ h
theorem dX2_binds_0 : decode cX2_binds 0 = .ok (.iconst 1, 1) := by decide +kernel
theorem dX2_binds_1 : decode cX2_binds 1 = .ok (.istore 4, 2) := by decide +kernel
theorem dX2_binds_3 : decode cX2_binds 3 = .ok (.iload 4, 2) := by decide +kernel
theorem dX2_binds_5 : decode cX2_binds 5 = .ok (.ifCond .eq 142, 3) := by decide +kernel
theorem dX2_binds_8 : decode cX2_binds 8 = .ok (.iload_n 2, 1) := by decide +kernel
theorem dX2_binds_9 : decode cX2_binds 9 = .ok (.iconst (-1), 1) := by decide +kernel
theorem dX2_binds_10 : decode cX2_binds 10 = .ok (.if_icmp .eq 25, 3) := by decide +kernel
theorem dX2_binds_13 : decode cX2_binds 13 = .ok (.aload_n 0, 1) := by decide +kernel
theorem dX2_binds_14 : decode cX2_binds 14 = .ok (.iload_n 2, 1) := by decide +kernel
theorem dX2_binds_15 : decode cX2_binds 15 = .ok (.iload_n 3, 1) := by decide +kernel
theorem dX2_binds_16 : decode cX2_binds 16 = .ok (.iconst 0, 1) := by decide +kernel
theorem dX2_binds_17 : decode cX2_binds 17 = .ok (.invokevirtual 427, 3) := by decide +kernel
theorem dX2_binds_20 : decode cX2_binds 20 = .ok (.aload_n 0, 1) := by decide +kernel
theorem dX2_binds_21 : decode cX2_binds 21 = .ok (.iload_n 3, 1) := by decide +kernel
theorem dX2_binds_22 : decode cX2_binds 22 = .ok (.iload_n 2, 1) := by decide +kernel
theorem dX2_binds_23 : decode cX2_binds 23 = .ok (.iconst 0, 1) := by decide +kernel
theorem dX2_binds_24 : decode cX2_binds 24 = .ok (.invokevirtual 427, 3) := by decide +kernel
theorem dX2_binds_27 : decode cX2_binds 27 = .ok (.ior, 1) := by decide +kernel
theorem dX2_binds_28 : decode cX2_binds 28 = .ok (.ifCond .eq 7, 3) := by decide +kernel
theorem dX2_binds_31 : decode cX2_binds 31 = .ok (.iconst 1, 1) := by decide +kernel
theorem dX2_binds_32 : decode cX2_binds 32 = .ok (.goto 4, 3) := by decide +kernel
theorem dX2_binds_35 : decode cX2_binds 35 = .ok (.iconst 0, 1) := by decide +kernel
theorem dX2_binds_36 : decode cX2_binds 36 = .ok (.istore 4, 2) := by decide +kernel
theorem dX2_binds_38 : decode cX2_binds 38 = .ok (.iconst 0, 1) := by decide +kernel
theorem dX2_binds_39 : decode cX2_binds 39 = .ok (.istore 5, 2) := by decide +kernel
theorem dX2_binds_41 : decode cX2_binds 41 = .ok (.iload 5, 2) := by decide +kernel
theorem dX2_binds_43 : decode cX2_binds 43 = .ok (.aload_n 0, 1) := by decide +kernel
theorem dX2_binds_44 : decode cX2_binds 44 = .ok (.getfield 225, 3) := by decide +kernel
theorem dX2_binds_47 : decode cX2_binds 47 = .ok (.if_icmp .ge 50, 3) := by decide +kernel
theorem dX2_binds_50 : decode cX2_binds 50 = .ok (.aload_n 0, 1) := by decide +kernel
theorem dX2_binds_51 : decode cX2_binds 51 = .ok (.getfield 95, 3) := by decide +kernel
theorem dX2_binds_54 : decode cX2_binds 54 = .ok (.iload 5, 2) := by decide +kernel
theorem dX2_binds_56 : decode cX2_binds 56 = .ok (.iaload, 1) := by decide +kernel
theorem dX2_binds_57 : decode cX2_binds 57 = .ok (.iload_n 1, 1) := by decide +kernel
theorem dX2_binds_58 : decode cX2_binds 58 = .ok (.if_icmp .gt 33, 3) := by decide +kernel
theorem dX2_binds_61 : decode cX2_binds 61 = .ok (.iload 4, 2) := by decide +kernel
theorem dX2_binds_63 : decode cX2_binds 63 = .ok (.aload_n 0, 1) := by decide +kernel
theorem dX2_binds_64 : decode cX2_binds 64 = .ok (.aload_n 0, 1) := by decide +kernel
theorem dX2_binds_65 : decode cX2_binds 65 = .ok (.getfield 86, 3) := by decide +kernel
theorem dX2_binds_68 : decode cX2_binds 68 = .ok (.iload 5, 2) := by decide +kernel
theorem dX2_binds_70 : decode cX2_binds 70 = .ok (.iaload, 1) := by decide +kernel
theorem dX2_binds_71 : decode cX2_binds 71 = .ok (.aload_n 0, 1) := by decide +kernel
theorem dX2_binds_72 : decode cX2_binds 72 = .ok (.getfield 89, 3) := by decide +kernel
theorem dX2_binds_75 : decode cX2_binds 75 = .ok (.iload 5, 2) := by decide +kernel
theorem dX2_binds_77 : decode cX2_binds 77 = .ok (.iaload, 1) := by decide +kernel
theorem dX2_binds_78 : decode cX2_binds 78 = .ok (.aload_n 0, 1) := by decide +kernel
theorem dX2_binds_79 : decode cX2_binds 79 = .ok (.getfield 92, 3) := by decide +kernel
theorem dX2_binds_82 : decode cX2_binds 82 = .ok (.iload 5, 2) := by decide +kernel
theorem dX2_binds_84 : decode cX2_binds 84 = .ok (.iaload, 1) := by decide +kernel
theorem dX2_binds_85 : decode cX2_binds 85 = .ok (.invokevirtual 427, 3) := by decide +kernel
theorem dX2_binds_88 : decode cX2_binds 88 = .ok (.ior, 1) := by decide +kernel
theorem dX2_binds_89 : decode cX2_binds 89 = .ok (.istore 4, 2) := by decide +kernel
theorem dX2_binds_91 : decode cX2_binds 91 = .ok (.iinc 5 1, 3) := by decide +kernel
theorem dX2_binds_94 : decode cX2_binds 94 = .ok (.goto (-53), 3) := by decide +kernel
theorem dX2_binds_97 : decode cX2_binds 97 = .ok (.iconst 0, 1) := by decide +kernel
theorem dX2_binds_98 : decode cX2_binds 98 = .ok (.istore 5, 2) := by decide +kernel
theorem dX2_binds_100 : decode cX2_binds 100 = .ok (.iload 5, 2) := by decide +kernel
theorem dX2_binds_102 : decode cX2_binds 102 = .ok (.aload_n 0, 1) := by decide +kernel
theorem dX2_binds_103 : decode cX2_binds 103 = .ok (.getfield 194, 3) := by decide +kernel
theorem dX2_binds_106 : decode cX2_binds 106 = .ok (.if_icmp .ge 38, 3) := by decide +kernel
theorem dX2_binds_109 : decode cX2_binds 109 = .ok (.aload_n 0, 1) := by decide +kernel
theorem dX2_binds_110 : decode cX2_binds 110 = .ok (.iload 5, 2) := by decide +kernel
theorem dX2_binds_112 : decode cX2_binds 112 = .ok (.iload_n 1, 1) := by decide +kernel
theorem dX2_binds_113 : decode cX2_binds 113 = .ok (.invokevirtual 421, 3) := by decide +kernel
theorem dX2_binds_116 : decode cX2_binds 116 = .ok (.ifCond .eq 22, 3) := by decide +kernel
theorem dX2_binds_119 : decode cX2_binds 119 = .ok (.aload_n 0, 1) := by decide +kernel
theorem dX2_binds_120 : decode cX2_binds 120 = .ok (.getfield 178, 3) := by decide +kernel
theorem dX2_binds_123 : decode cX2_binds 123 = .ok (.iload 5, 2) := by decide +kernel
theorem dX2_binds_125 : decode cX2_binds 125 = .ok (.iaload, 1) := by decide +kernel
theorem dX2_binds_126 : decode cX2_binds 126 = .ok (.aload_n 0, 1) := by decide +kernel
theorem dX2_binds_127 : decode cX2_binds 127 = .ok (.getfield 181, 3) := by decide +kernel
theorem dX2_binds_130 : decode cX2_binds 130 = .ok (.iload 5, 2) := by decide +kernel
theorem dX2_binds_132 : decode cX2_binds 132 = .ok (.iaload, 1) := by decide +kernel
theorem dX2_binds_133 : decode cX2_binds 133 = .ok (.if_icmp .le 5, 3) := by decide +kernel
theorem dX2_binds_136 : decode cX2_binds 136 = .ok (.iconst 0, 1) := by decide +kernel
theorem dX2_binds_137 : decode cX2_binds 137 = .ok (.ireturn, 1) := by decide +kernel
theorem dX2_binds_138 : decode cX2_binds 138 = .ok (.iinc 5 1, 3) := by decide +kernel
theorem dX2_binds_141 : decode cX2_binds 141 = .ok (.goto (-41), 3) := by decide +kernel
theorem dX2_binds_144 : decode cX2_binds 144 = .ok (.goto (-141), 3) := by decide +kernel
theorem dX2_binds_147 : decode cX2_binds 147 = .ok (.iconst 1, 1) := by decide +kernel
theorem dX2_binds_148 : decode cX2_binds 148 = .ok (.ireturn, 1) := by decide +kernel
def fn_X2_binds_91 (N : Nat) (K3 : Int32 → Int32 → Int32 → Int32 → zo_O → Option zo_R) (K41 : Int32 → Int32 → Int32 → Int32 → Int32 → zo_O → Option zo_R) (x1 : Int32) (x2 : Int32) (x3 : Int32) (x4 : Int32) (x5 : Int32) (Ω : zo_O) : Option zo_R :=
  K41 x1 x2 x3 x4 (x5 + 1) Ω
theorem ct_X2_binds_91 {Y : zo_Y} (hY : zo_Gd Y cX2_binds 6 RX2 2) (hJ : zo_JC (zo_J Y)) (hCon : ∀ Ω, zo_J Y Ω → zo_Con Ω) (hr : zo_rt Y (Option.some Jvm.ClassFile.FieldType.boolean)) (N : Nat) (K3 : Int32 → Int32 → Int32 → Int32 → zo_O → Option zo_R) (K41 : Int32 → Int32 → Int32 → Int32 → Int32 → zo_O → Option zo_R) (hK3 : ∀ (x1 : Int32) (x2 : Int32) (x3 : Int32) (x4 : Int32) (Ω : zo_O) (res : zo_R), K3 x1 x2 x3 x4 Ω = some res → TW Y res Ω 3 [(0, vr 1 0), (1, vi x1), (2, vi x2), (3, vi x3), (4, vi x4)] []) (hK41 : ∀ (x1 : Int32) (x2 : Int32) (x3 : Int32) (x4 : Int32) (x5 : Int32) (Ω : zo_O) (res : zo_R), K41 x1 x2 x3 x4 x5 Ω = some res → TW Y res Ω 41 [(0, vr 1 0), (1, vi x1), (2, vi x2), (3, vi x3), (4, vi x4), (5, vi x5)] []) (x1 : Int32) (x2 : Int32) (x3 : Int32) (x4 : Int32) (x5 : Int32) (Ω : zo_O) (res : zo_R) (h : fn_X2_binds_91 N K3 K41 x1 x2 x3 x4 x5 Ω = some res) : TW Y res Ω 91 [(0, vr 1 0), (1, vi x1), (2, vi x2), (3, vi x3), (4, vi x4), (5, vi x5)] [] := by
  unfold fn_X2_binds_91 at h
  refine zo_iinc hY 1 dX2_binds_91 (by decide) (by decide) 5 rfl rfl (ls' := [(5, vi (x5 + 1)), (0, vr 1 0), (1, vi x1), (2, vi x2), (3, vi x3), (4, vi x4)]) rfl ?_
  refine zo_goto hY 41 dX2_binds_94 (by decide) ?_
  refine zo_sub [1, 2, 3, 4, 5, 0] rfl ?_
  exact hK41 x1 x2 x3 x4 (x5 + 1) Ω _ h
def fn_X2_binds_138 (N : Nat) (K3 : Int32 → Int32 → Int32 → Int32 → zo_O → Option zo_R) (K100 : Int32 → Int32 → Int32 → Int32 → Int32 → zo_O → Option zo_R) (x1 : Int32) (x2 : Int32) (x3 : Int32) (x4 : Int32) (x5 : Int32) (Ω : zo_O) : Option zo_R :=
  K100 x1 x2 x3 x4 (x5 + 1) Ω
theorem ct_X2_binds_138 {Y : zo_Y} (hY : zo_Gd Y cX2_binds 6 RX2 2) (hJ : zo_JC (zo_J Y)) (hCon : ∀ Ω, zo_J Y Ω → zo_Con Ω) (hr : zo_rt Y (Option.some Jvm.ClassFile.FieldType.boolean)) (N : Nat) (K3 : Int32 → Int32 → Int32 → Int32 → zo_O → Option zo_R) (K100 : Int32 → Int32 → Int32 → Int32 → Int32 → zo_O → Option zo_R) (hK3 : ∀ (x1 : Int32) (x2 : Int32) (x3 : Int32) (x4 : Int32) (Ω : zo_O) (res : zo_R), K3 x1 x2 x3 x4 Ω = some res → TW Y res Ω 3 [(0, vr 1 0), (1, vi x1), (2, vi x2), (3, vi x3), (4, vi x4)] []) (hK100 : ∀ (x1 : Int32) (x2 : Int32) (x3 : Int32) (x4 : Int32) (x5 : Int32) (Ω : zo_O) (res : zo_R), K100 x1 x2 x3 x4 x5 Ω = some res → TW Y res Ω 100 [(0, vr 1 0), (1, vi x1), (2, vi x2), (3, vi x3), (4, vi x4), (5, vi x5)] []) (x1 : Int32) (x2 : Int32) (x3 : Int32) (x4 : Int32) (x5 : Int32) (Ω : zo_O) (res : zo_R) (h : fn_X2_binds_138 N K3 K100 x1 x2 x3 x4 x5 Ω = some res) : TW Y res Ω 138 [(0, vr 1 0), (1, vi x1), (2, vi x2), (3, vi x3), (4, vi x4), (5, vi x5)] [] := by
  unfold fn_X2_binds_138 at h
  refine zo_iinc hY 1 dX2_binds_138 (by decide) (by decide) 5 rfl rfl (ls' := [(5, vi (x5 + 1)), (0, vr 1 0), (1, vi x1), (2, vi x2), (3, vi x3), (4, vi x4)]) rfl ?_
  refine zo_goto hY 100 dX2_binds_141 (by decide) ?_
  refine zo_sub [1, 2, 3, 4, 5, 0] rfl ?_
  exact hK100 x1 x2 x3 x4 (x5 + 1) Ω _ h
def bd_X2_binds_100 (N : Nat) (K3 : Int32 → Int32 → Int32 → Int32 → zo_O → Option zo_R) (K100 : Int32 → Int32 → Int32 → Int32 → Int32 → zo_O → Option zo_R) (x1 : Int32) (x2 : Int32) (x3 : Int32) (x4 : Int32) (x5 : Int32) (Ω : zo_O) : Option zo_R :=
  if gI Ω 1 0 2 ≤ x5 then (
    K3 x1 x2 x3 x4 Ω
    ) else
  ci (fn_X2_isThere N x5 x1 Ω) fun r3 Ω2 =>
  if r3 = 0 then (
    fn_X2_binds_138 N K3 K100 x1 x2 x3 x4 x5 Ω2
    ) else
  ix x5 14 fun j5 =>
  ix x5 14 fun j6 =>
  if gI Ω2 32 45 j5 ≤ gI Ω2 32 46 j6 then (
    fn_X2_binds_138 N K3 K100 x1 x2 x3 x4 x5 Ω2
    ) else
  rZ 0 Ω2
theorem cb_X2_binds_100 {Y : zo_Y} (hY : zo_Gd Y cX2_binds 6 RX2 2) (hJ : zo_JC (zo_J Y)) (hCon : ∀ Ω, zo_J Y Ω → zo_Con Ω) (hr : zo_rt Y (Option.some Jvm.ClassFile.FieldType.boolean)) (N : Nat) (K3 : Int32 → Int32 → Int32 → Int32 → zo_O → Option zo_R) (K100 : Int32 → Int32 → Int32 → Int32 → Int32 → zo_O → Option zo_R) (hK3 : ∀ (x1 : Int32) (x2 : Int32) (x3 : Int32) (x4 : Int32) (Ω : zo_O) (res : zo_R), K3 x1 x2 x3 x4 Ω = some res → TW Y res Ω 3 [(0, vr 1 0), (1, vi x1), (2, vi x2), (3, vi x3), (4, vi x4)] []) (hK100 : ∀ (x1 : Int32) (x2 : Int32) (x3 : Int32) (x4 : Int32) (x5 : Int32) (Ω : zo_O) (res : zo_R), K100 x1 x2 x3 x4 x5 Ω = some res → TW Y res Ω 100 [(0, vr 1 0), (1, vi x1), (2, vi x2), (3, vi x3), (4, vi x4), (5, vi x5)] []) (x1 : Int32) (x2 : Int32) (x3 : Int32) (x4 : Int32) (x5 : Int32) (Ω : zo_O) (res : zo_R) (h : bd_X2_binds_100 N K3 K100 x1 x2 x3 x4 x5 Ω = some res) : TW Y res Ω 100 [(0, vr 1 0), (1, vi x1), (2, vi x2), (3, vi x3), (4, vi x4), (5, vi x5)] [] := by
  unfold bd_X2_binds_100 at h
  refine zo_iload hY dX2_binds_100 5 rfl ?_
  refine zo_aload_n hY dX2_binds_102 rfl 0 rfl ?_
  refine zo_getI hY LX2_194_1 rfl dX2_binds_103 ?_
  refine zo_icmp_ge hY 144 dX2_binds_106 (by decide) h (fun c1 h => ?_) (fun c1 h => ?_)
  · refine zo_goto hY 3 dX2_binds_144 (by decide) ?_
    refine zo_sub [0, 1, 2, 3, 4] rfl ?_
    exact hK3 x1 x2 x3 x4 Ω _ h
  · refine zo_aload_n hY dX2_binds_109 rfl 0 rfl ?_
    refine zo_iload hY dX2_binds_110 5 rfl ?_
    refine zo_iload_n hY dX2_binds_112 rfl 1 rfl ?_
    refine zo_callV hY (fun q hq => mt_X2_isThere hJ hCon N x5 x1 Ω q hq) (by decide) (by decide) (by decide) ⟨rfl, cn_X2_isThere⟩ rfl q1742 q1744 qs66 q82 q1745 (Nat.le_of_ble_eq_true rfl) dX2_binds_113 rfl h (ci_k (fun r3 Ω2 res h => ?_))
    refine zo_if_eq hY 138 dX2_binds_116 (by decide) h (fun c4 h => ?_) (fun c4 h => ?_)
    · exact ct_X2_binds_138 hY hJ hCon hr N K3 K100 hK3 hK100 x1 x2 x3 x4 x5 Ω2 _ h
    · refine zo_aload_n hY dX2_binds_119 rfl 0 rfl ?_
      refine zo_getC hY LX2_178_1 rfl (fun Ω q => (hCon Ω q).2.1 77 _ rfl) dX2_binds_120 ?_
      refine zo_iload hY dX2_binds_123 5 rfl ?_
      refine zo_ald hY (by decide) (Or.inl ⟨rfl, dX2_binds_125⟩) (fun q => (hCon _ q).2.2.2 32 45 14 rfl) h (fun j5 h => ?_)
      refine zo_aload_n hY dX2_binds_126 rfl 0 rfl ?_
      refine zo_getC hY LX2_181_1 rfl (fun Ω q => (hCon Ω q).2.1 78 _ rfl) dX2_binds_127 ?_
      refine zo_iload hY dX2_binds_130 5 rfl ?_
      refine zo_ald hY (by decide) (Or.inl ⟨rfl, dX2_binds_132⟩) (fun q => (hCon _ q).2.2.2 32 46 14 rfl) h (fun j6 h => ?_)
      refine zo_icmp_le hY 138 dX2_binds_133 (by decide) h (fun c7 h => ?_) (fun c7 h => ?_)
      · exact ct_X2_binds_138 hY hJ hCon hr N K3 K100 hK3 hK100 x1 x2 x3 x4 x5 Ω2 _ h
      · refine zo_iconst hY 0 (by decide) dX2_binds_136 ?_
        exact zo_zret hY hr dX2_binds_137 h
def fn_X2_binds_100 (N : Nat) (K3 : Int32 → Int32 → Int32 → Int32 → zo_O → Option zo_R) : Nat → Int32 → Int32 → Int32 → Int32 → Int32 → zo_O → Option zo_R
  | 0, _, _, _, _, _, _ => none
  | n + 1, x1, x2, x3, x4, x5, Ω => bd_X2_binds_100 N K3 (fn_X2_binds_100 N K3 n) x1 x2 x3 x4 x5 Ω
theorem ct_X2_binds_100 {Y : zo_Y} (hY : zo_Gd Y cX2_binds 6 RX2 2) (hJ : zo_JC (zo_J Y)) (hCon : ∀ Ω, zo_J Y Ω → zo_Con Ω) (hr : zo_rt Y (Option.some Jvm.ClassFile.FieldType.boolean)) (N : Nat) (K3 : Int32 → Int32 → Int32 → Int32 → zo_O → Option zo_R) (hK3 : ∀ (x1 : Int32) (x2 : Int32) (x3 : Int32) (x4 : Int32) (Ω : zo_O) (res : zo_R), K3 x1 x2 x3 x4 Ω = some res → TW Y res Ω 3 [(0, vr 1 0), (1, vi x1), (2, vi x2), (3, vi x3), (4, vi x4)] []) : ∀ (n : Nat) (x1 : Int32) (x2 : Int32) (x3 : Int32) (x4 : Int32) (x5 : Int32) (Ω : zo_O) (res : zo_R), fn_X2_binds_100 N K3 n x1 x2 x3 x4 x5 Ω = some res → TW Y res Ω 100 [(0, vr 1 0), (1, vi x1), (2, vi x2), (3, vi x3), (4, vi x4), (5, vi x5)] [] := by
  intro n
  induction n with
  | zero => intro x1 x2 x3 x4 x5 Ω res h; exact nomatch (show (none : Option zo_R) = some res from h)
  | succ n ih => intro x1 x2 x3 x4 x5 Ω res h; exact cb_X2_binds_100 hY hJ hCon hr N K3 (fn_X2_binds_100 N K3 n) hK3 ih x1 x2 x3 x4 x5 Ω res h
def bd_X2_binds_41 (N : Nat) (K3 : Int32 → Int32 → Int32 → Int32 → zo_O → Option zo_R) (K41 : Int32 → Int32 → Int32 → Int32 → Int32 → zo_O → Option zo_R) (x1 : Int32) (x2 : Int32) (x3 : Int32) (x4 : Int32) (x5 : Int32) (Ω : zo_O) : Option zo_R :=
  if gI Ω 1 0 32 ≤ x5 then (
    fn_X2_binds_100 N K3 N x1 x2 x3 x4 0 Ω
    ) else
  ix x5 40 fun j2 =>
  if x1 < gI Ω 32 27 j2 then (
    fn_X2_binds_91 N K3 K41 x1 x2 x3 x4 x5 Ω
    ) else
  ix x5 40 fun j4 =>
  ix x5 40 fun j5 =>
  ix x5 40 fun j6 =>
  ci (fn_X2_cuts N (gI Ω 32 24 j4) (gI Ω 32 25 j5) (gI Ω 32 26 j6) Ω) fun r8 Ω7 =>
  li (x4 ||| r8) fun y9 =>
  fn_X2_binds_91 N K3 K41 x1 x2 x3 y9 x5 Ω7
theorem cb_X2_binds_41 {Y : zo_Y} (hY : zo_Gd Y cX2_binds 6 RX2 2) (hJ : zo_JC (zo_J Y)) (hCon : ∀ Ω, zo_J Y Ω → zo_Con Ω) (hr : zo_rt Y (Option.some Jvm.ClassFile.FieldType.boolean)) (N : Nat) (K3 : Int32 → Int32 → Int32 → Int32 → zo_O → Option zo_R) (K41 : Int32 → Int32 → Int32 → Int32 → Int32 → zo_O → Option zo_R) (hK3 : ∀ (x1 : Int32) (x2 : Int32) (x3 : Int32) (x4 : Int32) (Ω : zo_O) (res : zo_R), K3 x1 x2 x3 x4 Ω = some res → TW Y res Ω 3 [(0, vr 1 0), (1, vi x1), (2, vi x2), (3, vi x3), (4, vi x4)] []) (hK41 : ∀ (x1 : Int32) (x2 : Int32) (x3 : Int32) (x4 : Int32) (x5 : Int32) (Ω : zo_O) (res : zo_R), K41 x1 x2 x3 x4 x5 Ω = some res → TW Y res Ω 41 [(0, vr 1 0), (1, vi x1), (2, vi x2), (3, vi x3), (4, vi x4), (5, vi x5)] []) (x1 : Int32) (x2 : Int32) (x3 : Int32) (x4 : Int32) (x5 : Int32) (Ω : zo_O) (res : zo_R) (h : bd_X2_binds_41 N K3 K41 x1 x2 x3 x4 x5 Ω = some res) : TW Y res Ω 41 [(0, vr 1 0), (1, vi x1), (2, vi x2), (3, vi x3), (4, vi x4), (5, vi x5)] [] := by
  unfold bd_X2_binds_41 at h
  refine zo_iload hY dX2_binds_41 5 rfl ?_
  refine zo_aload_n hY dX2_binds_43 rfl 0 rfl ?_
  refine zo_getI hY LX2_225_1 rfl dX2_binds_44 ?_
  refine zo_icmp_ge hY 97 dX2_binds_47 (by decide) h (fun c1 h => ?_) (fun c1 h => ?_)
  · refine zo_iconst hY 0 (by decide) dX2_binds_97 ?_
    refine zo_istore hY dX2_binds_98 (by decide) rfl (ls' := [(5, vi 0), (0, vr 1 0), (1, vi x1), (2, vi x2), (3, vi x3), (4, vi x4)]) rfl ?_
    refine zo_sub [1, 2, 3, 4, 5, 0] rfl ?_
    exact ct_X2_binds_100 hY hJ hCon hr N K3 hK3 N x1 x2 x3 x4 0 Ω _ h
  · refine zo_aload_n hY dX2_binds_50 rfl 0 rfl ?_
    refine zo_getC hY LX2_95_1 rfl (fun Ω q => (hCon Ω q).2.1 36 _ rfl) dX2_binds_51 ?_
    refine zo_iload hY dX2_binds_54 5 rfl ?_
    refine zo_ald hY (by decide) (Or.inl ⟨rfl, dX2_binds_56⟩) (fun q => (hCon _ q).2.2.2 32 27 40 rfl) h (fun j2 h => ?_)
    refine zo_iload_n hY dX2_binds_57 rfl 1 rfl ?_
    refine zo_icmp_gt hY 91 dX2_binds_58 (by decide) h (fun c3 h => ?_) (fun c3 h => ?_)
    · exact ct_X2_binds_91 hY hJ hCon hr N K3 K41 hK3 hK41 x1 x2 x3 x4 x5 Ω _ h
    · refine zo_iload hY dX2_binds_61 4 rfl ?_
      refine zo_aload_n hY dX2_binds_63 rfl 0 rfl ?_
      refine zo_aload_n hY dX2_binds_64 rfl 0 rfl ?_
      refine zo_getC hY LX2_86_1 rfl (fun Ω q => (hCon Ω q).2.1 33 _ rfl) dX2_binds_65 ?_
      refine zo_iload hY dX2_binds_68 5 rfl ?_
      refine zo_ald hY (by decide) (Or.inl ⟨rfl, dX2_binds_70⟩) (fun q => (hCon _ q).2.2.2 32 24 40 rfl) h (fun j4 h => ?_)
      refine zo_aload_n hY dX2_binds_71 rfl 0 rfl ?_
      refine zo_getC hY LX2_89_1 rfl (fun Ω q => (hCon Ω q).2.1 34 _ rfl) dX2_binds_72 ?_
      refine zo_iload hY dX2_binds_75 5 rfl ?_
      refine zo_ald hY (by decide) (Or.inl ⟨rfl, dX2_binds_77⟩) (fun q => (hCon _ q).2.2.2 32 25 40 rfl) h (fun j5 h => ?_)
      refine zo_aload_n hY dX2_binds_78 rfl 0 rfl ?_
      refine zo_getC hY LX2_92_1 rfl (fun Ω q => (hCon Ω q).2.1 35 _ rfl) dX2_binds_79 ?_
      refine zo_iload hY dX2_binds_82 5 rfl ?_
      refine zo_ald hY (by decide) (Or.inl ⟨rfl, dX2_binds_84⟩) (fun q => (hCon _ q).2.2.2 32 26 40 rfl) h (fun j6 h => ?_)
      refine zo_callV hY (fun q hq => mt_X2_cuts hJ hCon N (gI Ω 32 24 j4) (gI Ω 32 25 j5) (gI Ω 32 26 j6) Ω q hq) (by decide) (by decide) (by decide) ⟨rfl, cn_X2_cuts⟩ rfl q1778 q1780 qs74 q82 q1781 (Nat.le_of_ble_eq_true rfl) dX2_binds_85 rfl h (ci_k (fun r8 Ω7 res h => ?_))
      refine zo_ior hY dX2_binds_88 ?_
      refine zo_nmi h (fun y9 h => ?_)
      refine zo_istore hY dX2_binds_89 (by decide) rfl (ls' := [(4, vi y9), (0, vr 1 0), (1, vi x1), (2, vi x2), (3, vi x3), (5, vi x5)]) rfl ?_
      refine zo_sub [1, 2, 3, 4, 0, 5] rfl ?_
      exact ct_X2_binds_91 hY hJ hCon hr N K3 K41 hK3 hK41 x1 x2 x3 y9 x5 Ω7 _ h
def fn_X2_binds_41 (N : Nat) (K3 : Int32 → Int32 → Int32 → Int32 → zo_O → Option zo_R) : Nat → Int32 → Int32 → Int32 → Int32 → Int32 → zo_O → Option zo_R
  | 0, _, _, _, _, _, _ => none
  | n + 1, x1, x2, x3, x4, x5, Ω => bd_X2_binds_41 N K3 (fn_X2_binds_41 N K3 n) x1 x2 x3 x4 x5 Ω
theorem ct_X2_binds_41 {Y : zo_Y} (hY : zo_Gd Y cX2_binds 6 RX2 2) (hJ : zo_JC (zo_J Y)) (hCon : ∀ Ω, zo_J Y Ω → zo_Con Ω) (hr : zo_rt Y (Option.some Jvm.ClassFile.FieldType.boolean)) (N : Nat) (K3 : Int32 → Int32 → Int32 → Int32 → zo_O → Option zo_R) (hK3 : ∀ (x1 : Int32) (x2 : Int32) (x3 : Int32) (x4 : Int32) (Ω : zo_O) (res : zo_R), K3 x1 x2 x3 x4 Ω = some res → TW Y res Ω 3 [(0, vr 1 0), (1, vi x1), (2, vi x2), (3, vi x3), (4, vi x4)] []) : ∀ (n : Nat) (x1 : Int32) (x2 : Int32) (x3 : Int32) (x4 : Int32) (x5 : Int32) (Ω : zo_O) (res : zo_R), fn_X2_binds_41 N K3 n x1 x2 x3 x4 x5 Ω = some res → TW Y res Ω 41 [(0, vr 1 0), (1, vi x1), (2, vi x2), (3, vi x3), (4, vi x4), (5, vi x5)] [] := by
  intro n
  induction n with
  | zero => intro x1 x2 x3 x4 x5 Ω res h; exact nomatch (show (none : Option zo_R) = some res from h)
  | succ n ih => intro x1 x2 x3 x4 x5 Ω res h; exact cb_X2_binds_41 hY hJ hCon hr N K3 (fn_X2_binds_41 N K3 n) hK3 ih x1 x2 x3 x4 x5 Ω res h
def fn_X2_binds_36 (N : Nat) (K3 : Int32 → Int32 → Int32 → Int32 → zo_O → Option zo_R) (x1 : Int32) (x2 : Int32) (x3 : Int32) (s0 : Int32) (Ω : zo_O) : Option zo_R :=
  fn_X2_binds_41 N K3 N x1 x2 x3 s0 0 Ω
theorem ct_X2_binds_36 {Y : zo_Y} (hY : zo_Gd Y cX2_binds 6 RX2 2) (hJ : zo_JC (zo_J Y)) (hCon : ∀ Ω, zo_J Y Ω → zo_Con Ω) (hr : zo_rt Y (Option.some Jvm.ClassFile.FieldType.boolean)) (N : Nat) (K3 : Int32 → Int32 → Int32 → Int32 → zo_O → Option zo_R) (hK3 : ∀ (x1 : Int32) (x2 : Int32) (x3 : Int32) (x4 : Int32) (Ω : zo_O) (res : zo_R), K3 x1 x2 x3 x4 Ω = some res → TW Y res Ω 3 [(0, vr 1 0), (1, vi x1), (2, vi x2), (3, vi x3), (4, vi x4)] []) (x1 : Int32) (x2 : Int32) (x3 : Int32) (s0 : Int32) (Ω : zo_O) (res : zo_R) (h : fn_X2_binds_36 N K3 x1 x2 x3 s0 Ω = some res) : TW Y res Ω 36 [(0, vr 1 0), (1, vi x1), (2, vi x2), (3, vi x3)] [vi s0] := by
  unfold fn_X2_binds_36 at h
  refine zo_istore hY dX2_binds_36 (by decide) rfl (ls' := [(4, vi s0), (0, vr 1 0), (1, vi x1), (2, vi x2), (3, vi x3)]) rfl ?_
  refine zo_iconst hY 0 (by decide) dX2_binds_38 ?_
  refine zo_istore hY dX2_binds_39 (by decide) rfl (ls' := [(5, vi 0), (4, vi s0), (0, vr 1 0), (1, vi x1), (2, vi x2), (3, vi x3)]) rfl ?_
  refine zo_sub [2, 3, 4, 5, 1, 0] rfl ?_
  exact ct_X2_binds_41 hY hJ hCon hr N K3 hK3 N x1 x2 x3 s0 0 Ω _ h
def fn_X2_binds_35 (N : Nat) (K3 : Int32 → Int32 → Int32 → Int32 → zo_O → Option zo_R) (x1 : Int32) (x2 : Int32) (x3 : Int32) (Ω : zo_O) : Option zo_R :=
  fn_X2_binds_36 N K3 x1 x2 x3 0 Ω
theorem ct_X2_binds_35 {Y : zo_Y} (hY : zo_Gd Y cX2_binds 6 RX2 2) (hJ : zo_JC (zo_J Y)) (hCon : ∀ Ω, zo_J Y Ω → zo_Con Ω) (hr : zo_rt Y (Option.some Jvm.ClassFile.FieldType.boolean)) (N : Nat) (K3 : Int32 → Int32 → Int32 → Int32 → zo_O → Option zo_R) (hK3 : ∀ (x1 : Int32) (x2 : Int32) (x3 : Int32) (x4 : Int32) (Ω : zo_O) (res : zo_R), K3 x1 x2 x3 x4 Ω = some res → TW Y res Ω 3 [(0, vr 1 0), (1, vi x1), (2, vi x2), (3, vi x3), (4, vi x4)] []) (x1 : Int32) (x2 : Int32) (x3 : Int32) (Ω : zo_O) (res : zo_R) (h : fn_X2_binds_35 N K3 x1 x2 x3 Ω = some res) : TW Y res Ω 35 [(0, vr 1 0), (1, vi x1), (2, vi x2), (3, vi x3)] [] := by
  unfold fn_X2_binds_35 at h
  refine zo_iconst hY 0 (by decide) dX2_binds_35 ?_
  exact ct_X2_binds_36 hY hJ hCon hr N K3 hK3 x1 x2 x3 0 Ω _ h
def bd_X2_binds_3 (N : Nat)  (K3 : Int32 → Int32 → Int32 → Int32 → zo_O → Option zo_R) (x1 : Int32) (x2 : Int32) (x3 : Int32) (x4 : Int32) (Ω : zo_O) : Option zo_R :=
  if x4 = 0 then (
    rZ 1 Ω
    ) else
  if x2 = (-1) then (
    fn_X2_binds_35 N K3 x1 x2 x3 Ω
    ) else
  ci (fn_X2_cuts N x2 x3 0 Ω) fun r4 Ω3 =>
  ci (fn_X2_cuts N x3 x2 0 Ω3) fun r6 Ω5 =>
  if r4 ||| r6 = 0 then (
    fn_X2_binds_35 N K3 x1 x2 x3 Ω5
    ) else
  fn_X2_binds_36 N K3 x1 x2 x3 1 Ω5
theorem cb_X2_binds_3 {Y : zo_Y} (hY : zo_Gd Y cX2_binds 6 RX2 2) (hJ : zo_JC (zo_J Y)) (hCon : ∀ Ω, zo_J Y Ω → zo_Con Ω) (hr : zo_rt Y (Option.some Jvm.ClassFile.FieldType.boolean)) (N : Nat)  (K3 : Int32 → Int32 → Int32 → Int32 → zo_O → Option zo_R)  (hK3 : ∀ (x1 : Int32) (x2 : Int32) (x3 : Int32) (x4 : Int32) (Ω : zo_O) (res : zo_R), K3 x1 x2 x3 x4 Ω = some res → TW Y res Ω 3 [(0, vr 1 0), (1, vi x1), (2, vi x2), (3, vi x3), (4, vi x4)] []) (x1 : Int32) (x2 : Int32) (x3 : Int32) (x4 : Int32) (Ω : zo_O) (res : zo_R) (h : bd_X2_binds_3 N  K3 x1 x2 x3 x4 Ω = some res) : TW Y res Ω 3 [(0, vr 1 0), (1, vi x1), (2, vi x2), (3, vi x3), (4, vi x4)] [] := by
  unfold bd_X2_binds_3 at h
  refine zo_iload hY dX2_binds_3 4 rfl ?_
  refine zo_if_eq hY 147 dX2_binds_5 (by decide) h (fun c1 h => ?_) (fun c1 h => ?_)
  · refine zo_iconst hY 1 (by decide) dX2_binds_147 ?_
    exact zo_zret hY hr dX2_binds_148 h
  · refine zo_iload_n hY dX2_binds_8 rfl 2 rfl ?_
    refine zo_iconst hY (-1) (by decide) dX2_binds_9 ?_
    refine zo_icmp_eq hY 35 dX2_binds_10 (by decide) h (fun c2 h => ?_) (fun c2 h => ?_)
    · refine zo_sub [0, 1, 2, 3] rfl ?_
      exact ct_X2_binds_35 hY hJ hCon hr N K3 hK3 x1 x2 x3 Ω _ h
    · refine zo_aload_n hY dX2_binds_13 rfl 0 rfl ?_
      refine zo_iload_n hY dX2_binds_14 rfl 2 rfl ?_
      refine zo_iload_n hY dX2_binds_15 rfl 3 rfl ?_
      refine zo_iconst hY 0 (by decide) dX2_binds_16 ?_
      refine zo_callV hY (fun q hq => mt_X2_cuts hJ hCon N x2 x3 0 Ω q hq) (by decide) (by decide) (by decide) ⟨rfl, cn_X2_cuts⟩ rfl q1778 q1780 qs74 q82 q1781 (Nat.le_of_ble_eq_true rfl) dX2_binds_17 rfl h (ci_k (fun r4 Ω3 res h => ?_))
      refine zo_aload_n hY dX2_binds_20 rfl 0 rfl ?_
      refine zo_iload_n hY dX2_binds_21 rfl 3 rfl ?_
      refine zo_iload_n hY dX2_binds_22 rfl 2 rfl ?_
      refine zo_iconst hY 0 (by decide) dX2_binds_23 ?_
      refine zo_callV hY (fun q hq => mt_X2_cuts hJ hCon N x3 x2 0 Ω3 q hq) (by decide) (by decide) (by decide) ⟨rfl, cn_X2_cuts⟩ rfl q1778 q1780 qs74 q82 q1781 (Nat.le_of_ble_eq_true rfl) dX2_binds_24 rfl h (ci_k (fun r6 Ω5 res h => ?_))
      refine zo_ior hY dX2_binds_27 ?_
      refine zo_if_eq hY 35 dX2_binds_28 (by decide) h (fun c7 h => ?_) (fun c7 h => ?_)
      · refine zo_sub [0, 1, 2, 3] rfl ?_
        exact ct_X2_binds_35 hY hJ hCon hr N K3 hK3 x1 x2 x3 Ω5 _ h
      · refine zo_iconst hY 1 (by decide) dX2_binds_31 ?_
        refine zo_goto hY 36 dX2_binds_32 (by decide) ?_
        refine zo_sub [0, 1, 2, 3] rfl ?_
        exact ct_X2_binds_36 hY hJ hCon hr N K3 hK3 x1 x2 x3 1 Ω5 _ h
def fn_X2_binds_3 (N : Nat)  : Nat → Int32 → Int32 → Int32 → Int32 → zo_O → Option zo_R
  | 0, _, _, _, _, _ => none
  | n + 1, x1, x2, x3, x4, Ω => bd_X2_binds_3 N  (fn_X2_binds_3 N  n) x1 x2 x3 x4 Ω
theorem ct_X2_binds_3 {Y : zo_Y} (hY : zo_Gd Y cX2_binds 6 RX2 2) (hJ : zo_JC (zo_J Y)) (hCon : ∀ Ω, zo_J Y Ω → zo_Con Ω) (hr : zo_rt Y (Option.some Jvm.ClassFile.FieldType.boolean)) (N : Nat)   : ∀ (n : Nat) (x1 : Int32) (x2 : Int32) (x3 : Int32) (x4 : Int32) (Ω : zo_O) (res : zo_R), fn_X2_binds_3 N  n x1 x2 x3 x4 Ω = some res → TW Y res Ω 3 [(0, vr 1 0), (1, vi x1), (2, vi x2), (3, vi x3), (4, vi x4)] [] := by
  intro n
  induction n with
  | zero => intro x1 x2 x3 x4 Ω res h; exact nomatch (show (none : Option zo_R) = some res from h)
  | succ n ih => intro x1 x2 x3 x4 Ω res h; exact cb_X2_binds_3 hY hJ hCon hr N  (fn_X2_binds_3 N  n)  ih x1 x2 x3 x4 Ω res h
def fn_X2_binds (N : Nat) (x1 : Int32) (x2 : Int32) (x3 : Int32) (Ω : zo_O) : Option zo_R :=
  fn_X2_binds_3 N N x1 x2 x3 1 Ω
theorem mt_X2_binds {G : zo_G} {J : zo_O → Prop} (hJ : zo_JC J) (hCon : ∀ Ω, J Ω → zo_Con Ω) (N : Nat) (x1 : Int32) (x2 : Int32) (x3 : Int32) (Ω : zo_O) (res : zo_R) (h : fn_X2_binds N x1 x2 x3 Ω = some res) : zo_MT G J yX2_binds cX2_binds 6 (Option.some Jvm.ClassFile.FieldType.boolean) 2 [vr 1 0, vi x1, vi x2, vi x3] Ω res := by
  refine zo_enter (by decide) rfl (Nat.le_of_ble_eq_true rfl) (fun Y hY eJ hr hmn => ?_)
  subst eJ
  show TW Y res Ω 0 [(0, vr 1 0), (1, vi x1), (2, vi x2), (3, vi x3)] []
  unfold fn_X2_binds at h
  refine zo_iconst hY 1 (by decide) dX2_binds_0 ?_
  refine zo_istore hY dX2_binds_1 (by decide) rfl (ls' := [(4, vi 1), (0, vr 1 0), (1, vi x1), (2, vi x2), (3, vi x3)]) rfl ?_
  refine zo_sub [1, 2, 3, 4, 0] rfl ?_
  exact ct_X2_binds_3 hY hJ hCon hr N N x1 x2 x3 1 Ω _ h
theorem dX2_isBound_0 : decode cX2_isBound 0 = .ok (.aload_n 0, 1) := by decide +kernel
theorem dX2_isBound_1 : decode cX2_isBound 1 = .ok (.iload_n 1, 1) := by decide +kernel
theorem dX2_isBound_2 : decode cX2_isBound 2 = .ok (.invokevirtual 430, 3) := by decide +kernel
theorem dX2_isBound_5 : decode cX2_isBound 5 = .ok (.ifCond .eq 17, 3) := by decide +kernel
theorem dX2_isBound_8 : decode cX2_isBound 8 = .ok (.aload_n 0, 1) := by decide +kernel
theorem dX2_isBound_9 : decode cX2_isBound 9 = .ok (.iload_n 1, 1) := by decide +kernel
theorem dX2_isBound_10 : decode cX2_isBound 10 = .ok (.iconst (-1), 1) := by decide +kernel
theorem dX2_isBound_11 : decode cX2_isBound 11 = .ok (.iconst (-1), 1) := by decide +kernel
theorem dX2_isBound_12 : decode cX2_isBound 12 = .ok (.invokevirtual 433, 3) := by decide +kernel
theorem dX2_isBound_15 : decode cX2_isBound 15 = .ok (.ifCond .eq 7, 3) := by decide +kernel
theorem dX2_isBound_18 : decode cX2_isBound 18 = .ok (.iconst 1, 1) := by decide +kernel
theorem dX2_isBound_19 : decode cX2_isBound 19 = .ok (.goto 4, 3) := by decide +kernel
theorem dX2_isBound_22 : decode cX2_isBound 22 = .ok (.iconst 0, 1) := by decide +kernel
theorem dX2_isBound_23 : decode cX2_isBound 23 = .ok (.ireturn, 1) := by decide +kernel
def fn_X2_isBound_23 (N : Nat)  (s0 : Int32) (Ω : zo_O) : Option zo_R :=
  rZ s0 Ω
theorem ct_X2_isBound_23 {Y : zo_Y} (hY : zo_Gd Y cX2_isBound 2 RX2 8) (hJ : zo_JC (zo_J Y)) (hCon : ∀ Ω, zo_J Y Ω → zo_Con Ω) (hr : zo_rt Y (Option.some Jvm.ClassFile.FieldType.boolean)) (N : Nat)   (s0 : Int32) (Ω : zo_O) (res : zo_R) (h : fn_X2_isBound_23 N  s0 Ω = some res) : TW Y res Ω 23 [] [vi s0] := by
  unfold fn_X2_isBound_23 at h
  exact zo_zret hY hr dX2_isBound_23 h
def fn_X2_isBound_22 (N : Nat)   (Ω : zo_O) : Option zo_R :=
  fn_X2_isBound_23 N 0 Ω
theorem ct_X2_isBound_22 {Y : zo_Y} (hY : zo_Gd Y cX2_isBound 2 RX2 8) (hJ : zo_JC (zo_J Y)) (hCon : ∀ Ω, zo_J Y Ω → zo_Con Ω) (hr : zo_rt Y (Option.some Jvm.ClassFile.FieldType.boolean)) (N : Nat)    (Ω : zo_O) (res : zo_R) (h : fn_X2_isBound_22 N   Ω = some res) : TW Y res Ω 22 [] [] := by
  unfold fn_X2_isBound_22 at h
  refine zo_iconst hY 0 (by decide) dX2_isBound_22 ?_
  exact ct_X2_isBound_23 hY hJ hCon hr N 0 Ω _ h
def fn_X2_isBound (N : Nat) (x1 : Int32) (Ω : zo_O) : Option zo_R :=
  ci (fn_X2_allSpans N x1 Ω) fun r2 Ω1 =>
  if r2 = 0 then (
    fn_X2_isBound_22 N Ω1
    ) else
  ci (fn_X2_binds N x1 ((-1)) ((-1)) Ω1) fun r5 Ω4 =>
  if r5 = 0 then (
    fn_X2_isBound_22 N Ω4
    ) else
  fn_X2_isBound_23 N 1 Ω4
theorem mt_X2_isBound {G : zo_G} {J : zo_O → Prop} (hJ : zo_JC J) (hCon : ∀ Ω, J Ω → zo_Con Ω) (N : Nat) (x1 : Int32) (Ω : zo_O) (res : zo_R) (h : fn_X2_isBound N x1 Ω = some res) : zo_MT G J yX2_isBound cX2_isBound 2 (Option.some Jvm.ClassFile.FieldType.boolean) 8 [vr 1 0, vi x1] Ω res := by
  refine zo_enter (by decide) rfl (Nat.le_of_ble_eq_true rfl) (fun Y hY eJ hr hmn => ?_)
  subst eJ
  show TW Y res Ω 0 [(0, vr 1 0), (1, vi x1)] []
  unfold fn_X2_isBound at h
  refine zo_aload_n hY dX2_isBound_0 rfl 0 rfl ?_
  refine zo_iload_n hY dX2_isBound_1 rfl 1 rfl ?_
  refine zo_callV hY (fun q hq => mt_X2_allSpans hJ hCon N x1 Ω q hq) (by decide) (by decide) (by decide) ⟨rfl, cn_X2_allSpans⟩ rfl q1770 q1772 qs72 q82 q1773 (Nat.le_of_ble_eq_true rfl) dX2_isBound_2 rfl h (ci_k (fun r2 Ω1 res h => ?_))
  refine zo_if_eq hY 22 dX2_isBound_5 (by decide) h (fun c3 h => ?_) (fun c3 h => ?_)
  · refine zo_sub [] rfl ?_
    exact ct_X2_isBound_22 hY hJ hCon hr N Ω1 _ h
  · refine zo_aload_n hY dX2_isBound_8 rfl 0 rfl ?_
    refine zo_iload_n hY dX2_isBound_9 rfl 1 rfl ?_
    refine zo_iconst hY (-1) (by decide) dX2_isBound_10 ?_
    refine zo_iconst hY (-1) (by decide) dX2_isBound_11 ?_
    refine zo_callV hY (fun q hq => mt_X2_binds hJ hCon N x1 ((-1)) ((-1)) Ω1 q hq) (by decide) (by decide) (by decide) ⟨rfl, cn_X2_binds⟩ rfl q1774 q1776 qs73 q82 q1777 (Nat.le_of_ble_eq_true rfl) dX2_isBound_12 rfl h (ci_k (fun r5 Ω4 res h => ?_))
    refine zo_if_eq hY 22 dX2_isBound_15 (by decide) h (fun c6 h => ?_) (fun c6 h => ?_)
    · refine zo_sub [] rfl ?_
      exact ct_X2_isBound_22 hY hJ hCon hr N Ω4 _ h
    · refine zo_iconst hY 1 (by decide) dX2_isBound_18 ?_
      refine zo_goto hY 23 dX2_isBound_19 (by decide) ?_
      refine zo_sub [] rfl ?_
      exact ct_X2_isBound_23 hY hJ hCon hr N 1 Ω4 _ h
theorem dX2_bound_0 : decode cX2_bound 0 = .ok (.aload_n 0, 1) := by decide +kernel
theorem dX2_bound_1 : decode cX2_bound 1 = .ok (.iconst 0, 1) := by decide +kernel
theorem dX2_bound_2 : decode cX2_bound 2 = .ok (.putfield 187, 3) := by decide +kernel
theorem dX2_bound_5 : decode cX2_bound 5 = .ok (.aload_n 0, 1) := by decide +kernel
theorem dX2_bound_6 : decode cX2_bound 6 = .ok (.iload_n 1, 1) := by decide +kernel
theorem dX2_bound_7 : decode cX2_bound 7 = .ok (.invokevirtual 207, 3) := by decide +kernel
theorem dX2_bound_10 : decode cX2_bound 10 = .ok (.ifCond .eq 29, 3) := by decide +kernel
theorem dX2_bound_13 : decode cX2_bound 13 = .ok (.aload_n 0, 1) := by decide +kernel
theorem dX2_bound_14 : decode cX2_bound 14 = .ok (.iload_n 2, 1) := by decide +kernel
theorem dX2_bound_15 : decode cX2_bound 15 = .ok (.invokevirtual 337, 3) := by decide +kernel
theorem dX2_bound_18 : decode cX2_bound 18 = .ok (.ifCond .eq 21, 3) := by decide +kernel
theorem dX2_bound_21 : decode cX2_bound 21 = .ok (.aload_n 0, 1) := by decide +kernel
theorem dX2_bound_22 : decode cX2_bound 22 = .ok (.iload_n 1, 1) := by decide +kernel
theorem dX2_bound_23 : decode cX2_bound 23 = .ok (.iload_n 2, 1) := by decide +kernel
theorem dX2_bound_24 : decode cX2_bound 24 = .ok (.invokevirtual 421, 3) := by decide +kernel
theorem dX2_bound_27 : decode cX2_bound 27 = .ok (.ifCond .eq 12, 3) := by decide +kernel
theorem dX2_bound_30 : decode cX2_bound 30 = .ok (.iload_n 3, 1) := by decide +kernel
theorem dX2_bound_31 : decode cX2_bound 31 = .ok (.iconst 0, 1) := by decide +kernel
theorem dX2_bound_32 : decode cX2_bound 32 = .ok (.iconst 1, 1) := by decide +kernel
theorem dX2_bound_33 : decode cX2_bound 33 = .ok (.invokestatic 190, 3) := by decide +kernel
theorem dX2_bound_36 : decode cX2_bound 36 = .ok (.ifCond .ne 5, 3) := by decide +kernel
theorem dX2_bound_39 : decode cX2_bound 39 = .ok (.iconst (-1), 1) := by decide +kernel
theorem dX2_bound_40 : decode cX2_bound 40 = .ok (.ireturn, 1) := by decide +kernel
theorem dX2_bound_41 : decode cX2_bound 41 = .ok (.aload_n 0, 1) := by decide +kernel
theorem dX2_bound_42 : decode cX2_bound 42 = .ok (.iload_n 2, 1) := by decide +kernel
theorem dX2_bound_43 : decode cX2_bound 43 = .ok (.invokevirtual 436, 3) := by decide +kernel
theorem dX2_bound_46 : decode cX2_bound 46 = .ok (.ifCond .ne 6, 3) := by decide +kernel
theorem dX2_bound_49 : decode cX2_bound 49 = .ok (.bipush (-2), 2) := by decide +kernel
theorem dX2_bound_51 : decode cX2_bound 51 = .ok (.ireturn, 1) := by decide +kernel
theorem dX2_bound_52 : decode cX2_bound 52 = .ok (.iload_n 3, 1) := by decide +kernel
theorem dX2_bound_53 : decode cX2_bound 53 = .ok (.ifCond .ne 12, 3) := by decide +kernel
theorem dX2_bound_56 : decode cX2_bound 56 = .ok (.aload_n 0, 1) := by decide +kernel
theorem dX2_bound_57 : decode cX2_bound 57 = .ok (.getfield 178, 3) := by decide +kernel
theorem dX2_bound_60 : decode cX2_bound 60 = .ok (.iload_n 1, 1) := by decide +kernel
theorem dX2_bound_61 : decode cX2_bound 61 = .ok (.iaload, 1) := by decide +kernel
theorem dX2_bound_62 : decode cX2_bound 62 = .ok (.goto 9, 3) := by decide +kernel
theorem dX2_bound_65 : decode cX2_bound 65 = .ok (.aload_n 0, 1) := by decide +kernel
theorem dX2_bound_66 : decode cX2_bound 66 = .ok (.getfield 181, 3) := by decide +kernel
theorem dX2_bound_69 : decode cX2_bound 69 = .ok (.iload_n 1, 1) := by decide +kernel
theorem dX2_bound_70 : decode cX2_bound 70 = .ok (.iaload, 1) := by decide +kernel
theorem dX2_bound_71 : decode cX2_bound 71 = .ok (.ireturn, 1) := by decide +kernel
def fn_X2_bound_39 (N : Nat)   (Ω : zo_O) : Option zo_R :=
  rI ((-1)) Ω
theorem ct_X2_bound_39 {Y : zo_Y} (hY : zo_Gd Y cX2_bound 4 RX2 9) (hJ : zo_JC (zo_J Y)) (hCon : ∀ Ω, zo_J Y Ω → zo_Con Ω) (hr : zo_rt Y (Option.some Jvm.ClassFile.FieldType.int)) (N : Nat)    (Ω : zo_O) (res : zo_R) (h : fn_X2_bound_39 N   Ω = some res) : TW Y res Ω 39 [] [] := by
  unfold fn_X2_bound_39 at h
  refine zo_iconst hY (-1) (by decide) dX2_bound_39 ?_
  exact zo_iret hY hr dX2_bound_40 h
def fn_X2_bound_71 (N : Nat)  (s0 : Int32) (Ω : zo_O) : Option zo_R :=
  rI s0 Ω
theorem ct_X2_bound_71 {Y : zo_Y} (hY : zo_Gd Y cX2_bound 4 RX2 9) (hJ : zo_JC (zo_J Y)) (hCon : ∀ Ω, zo_J Y Ω → zo_Con Ω) (hr : zo_rt Y (Option.some Jvm.ClassFile.FieldType.int)) (N : Nat)   (s0 : Int32) (Ω : zo_O) (res : zo_R) (h : fn_X2_bound_71 N  s0 Ω = some res) : TW Y res Ω 71 [] [vi s0] := by
  unfold fn_X2_bound_71 at h
  exact zo_iret hY hr dX2_bound_71 h
def fn_X2_bound (N : Nat) (x1 : Int32) (x2 : Int32) (x3 : Int32) (Ω : zo_O) : Option zo_R :=
  lt (sI Ω 1 0 0 0) fun Ω1 =>
  ci (fn_X2_isSite N x1 Ω1) fun r3 Ω2 =>
  if r3 = 0 then (
    fn_X2_bound_39 N Ω2
    ) else
  ci (fn_X2_isKnown N x2 Ω2) fun r6 Ω5 =>
  if r6 = 0 then (
    fn_X2_bound_39 N Ω5
    ) else
  ci (fn_X2_isThere N x1 x2 Ω5) fun r9 Ω8 =>
  if r9 = 0 then (
    fn_X2_bound_39 N Ω8
    ) else
  ci (fn_X2_within N x3 0 1 Ω8) fun r12 Ω11 =>
  if r12 = 0 then (
    fn_X2_bound_39 N Ω11
    ) else
  ci (fn_X2_isBound N x2 Ω11) fun r15 Ω14 =>
  if r15 = 0 then (
    rI ((-2)) Ω14
    ) else
  if x3 = 0 then (
    ix x1 14 fun j18 =>
    fn_X2_bound_71 N (gI Ω14 32 45 j18) Ω14
    ) else
  ix x1 14 fun j19 =>
  fn_X2_bound_71 N (gI Ω14 32 46 j19) Ω14
theorem mt_X2_bound {G : zo_G} {J : zo_O → Prop} (hJ : zo_JC J) (hCon : ∀ Ω, J Ω → zo_Con Ω) (N : Nat) (x1 : Int32) (x2 : Int32) (x3 : Int32) (Ω : zo_O) (res : zo_R) (h : fn_X2_bound N x1 x2 x3 Ω = some res) : zo_MT G J yX2_bound cX2_bound 4 (Option.some Jvm.ClassFile.FieldType.int) 9 [vr 1 0, vi x1, vi x2, vi x3] Ω res := by
  refine zo_enter (by decide) rfl (Nat.le_of_ble_eq_true rfl) (fun Y hY eJ hr hmn => ?_)
  subst eJ
  show TW Y res Ω 0 [(0, vr 1 0), (1, vi x1), (2, vi x2), (3, vi x3)] []
  unfold fn_X2_bound at h
  refine zo_aload_n hY dX2_bound_0 rfl 0 rfl ?_
  refine zo_iconst hY 0 (by decide) dX2_bound_1 ?_
  refine zo_putI hY hJ LX2_187_1 rfl (Or.inl rfl) dX2_bound_2 h (fun Ω1 h => ?_)
  refine zo_aload_n hY dX2_bound_5 rfl 0 rfl ?_
  refine zo_iload_n hY dX2_bound_6 rfl 1 rfl ?_
  refine zo_callV hY (fun q hq => mt_X2_isSite hJ hCon N x1 Ω1 q hq) (by decide) (by decide) (by decide) ⟨rfl, cn_X2_isSite⟩ rfl q1531 q1533 qs39 q82 q1534 (Nat.le_of_ble_eq_true rfl) dX2_bound_7 rfl h (ci_k (fun r3 Ω2 res h => ?_))
  refine zo_if_eq hY 39 dX2_bound_10 (by decide) h (fun c4 h => ?_) (fun c4 h => ?_)
  · refine zo_sub [] rfl ?_
    exact ct_X2_bound_39 hY hJ hCon hr N Ω2 _ h
  · refine zo_aload_n hY dX2_bound_13 rfl 0 rfl ?_
    refine zo_iload_n hY dX2_bound_14 rfl 2 rfl ?_
    refine zo_callV hY (fun q hq => mt_X2_isKnown hJ hCon N x2 Ω2 q hq) (by decide) (by decide) (by decide) ⟨rfl, cn_X2_isKnown⟩ rfl q1649 q1651 qs49 q82 q1652 (Nat.le_of_ble_eq_true rfl) dX2_bound_15 rfl h (ci_k (fun r6 Ω5 res h => ?_))
    refine zo_if_eq hY 39 dX2_bound_18 (by decide) h (fun c7 h => ?_) (fun c7 h => ?_)
    · refine zo_sub [] rfl ?_
      exact ct_X2_bound_39 hY hJ hCon hr N Ω5 _ h
    · refine zo_aload_n hY dX2_bound_21 rfl 0 rfl ?_
      refine zo_iload_n hY dX2_bound_22 rfl 1 rfl ?_
      refine zo_iload_n hY dX2_bound_23 rfl 2 rfl ?_
      refine zo_callV hY (fun q hq => mt_X2_isThere hJ hCon N x1 x2 Ω5 q hq) (by decide) (by decide) (by decide) ⟨rfl, cn_X2_isThere⟩ rfl q1742 q1744 qs66 q82 q1745 (Nat.le_of_ble_eq_true rfl) dX2_bound_24 rfl h (ci_k (fun r9 Ω8 res h => ?_))
      refine zo_if_eq hY 39 dX2_bound_27 (by decide) h (fun c10 h => ?_) (fun c10 h => ?_)
      · refine zo_sub [] rfl ?_
        exact ct_X2_bound_39 hY hJ hCon hr N Ω8 _ h
      · refine zo_iload_n hY dX2_bound_30 rfl 3 rfl ?_
        refine zo_iconst hY 0 (by decide) dX2_bound_31 ?_
        refine zo_iconst hY 1 (by decide) dX2_bound_32 ?_
        refine zo_callS hY (fun q hq => mt_X2_within hJ hCon N x3 0 1 Ω8 q hq) (by decide) (by decide) cn_X2_within rfl q1521 q1522 q82 q1523 (Nat.le_of_ble_eq_true rfl) dX2_bound_33 rfl h (ci_k (fun r12 Ω11 res h => ?_))
        refine zo_if_ne hY 41 dX2_bound_36 (by decide) h (fun c13 h => ?_) (fun c13 h => ?_)
        · refine zo_sub [] rfl ?_
          exact ct_X2_bound_39 hY hJ hCon hr N Ω11 _ h
        · refine zo_aload_n hY dX2_bound_41 rfl 0 rfl ?_
          refine zo_iload_n hY dX2_bound_42 rfl 2 rfl ?_
          refine zo_callV hY (fun q hq => mt_X2_isBound hJ hCon N x2 Ω11 q hq) (by decide) (by decide) (by decide) ⟨rfl, cn_X2_isBound⟩ rfl q1766 q1768 qs71 q82 q1769 (Nat.le_of_ble_eq_true rfl) dX2_bound_43 rfl h (ci_k (fun r15 Ω14 res h => ?_))
          refine zo_if_ne hY 52 dX2_bound_46 (by decide) h (fun c16 h => ?_) (fun c16 h => ?_)
          · refine zo_bipush hY (-2) (by decide) dX2_bound_49 ?_
            exact zo_iret hY hr dX2_bound_51 h
          · refine zo_iload_n hY dX2_bound_52 rfl 3 rfl ?_
            refine zo_if_ne hY 65 dX2_bound_53 (by decide) h (fun c17 h => ?_) (fun c17 h => ?_)
            · refine zo_aload_n hY dX2_bound_56 rfl 0 rfl ?_
              refine zo_getC hY LX2_178_1 rfl (fun Ω q => (hCon Ω q).2.1 77 _ rfl) dX2_bound_57 ?_
              refine zo_iload_n hY dX2_bound_60 rfl 1 rfl ?_
              refine zo_ald hY (by decide) (Or.inl ⟨rfl, dX2_bound_61⟩) (fun q => (hCon _ q).2.2.2 32 45 14 rfl) h (fun j18 h => ?_)
              refine zo_goto hY 71 dX2_bound_62 (by decide) ?_
              refine zo_sub [] rfl ?_
              exact ct_X2_bound_71 hY hJ hCon hr N (gI Ω14 32 45 j18) Ω14 _ h
            · refine zo_aload_n hY dX2_bound_65 rfl 0 rfl ?_
              refine zo_getC hY LX2_181_1 rfl (fun Ω q => (hCon Ω q).2.1 78 _ rfl) dX2_bound_66 ?_
              refine zo_iload_n hY dX2_bound_69 rfl 1 rfl ?_
              refine zo_ald hY (by decide) (Or.inl ⟨rfl, dX2_bound_70⟩) (fun q => (hCon _ q).2.2.2 32 46 14 rfl) h (fun j19 h => ?_)
              refine zo_sub [] rfl ?_
              exact ct_X2_bound_71 hY hJ hCon hr N (gI Ω14 32 46 j19) Ω14 _ h
theorem dX2_same_0 : decode cX2_same 0 = .ok (.aload_n 0, 1) := by decide +kernel
theorem dX2_same_1 : decode cX2_same 1 = .ok (.iconst 0, 1) := by decide +kernel
theorem dX2_same_2 : decode cX2_same 2 = .ok (.putfield 187, 3) := by decide +kernel
theorem dX2_same_5 : decode cX2_same 5 = .ok (.aload_n 0, 1) := by decide +kernel
theorem dX2_same_6 : decode cX2_same 6 = .ok (.iload_n 1, 1) := by decide +kernel
theorem dX2_same_7 : decode cX2_same 7 = .ok (.invokevirtual 207, 3) := by decide +kernel
theorem dX2_same_10 : decode cX2_same 10 = .ok (.ifCond .eq 42, 3) := by decide +kernel
theorem dX2_same_13 : decode cX2_same 13 = .ok (.aload_n 0, 1) := by decide +kernel
theorem dX2_same_14 : decode cX2_same 14 = .ok (.iload_n 2, 1) := by decide +kernel
theorem dX2_same_15 : decode cX2_same 15 = .ok (.invokevirtual 207, 3) := by decide +kernel
theorem dX2_same_18 : decode cX2_same 18 = .ok (.ifCond .eq 34, 3) := by decide +kernel
theorem dX2_same_21 : decode cX2_same 21 = .ok (.iload_n 1, 1) := by decide +kernel
theorem dX2_same_22 : decode cX2_same 22 = .ok (.iload_n 2, 1) := by decide +kernel
theorem dX2_same_23 : decode cX2_same 23 = .ok (.if_icmp .eq 29, 3) := by decide +kernel
theorem dX2_same_26 : decode cX2_same 26 = .ok (.aload_n 0, 1) := by decide +kernel
theorem dX2_same_27 : decode cX2_same 27 = .ok (.iload_n 3, 1) := by decide +kernel
theorem dX2_same_28 : decode cX2_same 28 = .ok (.invokevirtual 337, 3) := by decide +kernel
theorem dX2_same_31 : decode cX2_same 31 = .ok (.ifCond .eq 21, 3) := by decide +kernel
theorem dX2_same_34 : decode cX2_same 34 = .ok (.aload_n 0, 1) := by decide +kernel
theorem dX2_same_35 : decode cX2_same 35 = .ok (.iload_n 1, 1) := by decide +kernel
theorem dX2_same_36 : decode cX2_same 36 = .ok (.iload_n 3, 1) := by decide +kernel
theorem dX2_same_37 : decode cX2_same 37 = .ok (.invokevirtual 421, 3) := by decide +kernel
theorem dX2_same_40 : decode cX2_same 40 = .ok (.ifCond .eq 12, 3) := by decide +kernel
theorem dX2_same_43 : decode cX2_same 43 = .ok (.aload_n 0, 1) := by decide +kernel
theorem dX2_same_44 : decode cX2_same 44 = .ok (.iload_n 2, 1) := by decide +kernel
theorem dX2_same_45 : decode cX2_same 45 = .ok (.iload_n 3, 1) := by decide +kernel
theorem dX2_same_46 : decode cX2_same 46 = .ok (.invokevirtual 421, 3) := by decide +kernel
theorem dX2_same_49 : decode cX2_same 49 = .ok (.ifCond .ne 5, 3) := by decide +kernel
theorem dX2_same_52 : decode cX2_same 52 = .ok (.iconst (-1), 1) := by decide +kernel
theorem dX2_same_53 : decode cX2_same 53 = .ok (.ireturn, 1) := by decide +kernel
theorem dX2_same_54 : decode cX2_same 54 = .ok (.aload_n 0, 1) := by decide +kernel
theorem dX2_same_55 : decode cX2_same 55 = .ok (.iload_n 3, 1) := by decide +kernel
theorem dX2_same_56 : decode cX2_same 56 = .ok (.invokevirtual 436, 3) := by decide +kernel
theorem dX2_same_59 : decode cX2_same 59 = .ok (.ifCond .ne 6, 3) := by decide +kernel
theorem dX2_same_62 : decode cX2_same 62 = .ok (.bipush (-2), 2) := by decide +kernel
theorem dX2_same_64 : decode cX2_same 64 = .ok (.ireturn, 1) := by decide +kernel
theorem dX2_same_65 : decode cX2_same 65 = .ok (.aload_n 0, 1) := by decide +kernel
theorem dX2_same_66 : decode cX2_same 66 = .ok (.iload_n 3, 1) := by decide +kernel
theorem dX2_same_67 : decode cX2_same 67 = .ok (.iload_n 1, 1) := by decide +kernel
theorem dX2_same_68 : decode cX2_same 68 = .ok (.iload_n 2, 1) := by decide +kernel
theorem dX2_same_69 : decode cX2_same 69 = .ok (.invokevirtual 433, 3) := by decide +kernel
theorem dX2_same_72 : decode cX2_same 72 = .ok (.ifCond .eq 7, 3) := by decide +kernel
theorem dX2_same_75 : decode cX2_same 75 = .ok (.iconst 1, 1) := by decide +kernel
theorem dX2_same_76 : decode cX2_same 76 = .ok (.goto 4, 3) := by decide +kernel
theorem dX2_same_79 : decode cX2_same 79 = .ok (.iconst 0, 1) := by decide +kernel
theorem dX2_same_80 : decode cX2_same 80 = .ok (.ireturn, 1) := by decide +kernel
def fn_X2_same_52 (N : Nat)   (Ω : zo_O) : Option zo_R :=
  rI ((-1)) Ω
theorem ct_X2_same_52 {Y : zo_Y} (hY : zo_Gd Y cX2_same 4 RX2 9) (hJ : zo_JC (zo_J Y)) (hCon : ∀ Ω, zo_J Y Ω → zo_Con Ω) (hr : zo_rt Y (Option.some Jvm.ClassFile.FieldType.int)) (N : Nat)    (Ω : zo_O) (res : zo_R) (h : fn_X2_same_52 N   Ω = some res) : TW Y res Ω 52 [] [] := by
  unfold fn_X2_same_52 at h
  refine zo_iconst hY (-1) (by decide) dX2_same_52 ?_
  exact zo_iret hY hr dX2_same_53 h
def fn_X2_same_80 (N : Nat)  (s0 : Int32) (Ω : zo_O) : Option zo_R :=
  rI s0 Ω
theorem ct_X2_same_80 {Y : zo_Y} (hY : zo_Gd Y cX2_same 4 RX2 9) (hJ : zo_JC (zo_J Y)) (hCon : ∀ Ω, zo_J Y Ω → zo_Con Ω) (hr : zo_rt Y (Option.some Jvm.ClassFile.FieldType.int)) (N : Nat)   (s0 : Int32) (Ω : zo_O) (res : zo_R) (h : fn_X2_same_80 N  s0 Ω = some res) : TW Y res Ω 80 [] [vi s0] := by
  unfold fn_X2_same_80 at h
  exact zo_iret hY hr dX2_same_80 h
def fn_X2_same (N : Nat) (x1 : Int32) (x2 : Int32) (x3 : Int32) (Ω : zo_O) : Option zo_R :=
  lt (sI Ω 1 0 0 0) fun Ω1 =>
  ci (fn_X2_isSite N x1 Ω1) fun r3 Ω2 =>
  if r3 = 0 then (
    fn_X2_same_52 N Ω2
    ) else
  ci (fn_X2_isSite N x2 Ω2) fun r6 Ω5 =>
  if r6 = 0 then (
    fn_X2_same_52 N Ω5
    ) else
  if x1 = x2 then (
    fn_X2_same_52 N Ω5
    ) else
  ci (fn_X2_isKnown N x3 Ω5) fun r10 Ω9 =>
  if r10 = 0 then (
    fn_X2_same_52 N Ω9
    ) else
  ci (fn_X2_isThere N x1 x3 Ω9) fun r13 Ω12 =>
  if r13 = 0 then (
    fn_X2_same_52 N Ω12
    ) else
  ci (fn_X2_isThere N x2 x3 Ω12) fun r16 Ω15 =>
  if r16 = 0 then (
    fn_X2_same_52 N Ω15
    ) else
  ci (fn_X2_isBound N x3 Ω15) fun r19 Ω18 =>
  if r19 = 0 then (
    rI ((-2)) Ω18
    ) else
  ci (fn_X2_binds N x3 x1 x2 Ω18) fun r22 Ω21 =>
  if r22 = 0 then (
    fn_X2_same_80 N 0 Ω21
    ) else
  fn_X2_same_80 N 1 Ω21
theorem mt_X2_same {G : zo_G} {J : zo_O → Prop} (hJ : zo_JC J) (hCon : ∀ Ω, J Ω → zo_Con Ω) (N : Nat) (x1 : Int32) (x2 : Int32) (x3 : Int32) (Ω : zo_O) (res : zo_R) (h : fn_X2_same N x1 x2 x3 Ω = some res) : zo_MT G J yX2_same cX2_same 4 (Option.some Jvm.ClassFile.FieldType.int) 9 [vr 1 0, vi x1, vi x2, vi x3] Ω res := by
  refine zo_enter (by decide) rfl (Nat.le_of_ble_eq_true rfl) (fun Y hY eJ hr hmn => ?_)
  subst eJ
  show TW Y res Ω 0 [(0, vr 1 0), (1, vi x1), (2, vi x2), (3, vi x3)] []
  unfold fn_X2_same at h
  refine zo_aload_n hY dX2_same_0 rfl 0 rfl ?_
  refine zo_iconst hY 0 (by decide) dX2_same_1 ?_
  refine zo_putI hY hJ LX2_187_1 rfl (Or.inl rfl) dX2_same_2 h (fun Ω1 h => ?_)
  refine zo_aload_n hY dX2_same_5 rfl 0 rfl ?_
  refine zo_iload_n hY dX2_same_6 rfl 1 rfl ?_
  refine zo_callV hY (fun q hq => mt_X2_isSite hJ hCon N x1 Ω1 q hq) (by decide) (by decide) (by decide) ⟨rfl, cn_X2_isSite⟩ rfl q1531 q1533 qs39 q82 q1534 (Nat.le_of_ble_eq_true rfl) dX2_same_7 rfl h (ci_k (fun r3 Ω2 res h => ?_))
  refine zo_if_eq hY 52 dX2_same_10 (by decide) h (fun c4 h => ?_) (fun c4 h => ?_)
  · refine zo_sub [] rfl ?_
    exact ct_X2_same_52 hY hJ hCon hr N Ω2 _ h
  · refine zo_aload_n hY dX2_same_13 rfl 0 rfl ?_
    refine zo_iload_n hY dX2_same_14 rfl 2 rfl ?_
    refine zo_callV hY (fun q hq => mt_X2_isSite hJ hCon N x2 Ω2 q hq) (by decide) (by decide) (by decide) ⟨rfl, cn_X2_isSite⟩ rfl q1531 q1533 qs39 q82 q1534 (Nat.le_of_ble_eq_true rfl) dX2_same_15 rfl h (ci_k (fun r6 Ω5 res h => ?_))
    refine zo_if_eq hY 52 dX2_same_18 (by decide) h (fun c7 h => ?_) (fun c7 h => ?_)
    · refine zo_sub [] rfl ?_
      exact ct_X2_same_52 hY hJ hCon hr N Ω5 _ h
    · refine zo_iload_n hY dX2_same_21 rfl 1 rfl ?_
      refine zo_iload_n hY dX2_same_22 rfl 2 rfl ?_
      refine zo_icmp_eq hY 52 dX2_same_23 (by decide) h (fun c8 h => ?_) (fun c8 h => ?_)
      · refine zo_sub [] rfl ?_
        exact ct_X2_same_52 hY hJ hCon hr N Ω5 _ h
      · refine zo_aload_n hY dX2_same_26 rfl 0 rfl ?_
        refine zo_iload_n hY dX2_same_27 rfl 3 rfl ?_
        refine zo_callV hY (fun q hq => mt_X2_isKnown hJ hCon N x3 Ω5 q hq) (by decide) (by decide) (by decide) ⟨rfl, cn_X2_isKnown⟩ rfl q1649 q1651 qs49 q82 q1652 (Nat.le_of_ble_eq_true rfl) dX2_same_28 rfl h (ci_k (fun r10 Ω9 res h => ?_))
        refine zo_if_eq hY 52 dX2_same_31 (by decide) h (fun c11 h => ?_) (fun c11 h => ?_)
        · refine zo_sub [] rfl ?_
          exact ct_X2_same_52 hY hJ hCon hr N Ω9 _ h
        · refine zo_aload_n hY dX2_same_34 rfl 0 rfl ?_
          refine zo_iload_n hY dX2_same_35 rfl 1 rfl ?_
          refine zo_iload_n hY dX2_same_36 rfl 3 rfl ?_
          refine zo_callV hY (fun q hq => mt_X2_isThere hJ hCon N x1 x3 Ω9 q hq) (by decide) (by decide) (by decide) ⟨rfl, cn_X2_isThere⟩ rfl q1742 q1744 qs66 q82 q1745 (Nat.le_of_ble_eq_true rfl) dX2_same_37 rfl h (ci_k (fun r13 Ω12 res h => ?_))
          refine zo_if_eq hY 52 dX2_same_40 (by decide) h (fun c14 h => ?_) (fun c14 h => ?_)
          · refine zo_sub [] rfl ?_
            exact ct_X2_same_52 hY hJ hCon hr N Ω12 _ h
          · refine zo_aload_n hY dX2_same_43 rfl 0 rfl ?_
            refine zo_iload_n hY dX2_same_44 rfl 2 rfl ?_
            refine zo_iload_n hY dX2_same_45 rfl 3 rfl ?_
            refine zo_callV hY (fun q hq => mt_X2_isThere hJ hCon N x2 x3 Ω12 q hq) (by decide) (by decide) (by decide) ⟨rfl, cn_X2_isThere⟩ rfl q1742 q1744 qs66 q82 q1745 (Nat.le_of_ble_eq_true rfl) dX2_same_46 rfl h (ci_k (fun r16 Ω15 res h => ?_))
            refine zo_if_ne hY 54 dX2_same_49 (by decide) h (fun c17 h => ?_) (fun c17 h => ?_)
            · refine zo_sub [] rfl ?_
              exact ct_X2_same_52 hY hJ hCon hr N Ω15 _ h
            · refine zo_aload_n hY dX2_same_54 rfl 0 rfl ?_
              refine zo_iload_n hY dX2_same_55 rfl 3 rfl ?_
              refine zo_callV hY (fun q hq => mt_X2_isBound hJ hCon N x3 Ω15 q hq) (by decide) (by decide) (by decide) ⟨rfl, cn_X2_isBound⟩ rfl q1766 q1768 qs71 q82 q1769 (Nat.le_of_ble_eq_true rfl) dX2_same_56 rfl h (ci_k (fun r19 Ω18 res h => ?_))
              refine zo_if_ne hY 65 dX2_same_59 (by decide) h (fun c20 h => ?_) (fun c20 h => ?_)
              · refine zo_bipush hY (-2) (by decide) dX2_same_62 ?_
                exact zo_iret hY hr dX2_same_64 h
              · refine zo_aload_n hY dX2_same_65 rfl 0 rfl ?_
                refine zo_iload_n hY dX2_same_66 rfl 3 rfl ?_
                refine zo_iload_n hY dX2_same_67 rfl 1 rfl ?_
                refine zo_iload_n hY dX2_same_68 rfl 2 rfl ?_
                refine zo_callV hY (fun q hq => mt_X2_binds hJ hCon N x3 x1 x2 Ω18 q hq) (by decide) (by decide) (by decide) ⟨rfl, cn_X2_binds⟩ rfl q1774 q1776 qs73 q82 q1777 (Nat.le_of_ble_eq_true rfl) dX2_same_69 rfl h (ci_k (fun r22 Ω21 res h => ?_))
                refine zo_if_eq hY 79 dX2_same_72 (by decide) h (fun c23 h => ?_) (fun c23 h => ?_)
                · refine zo_iconst hY 0 (by decide) dX2_same_79 ?_
                  refine zo_sub [] rfl ?_
                  exact ct_X2_same_80 hY hJ hCon hr N 0 Ω21 _ h
                · refine zo_iconst hY 1 (by decide) dX2_same_75 ?_
                  refine zo_goto hY 80 dX2_same_76 (by decide) ?_
                  refine zo_sub [] rfl ?_
                  exact ct_X2_same_80 hY hJ hCon hr N 1 Ω21 _ h
theorem dX2_claim_0 : decode cX2_claim 0 = .ok (.aload_n 0, 1) := by decide +kernel
theorem dX2_claim_1 : decode cX2_claim 1 = .ok (.iconst 0, 1) := by decide +kernel
theorem dX2_claim_2 : decode cX2_claim 2 = .ok (.putfield 187, 3) := by decide +kernel
theorem dX2_claim_5 : decode cX2_claim 5 = .ok (.aload_n 0, 1) := by decide +kernel
theorem dX2_claim_6 : decode cX2_claim 6 = .ok (.iload_n 1, 1) := by decide +kernel
theorem dX2_claim_7 : decode cX2_claim 7 = .ok (.invokevirtual 207, 3) := by decide +kernel
theorem dX2_claim_10 : decode cX2_claim 10 = .ok (.ifCond .eq 27, 3) := by decide +kernel
theorem dX2_claim_13 : decode cX2_claim 13 = .ok (.iload_n 2, 1) := by decide +kernel
theorem dX2_claim_14 : decode cX2_claim 14 = .ok (.invokestatic 203, 3) := by decide +kernel
theorem dX2_claim_17 : decode cX2_claim 17 = .ok (.ifCond .eq 20, 3) := by decide +kernel
theorem dX2_claim_20 : decode cX2_claim 20 = .ok (.aload_n 0, 1) := by decide +kernel
theorem dX2_claim_21 : decode cX2_claim 21 = .ok (.iload_n 3, 1) := by decide +kernel
theorem dX2_claim_22 : decode cX2_claim 22 = .ok (.invokevirtual 337, 3) := by decide +kernel
theorem dX2_claim_25 : decode cX2_claim 25 = .ok (.ifCond .eq 12, 3) := by decide +kernel
theorem dX2_claim_28 : decode cX2_claim 28 = .ok (.aload_n 0, 1) := by decide +kernel
theorem dX2_claim_29 : decode cX2_claim 29 = .ok (.iload_n 1, 1) := by decide +kernel
theorem dX2_claim_30 : decode cX2_claim 30 = .ok (.iload_n 3, 1) := by decide +kernel
theorem dX2_claim_31 : decode cX2_claim 31 = .ok (.invokevirtual 421, 3) := by decide +kernel
theorem dX2_claim_34 : decode cX2_claim 34 = .ok (.ifCond .ne 5, 3) := by decide +kernel
theorem dX2_claim_37 : decode cX2_claim 37 = .ok (.iconst (-1), 1) := by decide +kernel
theorem dX2_claim_38 : decode cX2_claim 38 = .ok (.ireturn, 1) := by decide +kernel
theorem dX2_claim_39 : decode cX2_claim 39 = .ok (.aload_n 0, 1) := by decide +kernel
theorem dX2_claim_40 : decode cX2_claim 40 = .ok (.iload_n 3, 1) := by decide +kernel
theorem dX2_claim_41 : decode cX2_claim 41 = .ok (.invokevirtual 436, 3) := by decide +kernel
theorem dX2_claim_44 : decode cX2_claim 44 = .ok (.ifCond .ne 6, 3) := by decide +kernel
theorem dX2_claim_47 : decode cX2_claim 47 = .ok (.bipush (-2), 2) := by decide +kernel
theorem dX2_claim_49 : decode cX2_claim 49 = .ok (.ireturn, 1) := by decide +kernel
theorem dX2_claim_50 : decode cX2_claim 50 = .ok (.iload_n 2, 1) := by decide +kernel
theorem dX2_claim_51 : decode cX2_claim 51 = .ok (.aload_n 0, 1) := by decide +kernel
theorem dX2_claim_52 : decode cX2_claim 52 = .ok (.getfield 178, 3) := by decide +kernel
theorem dX2_claim_55 : decode cX2_claim 55 = .ok (.iload_n 1, 1) := by decide +kernel
theorem dX2_claim_56 : decode cX2_claim 56 = .ok (.iaload, 1) := by decide +kernel
theorem dX2_claim_57 : decode cX2_claim 57 = .ok (.aload_n 0, 1) := by decide +kernel
theorem dX2_claim_58 : decode cX2_claim 58 = .ok (.getfield 181, 3) := by decide +kernel
theorem dX2_claim_61 : decode cX2_claim 61 = .ok (.iload_n 1, 1) := by decide +kernel
theorem dX2_claim_62 : decode cX2_claim 62 = .ok (.iaload, 1) := by decide +kernel
theorem dX2_claim_63 : decode cX2_claim 63 = .ok (.invokestatic 190, 3) := by decide +kernel
theorem dX2_claim_66 : decode cX2_claim 66 = .ok (.ifCond .ne 5, 3) := by decide +kernel
theorem dX2_claim_69 : decode cX2_claim 69 = .ok (.iconst 0, 1) := by decide +kernel
theorem dX2_claim_70 : decode cX2_claim 70 = .ok (.ireturn, 1) := by decide +kernel
theorem dX2_claim_71 : decode cX2_claim 71 = .ok (.aload_n 0, 1) := by decide +kernel
theorem dX2_claim_72 : decode cX2_claim 72 = .ok (.getfield 178, 3) := by decide +kernel
theorem dX2_claim_75 : decode cX2_claim 75 = .ok (.iload_n 1, 1) := by decide +kernel
theorem dX2_claim_76 : decode cX2_claim 76 = .ok (.iload_n 2, 1) := by decide +kernel
theorem dX2_claim_77 : decode cX2_claim 77 = .ok (.iastore, 1) := by decide +kernel
theorem dX2_claim_78 : decode cX2_claim 78 = .ok (.aload_n 0, 1) := by decide +kernel
theorem dX2_claim_79 : decode cX2_claim 79 = .ok (.getfield 181, 3) := by decide +kernel
theorem dX2_claim_82 : decode cX2_claim 82 = .ok (.iload_n 1, 1) := by decide +kernel
theorem dX2_claim_83 : decode cX2_claim 83 = .ok (.iload_n 2, 1) := by decide +kernel
theorem dX2_claim_84 : decode cX2_claim 84 = .ok (.iastore, 1) := by decide +kernel
theorem dX2_claim_85 : decode cX2_claim 85 = .ok (.aload_n 0, 1) := by decide +kernel
theorem dX2_claim_86 : decode cX2_claim 86 = .ok (.iload_n 3, 1) := by decide +kernel
theorem dX2_claim_87 : decode cX2_claim 87 = .ok (.iconst (-1), 1) := by decide +kernel
theorem dX2_claim_88 : decode cX2_claim 88 = .ok (.iconst (-1), 1) := by decide +kernel
theorem dX2_claim_89 : decode cX2_claim 89 = .ok (.invokevirtual 433, 3) := by decide +kernel
theorem dX2_claim_92 : decode cX2_claim 92 = .ok (.ifCond .eq 7, 3) := by decide +kernel
theorem dX2_claim_95 : decode cX2_claim 95 = .ok (.iconst 1, 1) := by decide +kernel
theorem dX2_claim_96 : decode cX2_claim 96 = .ok (.goto 4, 3) := by decide +kernel
theorem dX2_claim_99 : decode cX2_claim 99 = .ok (.iconst 0, 1) := by decide +kernel
theorem dX2_claim_100 : decode cX2_claim 100 = .ok (.ireturn, 1) := by decide +kernel
def fn_X2_claim_37 (N : Nat)   (Ω : zo_O) : Option zo_R :=
  rI ((-1)) Ω
theorem ct_X2_claim_37 {Y : zo_Y} (hY : zo_Gd Y cX2_claim 4 RX2 9) (hJ : zo_JC (zo_J Y)) (hCon : ∀ Ω, zo_J Y Ω → zo_Con Ω) (hr : zo_rt Y (Option.some Jvm.ClassFile.FieldType.int)) (N : Nat)    (Ω : zo_O) (res : zo_R) (h : fn_X2_claim_37 N   Ω = some res) : TW Y res Ω 37 [] [] := by
  unfold fn_X2_claim_37 at h
  refine zo_iconst hY (-1) (by decide) dX2_claim_37 ?_
  exact zo_iret hY hr dX2_claim_38 h
def fn_X2_claim_100 (N : Nat)  (s0 : Int32) (Ω : zo_O) : Option zo_R :=
  rI s0 Ω
theorem ct_X2_claim_100 {Y : zo_Y} (hY : zo_Gd Y cX2_claim 4 RX2 9) (hJ : zo_JC (zo_J Y)) (hCon : ∀ Ω, zo_J Y Ω → zo_Con Ω) (hr : zo_rt Y (Option.some Jvm.ClassFile.FieldType.int)) (N : Nat)   (s0 : Int32) (Ω : zo_O) (res : zo_R) (h : fn_X2_claim_100 N  s0 Ω = some res) : TW Y res Ω 100 [] [vi s0] := by
  unfold fn_X2_claim_100 at h
  exact zo_iret hY hr dX2_claim_100 h
def fn_X2_claim (N : Nat) (x1 : Int32) (x2 : Int32) (x3 : Int32) (Ω : zo_O) : Option zo_R :=
  lt (sI Ω 1 0 0 0) fun Ω1 =>
  ci (fn_X2_isSite N x1 Ω1) fun r3 Ω2 =>
  if r3 = 0 then (
    fn_X2_claim_37 N Ω2
    ) else
  ci (fn_X2_isYear N x2 Ω2) fun r6 Ω5 =>
  if r6 = 0 then (
    fn_X2_claim_37 N Ω5
    ) else
  ci (fn_X2_isKnown N x3 Ω5) fun r9 Ω8 =>
  if r9 = 0 then (
    fn_X2_claim_37 N Ω8
    ) else
  ci (fn_X2_isThere N x1 x3 Ω8) fun r12 Ω11 =>
  if r12 = 0 then (
    fn_X2_claim_37 N Ω11
    ) else
  ci (fn_X2_isBound N x3 Ω11) fun r15 Ω14 =>
  if r15 = 0 then (
    rI ((-2)) Ω14
    ) else
  ix x1 14 fun j17 =>
  ix x1 14 fun j18 =>
  ci (fn_X2_within N x2 (gI Ω14 32 45 j17) (gI Ω14 32 46 j18) Ω14) fun r20 Ω19 =>
  if r20 = 0 then (
    rI 0 Ω19
    ) else
  ix x1 14 fun j22 => lt (sI Ω19 32 45 j22 x2) fun Ω23 =>
  ix x1 14 fun j24 => lt (sI Ω23 32 46 j24 x2) fun Ω25 =>
  ci (fn_X2_binds N x3 ((-1)) ((-1)) Ω25) fun r27 Ω26 =>
  if r27 = 0 then (
    fn_X2_claim_100 N 0 Ω26
    ) else
  fn_X2_claim_100 N 1 Ω26
theorem mt_X2_claim {G : zo_G} {J : zo_O → Prop} (hJ : zo_JC J) (hCon : ∀ Ω, J Ω → zo_Con Ω) (N : Nat) (x1 : Int32) (x2 : Int32) (x3 : Int32) (Ω : zo_O) (res : zo_R) (h : fn_X2_claim N x1 x2 x3 Ω = some res) : zo_MT G J yX2_claim cX2_claim 4 (Option.some Jvm.ClassFile.FieldType.int) 9 [vr 1 0, vi x1, vi x2, vi x3] Ω res := by
  refine zo_enter (by decide) rfl (Nat.le_of_ble_eq_true rfl) (fun Y hY eJ hr hmn => ?_)
  subst eJ
  show TW Y res Ω 0 [(0, vr 1 0), (1, vi x1), (2, vi x2), (3, vi x3)] []
  unfold fn_X2_claim at h
  refine zo_aload_n hY dX2_claim_0 rfl 0 rfl ?_
  refine zo_iconst hY 0 (by decide) dX2_claim_1 ?_
  refine zo_putI hY hJ LX2_187_1 rfl (Or.inl rfl) dX2_claim_2 h (fun Ω1 h => ?_)
  refine zo_aload_n hY dX2_claim_5 rfl 0 rfl ?_
  refine zo_iload_n hY dX2_claim_6 rfl 1 rfl ?_
  refine zo_callV hY (fun q hq => mt_X2_isSite hJ hCon N x1 Ω1 q hq) (by decide) (by decide) (by decide) ⟨rfl, cn_X2_isSite⟩ rfl q1531 q1533 qs39 q82 q1534 (Nat.le_of_ble_eq_true rfl) dX2_claim_7 rfl h (ci_k (fun r3 Ω2 res h => ?_))
  refine zo_if_eq hY 37 dX2_claim_10 (by decide) h (fun c4 h => ?_) (fun c4 h => ?_)
  · refine zo_sub [] rfl ?_
    exact ct_X2_claim_37 hY hJ hCon hr N Ω2 _ h
  · refine zo_iload_n hY dX2_claim_13 rfl 2 rfl ?_
    refine zo_callS hY (fun q hq => mt_X2_isYear hJ hCon N x2 Ω2 q hq) (by decide) (by decide) cn_X2_isYear rfl q1524 q1525 q82 q1526 (Nat.le_of_ble_eq_true rfl) dX2_claim_14 rfl h (ci_k (fun r6 Ω5 res h => ?_))
    refine zo_if_eq hY 37 dX2_claim_17 (by decide) h (fun c7 h => ?_) (fun c7 h => ?_)
    · refine zo_sub [] rfl ?_
      exact ct_X2_claim_37 hY hJ hCon hr N Ω5 _ h
    · refine zo_aload_n hY dX2_claim_20 rfl 0 rfl ?_
      refine zo_iload_n hY dX2_claim_21 rfl 3 rfl ?_
      refine zo_callV hY (fun q hq => mt_X2_isKnown hJ hCon N x3 Ω5 q hq) (by decide) (by decide) (by decide) ⟨rfl, cn_X2_isKnown⟩ rfl q1649 q1651 qs49 q82 q1652 (Nat.le_of_ble_eq_true rfl) dX2_claim_22 rfl h (ci_k (fun r9 Ω8 res h => ?_))
      refine zo_if_eq hY 37 dX2_claim_25 (by decide) h (fun c10 h => ?_) (fun c10 h => ?_)
      · refine zo_sub [] rfl ?_
        exact ct_X2_claim_37 hY hJ hCon hr N Ω8 _ h
      · refine zo_aload_n hY dX2_claim_28 rfl 0 rfl ?_
        refine zo_iload_n hY dX2_claim_29 rfl 1 rfl ?_
        refine zo_iload_n hY dX2_claim_30 rfl 3 rfl ?_
        refine zo_callV hY (fun q hq => mt_X2_isThere hJ hCon N x1 x3 Ω8 q hq) (by decide) (by decide) (by decide) ⟨rfl, cn_X2_isThere⟩ rfl q1742 q1744 qs66 q82 q1745 (Nat.le_of_ble_eq_true rfl) dX2_claim_31 rfl h (ci_k (fun r12 Ω11 res h => ?_))
        refine zo_if_ne hY 39 dX2_claim_34 (by decide) h (fun c13 h => ?_) (fun c13 h => ?_)
        · refine zo_sub [] rfl ?_
          exact ct_X2_claim_37 hY hJ hCon hr N Ω11 _ h
        · refine zo_aload_n hY dX2_claim_39 rfl 0 rfl ?_
          refine zo_iload_n hY dX2_claim_40 rfl 3 rfl ?_
          refine zo_callV hY (fun q hq => mt_X2_isBound hJ hCon N x3 Ω11 q hq) (by decide) (by decide) (by decide) ⟨rfl, cn_X2_isBound⟩ rfl q1766 q1768 qs71 q82 q1769 (Nat.le_of_ble_eq_true rfl) dX2_claim_41 rfl h (ci_k (fun r15 Ω14 res h => ?_))
          refine zo_if_ne hY 50 dX2_claim_44 (by decide) h (fun c16 h => ?_) (fun c16 h => ?_)
          · refine zo_bipush hY (-2) (by decide) dX2_claim_47 ?_
            exact zo_iret hY hr dX2_claim_49 h
          · refine zo_iload_n hY dX2_claim_50 rfl 2 rfl ?_
            refine zo_aload_n hY dX2_claim_51 rfl 0 rfl ?_
            refine zo_getC hY LX2_178_1 rfl (fun Ω q => (hCon Ω q).2.1 77 _ rfl) dX2_claim_52 ?_
            refine zo_iload_n hY dX2_claim_55 rfl 1 rfl ?_
            refine zo_ald hY (by decide) (Or.inl ⟨rfl, dX2_claim_56⟩) (fun q => (hCon _ q).2.2.2 32 45 14 rfl) h (fun j17 h => ?_)
            refine zo_aload_n hY dX2_claim_57 rfl 0 rfl ?_
            refine zo_getC hY LX2_181_1 rfl (fun Ω q => (hCon Ω q).2.1 78 _ rfl) dX2_claim_58 ?_
            refine zo_iload_n hY dX2_claim_61 rfl 1 rfl ?_
            refine zo_ald hY (by decide) (Or.inl ⟨rfl, dX2_claim_62⟩) (fun q => (hCon _ q).2.2.2 32 46 14 rfl) h (fun j18 h => ?_)
            refine zo_callS hY (fun q hq => mt_X2_within hJ hCon N x2 (gI Ω14 32 45 j17) (gI Ω14 32 46 j18) Ω14 q hq) (by decide) (by decide) cn_X2_within rfl q1521 q1522 q82 q1523 (Nat.le_of_ble_eq_true rfl) dX2_claim_63 rfl h (ci_k (fun r20 Ω19 res h => ?_))
            refine zo_if_ne hY 71 dX2_claim_66 (by decide) h (fun c21 h => ?_) (fun c21 h => ?_)
            · refine zo_iconst hY 0 (by decide) dX2_claim_69 ?_
              exact zo_iret hY hr dX2_claim_70 h
            · refine zo_aload_n hY dX2_claim_71 rfl 0 rfl ?_
              refine zo_getC hY LX2_178_1 rfl (fun Ω q => (hCon Ω q).2.1 77 _ rfl) dX2_claim_72 ?_
              refine zo_iload_n hY dX2_claim_75 rfl 1 rfl ?_
              refine zo_iload_n hY dX2_claim_76 rfl 2 rfl ?_
              refine zo_ast hY hJ (by decide) (Or.inl ⟨rfl, rfl, dX2_claim_77⟩) (fun q => (hCon _ q).2.2.2 32 45 14 rfl) h (fun j22 Ω23 h => ?_)
              refine zo_aload_n hY dX2_claim_78 rfl 0 rfl ?_
              refine zo_getC hY LX2_181_1 rfl (fun Ω q => (hCon Ω q).2.1 78 _ rfl) dX2_claim_79 ?_
              refine zo_iload_n hY dX2_claim_82 rfl 1 rfl ?_
              refine zo_iload_n hY dX2_claim_83 rfl 2 rfl ?_
              refine zo_ast hY hJ (by decide) (Or.inl ⟨rfl, rfl, dX2_claim_84⟩) (fun q => (hCon _ q).2.2.2 32 46 14 rfl) h (fun j24 Ω25 h => ?_)
              refine zo_aload_n hY dX2_claim_85 rfl 0 rfl ?_
              refine zo_iload_n hY dX2_claim_86 rfl 3 rfl ?_
              refine zo_iconst hY (-1) (by decide) dX2_claim_87 ?_
              refine zo_iconst hY (-1) (by decide) dX2_claim_88 ?_
              refine zo_callV hY (fun q hq => mt_X2_binds hJ hCon N x3 ((-1)) ((-1)) Ω25 q hq) (by decide) (by decide) (by decide) ⟨rfl, cn_X2_binds⟩ rfl q1774 q1776 qs73 q82 q1777 (Nat.le_of_ble_eq_true rfl) dX2_claim_89 rfl h (ci_k (fun r27 Ω26 res h => ?_))
              refine zo_if_eq hY 99 dX2_claim_92 (by decide) h (fun c28 h => ?_) (fun c28 h => ?_)
              · refine zo_iconst hY 0 (by decide) dX2_claim_99 ?_
                refine zo_sub [] rfl ?_
                exact ct_X2_claim_100 hY hJ hCon hr N 0 Ω26 _ h
              · refine zo_iconst hY 1 (by decide) dX2_claim_95 ?_
                refine zo_goto hY 100 dX2_claim_96 (by decide) ?_
                refine zo_sub [] rfl ?_
                exact ct_X2_claim_100 hY hJ hCon hr N 1 Ω26 _ h
theorem dX2_front_0 : decode cX2_front 0 = .ok (.aload_n 0, 1) := by decide +kernel
theorem dX2_front_1 : decode cX2_front 1 = .ok (.iconst 0, 1) := by decide +kernel
theorem dX2_front_2 : decode cX2_front 2 = .ok (.putfield 187, 3) := by decide +kernel
theorem dX2_front_5 : decode cX2_front 5 = .ok (.iload_n 1, 1) := by decide +kernel
theorem dX2_front_6 : decode cX2_front 6 = .ok (.invokestatic 203, 3) := by decide +kernel
theorem dX2_front_9 : decode cX2_front 9 = .ok (.ifCond .eq 20, 3) := by decide +kernel
theorem dX2_front_12 : decode cX2_front 12 = .ok (.aload_n 0, 1) := by decide +kernel
theorem dX2_front_13 : decode cX2_front 13 = .ok (.iload_n 2, 1) := by decide +kernel
theorem dX2_front_14 : decode cX2_front 14 = .ok (.invokevirtual 337, 3) := by decide +kernel
theorem dX2_front_17 : decode cX2_front 17 = .ok (.ifCond .eq 12, 3) := by decide +kernel
theorem dX2_front_20 : decode cX2_front 20 = .ok (.iload_n 3, 1) := by decide +kernel
theorem dX2_front_21 : decode cX2_front 21 = .ok (.iconst 0, 1) := by decide +kernel
theorem dX2_front_22 : decode cX2_front 22 = .ok (.iconst 1, 1) := by decide +kernel
theorem dX2_front_23 : decode cX2_front 23 = .ok (.invokestatic 190, 3) := by decide +kernel
theorem dX2_front_26 : decode cX2_front 26 = .ok (.ifCond .ne 5, 3) := by decide +kernel
theorem dX2_front_29 : decode cX2_front 29 = .ok (.iconst (-1), 1) := by decide +kernel
theorem dX2_front_30 : decode cX2_front 30 = .ok (.ireturn, 1) := by decide +kernel
theorem dX2_front_31 : decode cX2_front 31 = .ok (.aload_n 0, 1) := by decide +kernel
theorem dX2_front_32 : decode cX2_front 32 = .ok (.iload_n 2, 1) := by decide +kernel
theorem dX2_front_33 : decode cX2_front 33 = .ok (.invokevirtual 436, 3) := by decide +kernel
theorem dX2_front_36 : decode cX2_front 36 = .ok (.ifCond .ne 6, 3) := by decide +kernel
theorem dX2_front_39 : decode cX2_front 39 = .ok (.bipush (-2), 2) := by decide +kernel
theorem dX2_front_41 : decode cX2_front 41 = .ok (.ireturn, 1) := by decide +kernel
theorem dX2_front_42 : decode cX2_front 42 = .ok (.iconst (-1), 1) := by decide +kernel
theorem dX2_front_43 : decode cX2_front 43 = .ok (.istore 4, 2) := by decide +kernel
theorem dX2_front_45 : decode cX2_front 45 = .ok (.iconst 0, 1) := by decide +kernel
theorem dX2_front_46 : decode cX2_front 46 = .ok (.istore 5, 2) := by decide +kernel
theorem dX2_front_48 : decode cX2_front 48 = .ok (.iload 5, 2) := by decide +kernel
theorem dX2_front_50 : decode cX2_front 50 = .ok (.aload_n 0, 1) := by decide +kernel
theorem dX2_front_51 : decode cX2_front 51 = .ok (.getfield 194, 3) := by decide +kernel
theorem dX2_front_54 : decode cX2_front 54 = .ok (.if_icmp .ge 97, 3) := by decide +kernel
theorem dX2_front_57 : decode cX2_front 57 = .ok (.aload_n 0, 1) := by decide +kernel
theorem dX2_front_58 : decode cX2_front 58 = .ok (.iload 5, 2) := by decide +kernel
theorem dX2_front_60 : decode cX2_front 60 = .ok (.iload_n 2, 1) := by decide +kernel
theorem dX2_front_61 : decode cX2_front 61 = .ok (.invokevirtual 421, 3) := by decide +kernel
theorem dX2_front_64 : decode cX2_front 64 = .ok (.ifCond .ne 6, 3) := by decide +kernel
theorem dX2_front_67 : decode cX2_front 67 = .ok (.goto 78, 3) := by decide +kernel
theorem dX2_front_70 : decode cX2_front 70 = .ok (.iload_n 3, 1) := by decide +kernel
theorem dX2_front_71 : decode cX2_front 71 = .ok (.ifCond .ne 28, 3) := by decide +kernel
theorem dX2_front_74 : decode cX2_front 74 = .ok (.aload_n 0, 1) := by decide +kernel
theorem dX2_front_75 : decode cX2_front 75 = .ok (.getfield 181, 3) := by decide +kernel
theorem dX2_front_78 : decode cX2_front 78 = .ok (.iload 5, 2) := by decide +kernel
theorem dX2_front_80 : decode cX2_front 80 = .ok (.iaload, 1) := by decide +kernel
theorem dX2_front_81 : decode cX2_front 81 = .ok (.iload_n 1, 1) := by decide +kernel
theorem dX2_front_82 : decode cX2_front 82 = .ok (.if_icmp .gt 17, 3) := by decide +kernel
theorem dX2_front_85 : decode cX2_front 85 = .ok (.iload 4, 2) := by decide +kernel
theorem dX2_front_87 : decode cX2_front 87 = .ok (.aload_n 0, 1) := by decide +kernel
theorem dX2_front_88 : decode cX2_front 88 = .ok (.getfield 16, 3) := by decide +kernel
theorem dX2_front_91 : decode cX2_front 91 = .ok (.iload 5, 2) := by decide +kernel
theorem dX2_front_93 : decode cX2_front 93 = .ok (.iaload, 1) := by decide +kernel
theorem dX2_front_94 : decode cX2_front 94 = .ok (.invokestatic 348, 3) := by decide +kernel
theorem dX2_front_97 : decode cX2_front 97 = .ok (.istore 4, 2) := by decide +kernel
theorem dX2_front_99 : decode cX2_front 99 = .ok (.iload_n 3, 1) := by decide +kernel
theorem dX2_front_100 : decode cX2_front 100 = .ok (.iconst 1, 1) := by decide +kernel
theorem dX2_front_101 : decode cX2_front 101 = .ok (.if_icmp .ne 44, 3) := by decide +kernel
theorem dX2_front_104 : decode cX2_front 104 = .ok (.aload_n 0, 1) := by decide +kernel
theorem dX2_front_105 : decode cX2_front 105 = .ok (.getfield 178, 3) := by decide +kernel
theorem dX2_front_108 : decode cX2_front 108 = .ok (.iload 5, 2) := by decide +kernel
theorem dX2_front_110 : decode cX2_front 110 = .ok (.iaload, 1) := by decide +kernel
theorem dX2_front_111 : decode cX2_front 111 = .ok (.iload_n 1, 1) := by decide +kernel
theorem dX2_front_112 : decode cX2_front 112 = .ok (.if_icmp .le 33, 3) := by decide +kernel
theorem dX2_front_115 : decode cX2_front 115 = .ok (.iload 4, 2) := by decide +kernel
theorem dX2_front_117 : decode cX2_front 117 = .ok (.iconst (-1), 1) := by decide +kernel
theorem dX2_front_118 : decode cX2_front 118 = .ok (.if_icmp .ne 13, 3) := by decide +kernel
theorem dX2_front_121 : decode cX2_front 121 = .ok (.aload_n 0, 1) := by decide +kernel
theorem dX2_front_122 : decode cX2_front 122 = .ok (.getfield 16, 3) := by decide +kernel
theorem dX2_front_125 : decode cX2_front 125 = .ok (.iload 5, 2) := by decide +kernel
theorem dX2_front_127 : decode cX2_front 127 = .ok (.iaload, 1) := by decide +kernel
theorem dX2_front_128 : decode cX2_front 128 = .ok (.goto 15, 3) := by decide +kernel
theorem dX2_front_131 : decode cX2_front 131 = .ok (.iload 4, 2) := by decide +kernel
theorem dX2_front_133 : decode cX2_front 133 = .ok (.aload_n 0, 1) := by decide +kernel
theorem dX2_front_134 : decode cX2_front 134 = .ok (.getfield 16, 3) := by decide +kernel
theorem dX2_front_137 : decode cX2_front 137 = .ok (.iload 5, 2) := by decide +kernel
theorem dX2_front_139 : decode cX2_front 139 = .ok (.iaload, 1) := by decide +kernel
theorem dX2_front_140 : decode cX2_front 140 = .ok (.invokestatic 401, 3) := by decide +kernel
theorem dX2_front_143 : decode cX2_front 143 = .ok (.istore 4, 2) := by decide +kernel
theorem dX2_front_145 : decode cX2_front 145 = .ok (.iinc 5 1, 3) := by decide +kernel
theorem dX2_front_148 : decode cX2_front 148 = .ok (.goto (-100), 3) := by decide +kernel
theorem dX2_front_151 : decode cX2_front 151 = .ok (.iload 4, 2) := by decide +kernel
theorem dX2_front_153 : decode cX2_front 153 = .ok (.ireturn, 1) := by decide +kernel
def fn_X2_front_29 (N : Nat)   (Ω : zo_O) : Option zo_R :=
  rI ((-1)) Ω
theorem ct_X2_front_29 {Y : zo_Y} (hY : zo_Gd Y cX2_front 6 RX2 9) (hJ : zo_JC (zo_J Y)) (hCon : ∀ Ω, zo_J Y Ω → zo_Con Ω) (hr : zo_rt Y (Option.some Jvm.ClassFile.FieldType.int)) (N : Nat)    (Ω : zo_O) (res : zo_R) (h : fn_X2_front_29 N   Ω = some res) : TW Y res Ω 29 [] [] := by
  unfold fn_X2_front_29 at h
  refine zo_iconst hY (-1) (by decide) dX2_front_29 ?_
  exact zo_iret hY hr dX2_front_30 h
def fn_X2_front_145 (N : Nat) (K48 : Int32 → Int32 → Int32 → Int32 → Int32 → zo_O → Option zo_R) (x1 : Int32) (x2 : Int32) (x3 : Int32) (x4 : Int32) (x5 : Int32) (Ω : zo_O) : Option zo_R :=
  K48 x1 x2 x3 x4 (x5 + 1) Ω
theorem ct_X2_front_145 {Y : zo_Y} (hY : zo_Gd Y cX2_front 6 RX2 9) (hJ : zo_JC (zo_J Y)) (hCon : ∀ Ω, zo_J Y Ω → zo_Con Ω) (hr : zo_rt Y (Option.some Jvm.ClassFile.FieldType.int)) (N : Nat) (K48 : Int32 → Int32 → Int32 → Int32 → Int32 → zo_O → Option zo_R) (hK48 : ∀ (x1 : Int32) (x2 : Int32) (x3 : Int32) (x4 : Int32) (x5 : Int32) (Ω : zo_O) (res : zo_R), K48 x1 x2 x3 x4 x5 Ω = some res → TW Y res Ω 48 [(0, vr 1 0), (1, vi x1), (2, vi x2), (3, vi x3), (4, vi x4), (5, vi x5)] []) (x1 : Int32) (x2 : Int32) (x3 : Int32) (x4 : Int32) (x5 : Int32) (Ω : zo_O) (res : zo_R) (h : fn_X2_front_145 N K48 x1 x2 x3 x4 x5 Ω = some res) : TW Y res Ω 145 [(0, vr 1 0), (1, vi x1), (2, vi x2), (3, vi x3), (4, vi x4), (5, vi x5)] [] := by
  unfold fn_X2_front_145 at h
  refine zo_iinc hY 1 dX2_front_145 (by decide) (by decide) 5 rfl rfl (ls' := [(5, vi (x5 + 1)), (0, vr 1 0), (1, vi x1), (2, vi x2), (3, vi x3), (4, vi x4)]) rfl ?_
  refine zo_goto hY 48 dX2_front_148 (by decide) ?_
  refine zo_sub [1, 2, 3, 4, 5, 0] rfl ?_
  exact hK48 x1 x2 x3 x4 (x5 + 1) Ω _ h
def fn_X2_front_143 (N : Nat) (K48 : Int32 → Int32 → Int32 → Int32 → Int32 → zo_O → Option zo_R) (x1 : Int32) (x2 : Int32) (x3 : Int32) (x5 : Int32) (s0 : Int32) (Ω : zo_O) : Option zo_R :=
  fn_X2_front_145 N K48 x1 x2 x3 s0 x5 Ω
theorem ct_X2_front_143 {Y : zo_Y} (hY : zo_Gd Y cX2_front 6 RX2 9) (hJ : zo_JC (zo_J Y)) (hCon : ∀ Ω, zo_J Y Ω → zo_Con Ω) (hr : zo_rt Y (Option.some Jvm.ClassFile.FieldType.int)) (N : Nat) (K48 : Int32 → Int32 → Int32 → Int32 → Int32 → zo_O → Option zo_R) (hK48 : ∀ (x1 : Int32) (x2 : Int32) (x3 : Int32) (x4 : Int32) (x5 : Int32) (Ω : zo_O) (res : zo_R), K48 x1 x2 x3 x4 x5 Ω = some res → TW Y res Ω 48 [(0, vr 1 0), (1, vi x1), (2, vi x2), (3, vi x3), (4, vi x4), (5, vi x5)] []) (x1 : Int32) (x2 : Int32) (x3 : Int32) (x5 : Int32) (s0 : Int32) (Ω : zo_O) (res : zo_R) (h : fn_X2_front_143 N K48 x1 x2 x3 x5 s0 Ω = some res) : TW Y res Ω 143 [(0, vr 1 0), (1, vi x1), (2, vi x2), (3, vi x3), (5, vi x5)] [vi s0] := by
  unfold fn_X2_front_143 at h
  refine zo_istore hY dX2_front_143 (by decide) rfl (ls' := [(4, vi s0), (0, vr 1 0), (1, vi x1), (2, vi x2), (3, vi x3), (5, vi x5)]) rfl ?_
  refine zo_sub [1, 2, 3, 4, 0, 5] rfl ?_
  exact ct_X2_front_145 hY hJ hCon hr N K48 hK48 x1 x2 x3 s0 x5 Ω _ h
def fn_X2_front_99 (N : Nat) (K48 : Int32 → Int32 → Int32 → Int32 → Int32 → zo_O → Option zo_R) (x1 : Int32) (x2 : Int32) (x3 : Int32) (x4 : Int32) (x5 : Int32) (Ω : zo_O) : Option zo_R :=
  if x3 = 1 then (
    ix x5 14 fun j2 =>
    if gI Ω 32 45 j2 ≤ x1 then (
      fn_X2_front_145 N K48 x1 x2 x3 x4 x5 Ω
      ) else
    if x4 = (-1) then (
      ix x5 14 fun j5 =>
      fn_X2_front_143 N K48 x1 x2 x3 x5 (gI Ω 32 2 j5) Ω
      ) else
    ix x5 14 fun j6 =>
    fn_X2_front_143 N K48 x1 x2 x3 x5 (mn x4 (gI Ω 32 2 j6)) Ω
    ) else
  fn_X2_front_145 N K48 x1 x2 x3 x4 x5 Ω
theorem ct_X2_front_99 {Y : zo_Y} (hY : zo_Gd Y cX2_front 6 RX2 9) (hJ : zo_JC (zo_J Y)) (hCon : ∀ Ω, zo_J Y Ω → zo_Con Ω) (hr : zo_rt Y (Option.some Jvm.ClassFile.FieldType.int)) (N : Nat) (K48 : Int32 → Int32 → Int32 → Int32 → Int32 → zo_O → Option zo_R) (hK48 : ∀ (x1 : Int32) (x2 : Int32) (x3 : Int32) (x4 : Int32) (x5 : Int32) (Ω : zo_O) (res : zo_R), K48 x1 x2 x3 x4 x5 Ω = some res → TW Y res Ω 48 [(0, vr 1 0), (1, vi x1), (2, vi x2), (3, vi x3), (4, vi x4), (5, vi x5)] []) (x1 : Int32) (x2 : Int32) (x3 : Int32) (x4 : Int32) (x5 : Int32) (Ω : zo_O) (res : zo_R) (h : fn_X2_front_99 N K48 x1 x2 x3 x4 x5 Ω = some res) : TW Y res Ω 99 [(0, vr 1 0), (1, vi x1), (2, vi x2), (3, vi x3), (4, vi x4), (5, vi x5)] [] := by
  unfold fn_X2_front_99 at h
  refine zo_iload_n hY dX2_front_99 rfl 3 rfl ?_
  refine zo_iconst hY 1 (by decide) dX2_front_100 ?_
  refine zo_icmp_ne hY 145 dX2_front_101 (by decide) h (fun c1 h => ?_) (fun c1 h => ?_)
  · refine zo_aload_n hY dX2_front_104 rfl 0 rfl ?_
    refine zo_getC hY LX2_178_1 rfl (fun Ω q => (hCon Ω q).2.1 77 _ rfl) dX2_front_105 ?_
    refine zo_iload hY dX2_front_108 5 rfl ?_
    refine zo_ald hY (by decide) (Or.inl ⟨rfl, dX2_front_110⟩) (fun q => (hCon _ q).2.2.2 32 45 14 rfl) h (fun j2 h => ?_)
    refine zo_iload_n hY dX2_front_111 rfl 1 rfl ?_
    refine zo_icmp_le hY 145 dX2_front_112 (by decide) h (fun c3 h => ?_) (fun c3 h => ?_)
    · exact ct_X2_front_145 hY hJ hCon hr N K48 hK48 x1 x2 x3 x4 x5 Ω _ h
    · refine zo_iload hY dX2_front_115 4 rfl ?_
      refine zo_iconst hY (-1) (by decide) dX2_front_117 ?_
      refine zo_icmp_ne hY 131 dX2_front_118 (by decide) h (fun c4 h => ?_) (fun c4 h => ?_)
      · refine zo_aload_n hY dX2_front_121 rfl 0 rfl ?_
        refine zo_getC hY LX2_16_1 rfl (fun Ω q => (hCon Ω q).2.1 5 _ rfl) dX2_front_122 ?_
        refine zo_iload hY dX2_front_125 5 rfl ?_
        refine zo_ald hY (by decide) (Or.inl ⟨rfl, dX2_front_127⟩) (fun q => (hCon _ q).2.2.2 32 2 14 rfl) h (fun j5 h => ?_)
        refine zo_goto hY 143 dX2_front_128 (by decide) ?_
        refine zo_sub [0, 1, 2, 3, 5] rfl ?_
        exact ct_X2_front_143 hY hJ hCon hr N K48 hK48 x1 x2 x3 x5 (gI Ω 32 2 j5) Ω _ h
      · refine zo_iload hY dX2_front_131 4 rfl ?_
        refine zo_aload_n hY dX2_front_133 rfl 0 rfl ?_
        refine zo_getC hY LX2_16_1 rfl (fun Ω q => (hCon Ω q).2.1 5 _ rfl) dX2_front_134 ?_
        refine zo_iload hY dX2_front_137 5 rfl ?_
        refine zo_ald hY (by decide) (Or.inl ⟨rfl, dX2_front_139⟩) (fun q => (hCon _ q).2.2.2 32 2 14 rfl) h (fun j6 h => ?_)
        refine zo_mmin hY (by decide) q1733 (Nat.le_of_ble_eq_true rfl) dX2_front_140 ?_
        refine zo_sub [0, 1, 2, 3, 5] rfl ?_
        exact ct_X2_front_143 hY hJ hCon hr N K48 hK48 x1 x2 x3 x5 (mn x4 (gI Ω 32 2 j6)) Ω _ h
  · exact ct_X2_front_145 hY hJ hCon hr N K48 hK48 x1 x2 x3 x4 x5 Ω _ h
def bd_X2_front_48 (N : Nat)  (K48 : Int32 → Int32 → Int32 → Int32 → Int32 → zo_O → Option zo_R) (x1 : Int32) (x2 : Int32) (x3 : Int32) (x4 : Int32) (x5 : Int32) (Ω : zo_O) : Option zo_R :=
  if gI Ω 1 0 2 ≤ x5 then (
    rI x4 Ω
    ) else
  ci (fn_X2_isThere N x5 x2 Ω) fun r3 Ω2 =>
  if r3 = 0 then (
    fn_X2_front_145 N K48 x1 x2 x3 x4 x5 Ω2
    ) else
  if x3 = 0 then (
    ix x5 14 fun j6 =>
    if x1 < gI Ω2 32 46 j6 then (
      fn_X2_front_99 N K48 x1 x2 x3 x4 x5 Ω2
      ) else
    ix x5 14 fun j8 =>
    li (mx x4 (gI Ω2 32 2 j8)) fun y9 =>
    fn_X2_front_99 N K48 x1 x2 x3 y9 x5 Ω2
    ) else
  fn_X2_front_99 N K48 x1 x2 x3 x4 x5 Ω2
theorem cb_X2_front_48 {Y : zo_Y} (hY : zo_Gd Y cX2_front 6 RX2 9) (hJ : zo_JC (zo_J Y)) (hCon : ∀ Ω, zo_J Y Ω → zo_Con Ω) (hr : zo_rt Y (Option.some Jvm.ClassFile.FieldType.int)) (N : Nat)  (K48 : Int32 → Int32 → Int32 → Int32 → Int32 → zo_O → Option zo_R)  (hK48 : ∀ (x1 : Int32) (x2 : Int32) (x3 : Int32) (x4 : Int32) (x5 : Int32) (Ω : zo_O) (res : zo_R), K48 x1 x2 x3 x4 x5 Ω = some res → TW Y res Ω 48 [(0, vr 1 0), (1, vi x1), (2, vi x2), (3, vi x3), (4, vi x4), (5, vi x5)] []) (x1 : Int32) (x2 : Int32) (x3 : Int32) (x4 : Int32) (x5 : Int32) (Ω : zo_O) (res : zo_R) (h : bd_X2_front_48 N  K48 x1 x2 x3 x4 x5 Ω = some res) : TW Y res Ω 48 [(0, vr 1 0), (1, vi x1), (2, vi x2), (3, vi x3), (4, vi x4), (5, vi x5)] [] := by
  unfold bd_X2_front_48 at h
  refine zo_iload hY dX2_front_48 5 rfl ?_
  refine zo_aload_n hY dX2_front_50 rfl 0 rfl ?_
  refine zo_getI hY LX2_194_1 rfl dX2_front_51 ?_
  refine zo_icmp_ge hY 151 dX2_front_54 (by decide) h (fun c1 h => ?_) (fun c1 h => ?_)
  · refine zo_iload hY dX2_front_151 4 rfl ?_
    exact zo_iret hY hr dX2_front_153 h
  · refine zo_aload_n hY dX2_front_57 rfl 0 rfl ?_
    refine zo_iload hY dX2_front_58 5 rfl ?_
    refine zo_iload_n hY dX2_front_60 rfl 2 rfl ?_
    refine zo_callV hY (fun q hq => mt_X2_isThere hJ hCon N x5 x2 Ω q hq) (by decide) (by decide) (by decide) ⟨rfl, cn_X2_isThere⟩ rfl q1742 q1744 qs66 q82 q1745 (Nat.le_of_ble_eq_true rfl) dX2_front_61 rfl h (ci_k (fun r3 Ω2 res h => ?_))
    refine zo_if_ne hY 70 dX2_front_64 (by decide) h (fun c4 h => ?_) (fun c4 h => ?_)
    · refine zo_goto hY 145 dX2_front_67 (by decide) ?_
      exact ct_X2_front_145 hY hJ hCon hr N K48 hK48 x1 x2 x3 x4 x5 Ω2 _ h
    · refine zo_iload_n hY dX2_front_70 rfl 3 rfl ?_
      refine zo_if_ne hY 99 dX2_front_71 (by decide) h (fun c5 h => ?_) (fun c5 h => ?_)
      · refine zo_aload_n hY dX2_front_74 rfl 0 rfl ?_
        refine zo_getC hY LX2_181_1 rfl (fun Ω q => (hCon Ω q).2.1 78 _ rfl) dX2_front_75 ?_
        refine zo_iload hY dX2_front_78 5 rfl ?_
        refine zo_ald hY (by decide) (Or.inl ⟨rfl, dX2_front_80⟩) (fun q => (hCon _ q).2.2.2 32 46 14 rfl) h (fun j6 h => ?_)
        refine zo_iload_n hY dX2_front_81 rfl 1 rfl ?_
        refine zo_icmp_gt hY 99 dX2_front_82 (by decide) h (fun c7 h => ?_) (fun c7 h => ?_)
        · exact ct_X2_front_99 hY hJ hCon hr N K48 hK48 x1 x2 x3 x4 x5 Ω2 _ h
        · refine zo_iload hY dX2_front_85 4 rfl ?_
          refine zo_aload_n hY dX2_front_87 rfl 0 rfl ?_
          refine zo_getC hY LX2_16_1 rfl (fun Ω q => (hCon Ω q).2.1 5 _ rfl) dX2_front_88 ?_
          refine zo_iload hY dX2_front_91 5 rfl ?_
          refine zo_ald hY (by decide) (Or.inl ⟨rfl, dX2_front_93⟩) (fun q => (hCon _ q).2.2.2 32 2 14 rfl) h (fun j8 h => ?_)
          refine zo_mmax hY (by decide) q1687 (Nat.le_of_ble_eq_true rfl) dX2_front_94 ?_
          refine zo_nmi h (fun y9 h => ?_)
          refine zo_istore hY dX2_front_97 (by decide) rfl (ls' := [(4, vi y9), (0, vr 1 0), (1, vi x1), (2, vi x2), (3, vi x3), (5, vi x5)]) rfl ?_
          refine zo_sub [1, 2, 3, 4, 0, 5] rfl ?_
          exact ct_X2_front_99 hY hJ hCon hr N K48 hK48 x1 x2 x3 y9 x5 Ω2 _ h
      · exact ct_X2_front_99 hY hJ hCon hr N K48 hK48 x1 x2 x3 x4 x5 Ω2 _ h
def fn_X2_front_48 (N : Nat)  : Nat → Int32 → Int32 → Int32 → Int32 → Int32 → zo_O → Option zo_R
  | 0, _, _, _, _, _, _ => none
  | n + 1, x1, x2, x3, x4, x5, Ω => bd_X2_front_48 N  (fn_X2_front_48 N  n) x1 x2 x3 x4 x5 Ω
theorem ct_X2_front_48 {Y : zo_Y} (hY : zo_Gd Y cX2_front 6 RX2 9) (hJ : zo_JC (zo_J Y)) (hCon : ∀ Ω, zo_J Y Ω → zo_Con Ω) (hr : zo_rt Y (Option.some Jvm.ClassFile.FieldType.int)) (N : Nat)   : ∀ (n : Nat) (x1 : Int32) (x2 : Int32) (x3 : Int32) (x4 : Int32) (x5 : Int32) (Ω : zo_O) (res : zo_R), fn_X2_front_48 N  n x1 x2 x3 x4 x5 Ω = some res → TW Y res Ω 48 [(0, vr 1 0), (1, vi x1), (2, vi x2), (3, vi x3), (4, vi x4), (5, vi x5)] [] := by
  intro n
  induction n with
  | zero => intro x1 x2 x3 x4 x5 Ω res h; exact nomatch (show (none : Option zo_R) = some res from h)
  | succ n ih => intro x1 x2 x3 x4 x5 Ω res h; exact cb_X2_front_48 hY hJ hCon hr N  (fn_X2_front_48 N  n)  ih x1 x2 x3 x4 x5 Ω res h
def fn_X2_front (N : Nat) (x1 : Int32) (x2 : Int32) (x3 : Int32) (Ω : zo_O) : Option zo_R :=
  lt (sI Ω 1 0 0 0) fun Ω1 =>
  ci (fn_X2_isYear N x1 Ω1) fun r3 Ω2 =>
  if r3 = 0 then (
    fn_X2_front_29 N Ω2
    ) else
  ci (fn_X2_isKnown N x2 Ω2) fun r6 Ω5 =>
  if r6 = 0 then (
    fn_X2_front_29 N Ω5
    ) else
  ci (fn_X2_within N x3 0 1 Ω5) fun r9 Ω8 =>
  if r9 = 0 then (
    fn_X2_front_29 N Ω8
    ) else
  ci (fn_X2_isBound N x2 Ω8) fun r12 Ω11 =>
  if r12 = 0 then (
    rI ((-2)) Ω11
    ) else
  fn_X2_front_48 N N x1 x2 x3 ((-1)) 0 Ω11
theorem mt_X2_front {G : zo_G} {J : zo_O → Prop} (hJ : zo_JC J) (hCon : ∀ Ω, J Ω → zo_Con Ω) (N : Nat) (x1 : Int32) (x2 : Int32) (x3 : Int32) (Ω : zo_O) (res : zo_R) (h : fn_X2_front N x1 x2 x3 Ω = some res) : zo_MT G J yX2_front cX2_front 6 (Option.some Jvm.ClassFile.FieldType.int) 9 [vr 1 0, vi x1, vi x2, vi x3] Ω res := by
  refine zo_enter (by decide) rfl (Nat.le_of_ble_eq_true rfl) (fun Y hY eJ hr hmn => ?_)
  subst eJ
  show TW Y res Ω 0 [(0, vr 1 0), (1, vi x1), (2, vi x2), (3, vi x3)] []
  unfold fn_X2_front at h
  refine zo_aload_n hY dX2_front_0 rfl 0 rfl ?_
  refine zo_iconst hY 0 (by decide) dX2_front_1 ?_
  refine zo_putI hY hJ LX2_187_1 rfl (Or.inl rfl) dX2_front_2 h (fun Ω1 h => ?_)
  refine zo_iload_n hY dX2_front_5 rfl 1 rfl ?_
  refine zo_callS hY (fun q hq => mt_X2_isYear hJ hCon N x1 Ω1 q hq) (by decide) (by decide) cn_X2_isYear rfl q1524 q1525 q82 q1526 (Nat.le_of_ble_eq_true rfl) dX2_front_6 rfl h (ci_k (fun r3 Ω2 res h => ?_))
  refine zo_if_eq hY 29 dX2_front_9 (by decide) h (fun c4 h => ?_) (fun c4 h => ?_)
  · refine zo_sub [] rfl ?_
    exact ct_X2_front_29 hY hJ hCon hr N Ω2 _ h
  · refine zo_aload_n hY dX2_front_12 rfl 0 rfl ?_
    refine zo_iload_n hY dX2_front_13 rfl 2 rfl ?_
    refine zo_callV hY (fun q hq => mt_X2_isKnown hJ hCon N x2 Ω2 q hq) (by decide) (by decide) (by decide) ⟨rfl, cn_X2_isKnown⟩ rfl q1649 q1651 qs49 q82 q1652 (Nat.le_of_ble_eq_true rfl) dX2_front_14 rfl h (ci_k (fun r6 Ω5 res h => ?_))
    refine zo_if_eq hY 29 dX2_front_17 (by decide) h (fun c7 h => ?_) (fun c7 h => ?_)
    · refine zo_sub [] rfl ?_
      exact ct_X2_front_29 hY hJ hCon hr N Ω5 _ h
    · refine zo_iload_n hY dX2_front_20 rfl 3 rfl ?_
      refine zo_iconst hY 0 (by decide) dX2_front_21 ?_
      refine zo_iconst hY 1 (by decide) dX2_front_22 ?_
      refine zo_callS hY (fun q hq => mt_X2_within hJ hCon N x3 0 1 Ω5 q hq) (by decide) (by decide) cn_X2_within rfl q1521 q1522 q82 q1523 (Nat.le_of_ble_eq_true rfl) dX2_front_23 rfl h (ci_k (fun r9 Ω8 res h => ?_))
      refine zo_if_ne hY 31 dX2_front_26 (by decide) h (fun c10 h => ?_) (fun c10 h => ?_)
      · refine zo_sub [] rfl ?_
        exact ct_X2_front_29 hY hJ hCon hr N Ω8 _ h
      · refine zo_aload_n hY dX2_front_31 rfl 0 rfl ?_
        refine zo_iload_n hY dX2_front_32 rfl 2 rfl ?_
        refine zo_callV hY (fun q hq => mt_X2_isBound hJ hCon N x2 Ω8 q hq) (by decide) (by decide) (by decide) ⟨rfl, cn_X2_isBound⟩ rfl q1766 q1768 qs71 q82 q1769 (Nat.le_of_ble_eq_true rfl) dX2_front_33 rfl h (ci_k (fun r12 Ω11 res h => ?_))
        refine zo_if_ne hY 42 dX2_front_36 (by decide) h (fun c13 h => ?_) (fun c13 h => ?_)
        · refine zo_bipush hY (-2) (by decide) dX2_front_39 ?_
          exact zo_iret hY hr dX2_front_41 h
        · refine zo_iconst hY (-1) (by decide) dX2_front_42 ?_
          refine zo_istore hY dX2_front_43 (by decide) rfl (ls' := [(4, vi ((-1))), (0, vr 1 0), (1, vi x1), (2, vi x2), (3, vi x3)]) rfl ?_
          refine zo_iconst hY 0 (by decide) dX2_front_45 ?_
          refine zo_istore hY dX2_front_46 (by decide) rfl (ls' := [(5, vi 0), (4, vi ((-1))), (0, vr 1 0), (1, vi x1), (2, vi x2), (3, vi x3)]) rfl ?_
          refine zo_sub [2, 3, 4, 5, 1, 0] rfl ?_
          exact ct_X2_front_48 hY hJ hCon hr N N x1 x2 x3 ((-1)) 0 Ω11 _ h
theorem dX2_out_0 : decode cX2_out 0 = .ok (.aload_n 0, 1) := by decide +kernel
theorem dX2_out_1 : decode cX2_out 1 = .ok (.iconst 0, 1) := by decide +kernel
theorem dX2_out_2 : decode cX2_out 2 = .ok (.putfield 187, 3) := by decide +kernel
theorem dX2_out_5 : decode cX2_out 5 = .ok (.aload_n 0, 1) := by decide +kernel
theorem dX2_out_6 : decode cX2_out 6 = .ok (.iload_n 1, 1) := by decide +kernel
theorem dX2_out_7 : decode cX2_out 7 = .ok (.invokevirtual 207, 3) := by decide +kernel
theorem dX2_out_10 : decode cX2_out 10 = .ok (.ifCond .eq 30, 3) := by decide +kernel
theorem dX2_out_13 : decode cX2_out 13 = .ok (.aload_n 0, 1) := by decide +kernel
theorem dX2_out_14 : decode cX2_out 14 = .ok (.iload_n 2, 1) := by decide +kernel
theorem dX2_out_15 : decode cX2_out 15 = .ok (.invokevirtual 337, 3) := by decide +kernel
theorem dX2_out_18 : decode cX2_out 18 = .ok (.ifCond .eq 22, 3) := by decide +kernel
theorem dX2_out_21 : decode cX2_out 21 = .ok (.aload_n 0, 1) := by decide +kernel
theorem dX2_out_22 : decode cX2_out 22 = .ok (.iload_n 1, 1) := by decide +kernel
theorem dX2_out_23 : decode cX2_out 23 = .ok (.iload_n 2, 1) := by decide +kernel
theorem dX2_out_24 : decode cX2_out 24 = .ok (.invokevirtual 421, 3) := by decide +kernel
theorem dX2_out_27 : decode cX2_out 27 = .ok (.ifCond .eq 13, 3) := by decide +kernel
theorem dX2_out_30 : decode cX2_out 30 = .ok (.aload_n 0, 1) := by decide +kernel
theorem dX2_out_31 : decode cX2_out 31 = .ok (.getfield 19, 3) := by decide +kernel
theorem dX2_out_34 : decode cX2_out 34 = .ok (.iload_n 1, 1) := by decide +kernel
theorem dX2_out_35 : decode cX2_out 35 = .ok (.iaload, 1) := by decide +kernel
theorem dX2_out_36 : decode cX2_out 36 = .ok (.iconst (-1), 1) := by decide +kernel
theorem dX2_out_37 : decode cX2_out 37 = .ok (.if_icmp .ne 5, 3) := by decide +kernel
theorem dX2_out_40 : decode cX2_out 40 = .ok (.iconst (-1), 1) := by decide +kernel
theorem dX2_out_41 : decode cX2_out 41 = .ok (.ireturn, 1) := by decide +kernel
theorem dX2_out_42 : decode cX2_out 42 = .ok (.aload_n 0, 1) := by decide +kernel
theorem dX2_out_43 : decode cX2_out 43 = .ok (.iload_n 2, 1) := by decide +kernel
theorem dX2_out_44 : decode cX2_out 44 = .ok (.invokevirtual 340, 3) := by decide +kernel
theorem dX2_out_47 : decode cX2_out 47 = .ok (.aload_n 0, 1) := by decide +kernel
theorem dX2_out_48 : decode cX2_out 48 = .ok (.iload_n 1, 1) := by decide +kernel
theorem dX2_out_49 : decode cX2_out 49 = .ok (.iload_n 2, 1) := by decide +kernel
theorem dX2_out_50 : decode cX2_out 50 = .ok (.invokevirtual 417, 3) := by decide +kernel
theorem dX2_out_53 : decode cX2_out 53 = .ok (.aload_n 0, 1) := by decide +kernel
theorem dX2_out_54 : decode cX2_out 54 = .ok (.getfield 19, 3) := by decide +kernel
theorem dX2_out_57 : decode cX2_out 57 = .ok (.iload_n 1, 1) := by decide +kernel
theorem dX2_out_58 : decode cX2_out 58 = .ok (.iaload, 1) := by decide +kernel
theorem dX2_out_59 : decode cX2_out 59 = .ok (.aload_n 0, 1) := by decide +kernel
theorem dX2_out_60 : decode cX2_out 60 = .ok (.getfield 178, 3) := by decide +kernel
theorem dX2_out_63 : decode cX2_out 63 = .ok (.iload_n 1, 1) := by decide +kernel
theorem dX2_out_64 : decode cX2_out 64 = .ok (.iaload, 1) := by decide +kernel
theorem dX2_out_65 : decode cX2_out 65 = .ok (.aload_n 0, 1) := by decide +kernel
theorem dX2_out_66 : decode cX2_out 66 = .ok (.getfield 181, 3) := by decide +kernel
theorem dX2_out_69 : decode cX2_out 69 = .ok (.iload_n 1, 1) := by decide +kernel
theorem dX2_out_70 : decode cX2_out 70 = .ok (.iaload, 1) := by decide +kernel
theorem dX2_out_71 : decode cX2_out 71 = .ok (.invokestatic 190, 3) := by decide +kernel
theorem dX2_out_74 : decode cX2_out 74 = .ok (.ifCond .eq 7, 3) := by decide +kernel
theorem dX2_out_77 : decode cX2_out 77 = .ok (.iconst 1, 1) := by decide +kernel
theorem dX2_out_78 : decode cX2_out 78 = .ok (.goto 4, 3) := by decide +kernel
theorem dX2_out_81 : decode cX2_out 81 = .ok (.iconst 0, 1) := by decide +kernel
theorem dX2_out_82 : decode cX2_out 82 = .ok (.ireturn, 1) := by decide +kernel
def fn_X2_out_40 (N : Nat)   (Ω : zo_O) : Option zo_R :=
  rI ((-1)) Ω
theorem ct_X2_out_40 {Y : zo_Y} (hY : zo_Gd Y cX2_out 3 RX2 6) (hJ : zo_JC (zo_J Y)) (hCon : ∀ Ω, zo_J Y Ω → zo_Con Ω) (hr : zo_rt Y (Option.some Jvm.ClassFile.FieldType.int)) (N : Nat)    (Ω : zo_O) (res : zo_R) (h : fn_X2_out_40 N   Ω = some res) : TW Y res Ω 40 [] [] := by
  unfold fn_X2_out_40 at h
  refine zo_iconst hY (-1) (by decide) dX2_out_40 ?_
  exact zo_iret hY hr dX2_out_41 h
def fn_X2_out_82 (N : Nat)  (s0 : Int32) (Ω : zo_O) : Option zo_R :=
  rI s0 Ω
theorem ct_X2_out_82 {Y : zo_Y} (hY : zo_Gd Y cX2_out 3 RX2 6) (hJ : zo_JC (zo_J Y)) (hCon : ∀ Ω, zo_J Y Ω → zo_Con Ω) (hr : zo_rt Y (Option.some Jvm.ClassFile.FieldType.int)) (N : Nat)   (s0 : Int32) (Ω : zo_O) (res : zo_R) (h : fn_X2_out_82 N  s0 Ω = some res) : TW Y res Ω 82 [] [vi s0] := by
  unfold fn_X2_out_82 at h
  exact zo_iret hY hr dX2_out_82 h
def fn_X2_out (N : Nat) (x1 : Int32) (x2 : Int32) (Ω : zo_O) : Option zo_R :=
  lt (sI Ω 1 0 0 0) fun Ω1 =>
  ci (fn_X2_isSite N x1 Ω1) fun r3 Ω2 =>
  if r3 = 0 then (
    fn_X2_out_40 N Ω2
    ) else
  ci (fn_X2_isKnown N x2 Ω2) fun r6 Ω5 =>
  if r6 = 0 then (
    fn_X2_out_40 N Ω5
    ) else
  ci (fn_X2_isThere N x1 x2 Ω5) fun r9 Ω8 =>
  if r9 = 0 then (
    fn_X2_out_40 N Ω8
    ) else
  ix x1 14 fun j11 =>
  if gI Ω8 32 3 j11 = (-1) then (
    fn_X2_out_40 N Ω8
    ) else
  cv (fn_X2_habits N x2 Ω8) fun Ω13 =>
  cv (fn_X2_lays N x1 x2 Ω13) fun Ω14 =>
  ix x1 14 fun j15 =>
  ix x1 14 fun j16 =>
  ix x1 14 fun j17 =>
  ci (fn_X2_within N (gI Ω14 32 3 j15) (gI Ω14 32 45 j16) (gI Ω14 32 46 j17) Ω14) fun r19 Ω18 =>
  if r19 = 0 then (
    fn_X2_out_82 N 0 Ω18
    ) else
  fn_X2_out_82 N 1 Ω18
theorem mt_X2_out {G : zo_G} {J : zo_O → Prop} (hJ : zo_JC J) (hCon : ∀ Ω, J Ω → zo_Con Ω) (N : Nat) (x1 : Int32) (x2 : Int32) (Ω : zo_O) (res : zo_R) (h : fn_X2_out N x1 x2 Ω = some res) : zo_MT G J yX2_out cX2_out 3 (Option.some Jvm.ClassFile.FieldType.int) 6 [vr 1 0, vi x1, vi x2] Ω res := by
  refine zo_enter (by decide) rfl (Nat.le_of_ble_eq_true rfl) (fun Y hY eJ hr hmn => ?_)
  subst eJ
  show TW Y res Ω 0 [(0, vr 1 0), (1, vi x1), (2, vi x2)] []
  unfold fn_X2_out at h
  refine zo_aload_n hY dX2_out_0 rfl 0 rfl ?_
  refine zo_iconst hY 0 (by decide) dX2_out_1 ?_
  refine zo_putI hY hJ LX2_187_1 rfl (Or.inl rfl) dX2_out_2 h (fun Ω1 h => ?_)
  refine zo_aload_n hY dX2_out_5 rfl 0 rfl ?_
  refine zo_iload_n hY dX2_out_6 rfl 1 rfl ?_
  refine zo_callV hY (fun q hq => mt_X2_isSite hJ hCon N x1 Ω1 q hq) (by decide) (by decide) (by decide) ⟨rfl, cn_X2_isSite⟩ rfl q1531 q1533 qs39 q82 q1534 (Nat.le_of_ble_eq_true rfl) dX2_out_7 rfl h (ci_k (fun r3 Ω2 res h => ?_))
  refine zo_if_eq hY 40 dX2_out_10 (by decide) h (fun c4 h => ?_) (fun c4 h => ?_)
  · refine zo_sub [] rfl ?_
    exact ct_X2_out_40 hY hJ hCon hr N Ω2 _ h
  · refine zo_aload_n hY dX2_out_13 rfl 0 rfl ?_
    refine zo_iload_n hY dX2_out_14 rfl 2 rfl ?_
    refine zo_callV hY (fun q hq => mt_X2_isKnown hJ hCon N x2 Ω2 q hq) (by decide) (by decide) (by decide) ⟨rfl, cn_X2_isKnown⟩ rfl q1649 q1651 qs49 q82 q1652 (Nat.le_of_ble_eq_true rfl) dX2_out_15 rfl h (ci_k (fun r6 Ω5 res h => ?_))
    refine zo_if_eq hY 40 dX2_out_18 (by decide) h (fun c7 h => ?_) (fun c7 h => ?_)
    · refine zo_sub [] rfl ?_
      exact ct_X2_out_40 hY hJ hCon hr N Ω5 _ h
    · refine zo_aload_n hY dX2_out_21 rfl 0 rfl ?_
      refine zo_iload_n hY dX2_out_22 rfl 1 rfl ?_
      refine zo_iload_n hY dX2_out_23 rfl 2 rfl ?_
      refine zo_callV hY (fun q hq => mt_X2_isThere hJ hCon N x1 x2 Ω5 q hq) (by decide) (by decide) (by decide) ⟨rfl, cn_X2_isThere⟩ rfl q1742 q1744 qs66 q82 q1745 (Nat.le_of_ble_eq_true rfl) dX2_out_24 rfl h (ci_k (fun r9 Ω8 res h => ?_))
      refine zo_if_eq hY 40 dX2_out_27 (by decide) h (fun c10 h => ?_) (fun c10 h => ?_)
      · refine zo_sub [] rfl ?_
        exact ct_X2_out_40 hY hJ hCon hr N Ω8 _ h
      · refine zo_aload_n hY dX2_out_30 rfl 0 rfl ?_
        refine zo_getC hY LX2_19_1 rfl (fun Ω q => (hCon Ω q).2.1 6 _ rfl) dX2_out_31 ?_
        refine zo_iload_n hY dX2_out_34 rfl 1 rfl ?_
        refine zo_ald hY (by decide) (Or.inl ⟨rfl, dX2_out_35⟩) (fun q => (hCon _ q).2.2.2 32 3 14 rfl) h (fun j11 h => ?_)
        refine zo_iconst hY (-1) (by decide) dX2_out_36 ?_
        refine zo_icmp_ne hY 42 dX2_out_37 (by decide) h (fun c12 h => ?_) (fun c12 h => ?_)
        · refine zo_sub [] rfl ?_
          exact ct_X2_out_40 hY hJ hCon hr N Ω8 _ h
        · refine zo_aload_n hY dX2_out_42 rfl 0 rfl ?_
          refine zo_iload_n hY dX2_out_43 rfl 2 rfl ?_
          refine zo_callV hY (fun q hq => mt_X2_habits hJ hCon N x2 Ω8 q hq) (by decide) (by decide) (by decide) ⟨rfl, cn_X2_habits⟩ rfl q1653 q1655 qs50 q82 q1656 (Nat.le_of_ble_eq_true rfl) dX2_out_44 rfl h (cv_k (fun Ω13 res h => ?_))
          refine zo_aload_n hY dX2_out_47 rfl 0 rfl ?_
          refine zo_iload_n hY dX2_out_48 rfl 1 rfl ?_
          refine zo_iload_n hY dX2_out_49 rfl 2 rfl ?_
          refine zo_callV hY (fun q hq => mt_X2_lays hJ hCon N x1 x2 Ω13 q hq) (by decide) (by decide) (by decide) ⟨rfl, cn_X2_lays⟩ rfl q1750 q1752 qs68 q82 q1753 (Nat.le_of_ble_eq_true rfl) dX2_out_50 rfl h (cv_k (fun Ω14 res h => ?_))
          refine zo_aload_n hY dX2_out_53 rfl 0 rfl ?_
          refine zo_getC hY LX2_19_1 rfl (fun Ω q => (hCon Ω q).2.1 6 _ rfl) dX2_out_54 ?_
          refine zo_iload_n hY dX2_out_57 rfl 1 rfl ?_
          refine zo_ald hY (by decide) (Or.inl ⟨rfl, dX2_out_58⟩) (fun q => (hCon _ q).2.2.2 32 3 14 rfl) h (fun j15 h => ?_)
          refine zo_aload_n hY dX2_out_59 rfl 0 rfl ?_
          refine zo_getC hY LX2_178_1 rfl (fun Ω q => (hCon Ω q).2.1 77 _ rfl) dX2_out_60 ?_
          refine zo_iload_n hY dX2_out_63 rfl 1 rfl ?_
          refine zo_ald hY (by decide) (Or.inl ⟨rfl, dX2_out_64⟩) (fun q => (hCon _ q).2.2.2 32 45 14 rfl) h (fun j16 h => ?_)
          refine zo_aload_n hY dX2_out_65 rfl 0 rfl ?_
          refine zo_getC hY LX2_181_1 rfl (fun Ω q => (hCon Ω q).2.1 78 _ rfl) dX2_out_66 ?_
          refine zo_iload_n hY dX2_out_69 rfl 1 rfl ?_
          refine zo_ald hY (by decide) (Or.inl ⟨rfl, dX2_out_70⟩) (fun q => (hCon _ q).2.2.2 32 46 14 rfl) h (fun j17 h => ?_)
          refine zo_callS hY (fun q hq => mt_X2_within hJ hCon N (gI Ω14 32 3 j15) (gI Ω14 32 45 j16) (gI Ω14 32 46 j17) Ω14 q hq) (by decide) (by decide) cn_X2_within rfl q1521 q1522 q82 q1523 (Nat.le_of_ble_eq_true rfl) dX2_out_71 rfl h (ci_k (fun r19 Ω18 res h => ?_))
          refine zo_if_eq hY 81 dX2_out_74 (by decide) h (fun c20 h => ?_) (fun c20 h => ?_)
          · refine zo_iconst hY 0 (by decide) dX2_out_81 ?_
            refine zo_sub [] rfl ?_
            exact ct_X2_out_82 hY hJ hCon hr N 0 Ω18 _ h
          · refine zo_iconst hY 1 (by decide) dX2_out_77 ?_
            refine zo_goto hY 82 dX2_out_78 (by decide) ?_
            refine zo_sub [] rfl ?_
            exact ct_X2_out_82 hY hJ hCon hr N 1 Ω18 _ h
