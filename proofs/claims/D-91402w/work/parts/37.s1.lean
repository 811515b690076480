set_option maxRecDepth 100000
theorem dJ16_insertionSort_0 : decode cJ16_insertionSort 0 = .ok (.iload_n 1, 1) := by decide +kernel
theorem dJ16_insertionSort_1 : decode cJ16_insertionSort 1 = .ok (.istore 4, 2) := by decide +kernel
theorem dJ16_insertionSort_3 : decode cJ16_insertionSort 3 = .ok (.iinc 4 1, 3) := by decide +kernel
theorem dJ16_insertionSort_6 : decode cJ16_insertionSort 6 = .ok (.iload 4, 2) := by decide +kernel
theorem dJ16_insertionSort_8 : decode cJ16_insertionSort 8 = .ok (.iload_n 2, 1) := by decide +kernel
theorem dJ16_insertionSort_9 : decode cJ16_insertionSort 9 = .ok (.if_icmp .ge 58, 3) := by decide +kernel
theorem dJ16_insertionSort_12 : decode cJ16_insertionSort 12 = .ok (.aload_n 0, 1) := by decide +kernel
theorem dJ16_insertionSort_13 : decode cJ16_insertionSort 13 = .ok (.iload 4, 2) := by decide +kernel
theorem dJ16_insertionSort_15 : decode cJ16_insertionSort 15 = .ok (.dup, 1) := by decide +kernel
theorem dJ16_insertionSort_16 : decode cJ16_insertionSort 16 = .ok (.istore_n 3, 1) := by decide +kernel
theorem dJ16_insertionSort_17 : decode cJ16_insertionSort 17 = .ok (.iaload, 1) := by decide +kernel
theorem dJ16_insertionSort_18 : decode cJ16_insertionSort 18 = .ok (.istore 5, 2) := by decide +kernel
theorem dJ16_insertionSort_20 : decode cJ16_insertionSort 20 = .ok (.iload 5, 2) := by decide +kernel
theorem dJ16_insertionSort_22 : decode cJ16_insertionSort 22 = .ok (.aload_n 0, 1) := by decide +kernel
theorem dJ16_insertionSort_23 : decode cJ16_insertionSort 23 = .ok (.iload_n 3, 1) := by decide +kernel
theorem dJ16_insertionSort_24 : decode cJ16_insertionSort 24 = .ok (.iconst 1, 1) := by decide +kernel
theorem dJ16_insertionSort_25 : decode cJ16_insertionSort 25 = .ok (.isub, 1) := by decide +kernel
theorem dJ16_insertionSort_26 : decode cJ16_insertionSort 26 = .ok (.iaload, 1) := by decide +kernel
theorem dJ16_insertionSort_27 : decode cJ16_insertionSort 27 = .ok (.if_icmp .ge 37, 3) := by decide +kernel
theorem dJ16_insertionSort_30 : decode cJ16_insertionSort 30 = .ok (.iinc 3 (-1), 3) := by decide +kernel
theorem dJ16_insertionSort_33 : decode cJ16_insertionSort 33 = .ok (.iload_n 3, 1) := by decide +kernel
theorem dJ16_insertionSort_34 : decode cJ16_insertionSort 34 = .ok (.iload_n 1, 1) := by decide +kernel
theorem dJ16_insertionSort_35 : decode cJ16_insertionSort 35 = .ok (.if_icmp .lt 22, 3) := by decide +kernel
theorem dJ16_insertionSort_38 : decode cJ16_insertionSort 38 = .ok (.iload 5, 2) := by decide +kernel
theorem dJ16_insertionSort_40 : decode cJ16_insertionSort 40 = .ok (.aload_n 0, 1) := by decide +kernel
theorem dJ16_insertionSort_41 : decode cJ16_insertionSort 41 = .ok (.iload_n 3, 1) := by decide +kernel
theorem dJ16_insertionSort_42 : decode cJ16_insertionSort 42 = .ok (.iaload, 1) := by decide +kernel
theorem dJ16_insertionSort_43 : decode cJ16_insertionSort 43 = .ok (.if_icmp .ge 14, 3) := by decide +kernel
theorem dJ16_insertionSort_46 : decode cJ16_insertionSort 46 = .ok (.aload_n 0, 1) := by decide +kernel
theorem dJ16_insertionSort_47 : decode cJ16_insertionSort 47 = .ok (.iload_n 3, 1) := by decide +kernel
theorem dJ16_insertionSort_48 : decode cJ16_insertionSort 48 = .ok (.iconst 1, 1) := by decide +kernel
theorem dJ16_insertionSort_49 : decode cJ16_insertionSort 49 = .ok (.iadd, 1) := by decide +kernel
theorem dJ16_insertionSort_50 : decode cJ16_insertionSort 50 = .ok (.aload_n 0, 1) := by decide +kernel
theorem dJ16_insertionSort_51 : decode cJ16_insertionSort 51 = .ok (.iload_n 3, 1) := by decide +kernel
theorem dJ16_insertionSort_52 : decode cJ16_insertionSort 52 = .ok (.iaload, 1) := by decide +kernel
theorem dJ16_insertionSort_53 : decode cJ16_insertionSort 53 = .ok (.iastore, 1) := by decide +kernel
theorem dJ16_insertionSort_54 : decode cJ16_insertionSort 54 = .ok (.goto (-24), 3) := by decide +kernel
theorem dJ16_insertionSort_57 : decode cJ16_insertionSort 57 = .ok (.aload_n 0, 1) := by decide +kernel
theorem dJ16_insertionSort_58 : decode cJ16_insertionSort 58 = .ok (.iload_n 3, 1) := by decide +kernel
theorem dJ16_insertionSort_59 : decode cJ16_insertionSort 59 = .ok (.iconst 1, 1) := by decide +kernel
theorem dJ16_insertionSort_60 : decode cJ16_insertionSort 60 = .ok (.iadd, 1) := by decide +kernel
theorem dJ16_insertionSort_61 : decode cJ16_insertionSort 61 = .ok (.iload 5, 2) := by decide +kernel
theorem dJ16_insertionSort_63 : decode cJ16_insertionSort 63 = .ok (.iastore, 1) := by decide +kernel
theorem dJ16_insertionSort_64 : decode cJ16_insertionSort 64 = .ok (.goto (-61), 3) := by decide +kernel
theorem dJ16_insertionSort_67 : decode cJ16_insertionSort 67 = .ok (.return_, 1) := by decide +kernel
def fn_J16_insertionSort_64 (N : Nat) (K3 : Nat → Int32 → Int32 → Int32 → zo_O → Option zo_R) (x0 : Nat) (x1 : Int32) (x2 : Int32) (x4 : Int32) (Ω : zo_O) : Option zo_R :=
  K3 x0 x1 x2 x4 Ω
theorem ct_J16_insertionSort_64 {Y : zo_Y} (hY : zo_Gd Y cJ16_insertionSort 6 RJ16 0) (hJ : zo_JC (zo_J Y)) (hCon : ∀ Ω, zo_J Y Ω → zo_Con Ω) (hr : zo_rt Y (Option.none : Option Jvm.ClassFile.FieldType)) (N : Nat) (K3 : Nat → Int32 → Int32 → Int32 → zo_O → Option zo_R) (hK3 : ∀ (x0 : Nat) (x1 : Int32) (x2 : Int32) (x4 : Int32) (Ω : zo_O) (res : zo_R), K3 x0 x1 x2 x4 Ω = some res → TW Y res Ω 3 [(0, vr 35 x0), (1, vi x1), (2, vi x2), (4, vi x4)] []) (x0 : Nat) (x1 : Int32) (x2 : Int32) (x4 : Int32) (Ω : zo_O) (res : zo_R) (h : fn_J16_insertionSort_64 N K3 x0 x1 x2 x4 Ω = some res) : TW Y res Ω 64 [(0, vr 35 x0), (1, vi x1), (2, vi x2), (4, vi x4)] [] := by
  unfold fn_J16_insertionSort_64 at h
  refine zo_goto hY 3 dJ16_insertionSort_64 (by decide) ?_
  exact hK3 x0 x1 x2 x4 Ω _ h
def fn_J16_insertionSort_57 (N : Nat) (K3 : Nat → Int32 → Int32 → Int32 → zo_O → Option zo_R) (x0 : Nat) (x1 : Int32) (x2 : Int32) (x3 : Int32) (x4 : Int32) (x5 : Int32) (Ω : zo_O) : Option zo_R :=
  ix (x3 + 1) (gL Ω 35 x0) fun j1 => lt (sI Ω 35 x0 j1 x5) fun Ω2 =>
  fn_J16_insertionSort_64 N K3 x0 x1 x2 x4 Ω2
theorem ct_J16_insertionSort_57 {Y : zo_Y} (hY : zo_Gd Y cJ16_insertionSort 6 RJ16 0) (hJ : zo_JC (zo_J Y)) (hCon : ∀ Ω, zo_J Y Ω → zo_Con Ω) (hr : zo_rt Y (Option.none : Option Jvm.ClassFile.FieldType)) (N : Nat) (K3 : Nat → Int32 → Int32 → Int32 → zo_O → Option zo_R) (hK3 : ∀ (x0 : Nat) (x1 : Int32) (x2 : Int32) (x4 : Int32) (Ω : zo_O) (res : zo_R), K3 x0 x1 x2 x4 Ω = some res → TW Y res Ω 3 [(0, vr 35 x0), (1, vi x1), (2, vi x2), (4, vi x4)] []) (x0 : Nat) (x1 : Int32) (x2 : Int32) (x3 : Int32) (x4 : Int32) (x5 : Int32) (Ω : zo_O) (res : zo_R) (h : fn_J16_insertionSort_57 N K3 x0 x1 x2 x3 x4 x5 Ω = some res) : TW Y res Ω 57 [(0, vr 35 x0), (1, vi x1), (2, vi x2), (3, vi x3), (4, vi x4), (5, vi x5)] [] := by
  unfold fn_J16_insertionSort_57 at h
  refine zo_aload_n hY dJ16_insertionSort_57 rfl 0 rfl ?_
  refine zo_iload_n hY dJ16_insertionSort_58 rfl 3 rfl ?_
  refine zo_iconst hY 1 (by decide) dJ16_insertionSort_59 ?_
  refine zo_iadd hY dJ16_insertionSort_60 ?_
  refine zo_iload hY dJ16_insertionSort_61 5 rfl ?_
  refine zo_ast hY hJ (by decide) (Or.inl ⟨rfl, rfl, dJ16_insertionSort_63⟩) (fun _ => rfl) h (fun j1 Ω2 h => ?_)
  refine zo_sub [0, 1, 2, 4] rfl ?_
  exact ct_J16_insertionSort_64 hY hJ hCon hr N K3 hK3 x0 x1 x2 x4 Ω2 _ h
def bd_J16_insertionSort_30 (N : Nat) (K3 : Nat → Int32 → Int32 → Int32 → zo_O → Option zo_R) (K30 : Nat → Int32 → Int32 → Int32 → Int32 → Int32 → zo_O → Option zo_R) (x0 : Nat) (x1 : Int32) (x2 : Int32) (x3 : Int32) (x4 : Int32) (x5 : Int32) (Ω : zo_O) : Option zo_R :=
  if x3 + (-1) < x1 then (
    fn_J16_insertionSort_57 N K3 x0 x1 x2 (x3 + (-1)) x4 x5 Ω
    ) else
  ix (x3 + (-1)) (gL Ω 35 x0) fun j2 =>
  if gI Ω 35 x0 j2 ≤ x5 then (
    fn_J16_insertionSort_57 N K3 x0 x1 x2 (x3 + (-1)) x4 x5 Ω
    ) else
  ix (x3 + (-1)) (gL Ω 35 x0) fun j4 =>
  ix ((x3 + (-1)) + 1) (gL Ω 35 x0) fun j5 => lt (sI Ω 35 x0 j5 (gI Ω 35 x0 j4)) fun Ω6 =>
  K30 x0 x1 x2 (x3 + (-1)) x4 x5 Ω6
theorem cb_J16_insertionSort_30 {Y : zo_Y} (hY : zo_Gd Y cJ16_insertionSort 6 RJ16 0) (hJ : zo_JC (zo_J Y)) (hCon : ∀ Ω, zo_J Y Ω → zo_Con Ω) (hr : zo_rt Y (Option.none : Option Jvm.ClassFile.FieldType)) (N : Nat) (K3 : Nat → Int32 → Int32 → Int32 → zo_O → Option zo_R) (K30 : Nat → Int32 → Int32 → Int32 → Int32 → Int32 → zo_O → Option zo_R) (hK3 : ∀ (x0 : Nat) (x1 : Int32) (x2 : Int32) (x4 : Int32) (Ω : zo_O) (res : zo_R), K3 x0 x1 x2 x4 Ω = some res → TW Y res Ω 3 [(0, vr 35 x0), (1, vi x1), (2, vi x2), (4, vi x4)] []) (hK30 : ∀ (x0 : Nat) (x1 : Int32) (x2 : Int32) (x3 : Int32) (x4 : Int32) (x5 : Int32) (Ω : zo_O) (res : zo_R), K30 x0 x1 x2 x3 x4 x5 Ω = some res → TW Y res Ω 30 [(0, vr 35 x0), (1, vi x1), (2, vi x2), (3, vi x3), (4, vi x4), (5, vi x5)] []) (x0 : Nat) (x1 : Int32) (x2 : Int32) (x3 : Int32) (x4 : Int32) (x5 : Int32) (Ω : zo_O) (res : zo_R) (h : bd_J16_insertionSort_30 N K3 K30 x0 x1 x2 x3 x4 x5 Ω = some res) : TW Y res Ω 30 [(0, vr 35 x0), (1, vi x1), (2, vi x2), (3, vi x3), (4, vi x4), (5, vi x5)] [] := by
  unfold bd_J16_insertionSort_30 at h
  refine zo_iinc hY (-1) dJ16_insertionSort_30 (by decide) (by decide) 3 rfl rfl (ls' := [(3, vi (x3 + (-1))), (0, vr 35 x0), (1, vi x1), (2, vi x2), (4, vi x4), (5, vi x5)]) rfl ?_
  refine zo_iload_n hY dJ16_insertionSort_33 rfl 0 rfl ?_
  refine zo_iload_n hY dJ16_insertionSort_34 rfl 2 rfl ?_
  refine zo_icmp_lt hY 57 dJ16_insertionSort_35 (by decide) h (fun c1 h => ?_) (fun c1 h => ?_)
  · refine zo_sub [1, 2, 3, 0, 4, 5] rfl ?_
    exact ct_J16_insertionSort_57 hY hJ hCon hr N K3 hK3 x0 x1 x2 (x3 + (-1)) x4 x5 Ω _ h
  · refine zo_iload hY dJ16_insertionSort_38 5 rfl ?_
    refine zo_aload_n hY dJ16_insertionSort_40 rfl 1 rfl ?_
    refine zo_iload_n hY dJ16_insertionSort_41 rfl 0 rfl ?_
    refine zo_ald hY (by decide) (Or.inl ⟨rfl, dJ16_insertionSort_42⟩) (fun _ => rfl) h (fun j2 h => ?_)
    refine zo_icmp_ge hY 57 dJ16_insertionSort_43 (by decide) h (fun c3 h => ?_) (fun c3 h => ?_)
    · refine zo_sub [1, 2, 3, 0, 4, 5] rfl ?_
      exact ct_J16_insertionSort_57 hY hJ hCon hr N K3 hK3 x0 x1 x2 (x3 + (-1)) x4 x5 Ω _ h
    · refine zo_aload_n hY dJ16_insertionSort_46 rfl 1 rfl ?_
      refine zo_iload_n hY dJ16_insertionSort_47 rfl 0 rfl ?_
      refine zo_iconst hY 1 (by decide) dJ16_insertionSort_48 ?_
      refine zo_iadd hY dJ16_insertionSort_49 ?_
      refine zo_aload_n hY dJ16_insertionSort_50 rfl 1 rfl ?_
      refine zo_iload_n hY dJ16_insertionSort_51 rfl 0 rfl ?_
      refine zo_ald hY (by decide) (Or.inl ⟨rfl, dJ16_insertionSort_52⟩) (fun _ => rfl) h (fun j4 h => ?_)
      refine zo_ast hY hJ (by decide) (Or.inl ⟨rfl, rfl, dJ16_insertionSort_53⟩) (fun _ => rfl) h (fun j5 Ω6 h => ?_)
      refine zo_goto hY 30 dJ16_insertionSort_54 (by decide) ?_
      refine zo_sub [1, 2, 3, 0, 4, 5] rfl ?_
      exact hK30 x0 x1 x2 (x3 + (-1)) x4 x5 Ω6 _ h
def fn_J16_insertionSort_30 (N : Nat) (K3 : Nat → Int32 → Int32 → Int32 → zo_O → Option zo_R) : Nat → Nat → Int32 → Int32 → Int32 → Int32 → Int32 → zo_O → Option zo_R
  | 0, _, _, _, _, _, _, _ => none
  | n + 1, x0, x1, x2, x3, x4, x5, Ω => bd_J16_insertionSort_30 N K3 (fn_J16_insertionSort_30 N K3 n) x0 x1 x2 x3 x4 x5 Ω
theorem ct_J16_insertionSort_30 {Y : zo_Y} (hY : zo_Gd Y cJ16_insertionSort 6 RJ16 0) (hJ : zo_JC (zo_J Y)) (hCon : ∀ Ω, zo_J Y Ω → zo_Con Ω) (hr : zo_rt Y (Option.none : Option Jvm.ClassFile.FieldType)) (N : Nat) (K3 : Nat → Int32 → Int32 → Int32 → zo_O → Option zo_R) (hK3 : ∀ (x0 : Nat) (x1 : Int32) (x2 : Int32) (x4 : Int32) (Ω : zo_O) (res : zo_R), K3 x0 x1 x2 x4 Ω = some res → TW Y res Ω 3 [(0, vr 35 x0), (1, vi x1), (2, vi x2), (4, vi x4)] []) : ∀ (n : Nat) (x0 : Nat) (x1 : Int32) (x2 : Int32) (x3 : Int32) (x4 : Int32) (x5 : Int32) (Ω : zo_O) (res : zo_R), fn_J16_insertionSort_30 N K3 n x0 x1 x2 x3 x4 x5 Ω = some res → TW Y res Ω 30 [(0, vr 35 x0), (1, vi x1), (2, vi x2), (3, vi x3), (4, vi x4), (5, vi x5)] [] := by
  intro n
  induction n with
  | zero => intro x0 x1 x2 x3 x4 x5 Ω res h; exact nomatch (show (none : Option zo_R) = some res from h)
  | succ n ih => intro x0 x1 x2 x3 x4 x5 Ω res h; exact cb_J16_insertionSort_30 hY hJ hCon hr N K3 (fn_J16_insertionSort_30 N K3 n) hK3 ih x0 x1 x2 x3 x4 x5 Ω res h
def bd_J16_insertionSort_3 (N : Nat)  (K3 : Nat → Int32 → Int32 → Int32 → zo_O → Option zo_R) (x0 : Nat) (x1 : Int32) (x2 : Int32) (x4 : Int32) (Ω : zo_O) : Option zo_R :=
  if x2 ≤ x4 + 1 then (
    rV Ω
    ) else
  li (x4 + 1) fun y2 =>
  ix (x4 + 1) (gL Ω 35 x0) fun j3 =>
  li (gI Ω 35 x0 j3) fun y4 =>
  ix (y2 - 1) (gL Ω 35 x0) fun j5 =>
  if gI Ω 35 x0 j5 ≤ y4 then (
    fn_J16_insertionSort_64 N K3 x0 x1 x2 (x4 + 1) Ω
    ) else
  fn_J16_insertionSort_30 N K3 N x0 x1 x2 y2 (x4 + 1) y4 Ω
theorem cb_J16_insertionSort_3 {Y : zo_Y} (hY : zo_Gd Y cJ16_insertionSort 6 RJ16 0) (hJ : zo_JC (zo_J Y)) (hCon : ∀ Ω, zo_J Y Ω → zo_Con Ω) (hr : zo_rt Y (Option.none : Option Jvm.ClassFile.FieldType)) (N : Nat)  (K3 : Nat → Int32 → Int32 → Int32 → zo_O → Option zo_R)  (hK3 : ∀ (x0 : Nat) (x1 : Int32) (x2 : Int32) (x4 : Int32) (Ω : zo_O) (res : zo_R), K3 x0 x1 x2 x4 Ω = some res → TW Y res Ω 3 [(0, vr 35 x0), (1, vi x1), (2, vi x2), (4, vi x4)] []) (x0 : Nat) (x1 : Int32) (x2 : Int32) (x4 : Int32) (Ω : zo_O) (res : zo_R) (h : bd_J16_insertionSort_3 N  K3 x0 x1 x2 x4 Ω = some res) : TW Y res Ω 3 [(0, vr 35 x0), (1, vi x1), (2, vi x2), (4, vi x4)] [] := by
  unfold bd_J16_insertionSort_3 at h
  refine zo_iinc hY 1 dJ16_insertionSort_3 (by decide) (by decide) 3 rfl rfl (ls' := [(4, vi (x4 + 1)), (0, vr 35 x0), (1, vi x1), (2, vi x2)]) rfl ?_
  refine zo_iload hY dJ16_insertionSort_6 0 rfl ?_
  refine zo_iload_n hY dJ16_insertionSort_8 rfl 3 rfl ?_
  refine zo_icmp_ge hY 67 dJ16_insertionSort_9 (by decide) h (fun c1 h => ?_) (fun c1 h => ?_)
  · exact zo_vret hY hr dJ16_insertionSort_67 h
  · refine zo_aload_n hY dJ16_insertionSort_12 rfl 1 rfl ?_
    refine zo_iload hY dJ16_insertionSort_13 0 rfl ?_
    refine zo_dup hY dJ16_insertionSort_15 (Or.inl rfl) ?_
    refine zo_nmi h (fun y2 h => ?_)
    refine zo_istore_n hY dJ16_insertionSort_16 rfl (by decide) rfl (ls' := [(3, vi y2), (4, vi (x4 + 1)), (0, vr 35 x0), (1, vi x1), (2, vi x2)]) rfl ?_
    refine zo_ald hY (by decide) (Or.inl ⟨rfl, dJ16_insertionSort_17⟩) (fun _ => rfl) h (fun j3 h => ?_)
    refine zo_nmi h (fun y4 h => ?_)
    refine zo_istore hY dJ16_insertionSort_18 (by decide) rfl (ls' := [(5, vi y4), (3, vi y2), (4, vi (x4 + 1)), (0, vr 35 x0), (1, vi x1), (2, vi x2)]) rfl ?_
    refine zo_iload hY dJ16_insertionSort_20 0 rfl ?_
    refine zo_aload_n hY dJ16_insertionSort_22 rfl 3 rfl ?_
    refine zo_iload_n hY dJ16_insertionSort_23 rfl 1 rfl ?_
    refine zo_iconst hY 1 (by decide) dJ16_insertionSort_24 ?_
    refine zo_isub hY dJ16_insertionSort_25 ?_
    refine zo_ald hY (by decide) (Or.inl ⟨rfl, dJ16_insertionSort_26⟩) (fun _ => rfl) h (fun j5 h => ?_)
    refine zo_icmp_ge hY 64 dJ16_insertionSort_27 (by decide) h (fun c6 h => ?_) (fun c6 h => ?_)
    · refine zo_sub [3, 4, 5, 2] rfl ?_
      exact ct_J16_insertionSort_64 hY hJ hCon hr N K3 hK3 x0 x1 x2 (x4 + 1) Ω _ h
    · refine zo_sub [3, 4, 5, 1, 2, 0] rfl ?_
      exact ct_J16_insertionSort_30 hY hJ hCon hr N K3 hK3 N x0 x1 x2 y2 (x4 + 1) y4 Ω _ h
def fn_J16_insertionSort_3 (N : Nat)  : Nat → Nat → Int32 → Int32 → Int32 → zo_O → Option zo_R
  | 0, _, _, _, _, _ => none
  | n + 1, x0, x1, x2, x4, Ω => bd_J16_insertionSort_3 N  (fn_J16_insertionSort_3 N  n) x0 x1 x2 x4 Ω
theorem ct_J16_insertionSort_3 {Y : zo_Y} (hY : zo_Gd Y cJ16_insertionSort 6 RJ16 0) (hJ : zo_JC (zo_J Y)) (hCon : ∀ Ω, zo_J Y Ω → zo_Con Ω) (hr : zo_rt Y (Option.none : Option Jvm.ClassFile.FieldType)) (N : Nat)   : ∀ (n : Nat) (x0 : Nat) (x1 : Int32) (x2 : Int32) (x4 : Int32) (Ω : zo_O) (res : zo_R), fn_J16_insertionSort_3 N  n x0 x1 x2 x4 Ω = some res → TW Y res Ω 3 [(0, vr 35 x0), (1, vi x1), (2, vi x2), (4, vi x4)] [] := by
  intro n
  induction n with
  | zero => intro x0 x1 x2 x4 Ω res h; exact nomatch (show (none : Option zo_R) = some res from h)
  | succ n ih => intro x0 x1 x2 x4 Ω res h; exact cb_J16_insertionSort_3 hY hJ hCon hr N  (fn_J16_insertionSort_3 N  n)  ih x0 x1 x2 x4 Ω res h
def fn_J16_insertionSort (N : Nat) (x0 : Nat) (x1 : Int32) (x2 : Int32) (Ω : zo_O) : Option zo_R :=
  fn_J16_insertionSort_3 N N x0 x1 x2 x1 Ω
theorem mt_J16_insertionSort {G : zo_G} {J : zo_O → Prop} (hJ : zo_JC J) (hCon : ∀ Ω, J Ω → zo_Con Ω) (N : Nat) (x0 : Nat) (x1 : Int32) (x2 : Int32) (Ω : zo_O) (res : zo_R) (h : fn_J16_insertionSort N x0 x1 x2 Ω = some res) : zo_MT G J yJ16_insertionSort cJ16_insertionSort 6 (Option.none : Option Jvm.ClassFile.FieldType) 0 [vr 35 x0, vi x1, vi x2] Ω res := by
  refine zo_enter (by decide) rfl (Nat.le_of_ble_eq_true rfl) (fun Y hY eJ hr hmn => ?_)
  subst eJ
  show TW Y res Ω 0 [(0, vr 35 x0), (1, vi x1), (2, vi x2)] []
  unfold fn_J16_insertionSort at h
  refine zo_iload_n hY dJ16_insertionSort_0 rfl 1 rfl ?_
  refine zo_istore hY dJ16_insertionSort_1 (by decide) rfl (ls' := [(4, vi x1), (0, vr 35 x0), (1, vi x1), (2, vi x2)]) rfl ?_
  refine zo_sub [1, 2, 3, 0] rfl ?_
  exact ct_J16_insertionSort_3 hY hJ hCon hr N N x0 x1 x2 x1 Ω _ h
theorem dJ16_mixedInsertionSort_0 : decode cJ16_mixedInsertionSort 0 = .ok (.iload_n 2, 1) := by decide +kernel
theorem dJ16_mixedInsertionSort_1 : decode cJ16_mixedInsertionSort 1 = .ok (.iload_n 3, 1) := by decide +kernel
theorem dJ16_mixedInsertionSort_2 : decode cJ16_mixedInsertionSort 2 = .ok (.if_icmp .ne 58, 3) := by decide +kernel
theorem dJ16_mixedInsertionSort_5 : decode cJ16_mixedInsertionSort 5 = .ok (.iinc 1 1, 3) := by decide +kernel
theorem dJ16_mixedInsertionSort_8 : decode cJ16_mixedInsertionSort 8 = .ok (.iload_n 1, 1) := by decide +kernel
theorem dJ16_mixedInsertionSort_9 : decode cJ16_mixedInsertionSort 9 = .ok (.iload_n 2, 1) := by decide +kernel
theorem dJ16_mixedInsertionSort_10 : decode cJ16_mixedInsertionSort 10 = .ok (.if_icmp .ge 47, 3) := by decide +kernel
theorem dJ16_mixedInsertionSort_13 : decode cJ16_mixedInsertionSort 13 = .ok (.aload_n 0, 1) := by decide +kernel
theorem dJ16_mixedInsertionSort_14 : decode cJ16_mixedInsertionSort 14 = .ok (.iload_n 1, 1) := by decide +kernel
theorem dJ16_mixedInsertionSort_15 : decode cJ16_mixedInsertionSort 15 = .ok (.dup, 1) := by decide +kernel
theorem dJ16_mixedInsertionSort_16 : decode cJ16_mixedInsertionSort 16 = .ok (.istore 4, 2) := by decide +kernel
theorem dJ16_mixedInsertionSort_18 : decode cJ16_mixedInsertionSort 18 = .ok (.iaload, 1) := by decide +kernel
theorem dJ16_mixedInsertionSort_19 : decode cJ16_mixedInsertionSort 19 = .ok (.istore 5, 2) := by decide +kernel
theorem dJ16_mixedInsertionSort_21 : decode cJ16_mixedInsertionSort 21 = .ok (.iload 5, 2) := by decide +kernel
theorem dJ16_mixedInsertionSort_23 : decode cJ16_mixedInsertionSort 23 = .ok (.aload_n 0, 1) := by decide +kernel
theorem dJ16_mixedInsertionSort_24 : decode cJ16_mixedInsertionSort 24 = .ok (.iinc 4 (-1), 3) := by decide +kernel
theorem dJ16_mixedInsertionSort_27 : decode cJ16_mixedInsertionSort 27 = .ok (.iload 4, 2) := by decide +kernel
theorem dJ16_mixedInsertionSort_29 : decode cJ16_mixedInsertionSort 29 = .ok (.iaload, 1) := by decide +kernel
theorem dJ16_mixedInsertionSort_30 : decode cJ16_mixedInsertionSort 30 = .ok (.if_icmp .ge 16, 3) := by decide +kernel
theorem dJ16_mixedInsertionSort_33 : decode cJ16_mixedInsertionSort 33 = .ok (.aload_n 0, 1) := by decide +kernel
theorem dJ16_mixedInsertionSort_34 : decode cJ16_mixedInsertionSort 34 = .ok (.iload 4, 2) := by decide +kernel
theorem dJ16_mixedInsertionSort_36 : decode cJ16_mixedInsertionSort 36 = .ok (.iconst 1, 1) := by decide +kernel
theorem dJ16_mixedInsertionSort_37 : decode cJ16_mixedInsertionSort 37 = .ok (.iadd, 1) := by decide +kernel
theorem dJ16_mixedInsertionSort_38 : decode cJ16_mixedInsertionSort 38 = .ok (.aload_n 0, 1) := by decide +kernel
theorem dJ16_mixedInsertionSort_39 : decode cJ16_mixedInsertionSort 39 = .ok (.iload 4, 2) := by decide +kernel
theorem dJ16_mixedInsertionSort_41 : decode cJ16_mixedInsertionSort 41 = .ok (.iaload, 1) := by decide +kernel
theorem dJ16_mixedInsertionSort_42 : decode cJ16_mixedInsertionSort 42 = .ok (.iastore, 1) := by decide +kernel
theorem dJ16_mixedInsertionSort_43 : decode cJ16_mixedInsertionSort 43 = .ok (.goto (-22), 3) := by decide +kernel
theorem dJ16_mixedInsertionSort_46 : decode cJ16_mixedInsertionSort 46 = .ok (.aload_n 0, 1) := by decide +kernel
theorem dJ16_mixedInsertionSort_47 : decode cJ16_mixedInsertionSort 47 = .ok (.iload 4, 2) := by decide +kernel
theorem dJ16_mixedInsertionSort_49 : decode cJ16_mixedInsertionSort 49 = .ok (.iconst 1, 1) := by decide +kernel
theorem dJ16_mixedInsertionSort_50 : decode cJ16_mixedInsertionSort 50 = .ok (.iadd, 1) := by decide +kernel
theorem dJ16_mixedInsertionSort_51 : decode cJ16_mixedInsertionSort 51 = .ok (.iload 5, 2) := by decide +kernel
theorem dJ16_mixedInsertionSort_53 : decode cJ16_mixedInsertionSort 53 = .ok (.iastore, 1) := by decide +kernel
theorem dJ16_mixedInsertionSort_54 : decode cJ16_mixedInsertionSort 54 = .ok (.goto (-49), 3) := by decide +kernel
theorem dJ16_mixedInsertionSort_57 : decode cJ16_mixedInsertionSort 57 = .ok (.goto 357, 3) := by decide +kernel
theorem dJ16_mixedInsertionSort_60 : decode cJ16_mixedInsertionSort 60 = .ok (.aload_n 0, 1) := by decide +kernel
theorem dJ16_mixedInsertionSort_61 : decode cJ16_mixedInsertionSort 61 = .ok (.iload_n 2, 1) := by decide +kernel
theorem dJ16_mixedInsertionSort_62 : decode cJ16_mixedInsertionSort 62 = .ok (.iaload, 1) := by decide +kernel
theorem dJ16_mixedInsertionSort_63 : decode cJ16_mixedInsertionSort 63 = .ok (.istore 4, 2) := by decide +kernel
theorem dJ16_mixedInsertionSort_65 : decode cJ16_mixedInsertionSort 65 = .ok (.iload_n 3, 1) := by decide +kernel
theorem dJ16_mixedInsertionSort_66 : decode cJ16_mixedInsertionSort 66 = .ok (.istore 6, 2) := by decide +kernel
theorem dJ16_mixedInsertionSort_68 : decode cJ16_mixedInsertionSort 68 = .ok (.iinc 1 1, 3) := by decide +kernel
theorem dJ16_mixedInsertionSort_71 : decode cJ16_mixedInsertionSort 71 = .ok (.iload_n 1, 1) := by decide +kernel
theorem dJ16_mixedInsertionSort_72 : decode cJ16_mixedInsertionSort 72 = .ok (.iload_n 2, 1) := by decide +kernel
theorem dJ16_mixedInsertionSort_73 : decode cJ16_mixedInsertionSort 73 = .ok (.if_icmp .ge 155, 3) := by decide +kernel
theorem dJ16_mixedInsertionSort_76 : decode cJ16_mixedInsertionSort 76 = .ok (.aload_n 0, 1) := by decide +kernel
theorem dJ16_mixedInsertionSort_77 : decode cJ16_mixedInsertionSort 77 = .ok (.iload_n 1, 1) := by decide +kernel
theorem dJ16_mixedInsertionSort_78 : decode cJ16_mixedInsertionSort 78 = .ok (.dup, 1) := by decide +kernel
theorem dJ16_mixedInsertionSort_79 : decode cJ16_mixedInsertionSort 79 = .ok (.istore 5, 2) := by decide +kernel
theorem dJ16_mixedInsertionSort_81 : decode cJ16_mixedInsertionSort 81 = .ok (.iaload, 1) := by decide +kernel
theorem dJ16_mixedInsertionSort_82 : decode cJ16_mixedInsertionSort 82 = .ok (.istore 7, 2) := by decide +kernel
theorem dJ16_mixedInsertionSort_84 : decode cJ16_mixedInsertionSort 84 = .ok (.iload 7, 2) := by decide +kernel
theorem dJ16_mixedInsertionSort_86 : decode cJ16_mixedInsertionSort 86 = .ok (.aload_n 0, 1) := by decide +kernel
theorem dJ16_mixedInsertionSort_87 : decode cJ16_mixedInsertionSort 87 = .ok (.iload 5, 2) := by decide +kernel
theorem dJ16_mixedInsertionSort_89 : decode cJ16_mixedInsertionSort 89 = .ok (.iconst 1, 1) := by decide +kernel
theorem dJ16_mixedInsertionSort_90 : decode cJ16_mixedInsertionSort 90 = .ok (.isub, 1) := by decide +kernel
theorem dJ16_mixedInsertionSort_91 : decode cJ16_mixedInsertionSort 91 = .ok (.iaload, 1) := by decide +kernel
theorem dJ16_mixedInsertionSort_92 : decode cJ16_mixedInsertionSort 92 = .ok (.if_icmp .ge 50, 3) := by decide +kernel
theorem dJ16_mixedInsertionSort_95 : decode cJ16_mixedInsertionSort 95 = .ok (.aload_n 0, 1) := by decide +kernel
theorem dJ16_mixedInsertionSort_96 : decode cJ16_mixedInsertionSort 96 = .ok (.iload 5, 2) := by decide +kernel
theorem dJ16_mixedInsertionSort_98 : decode cJ16_mixedInsertionSort 98 = .ok (.aload_n 0, 1) := by decide +kernel
theorem dJ16_mixedInsertionSort_99 : decode cJ16_mixedInsertionSort 99 = .ok (.iinc 5 (-1), 3) := by decide +kernel
theorem dJ16_mixedInsertionSort_102 : decode cJ16_mixedInsertionSort 102 = .ok (.iload 5, 2) := by decide +kernel
theorem dJ16_mixedInsertionSort_104 : decode cJ16_mixedInsertionSort 104 = .ok (.iaload, 1) := by decide +kernel
theorem dJ16_mixedInsertionSort_105 : decode cJ16_mixedInsertionSort 105 = .ok (.iastore, 1) := by decide +kernel
theorem dJ16_mixedInsertionSort_106 : decode cJ16_mixedInsertionSort 106 = .ok (.iload 7, 2) := by decide +kernel
theorem dJ16_mixedInsertionSort_108 : decode cJ16_mixedInsertionSort 108 = .ok (.aload_n 0, 1) := by decide +kernel
theorem dJ16_mixedInsertionSort_109 : decode cJ16_mixedInsertionSort 109 = .ok (.iinc 5 (-1), 3) := by decide +kernel
theorem dJ16_mixedInsertionSort_112 : decode cJ16_mixedInsertionSort 112 = .ok (.iload 5, 2) := by decide +kernel
theorem dJ16_mixedInsertionSort_114 : decode cJ16_mixedInsertionSort 114 = .ok (.iaload, 1) := by decide +kernel
theorem dJ16_mixedInsertionSort_115 : decode cJ16_mixedInsertionSort 115 = .ok (.if_icmp .ge 16, 3) := by decide +kernel
theorem dJ16_mixedInsertionSort_118 : decode cJ16_mixedInsertionSort 118 = .ok (.aload_n 0, 1) := by decide +kernel
theorem dJ16_mixedInsertionSort_119 : decode cJ16_mixedInsertionSort 119 = .ok (.iload 5, 2) := by decide +kernel
theorem dJ16_mixedInsertionSort_121 : decode cJ16_mixedInsertionSort 121 = .ok (.iconst 1, 1) := by decide +kernel
theorem dJ16_mixedInsertionSort_122 : decode cJ16_mixedInsertionSort 122 = .ok (.iadd, 1) := by decide +kernel
theorem dJ16_mixedInsertionSort_123 : decode cJ16_mixedInsertionSort 123 = .ok (.aload_n 0, 1) := by decide +kernel
theorem dJ16_mixedInsertionSort_124 : decode cJ16_mixedInsertionSort 124 = .ok (.iload 5, 2) := by decide +kernel
theorem dJ16_mixedInsertionSort_126 : decode cJ16_mixedInsertionSort 126 = .ok (.iaload, 1) := by decide +kernel
theorem dJ16_mixedInsertionSort_127 : decode cJ16_mixedInsertionSort 127 = .ok (.iastore, 1) := by decide +kernel
theorem dJ16_mixedInsertionSort_128 : decode cJ16_mixedInsertionSort 128 = .ok (.goto (-22), 3) := by decide +kernel
theorem dJ16_mixedInsertionSort_131 : decode cJ16_mixedInsertionSort 131 = .ok (.aload_n 0, 1) := by decide +kernel
theorem dJ16_mixedInsertionSort_132 : decode cJ16_mixedInsertionSort 132 = .ok (.iload 5, 2) := by decide +kernel
theorem dJ16_mixedInsertionSort_134 : decode cJ16_mixedInsertionSort 134 = .ok (.iconst 1, 1) := by decide +kernel
theorem dJ16_mixedInsertionSort_135 : decode cJ16_mixedInsertionSort 135 = .ok (.iadd, 1) := by decide +kernel
theorem dJ16_mixedInsertionSort_136 : decode cJ16_mixedInsertionSort 136 = .ok (.iload 7, 2) := by decide +kernel
theorem dJ16_mixedInsertionSort_138 : decode cJ16_mixedInsertionSort 138 = .ok (.iastore, 1) := by decide +kernel
theorem dJ16_mixedInsertionSort_139 : decode cJ16_mixedInsertionSort 139 = .ok (.goto 86, 3) := by decide +kernel
theorem dJ16_mixedInsertionSort_142 : decode cJ16_mixedInsertionSort 142 = .ok (.iload 6, 2) := by decide +kernel
theorem dJ16_mixedInsertionSort_144 : decode cJ16_mixedInsertionSort 144 = .ok (.iload 5, 2) := by decide +kernel
theorem dJ16_mixedInsertionSort_146 : decode cJ16_mixedInsertionSort 146 = .ok (.if_icmp .le 79, 3) := by decide +kernel
theorem dJ16_mixedInsertionSort_149 : decode cJ16_mixedInsertionSort 149 = .ok (.iload 7, 2) := by decide +kernel
theorem dJ16_mixedInsertionSort_151 : decode cJ16_mixedInsertionSort 151 = .ok (.iload 4, 2) := by decide +kernel
theorem dJ16_mixedInsertionSort_153 : decode cJ16_mixedInsertionSort 153 = .ok (.if_icmp .le 72, 3) := by decide +kernel
theorem dJ16_mixedInsertionSort_156 : decode cJ16_mixedInsertionSort 156 = .ok (.aload_n 0, 1) := by decide +kernel
theorem dJ16_mixedInsertionSort_157 : decode cJ16_mixedInsertionSort 157 = .ok (.iinc 6 (-1), 3) := by decide +kernel
theorem dJ16_mixedInsertionSort_160 : decode cJ16_mixedInsertionSort 160 = .ok (.iload 6, 2) := by decide +kernel
theorem dJ16_mixedInsertionSort_162 : decode cJ16_mixedInsertionSort 162 = .ok (.iaload, 1) := by decide +kernel
theorem dJ16_mixedInsertionSort_163 : decode cJ16_mixedInsertionSort 163 = .ok (.iload 4, 2) := by decide +kernel
theorem dJ16_mixedInsertionSort_165 : decode cJ16_mixedInsertionSort 165 = .ok (.if_icmp .le 6, 3) := by decide +kernel
theorem dJ16_mixedInsertionSort_168 : decode cJ16_mixedInsertionSort 168 = .ok (.goto (-12), 3) := by decide +kernel
theorem dJ16_mixedInsertionSort_171 : decode cJ16_mixedInsertionSort 171 = .ok (.iload 6, 2) := by decide +kernel
theorem dJ16_mixedInsertionSort_173 : decode cJ16_mixedInsertionSort 173 = .ok (.iload 5, 2) := by decide +kernel
theorem dJ16_mixedInsertionSort_175 : decode cJ16_mixedInsertionSort 175 = .ok (.if_icmp .le 17, 3) := by decide +kernel
theorem dJ16_mixedInsertionSort_178 : decode cJ16_mixedInsertionSort 178 = .ok (.aload_n 0, 1) := by decide +kernel
theorem dJ16_mixedInsertionSort_179 : decode cJ16_mixedInsertionSort 179 = .ok (.iload 6, 2) := by decide +kernel
theorem dJ16_mixedInsertionSort_181 : decode cJ16_mixedInsertionSort 181 = .ok (.iaload, 1) := by decide +kernel
theorem dJ16_mixedInsertionSort_182 : decode cJ16_mixedInsertionSort 182 = .ok (.istore 7, 2) := by decide +kernel
theorem dJ16_mixedInsertionSort_184 : decode cJ16_mixedInsertionSort 184 = .ok (.aload_n 0, 1) := by decide +kernel
theorem dJ16_mixedInsertionSort_185 : decode cJ16_mixedInsertionSort 185 = .ok (.iload 6, 2) := by decide +kernel
theorem dJ16_mixedInsertionSort_187 : decode cJ16_mixedInsertionSort 187 = .ok (.aload_n 0, 1) := by decide +kernel
theorem dJ16_mixedInsertionSort_188 : decode cJ16_mixedInsertionSort 188 = .ok (.iload 5, 2) := by decide +kernel
theorem dJ16_mixedInsertionSort_190 : decode cJ16_mixedInsertionSort 190 = .ok (.iaload, 1) := by decide +kernel
theorem dJ16_mixedInsertionSort_191 : decode cJ16_mixedInsertionSort 191 = .ok (.iastore, 1) := by decide +kernel
theorem dJ16_mixedInsertionSort_192 : decode cJ16_mixedInsertionSort 192 = .ok (.iload 7, 2) := by decide +kernel
theorem dJ16_mixedInsertionSort_194 : decode cJ16_mixedInsertionSort 194 = .ok (.aload_n 0, 1) := by decide +kernel
theorem dJ16_mixedInsertionSort_195 : decode cJ16_mixedInsertionSort 195 = .ok (.iinc 5 (-1), 3) := by decide +kernel
theorem dJ16_mixedInsertionSort_198 : decode cJ16_mixedInsertionSort 198 = .ok (.iload 5, 2) := by decide +kernel
theorem dJ16_mixedInsertionSort_200 : decode cJ16_mixedInsertionSort 200 = .ok (.iaload, 1) := by decide +kernel
theorem dJ16_mixedInsertionSort_201 : decode cJ16_mixedInsertionSort 201 = .ok (.if_icmp .ge 16, 3) := by decide +kernel
theorem dJ16_mixedInsertionSort_204 : decode cJ16_mixedInsertionSort 204 = .ok (.aload_n 0, 1) := by decide +kernel
theorem dJ16_mixedInsertionSort_205 : decode cJ16_mixedInsertionSort 205 = .ok (.iload 5, 2) := by decide +kernel
theorem dJ16_mixedInsertionSort_207 : decode cJ16_mixedInsertionSort 207 = .ok (.iconst 1, 1) := by decide +kernel
theorem dJ16_mixedInsertionSort_208 : decode cJ16_mixedInsertionSort 208 = .ok (.iadd, 1) := by decide +kernel
theorem dJ16_mixedInsertionSort_209 : decode cJ16_mixedInsertionSort 209 = .ok (.aload_n 0, 1) := by decide +kernel
theorem dJ16_mixedInsertionSort_210 : decode cJ16_mixedInsertionSort 210 = .ok (.iload 5, 2) := by decide +kernel
theorem dJ16_mixedInsertionSort_212 : decode cJ16_mixedInsertionSort 212 = .ok (.iaload, 1) := by decide +kernel
theorem dJ16_mixedInsertionSort_213 : decode cJ16_mixedInsertionSort 213 = .ok (.iastore, 1) := by decide +kernel
theorem dJ16_mixedInsertionSort_214 : decode cJ16_mixedInsertionSort 214 = .ok (.goto (-22), 3) := by decide +kernel
theorem dJ16_mixedInsertionSort_217 : decode cJ16_mixedInsertionSort 217 = .ok (.aload_n 0, 1) := by decide +kernel
theorem dJ16_mixedInsertionSort_218 : decode cJ16_mixedInsertionSort 218 = .ok (.iload 5, 2) := by decide +kernel
theorem dJ16_mixedInsertionSort_220 : decode cJ16_mixedInsertionSort 220 = .ok (.iconst 1, 1) := by decide +kernel
theorem dJ16_mixedInsertionSort_221 : decode cJ16_mixedInsertionSort 221 = .ok (.iadd, 1) := by decide +kernel
theorem dJ16_mixedInsertionSort_222 : decode cJ16_mixedInsertionSort 222 = .ok (.iload 7, 2) := by decide +kernel
theorem dJ16_mixedInsertionSort_224 : decode cJ16_mixedInsertionSort 224 = .ok (.iastore, 1) := by decide +kernel
theorem dJ16_mixedInsertionSort_225 : decode cJ16_mixedInsertionSort 225 = .ok (.goto (-157), 3) := by decide +kernel
theorem dJ16_mixedInsertionSort_228 : decode cJ16_mixedInsertionSort 228 = .ok (.iload_n 1, 1) := by decide +kernel
theorem dJ16_mixedInsertionSort_229 : decode cJ16_mixedInsertionSort 229 = .ok (.iload_n 3, 1) := by decide +kernel
theorem dJ16_mixedInsertionSort_230 : decode cJ16_mixedInsertionSort 230 = .ok (.if_icmp .ge 184, 3) := by decide +kernel
theorem dJ16_mixedInsertionSort_233 : decode cJ16_mixedInsertionSort 233 = .ok (.aload_n 0, 1) := by decide +kernel
theorem dJ16_mixedInsertionSort_234 : decode cJ16_mixedInsertionSort 234 = .ok (.iload_n 1, 1) := by decide +kernel
theorem dJ16_mixedInsertionSort_235 : decode cJ16_mixedInsertionSort 235 = .ok (.dup, 1) := by decide +kernel
theorem dJ16_mixedInsertionSort_236 : decode cJ16_mixedInsertionSort 236 = .ok (.istore 5, 2) := by decide +kernel
theorem dJ16_mixedInsertionSort_238 : decode cJ16_mixedInsertionSort 238 = .ok (.iaload, 1) := by decide +kernel
theorem dJ16_mixedInsertionSort_239 : decode cJ16_mixedInsertionSort 239 = .ok (.istore 6, 2) := by decide +kernel
theorem dJ16_mixedInsertionSort_241 : decode cJ16_mixedInsertionSort 241 = .ok (.aload_n 0, 1) := by decide +kernel
theorem dJ16_mixedInsertionSort_242 : decode cJ16_mixedInsertionSort 242 = .ok (.iinc 1 1, 3) := by decide +kernel
theorem dJ16_mixedInsertionSort_245 : decode cJ16_mixedInsertionSort 245 = .ok (.iload_n 1, 1) := by decide +kernel
theorem dJ16_mixedInsertionSort_246 : decode cJ16_mixedInsertionSort 246 = .ok (.iaload, 1) := by decide +kernel
theorem dJ16_mixedInsertionSort_247 : decode cJ16_mixedInsertionSort 247 = .ok (.istore 7, 2) := by decide +kernel
theorem dJ16_mixedInsertionSort_249 : decode cJ16_mixedInsertionSort 249 = .ok (.iload 6, 2) := by decide +kernel
theorem dJ16_mixedInsertionSort_251 : decode cJ16_mixedInsertionSort 251 = .ok (.iload 7, 2) := by decide +kernel
theorem dJ16_mixedInsertionSort_253 : decode cJ16_mixedInsertionSort 253 = .ok (.if_icmp .le 75, 3) := by decide +kernel
theorem dJ16_mixedInsertionSort_256 : decode cJ16_mixedInsertionSort 256 = .ok (.iload 6, 2) := by decide +kernel
theorem dJ16_mixedInsertionSort_258 : decode cJ16_mixedInsertionSort 258 = .ok (.aload_n 0, 1) := by decide +kernel
theorem dJ16_mixedInsertionSort_259 : decode cJ16_mixedInsertionSort 259 = .ok (.iinc 5 (-1), 3) := by decide +kernel
theorem dJ16_mixedInsertionSort_262 : decode cJ16_mixedInsertionSort 262 = .ok (.iload 5, 2) := by decide +kernel
theorem dJ16_mixedInsertionSort_264 : decode cJ16_mixedInsertionSort 264 = .ok (.iaload, 1) := by decide +kernel
theorem dJ16_mixedInsertionSort_265 : decode cJ16_mixedInsertionSort 265 = .ok (.if_icmp .ge 16, 3) := by decide +kernel
theorem dJ16_mixedInsertionSort_268 : decode cJ16_mixedInsertionSort 268 = .ok (.aload_n 0, 1) := by decide +kernel
theorem dJ16_mixedInsertionSort_269 : decode cJ16_mixedInsertionSort 269 = .ok (.iload 5, 2) := by decide +kernel
theorem dJ16_mixedInsertionSort_271 : decode cJ16_mixedInsertionSort 271 = .ok (.iconst 2, 1) := by decide +kernel
theorem dJ16_mixedInsertionSort_272 : decode cJ16_mixedInsertionSort 272 = .ok (.iadd, 1) := by decide +kernel
theorem dJ16_mixedInsertionSort_273 : decode cJ16_mixedInsertionSort 273 = .ok (.aload_n 0, 1) := by decide +kernel
theorem dJ16_mixedInsertionSort_274 : decode cJ16_mixedInsertionSort 274 = .ok (.iload 5, 2) := by decide +kernel
theorem dJ16_mixedInsertionSort_276 : decode cJ16_mixedInsertionSort 276 = .ok (.iaload, 1) := by decide +kernel
theorem dJ16_mixedInsertionSort_277 : decode cJ16_mixedInsertionSort 277 = .ok (.iastore, 1) := by decide +kernel
theorem dJ16_mixedInsertionSort_278 : decode cJ16_mixedInsertionSort 278 = .ok (.goto (-22), 3) := by decide +kernel
theorem dJ16_mixedInsertionSort_281 : decode cJ16_mixedInsertionSort 281 = .ok (.aload_n 0, 1) := by decide +kernel
theorem dJ16_mixedInsertionSort_282 : decode cJ16_mixedInsertionSort 282 = .ok (.iinc 5 1, 3) := by decide +kernel
theorem dJ16_mixedInsertionSort_285 : decode cJ16_mixedInsertionSort 285 = .ok (.iload 5, 2) := by decide +kernel
theorem dJ16_mixedInsertionSort_287 : decode cJ16_mixedInsertionSort 287 = .ok (.iconst 1, 1) := by decide +kernel
theorem dJ16_mixedInsertionSort_288 : decode cJ16_mixedInsertionSort 288 = .ok (.iadd, 1) := by decide +kernel
theorem dJ16_mixedInsertionSort_289 : decode cJ16_mixedInsertionSort 289 = .ok (.iload 6, 2) := by decide +kernel
theorem dJ16_mixedInsertionSort_291 : decode cJ16_mixedInsertionSort 291 = .ok (.iastore, 1) := by decide +kernel
theorem dJ16_mixedInsertionSort_292 : decode cJ16_mixedInsertionSort 292 = .ok (.iload 7, 2) := by decide +kernel
theorem dJ16_mixedInsertionSort_294 : decode cJ16_mixedInsertionSort 294 = .ok (.aload_n 0, 1) := by decide +kernel
theorem dJ16_mixedInsertionSort_295 : decode cJ16_mixedInsertionSort 295 = .ok (.iinc 5 (-1), 3) := by decide +kernel
theorem dJ16_mixedInsertionSort_298 : decode cJ16_mixedInsertionSort 298 = .ok (.iload 5, 2) := by decide +kernel
theorem dJ16_mixedInsertionSort_300 : decode cJ16_mixedInsertionSort 300 = .ok (.iaload, 1) := by decide +kernel
theorem dJ16_mixedInsertionSort_301 : decode cJ16_mixedInsertionSort 301 = .ok (.if_icmp .ge 16, 3) := by decide +kernel
theorem dJ16_mixedInsertionSort_304 : decode cJ16_mixedInsertionSort 304 = .ok (.aload_n 0, 1) := by decide +kernel
theorem dJ16_mixedInsertionSort_305 : decode cJ16_mixedInsertionSort 305 = .ok (.iload 5, 2) := by decide +kernel
theorem dJ16_mixedInsertionSort_307 : decode cJ16_mixedInsertionSort 307 = .ok (.iconst 1, 1) := by decide +kernel
theorem dJ16_mixedInsertionSort_308 : decode cJ16_mixedInsertionSort 308 = .ok (.iadd, 1) := by decide +kernel
theorem dJ16_mixedInsertionSort_309 : decode cJ16_mixedInsertionSort 309 = .ok (.aload_n 0, 1) := by decide +kernel
theorem dJ16_mixedInsertionSort_310 : decode cJ16_mixedInsertionSort 310 = .ok (.iload 5, 2) := by decide +kernel
theorem dJ16_mixedInsertionSort_312 : decode cJ16_mixedInsertionSort 312 = .ok (.iaload, 1) := by decide +kernel
theorem dJ16_mixedInsertionSort_313 : decode cJ16_mixedInsertionSort 313 = .ok (.iastore, 1) := by decide +kernel
theorem dJ16_mixedInsertionSort_314 : decode cJ16_mixedInsertionSort 314 = .ok (.goto (-22), 3) := by decide +kernel
theorem dJ16_mixedInsertionSort_317 : decode cJ16_mixedInsertionSort 317 = .ok (.aload_n 0, 1) := by decide +kernel
theorem dJ16_mixedInsertionSort_318 : decode cJ16_mixedInsertionSort 318 = .ok (.iload 5, 2) := by decide +kernel
theorem dJ16_mixedInsertionSort_320 : decode cJ16_mixedInsertionSort 320 = .ok (.iconst 1, 1) := by decide +kernel
theorem dJ16_mixedInsertionSort_321 : decode cJ16_mixedInsertionSort 321 = .ok (.iadd, 1) := by decide +kernel
theorem dJ16_mixedInsertionSort_322 : decode cJ16_mixedInsertionSort 322 = .ok (.iload 7, 2) := by decide +kernel
theorem dJ16_mixedInsertionSort_324 : decode cJ16_mixedInsertionSort 324 = .ok (.iastore, 1) := by decide +kernel
theorem dJ16_mixedInsertionSort_325 : decode cJ16_mixedInsertionSort 325 = .ok (.goto 83, 3) := by decide +kernel
theorem dJ16_mixedInsertionSort_328 : decode cJ16_mixedInsertionSort 328 = .ok (.iload 6, 2) := by decide +kernel
theorem dJ16_mixedInsertionSort_330 : decode cJ16_mixedInsertionSort 330 = .ok (.aload_n 0, 1) := by decide +kernel
theorem dJ16_mixedInsertionSort_331 : decode cJ16_mixedInsertionSort 331 = .ok (.iload 5, 2) := by decide +kernel
theorem dJ16_mixedInsertionSort_333 : decode cJ16_mixedInsertionSort 333 = .ok (.iconst 1, 1) := by decide +kernel
theorem dJ16_mixedInsertionSort_334 : decode cJ16_mixedInsertionSort 334 = .ok (.isub, 1) := by decide +kernel
theorem dJ16_mixedInsertionSort_335 : decode cJ16_mixedInsertionSort 335 = .ok (.iaload, 1) := by decide +kernel
theorem dJ16_mixedInsertionSort_336 : decode cJ16_mixedInsertionSort 336 = .ok (.if_icmp .ge 72, 3) := by decide +kernel
theorem dJ16_mixedInsertionSort_339 : decode cJ16_mixedInsertionSort 339 = .ok (.iload 7, 2) := by decide +kernel
theorem dJ16_mixedInsertionSort_341 : decode cJ16_mixedInsertionSort 341 = .ok (.aload_n 0, 1) := by decide +kernel
theorem dJ16_mixedInsertionSort_342 : decode cJ16_mixedInsertionSort 342 = .ok (.iinc 5 (-1), 3) := by decide +kernel
theorem dJ16_mixedInsertionSort_345 : decode cJ16_mixedInsertionSort 345 = .ok (.iload 5, 2) := by decide +kernel
theorem dJ16_mixedInsertionSort_347 : decode cJ16_mixedInsertionSort 347 = .ok (.iaload, 1) := by decide +kernel
theorem dJ16_mixedInsertionSort_348 : decode cJ16_mixedInsertionSort 348 = .ok (.if_icmp .ge 16, 3) := by decide +kernel
theorem dJ16_mixedInsertionSort_351 : decode cJ16_mixedInsertionSort 351 = .ok (.aload_n 0, 1) := by decide +kernel
theorem dJ16_mixedInsertionSort_352 : decode cJ16_mixedInsertionSort 352 = .ok (.iload 5, 2) := by decide +kernel
theorem dJ16_mixedInsertionSort_354 : decode cJ16_mixedInsertionSort 354 = .ok (.iconst 2, 1) := by decide +kernel
theorem dJ16_mixedInsertionSort_355 : decode cJ16_mixedInsertionSort 355 = .ok (.iadd, 1) := by decide +kernel
theorem dJ16_mixedInsertionSort_356 : decode cJ16_mixedInsertionSort 356 = .ok (.aload_n 0, 1) := by decide +kernel
theorem dJ16_mixedInsertionSort_357 : decode cJ16_mixedInsertionSort 357 = .ok (.iload 5, 2) := by decide +kernel
theorem dJ16_mixedInsertionSort_359 : decode cJ16_mixedInsertionSort 359 = .ok (.iaload, 1) := by decide +kernel
theorem dJ16_mixedInsertionSort_360 : decode cJ16_mixedInsertionSort 360 = .ok (.iastore, 1) := by decide +kernel
theorem dJ16_mixedInsertionSort_361 : decode cJ16_mixedInsertionSort 361 = .ok (.goto (-22), 3) := by decide +kernel
theorem dJ16_mixedInsertionSort_364 : decode cJ16_mixedInsertionSort 364 = .ok (.aload_n 0, 1) := by decide +kernel
theorem dJ16_mixedInsertionSort_365 : decode cJ16_mixedInsertionSort 365 = .ok (.iinc 5 1, 3) := by decide +kernel
theorem dJ16_mixedInsertionSort_368 : decode cJ16_mixedInsertionSort 368 = .ok (.iload 5, 2) := by decide +kernel
theorem dJ16_mixedInsertionSort_370 : decode cJ16_mixedInsertionSort 370 = .ok (.iconst 1, 1) := by decide +kernel
theorem dJ16_mixedInsertionSort_371 : decode cJ16_mixedInsertionSort 371 = .ok (.iadd, 1) := by decide +kernel
theorem dJ16_mixedInsertionSort_372 : decode cJ16_mixedInsertionSort 372 = .ok (.iload 7, 2) := by decide +kernel
theorem dJ16_mixedInsertionSort_374 : decode cJ16_mixedInsertionSort 374 = .ok (.iastore, 1) := by decide +kernel
theorem dJ16_mixedInsertionSort_375 : decode cJ16_mixedInsertionSort 375 = .ok (.iload 6, 2) := by decide +kernel
theorem dJ16_mixedInsertionSort_377 : decode cJ16_mixedInsertionSort 377 = .ok (.aload_n 0, 1) := by decide +kernel
theorem dJ16_mixedInsertionSort_378 : decode cJ16_mixedInsertionSort 378 = .ok (.iinc 5 (-1), 3) := by decide +kernel
theorem dJ16_mixedInsertionSort_381 : decode cJ16_mixedInsertionSort 381 = .ok (.iload 5, 2) := by decide +kernel
theorem dJ16_mixedInsertionSort_383 : decode cJ16_mixedInsertionSort 383 = .ok (.iaload, 1) := by decide +kernel
theorem dJ16_mixedInsertionSort_384 : decode cJ16_mixedInsertionSort 384 = .ok (.if_icmp .ge 16, 3) := by decide +kernel
theorem dJ16_mixedInsertionSort_387 : decode cJ16_mixedInsertionSort 387 = .ok (.aload_n 0, 1) := by decide +kernel
theorem dJ16_mixedInsertionSort_388 : decode cJ16_mixedInsertionSort 388 = .ok (.iload 5, 2) := by decide +kernel
theorem dJ16_mixedInsertionSort_390 : decode cJ16_mixedInsertionSort 390 = .ok (.iconst 1, 1) := by decide +kernel
theorem dJ16_mixedInsertionSort_391 : decode cJ16_mixedInsertionSort 391 = .ok (.iadd, 1) := by decide +kernel
theorem dJ16_mixedInsertionSort_392 : decode cJ16_mixedInsertionSort 392 = .ok (.aload_n 0, 1) := by decide +kernel
theorem dJ16_mixedInsertionSort_393 : decode cJ16_mixedInsertionSort 393 = .ok (.iload 5, 2) := by decide +kernel
theorem dJ16_mixedInsertionSort_395 : decode cJ16_mixedInsertionSort 395 = .ok (.iaload, 1) := by decide +kernel
theorem dJ16_mixedInsertionSort_396 : decode cJ16_mixedInsertionSort 396 = .ok (.iastore, 1) := by decide +kernel
theorem dJ16_mixedInsertionSort_397 : decode cJ16_mixedInsertionSort 397 = .ok (.goto (-22), 3) := by decide +kernel
theorem dJ16_mixedInsertionSort_400 : decode cJ16_mixedInsertionSort 400 = .ok (.aload_n 0, 1) := by decide +kernel
theorem dJ16_mixedInsertionSort_401 : decode cJ16_mixedInsertionSort 401 = .ok (.iload 5, 2) := by decide +kernel
theorem dJ16_mixedInsertionSort_403 : decode cJ16_mixedInsertionSort 403 = .ok (.iconst 1, 1) := by decide +kernel
theorem dJ16_mixedInsertionSort_404 : decode cJ16_mixedInsertionSort 404 = .ok (.iadd, 1) := by decide +kernel
theorem dJ16_mixedInsertionSort_405 : decode cJ16_mixedInsertionSort 405 = .ok (.iload 6, 2) := by decide +kernel
theorem dJ16_mixedInsertionSort_407 : decode cJ16_mixedInsertionSort 407 = .ok (.iastore, 1) := by decide +kernel
theorem dJ16_mixedInsertionSort_408 : decode cJ16_mixedInsertionSort 408 = .ok (.iinc 1 1, 3) := by decide +kernel
theorem dJ16_mixedInsertionSort_411 : decode cJ16_mixedInsertionSort 411 = .ok (.goto (-183), 3) := by decide +kernel
theorem dJ16_mixedInsertionSort_414 : decode cJ16_mixedInsertionSort 414 = .ok (.return_, 1) := by decide +kernel
def bd_J16_mixedInsertionSort_21 (N : Nat) (K5 : Nat → Int32 → Int32 → zo_O → Option zo_R) (K21 : Nat → Int32 → Int32 → Int32 → Int32 → zo_O → Option zo_R) (x0 : Nat) (x1 : Int32) (x2 : Int32) (x4 : Int32) (x5 : Int32) (Ω : zo_O) : Option zo_R :=
  ix (x4 + (-1)) (gL Ω 35 x0) fun j1 =>
  if gI Ω 35 x0 j1 ≤ x5 then (
    ix ((x4 + (-1)) + 1) (gL Ω 35 x0) fun j3 => lt (sI Ω 35 x0 j3 x5) fun Ω4 =>
    K5 x0 x1 x2 Ω4
    ) else
  ix (x4 + (-1)) (gL Ω 35 x0) fun j5 =>
  ix ((x4 + (-1)) + 1) (gL Ω 35 x0) fun j6 => lt (sI Ω 35 x0 j6 (gI Ω 35 x0 j5)) fun Ω7 =>
  K21 x0 x1 x2 (x4 + (-1)) x5 Ω7
theorem cb_J16_mixedInsertionSort_21 {Y : zo_Y} (hY : zo_Gd Y cJ16_mixedInsertionSort 8 RJ16 0) (hJ : zo_JC (zo_J Y)) (hCon : ∀ Ω, zo_J Y Ω → zo_Con Ω) (hr : zo_rt Y (Option.none : Option Jvm.ClassFile.FieldType)) (N : Nat) (K5 : Nat → Int32 → Int32 → zo_O → Option zo_R) (K21 : Nat → Int32 → Int32 → Int32 → Int32 → zo_O → Option zo_R) (hK5 : ∀ (x0 : Nat) (x1 : Int32) (x2 : Int32) (Ω : zo_O) (res : zo_R), K5 x0 x1 x2 Ω = some res → TW Y res Ω 5 [(0, vr 35 x0), (1, vi x1), (2, vi x2)] []) (hK21 : ∀ (x0 : Nat) (x1 : Int32) (x2 : Int32) (x4 : Int32) (x5 : Int32) (Ω : zo_O) (res : zo_R), K21 x0 x1 x2 x4 x5 Ω = some res → TW Y res Ω 21 [(0, vr 35 x0), (1, vi x1), (2, vi x2), (4, vi x4), (5, vi x5)] []) (x0 : Nat) (x1 : Int32) (x2 : Int32) (x4 : Int32) (x5 : Int32) (Ω : zo_O) (res : zo_R) (h : bd_J16_mixedInsertionSort_21 N K5 K21 x0 x1 x2 x4 x5 Ω = some res) : TW Y res Ω 21 [(0, vr 35 x0), (1, vi x1), (2, vi x2), (4, vi x4), (5, vi x5)] [] := by
  unfold bd_J16_mixedInsertionSort_21 at h
  refine zo_iload hY dJ16_mixedInsertionSort_21 4 rfl ?_
  refine zo_aload_n hY dJ16_mixedInsertionSort_23 rfl 0 rfl ?_
  refine zo_iinc hY (-1) dJ16_mixedInsertionSort_24 (by decide) (by decide) 3 rfl rfl (ls' := [(4, vi (x4 + (-1))), (0, vr 35 x0), (1, vi x1), (2, vi x2), (5, vi x5)]) rfl ?_
  refine zo_iload hY dJ16_mixedInsertionSort_27 0 rfl ?_
  refine zo_ald hY (by decide) (Or.inl ⟨rfl, dJ16_mixedInsertionSort_29⟩) (fun _ => rfl) h (fun j1 h => ?_)
  refine zo_icmp_ge hY 46 dJ16_mixedInsertionSort_30 (by decide) h (fun c2 h => ?_) (fun c2 h => ?_)
  · refine zo_aload_n hY dJ16_mixedInsertionSort_46 rfl 1 rfl ?_
    refine zo_iload hY dJ16_mixedInsertionSort_47 0 rfl ?_
    refine zo_iconst hY 1 (by decide) dJ16_mixedInsertionSort_49 ?_
    refine zo_iadd hY dJ16_mixedInsertionSort_50 ?_
    refine zo_iload hY dJ16_mixedInsertionSort_51 4 rfl ?_
    refine zo_ast hY hJ (by decide) (Or.inl ⟨rfl, rfl, dJ16_mixedInsertionSort_53⟩) (fun _ => rfl) h (fun j3 Ω4 h => ?_)
    refine zo_goto hY 5 dJ16_mixedInsertionSort_54 (by decide) ?_
    refine zo_sub [1, 2, 3] rfl ?_
    exact hK5 x0 x1 x2 Ω4 _ h
  · refine zo_aload_n hY dJ16_mixedInsertionSort_33 rfl 1 rfl ?_
    refine zo_iload hY dJ16_mixedInsertionSort_34 0 rfl ?_
    refine zo_iconst hY 1 (by decide) dJ16_mixedInsertionSort_36 ?_
    refine zo_iadd hY dJ16_mixedInsertionSort_37 ?_
    refine zo_aload_n hY dJ16_mixedInsertionSort_38 rfl 1 rfl ?_
    refine zo_iload hY dJ16_mixedInsertionSort_39 0 rfl ?_
    refine zo_ald hY (by decide) (Or.inl ⟨rfl, dJ16_mixedInsertionSort_41⟩) (fun _ => rfl) h (fun j5 h => ?_)
    refine zo_ast hY hJ (by decide) (Or.inl ⟨rfl, rfl, dJ16_mixedInsertionSort_42⟩) (fun _ => rfl) h (fun j6 Ω7 h => ?_)
    refine zo_goto hY 21 dJ16_mixedInsertionSort_43 (by decide) ?_
    refine zo_sub [1, 2, 3, 0, 4] rfl ?_
    exact hK21 x0 x1 x2 (x4 + (-1)) x5 Ω7 _ h
def fn_J16_mixedInsertionSort_21 (N : Nat) (K5 : Nat → Int32 → Int32 → zo_O → Option zo_R) : Nat → Nat → Int32 → Int32 → Int32 → Int32 → zo_O → Option zo_R
  | 0, _, _, _, _, _, _ => none
  | n + 1, x0, x1, x2, x4, x5, Ω => bd_J16_mixedInsertionSort_21 N K5 (fn_J16_mixedInsertionSort_21 N K5 n) x0 x1 x2 x4 x5 Ω
theorem ct_J16_mixedInsertionSort_21 {Y : zo_Y} (hY : zo_Gd Y cJ16_mixedInsertionSort 8 RJ16 0) (hJ : zo_JC (zo_J Y)) (hCon : ∀ Ω, zo_J Y Ω → zo_Con Ω) (hr : zo_rt Y (Option.none : Option Jvm.ClassFile.FieldType)) (N : Nat) (K5 : Nat → Int32 → Int32 → zo_O → Option zo_R) (hK5 : ∀ (x0 : Nat) (x1 : Int32) (x2 : Int32) (Ω : zo_O) (res : zo_R), K5 x0 x1 x2 Ω = some res → TW Y res Ω 5 [(0, vr 35 x0), (1, vi x1), (2, vi x2)] []) : ∀ (n : Nat) (x0 : Nat) (x1 : Int32) (x2 : Int32) (x4 : Int32) (x5 : Int32) (Ω : zo_O) (res : zo_R), fn_J16_mixedInsertionSort_21 N K5 n x0 x1 x2 x4 x5 Ω = some res → TW Y res Ω 21 [(0, vr 35 x0), (1, vi x1), (2, vi x2), (4, vi x4), (5, vi x5)] [] := by
  intro n
  induction n with
  | zero => intro x0 x1 x2 x4 x5 Ω res h; exact nomatch (show (none : Option zo_R) = some res from h)
  | succ n ih => intro x0 x1 x2 x4 x5 Ω res h; exact cb_J16_mixedInsertionSort_21 hY hJ hCon hr N K5 (fn_J16_mixedInsertionSort_21 N K5 n) hK5 ih x0 x1 x2 x4 x5 Ω res h
def fn_J16_mixedInsertionSort_414 (N : Nat)   (Ω : zo_O) : Option zo_R :=
  rV Ω
theorem ct_J16_mixedInsertionSort_414 {Y : zo_Y} (hY : zo_Gd Y cJ16_mixedInsertionSort 8 RJ16 0) (hJ : zo_JC (zo_J Y)) (hCon : ∀ Ω, zo_J Y Ω → zo_Con Ω) (hr : zo_rt Y (Option.none : Option Jvm.ClassFile.FieldType)) (N : Nat)    (Ω : zo_O) (res : zo_R) (h : fn_J16_mixedInsertionSort_414 N   Ω = some res) : TW Y res Ω 414 [] [] := by
  unfold fn_J16_mixedInsertionSort_414 at h
  exact zo_vret hY hr dJ16_mixedInsertionSort_414 h
def bd_J16_mixedInsertionSort_5 (N : Nat)  (K5 : Nat → Int32 → Int32 → zo_O → Option zo_R) (x0 : Nat) (x1 : Int32) (x2 : Int32) (Ω : zo_O) : Option zo_R :=
  if x2 ≤ x1 + 1 then (
    fn_J16_mixedInsertionSort_414 N Ω
    ) else
  li (x1 + 1) fun y2 =>
  ix (x1 + 1) (gL Ω 35 x0) fun j3 =>
  li (gI Ω 35 x0 j3) fun y4 =>
  fn_J16_mixedInsertionSort_21 N K5 N x0 (x1 + 1) x2 y2 y4 Ω
theorem cb_J16_mixedInsertionSort_5 {Y : zo_Y} (hY : zo_Gd Y cJ16_mixedInsertionSort 8 RJ16 0) (hJ : zo_JC (zo_J Y)) (hCon : ∀ Ω, zo_J Y Ω → zo_Con Ω) (hr : zo_rt Y (Option.none : Option Jvm.ClassFile.FieldType)) (N : Nat)  (K5 : Nat → Int32 → Int32 → zo_O → Option zo_R)  (hK5 : ∀ (x0 : Nat) (x1 : Int32) (x2 : Int32) (Ω : zo_O) (res : zo_R), K5 x0 x1 x2 Ω = some res → TW Y res Ω 5 [(0, vr 35 x0), (1, vi x1), (2, vi x2)] []) (x0 : Nat) (x1 : Int32) (x2 : Int32) (Ω : zo_O) (res : zo_R) (h : bd_J16_mixedInsertionSort_5 N  K5 x0 x1 x2 Ω = some res) : TW Y res Ω 5 [(0, vr 35 x0), (1, vi x1), (2, vi x2)] [] := by
  unfold bd_J16_mixedInsertionSort_5 at h
  refine zo_iinc hY 1 dJ16_mixedInsertionSort_5 (by decide) (by decide) 1 rfl rfl (ls' := [(1, vi (x1 + 1)), (0, vr 35 x0), (2, vi x2)]) rfl ?_
  refine zo_iload_n hY dJ16_mixedInsertionSort_8 rfl 0 rfl ?_
  refine zo_iload_n hY dJ16_mixedInsertionSort_9 rfl 2 rfl ?_
  refine zo_icmp_ge hY 57 dJ16_mixedInsertionSort_10 (by decide) h (fun c1 h => ?_) (fun c1 h => ?_)
  · refine zo_goto hY 414 dJ16_mixedInsertionSort_57 (by decide) ?_
    refine zo_sub [] rfl ?_
    exact ct_J16_mixedInsertionSort_414 hY hJ hCon hr N Ω _ h
  · refine zo_aload_n hY dJ16_mixedInsertionSort_13 rfl 1 rfl ?_
    refine zo_iload_n hY dJ16_mixedInsertionSort_14 rfl 0 rfl ?_
    refine zo_dup hY dJ16_mixedInsertionSort_15 (Or.inl rfl) ?_
    refine zo_nmi h (fun y2 h => ?_)
    refine zo_istore hY dJ16_mixedInsertionSort_16 (by decide) rfl (ls' := [(4, vi y2), (1, vi (x1 + 1)), (0, vr 35 x0), (2, vi x2)]) rfl ?_
    refine zo_ald hY (by decide) (Or.inl ⟨rfl, dJ16_mixedInsertionSort_18⟩) (fun _ => rfl) h (fun j3 h => ?_)
    refine zo_nmi h (fun y4 h => ?_)
    refine zo_istore hY dJ16_mixedInsertionSort_19 (by decide) rfl (ls' := [(5, vi y4), (4, vi y2), (1, vi (x1 + 1)), (0, vr 35 x0), (2, vi x2)]) rfl ?_
    refine zo_sub [3, 2, 4, 1, 0] rfl ?_
    exact ct_J16_mixedInsertionSort_21 hY hJ hCon hr N K5 hK5 N x0 (x1 + 1) x2 y2 y4 Ω _ h
def fn_J16_mixedInsertionSort_5 (N : Nat)  : Nat → Nat → Int32 → Int32 → zo_O → Option zo_R
  | 0, _, _, _, _ => none
  | n + 1, x0, x1, x2, Ω => bd_J16_mixedInsertionSort_5 N  (fn_J16_mixedInsertionSort_5 N  n) x0 x1 x2 Ω
theorem ct_J16_mixedInsertionSort_5 {Y : zo_Y} (hY : zo_Gd Y cJ16_mixedInsertionSort 8 RJ16 0) (hJ : zo_JC (zo_J Y)) (hCon : ∀ Ω, zo_J Y Ω → zo_Con Ω) (hr : zo_rt Y (Option.none : Option Jvm.ClassFile.FieldType)) (N : Nat)   : ∀ (n : Nat) (x0 : Nat) (x1 : Int32) (x2 : Int32) (Ω : zo_O) (res : zo_R), fn_J16_mixedInsertionSort_5 N  n x0 x1 x2 Ω = some res → TW Y res Ω 5 [(0, vr 35 x0), (1, vi x1), (2, vi x2)] [] := by
  intro n
  induction n with
  | zero => intro x0 x1 x2 Ω res h; exact nomatch (show (none : Option zo_R) = some res from h)
  | succ n ih => intro x0 x1 x2 Ω res h; exact cb_J16_mixedInsertionSort_5 hY hJ hCon hr N  (fn_J16_mixedInsertionSort_5 N  n)  ih x0 x1 x2 Ω res h
def fn_J16_mixedInsertionSort_225 (N : Nat) (K68 : Nat → Int32 → Int32 → Int32 → Int32 → Int32 → zo_O → Option zo_R) (x0 : Nat) (x1 : Int32) (x2 : Int32) (x3 : Int32) (x4 : Int32) (x6 : Int32) (Ω : zo_O) : Option zo_R :=
  K68 x0 x1 x2 x3 x4 x6 Ω
theorem ct_J16_mixedInsertionSort_225 {Y : zo_Y} (hY : zo_Gd Y cJ16_mixedInsertionSort 8 RJ16 0) (hJ : zo_JC (zo_J Y)) (hCon : ∀ Ω, zo_J Y Ω → zo_Con Ω) (hr : zo_rt Y (Option.none : Option Jvm.ClassFile.FieldType)) (N : Nat) (K68 : Nat → Int32 → Int32 → Int32 → Int32 → Int32 → zo_O → Option zo_R) (hK68 : ∀ (x0 : Nat) (x1 : Int32) (x2 : Int32) (x3 : Int32) (x4 : Int32) (x6 : Int32) (Ω : zo_O) (res : zo_R), K68 x0 x1 x2 x3 x4 x6 Ω = some res → TW Y res Ω 68 [(0, vr 35 x0), (1, vi x1), (2, vi x2), (3, vi x3), (4, vi x4), (6, vi x6)] []) (x0 : Nat) (x1 : Int32) (x2 : Int32) (x3 : Int32) (x4 : Int32) (x6 : Int32) (Ω : zo_O) (res : zo_R) (h : fn_J16_mixedInsertionSort_225 N K68 x0 x1 x2 x3 x4 x6 Ω = some res) : TW Y res Ω 225 [(0, vr 35 x0), (1, vi x1), (2, vi x2), (3, vi x3), (4, vi x4), (6, vi x6)] [] := by
  unfold fn_J16_mixedInsertionSort_225 at h
  refine zo_goto hY 68 dJ16_mixedInsertionSort_225 (by decide) ?_
  exact hK68 x0 x1 x2 x3 x4 x6 Ω _ h
def bd_J16_mixedInsertionSort_106 (N : Nat) (K68 : Nat → Int32 → Int32 → Int32 → Int32 → Int32 → zo_O → Option zo_R) (K106 : Nat → Int32 → Int32 → Int32 → Int32 → Int32 → Int32 → Int32 → zo_O → Option zo_R) (x0 : Nat) (x1 : Int32) (x2 : Int32) (x3 : Int32) (x4 : Int32) (x5 : Int32) (x6 : Int32) (x7 : Int32) (Ω : zo_O) : Option zo_R :=
  ix (x5 + (-1)) (gL Ω 35 x0) fun j1 =>
  if gI Ω 35 x0 j1 ≤ x7 then (
    ix ((x5 + (-1)) + 1) (gL Ω 35 x0) fun j3 => lt (sI Ω 35 x0 j3 x7) fun Ω4 =>
    fn_J16_mixedInsertionSort_225 N K68 x0 x1 x2 x3 x4 x6 Ω4
    ) else
  ix (x5 + (-1)) (gL Ω 35 x0) fun j5 =>
  ix ((x5 + (-1)) + 1) (gL Ω 35 x0) fun j6 => lt (sI Ω 35 x0 j6 (gI Ω 35 x0 j5)) fun Ω7 =>
  K106 x0 x1 x2 x3 x4 (x5 + (-1)) x6 x7 Ω7
theorem cb_J16_mixedInsertionSort_106 {Y : zo_Y} (hY : zo_Gd Y cJ16_mixedInsertionSort 8 RJ16 0) (hJ : zo_JC (zo_J Y)) (hCon : ∀ Ω, zo_J Y Ω → zo_Con Ω) (hr : zo_rt Y (Option.none : Option Jvm.ClassFile.FieldType)) (N : Nat) (K68 : Nat → Int32 → Int32 → Int32 → Int32 → Int32 → zo_O → Option zo_R) (K106 : Nat → Int32 → Int32 → Int32 → Int32 → Int32 → Int32 → Int32 → zo_O → Option zo_R) (hK68 : ∀ (x0 : Nat) (x1 : Int32) (x2 : Int32) (x3 : Int32) (x4 : Int32) (x6 : Int32) (Ω : zo_O) (res : zo_R), K68 x0 x1 x2 x3 x4 x6 Ω = some res → TW Y res Ω 68 [(0, vr 35 x0), (1, vi x1), (2, vi x2), (3, vi x3), (4, vi x4), (6, vi x6)] []) (hK106 : ∀ (x0 : Nat) (x1 : Int32) (x2 : Int32) (x3 : Int32) (x4 : Int32) (x5 : Int32) (x6 : Int32) (x7 : Int32) (Ω : zo_O) (res : zo_R), K106 x0 x1 x2 x3 x4 x5 x6 x7 Ω = some res → TW Y res Ω 106 [(0, vr 35 x0), (1, vi x1), (2, vi x2), (3, vi x3), (4, vi x4), (5, vi x5), (6, vi x6), (7, vi x7)] []) (x0 : Nat) (x1 : Int32) (x2 : Int32) (x3 : Int32) (x4 : Int32) (x5 : Int32) (x6 : Int32) (x7 : Int32) (Ω : zo_O) (res : zo_R) (h : bd_J16_mixedInsertionSort_106 N K68 K106 x0 x1 x2 x3 x4 x5 x6 x7 Ω = some res) : TW Y res Ω 106 [(0, vr 35 x0), (1, vi x1), (2, vi x2), (3, vi x3), (4, vi x4), (5, vi x5), (6, vi x6), (7, vi x7)] [] := by
  unfold bd_J16_mixedInsertionSort_106 at h
  refine zo_iload hY dJ16_mixedInsertionSort_106 7 rfl ?_
  refine zo_aload_n hY dJ16_mixedInsertionSort_108 rfl 0 rfl ?_
  refine zo_iinc hY (-1) dJ16_mixedInsertionSort_109 (by decide) (by decide) 5 rfl rfl (ls' := [(5, vi (x5 + (-1))), (0, vr 35 x0), (1, vi x1), (2, vi x2), (3, vi x3), (4, vi x4), (6, vi x6), (7, vi x7)]) rfl ?_
  refine zo_iload hY dJ16_mixedInsertionSort_112 0 rfl ?_
  refine zo_ald hY (by decide) (Or.inl ⟨rfl, dJ16_mixedInsertionSort_114⟩) (fun _ => rfl) h (fun j1 h => ?_)
  refine zo_icmp_ge hY 131 dJ16_mixedInsertionSort_115 (by decide) h (fun c2 h => ?_) (fun c2 h => ?_)
  · refine zo_aload_n hY dJ16_mixedInsertionSort_131 rfl 1 rfl ?_
    refine zo_iload hY dJ16_mixedInsertionSort_132 0 rfl ?_
    refine zo_iconst hY 1 (by decide) dJ16_mixedInsertionSort_134 ?_
    refine zo_iadd hY dJ16_mixedInsertionSort_135 ?_
    refine zo_iload hY dJ16_mixedInsertionSort_136 7 rfl ?_
    refine zo_ast hY hJ (by decide) (Or.inl ⟨rfl, rfl, dJ16_mixedInsertionSort_138⟩) (fun _ => rfl) h (fun j3 Ω4 h => ?_)
    refine zo_goto hY 225 dJ16_mixedInsertionSort_139 (by decide) ?_
    refine zo_sub [1, 2, 3, 4, 5, 6] rfl ?_
    exact ct_J16_mixedInsertionSort_225 hY hJ hCon hr N K68 hK68 x0 x1 x2 x3 x4 x6 Ω4 _ h
  · refine zo_aload_n hY dJ16_mixedInsertionSort_118 rfl 1 rfl ?_
    refine zo_iload hY dJ16_mixedInsertionSort_119 0 rfl ?_
    refine zo_iconst hY 1 (by decide) dJ16_mixedInsertionSort_121 ?_
    refine zo_iadd hY dJ16_mixedInsertionSort_122 ?_
    refine zo_aload_n hY dJ16_mixedInsertionSort_123 rfl 1 rfl ?_
    refine zo_iload hY dJ16_mixedInsertionSort_124 0 rfl ?_
    refine zo_ald hY (by decide) (Or.inl ⟨rfl, dJ16_mixedInsertionSort_126⟩) (fun _ => rfl) h (fun j5 h => ?_)
    refine zo_ast hY hJ (by decide) (Or.inl ⟨rfl, rfl, dJ16_mixedInsertionSort_127⟩) (fun _ => rfl) h (fun j6 Ω7 h => ?_)
    refine zo_goto hY 106 dJ16_mixedInsertionSort_128 (by decide) ?_
    refine zo_sub [1, 2, 3, 4, 5, 0, 6, 7] rfl ?_
    exact hK106 x0 x1 x2 x3 x4 (x5 + (-1)) x6 x7 Ω7 _ h
def fn_J16_mixedInsertionSort_106 (N : Nat) (K68 : Nat → Int32 → Int32 → Int32 → Int32 → Int32 → zo_O → Option zo_R) : Nat → Nat → Int32 → Int32 → Int32 → Int32 → Int32 → Int32 → Int32 → zo_O → Option zo_R
  | 0, _, _, _, _, _, _, _, _, _ => none
  | n + 1, x0, x1, x2, x3, x4, x5, x6, x7, Ω => bd_J16_mixedInsertionSort_106 N K68 (fn_J16_mixedInsertionSort_106 N K68 n) x0 x1 x2 x3 x4 x5 x6 x7 Ω
theorem ct_J16_mixedInsertionSort_106 {Y : zo_Y} (hY : zo_Gd Y cJ16_mixedInsertionSort 8 RJ16 0) (hJ : zo_JC (zo_J Y)) (hCon : ∀ Ω, zo_J Y Ω → zo_Con Ω) (hr : zo_rt Y (Option.none : Option Jvm.ClassFile.FieldType)) (N : Nat) (K68 : Nat → Int32 → Int32 → Int32 → Int32 → Int32 → zo_O → Option zo_R) (hK68 : ∀ (x0 : Nat) (x1 : Int32) (x2 : Int32) (x3 : Int32) (x4 : Int32) (x6 : Int32) (Ω : zo_O) (res : zo_R), K68 x0 x1 x2 x3 x4 x6 Ω = some res → TW Y res Ω 68 [(0, vr 35 x0), (1, vi x1), (2, vi x2), (3, vi x3), (4, vi x4), (6, vi x6)] []) : ∀ (n : Nat) (x0 : Nat) (x1 : Int32) (x2 : Int32) (x3 : Int32) (x4 : Int32) (x5 : Int32) (x6 : Int32) (x7 : Int32) (Ω : zo_O) (res : zo_R), fn_J16_mixedInsertionSort_106 N K68 n x0 x1 x2 x3 x4 x5 x6 x7 Ω = some res → TW Y res Ω 106 [(0, vr 35 x0), (1, vi x1), (2, vi x2), (3, vi x3), (4, vi x4), (5, vi x5), (6, vi x6), (7, vi x7)] [] := by
  intro n
  induction n with
  | zero => intro x0 x1 x2 x3 x4 x5 x6 x7 Ω res h; exact nomatch (show (none : Option zo_R) = some res from h)
  | succ n ih => intro x0 x1 x2 x3 x4 x5 x6 x7 Ω res h; exact cb_J16_mixedInsertionSort_106 hY hJ hCon hr N K68 (fn_J16_mixedInsertionSort_106 N K68 n) hK68 ih x0 x1 x2 x3 x4 x5 x6 x7 Ω res h
def bd_J16_mixedInsertionSort_192 (N : Nat) (K68 : Nat → Int32 → Int32 → Int32 → Int32 → Int32 → zo_O → Option zo_R) (K192 : Nat → Int32 → Int32 → Int32 → Int32 → Int32 → Int32 → Int32 → zo_O → Option zo_R) (x0 : Nat) (x1 : Int32) (x2 : Int32) (x3 : Int32) (x4 : Int32) (x5 : Int32) (x6 : Int32) (x7 : Int32) (Ω : zo_O) : Option zo_R :=
  ix (x5 + (-1)) (gL Ω 35 x0) fun j1 =>
  if gI Ω 35 x0 j1 ≤ x7 then (
    ix ((x5 + (-1)) + 1) (gL Ω 35 x0) fun j3 => lt (sI Ω 35 x0 j3 x7) fun Ω4 =>
    fn_J16_mixedInsertionSort_225 N K68 x0 x1 x2 x3 x4 x6 Ω4
    ) else
  ix (x5 + (-1)) (gL Ω 35 x0) fun j5 =>
  ix ((x5 + (-1)) + 1) (gL Ω 35 x0) fun j6 => lt (sI Ω 35 x0 j6 (gI Ω 35 x0 j5)) fun Ω7 =>
  K192 x0 x1 x2 x3 x4 (x5 + (-1)) x6 x7 Ω7
theorem cb_J16_mixedInsertionSort_192 {Y : zo_Y} (hY : zo_Gd Y cJ16_mixedInsertionSort 8 RJ16 0) (hJ : zo_JC (zo_J Y)) (hCon : ∀ Ω, zo_J Y Ω → zo_Con Ω) (hr : zo_rt Y (Option.none : Option Jvm.ClassFile.FieldType)) (N : Nat) (K68 : Nat → Int32 → Int32 → Int32 → Int32 → Int32 → zo_O → Option zo_R) (K192 : Nat → Int32 → Int32 → Int32 → Int32 → Int32 → Int32 → Int32 → zo_O → Option zo_R) (hK68 : ∀ (x0 : Nat) (x1 : Int32) (x2 : Int32) (x3 : Int32) (x4 : Int32) (x6 : Int32) (Ω : zo_O) (res : zo_R), K68 x0 x1 x2 x3 x4 x6 Ω = some res → TW Y res Ω 68 [(0, vr 35 x0), (1, vi x1), (2, vi x2), (3, vi x3), (4, vi x4), (6, vi x6)] []) (hK192 : ∀ (x0 : Nat) (x1 : Int32) (x2 : Int32) (x3 : Int32) (x4 : Int32) (x5 : Int32) (x6 : Int32) (x7 : Int32) (Ω : zo_O) (res : zo_R), K192 x0 x1 x2 x3 x4 x5 x6 x7 Ω = some res → TW Y res Ω 192 [(0, vr 35 x0), (1, vi x1), (2, vi x2), (3, vi x3), (4, vi x4), (5, vi x5), (6, vi x6), (7, vi x7)] []) (x0 : Nat) (x1 : Int32) (x2 : Int32) (x3 : Int32) (x4 : Int32) (x5 : Int32) (x6 : Int32) (x7 : Int32) (Ω : zo_O) (res : zo_R) (h : bd_J16_mixedInsertionSort_192 N K68 K192 x0 x1 x2 x3 x4 x5 x6 x7 Ω = some res) : TW Y res Ω 192 [(0, vr 35 x0), (1, vi x1), (2, vi x2), (3, vi x3), (4, vi x4), (5, vi x5), (6, vi x6), (7, vi x7)] [] := by
  unfold bd_J16_mixedInsertionSort_192 at h
  refine zo_iload hY dJ16_mixedInsertionSort_192 7 rfl ?_
  refine zo_aload_n hY dJ16_mixedInsertionSort_194 rfl 0 rfl ?_
  refine zo_iinc hY (-1) dJ16_mixedInsertionSort_195 (by decide) (by decide) 5 rfl rfl (ls' := [(5, vi (x5 + (-1))), (0, vr 35 x0), (1, vi x1), (2, vi x2), (3, vi x3), (4, vi x4), (6, vi x6), (7, vi x7)]) rfl ?_
  refine zo_iload hY dJ16_mixedInsertionSort_198 0 rfl ?_
  refine zo_ald hY (by decide) (Or.inl ⟨rfl, dJ16_mixedInsertionSort_200⟩) (fun _ => rfl) h (fun j1 h => ?_)
  refine zo_icmp_ge hY 217 dJ16_mixedInsertionSort_201 (by decide) h (fun c2 h => ?_) (fun c2 h => ?_)
  · refine zo_aload_n hY dJ16_mixedInsertionSort_217 rfl 1 rfl ?_
    refine zo_iload hY dJ16_mixedInsertionSort_218 0 rfl ?_
    refine zo_iconst hY 1 (by decide) dJ16_mixedInsertionSort_220 ?_
    refine zo_iadd hY dJ16_mixedInsertionSort_221 ?_
    refine zo_iload hY dJ16_mixedInsertionSort_222 7 rfl ?_
    refine zo_ast hY hJ (by decide) (Or.inl ⟨rfl, rfl, dJ16_mixedInsertionSort_224⟩) (fun _ => rfl) h (fun j3 Ω4 h => ?_)
    refine zo_sub [1, 2, 3, 4, 5, 6] rfl ?_
    exact ct_J16_mixedInsertionSort_225 hY hJ hCon hr N K68 hK68 x0 x1 x2 x3 x4 x6 Ω4 _ h
  · refine zo_aload_n hY dJ16_mixedInsertionSort_204 rfl 1 rfl ?_
    refine zo_iload hY dJ16_mixedInsertionSort_205 0 rfl ?_
    refine zo_iconst hY 1 (by decide) dJ16_mixedInsertionSort_207 ?_
    refine zo_iadd hY dJ16_mixedInsertionSort_208 ?_
    refine zo_aload_n hY dJ16_mixedInsertionSort_209 rfl 1 rfl ?_
    refine zo_iload hY dJ16_mixedInsertionSort_210 0 rfl ?_
    refine zo_ald hY (by decide) (Or.inl ⟨rfl, dJ16_mixedInsertionSort_212⟩) (fun _ => rfl) h (fun j5 h => ?_)
    refine zo_ast hY hJ (by decide) (Or.inl ⟨rfl, rfl, dJ16_mixedInsertionSort_213⟩) (fun _ => rfl) h (fun j6 Ω7 h => ?_)
    refine zo_goto hY 192 dJ16_mixedInsertionSort_214 (by decide) ?_
    refine zo_sub [1, 2, 3, 4, 5, 0, 6, 7] rfl ?_
    exact hK192 x0 x1 x2 x3 x4 (x5 + (-1)) x6 x7 Ω7 _ h
def fn_J16_mixedInsertionSort_192 (N : Nat) (K68 : Nat → Int32 → Int32 → Int32 → Int32 → Int32 → zo_O → Option zo_R) : Nat → Nat → Int32 → Int32 → Int32 → Int32 → Int32 → Int32 → Int32 → zo_O → Option zo_R
  | 0, _, _, _, _, _, _, _, _, _ => none
  | n + 1, x0, x1, x2, x3, x4, x5, x6, x7, Ω => bd_J16_mixedInsertionSort_192 N K68 (fn_J16_mixedInsertionSort_192 N K68 n) x0 x1 x2 x3 x4 x5 x6 x7 Ω
theorem ct_J16_mixedInsertionSort_192 {Y : zo_Y} (hY : zo_Gd Y cJ16_mixedInsertionSort 8 RJ16 0) (hJ : zo_JC (zo_J Y)) (hCon : ∀ Ω, zo_J Y Ω → zo_Con Ω) (hr : zo_rt Y (Option.none : Option Jvm.ClassFile.FieldType)) (N : Nat) (K68 : Nat → Int32 → Int32 → Int32 → Int32 → Int32 → zo_O → Option zo_R) (hK68 : ∀ (x0 : Nat) (x1 : Int32) (x2 : Int32) (x3 : Int32) (x4 : Int32) (x6 : Int32) (Ω : zo_O) (res : zo_R), K68 x0 x1 x2 x3 x4 x6 Ω = some res → TW Y res Ω 68 [(0, vr 35 x0), (1, vi x1), (2, vi x2), (3, vi x3), (4, vi x4), (6, vi x6)] []) : ∀ (n : Nat) (x0 : Nat) (x1 : Int32) (x2 : Int32) (x3 : Int32) (x4 : Int32) (x5 : Int32) (x6 : Int32) (x7 : Int32) (Ω : zo_O) (res : zo_R), fn_J16_mixedInsertionSort_192 N K68 n x0 x1 x2 x3 x4 x5 x6 x7 Ω = some res → TW Y res Ω 192 [(0, vr 35 x0), (1, vi x1), (2, vi x2), (3, vi x3), (4, vi x4), (5, vi x5), (6, vi x6), (7, vi x7)] [] := by
  intro n
  induction n with
  | zero => intro x0 x1 x2 x3 x4 x5 x6 x7 Ω res h; exact nomatch (show (none : Option zo_R) = some res from h)
  | succ n ih => intro x0 x1 x2 x3 x4 x5 x6 x7 Ω res h; exact cb_J16_mixedInsertionSort_192 hY hJ hCon hr N K68 (fn_J16_mixedInsertionSort_192 N K68 n) hK68 ih x0 x1 x2 x3 x4 x5 x6 x7 Ω res h
def bd_J16_mixedInsertionSort_156 (N : Nat) (K68 : Nat → Int32 → Int32 → Int32 → Int32 → Int32 → zo_O → Option zo_R) (K156 : Nat → Int32 → Int32 → Int32 → Int32 → Int32 → Int32 → Int32 → zo_O → Option zo_R) (x0 : Nat) (x1 : Int32) (x2 : Int32) (x3 : Int32) (x4 : Int32) (x5 : Int32) (x6 : Int32) (x7 : Int32) (Ω : zo_O) : Option zo_R :=
  ix (x6 + (-1)) (gL Ω 35 x0) fun j1 =>
  if gI Ω 35 x0 j1 ≤ x4 then (
    if x6 + (-1) ≤ x5 then (
      fn_J16_mixedInsertionSort_192 N K68 N x0 x1 x2 x3 x4 x5 (x6 + (-1)) x7 Ω
      ) else
    ix (x6 + (-1)) (gL Ω 35 x0) fun j4 =>
    li (gI Ω 35 x0 j4) fun y5 =>
    ix x5 (gL Ω 35 x0) fun j6 =>
    ix (x6 + (-1)) (gL Ω 35 x0) fun j7 => lt (sI Ω 35 x0 j7 (gI Ω 35 x0 j6)) fun Ω8 =>
    fn_J16_mixedInsertionSort_192 N K68 N x0 x1 x2 x3 x4 x5 (x6 + (-1)) y5 Ω8
    ) else
  K156 x0 x1 x2 x3 x4 x5 (x6 + (-1)) x7 Ω
theorem cb_J16_mixedInsertionSort_156 {Y : zo_Y} (hY : zo_Gd Y cJ16_mixedInsertionSort 8 RJ16 0) (hJ : zo_JC (zo_J Y)) (hCon : ∀ Ω, zo_J Y Ω → zo_Con Ω) (hr : zo_rt Y (Option.none : Option Jvm.ClassFile.FieldType)) (N : Nat) (K68 : Nat → Int32 → Int32 → Int32 → Int32 → Int32 → zo_O → Option zo_R) (K156 : Nat → Int32 → Int32 → Int32 → Int32 → Int32 → Int32 → Int32 → zo_O → Option zo_R) (hK68 : ∀ (x0 : Nat) (x1 : Int32) (x2 : Int32) (x3 : Int32) (x4 : Int32) (x6 : Int32) (Ω : zo_O) (res : zo_R), K68 x0 x1 x2 x3 x4 x6 Ω = some res → TW Y res Ω 68 [(0, vr 35 x0), (1, vi x1), (2, vi x2), (3, vi x3), (4, vi x4), (6, vi x6)] []) (hK156 : ∀ (x0 : Nat) (x1 : Int32) (x2 : Int32) (x3 : Int32) (x4 : Int32) (x5 : Int32) (x6 : Int32) (x7 : Int32) (Ω : zo_O) (res : zo_R), K156 x0 x1 x2 x3 x4 x5 x6 x7 Ω = some res → TW Y res Ω 156 [(0, vr 35 x0), (1, vi x1), (2, vi x2), (3, vi x3), (4, vi x4), (5, vi x5), (6, vi x6), (7, vi x7)] []) (x0 : Nat) (x1 : Int32) (x2 : Int32) (x3 : Int32) (x4 : Int32) (x5 : Int32) (x6 : Int32) (x7 : Int32) (Ω : zo_O) (res : zo_R) (h : bd_J16_mixedInsertionSort_156 N K68 K156 x0 x1 x2 x3 x4 x5 x6 x7 Ω = some res) : TW Y res Ω 156 [(0, vr 35 x0), (1, vi x1), (2, vi x2), (3, vi x3), (4, vi x4), (5, vi x5), (6, vi x6), (7, vi x7)] [] := by
  unfold bd_J16_mixedInsertionSort_156 at h
  refine zo_aload_n hY dJ16_mixedInsertionSort_156 rfl 0 rfl ?_
  refine zo_iinc hY (-1) dJ16_mixedInsertionSort_157 (by decide) (by decide) 6 rfl rfl (ls' := [(6, vi (x6 + (-1))), (0, vr 35 x0), (1, vi x1), (2, vi x2), (3, vi x3), (4, vi x4), (5, vi x5), (7, vi x7)]) rfl ?_
  refine zo_iload hY dJ16_mixedInsertionSort_160 0 rfl ?_
  refine zo_ald hY (by decide) (Or.inl ⟨rfl, dJ16_mixedInsertionSort_162⟩) (fun _ => rfl) h (fun j1 h => ?_)
  refine zo_iload hY dJ16_mixedInsertionSort_163 5 rfl ?_
  refine zo_icmp_le hY 171 dJ16_mixedInsertionSort_165 (by decide) h (fun c2 h => ?_) (fun c2 h => ?_)
  · refine zo_iload hY dJ16_mixedInsertionSort_171 0 rfl ?_
    refine zo_iload hY dJ16_mixedInsertionSort_173 6 rfl ?_
    refine zo_icmp_le hY 192 dJ16_mixedInsertionSort_175 (by decide) h (fun c3 h => ?_) (fun c3 h => ?_)
    · refine zo_sub [1, 2, 3, 4, 5, 6, 0, 7] rfl ?_
      exact ct_J16_mixedInsertionSort_192 hY hJ hCon hr N K68 hK68 N x0 x1 x2 x3 x4 x5 (x6 + (-1)) x7 Ω _ h
    · refine zo_aload_n hY dJ16_mixedInsertionSort_178 rfl 1 rfl ?_
      refine zo_iload hY dJ16_mixedInsertionSort_179 0 rfl ?_
      refine zo_ald hY (by decide) (Or.inl ⟨rfl, dJ16_mixedInsertionSort_181⟩) (fun _ => rfl) h (fun j4 h => ?_)
      refine zo_nmi h (fun y5 h => ?_)
      refine zo_istore hY dJ16_mixedInsertionSort_182 (by decide) rfl (ls' := [(7, vi y5), (6, vi (x6 + (-1))), (0, vr 35 x0), (1, vi x1), (2, vi x2), (3, vi x3), (4, vi x4), (5, vi x5)]) rfl ?_
      refine zo_aload_n hY dJ16_mixedInsertionSort_184 rfl 2 rfl ?_
      refine zo_iload hY dJ16_mixedInsertionSort_185 1 rfl ?_
      refine zo_aload_n hY dJ16_mixedInsertionSort_187 rfl 2 rfl ?_
      refine zo_iload hY dJ16_mixedInsertionSort_188 7 rfl ?_
      refine zo_ald hY (by decide) (Or.inl ⟨rfl, dJ16_mixedInsertionSort_190⟩) (fun _ => rfl) h (fun j6 h => ?_)
      refine zo_ast hY hJ (by decide) (Or.inl ⟨rfl, rfl, dJ16_mixedInsertionSort_191⟩) (fun _ => rfl) h (fun j7 Ω8 h => ?_)
      refine zo_sub [2, 3, 4, 5, 6, 7, 1, 0] rfl ?_
      exact ct_J16_mixedInsertionSort_192 hY hJ hCon hr N K68 hK68 N x0 x1 x2 x3 x4 x5 (x6 + (-1)) y5 Ω8 _ h
  · refine zo_goto hY 156 dJ16_mixedInsertionSort_168 (by decide) ?_
    refine zo_sub [1, 2, 3, 4, 5, 6, 0, 7] rfl ?_
    exact hK156 x0 x1 x2 x3 x4 x5 (x6 + (-1)) x7 Ω _ h
def fn_J16_mixedInsertionSort_156 (N : Nat) (K68 : Nat → Int32 → Int32 → Int32 → Int32 → Int32 → zo_O → Option zo_R) : Nat → Nat → Int32 → Int32 → Int32 → Int32 → Int32 → Int32 → Int32 → zo_O → Option zo_R
  | 0, _, _, _, _, _, _, _, _, _ => none
  | n + 1, x0, x1, x2, x3, x4, x5, x6, x7, Ω => bd_J16_mixedInsertionSort_156 N K68 (fn_J16_mixedInsertionSort_156 N K68 n) x0 x1 x2 x3 x4 x5 x6 x7 Ω
theorem ct_J16_mixedInsertionSort_156 {Y : zo_Y} (hY : zo_Gd Y cJ16_mixedInsertionSort 8 RJ16 0) (hJ : zo_JC (zo_J Y)) (hCon : ∀ Ω, zo_J Y Ω → zo_Con Ω) (hr : zo_rt Y (Option.none : Option Jvm.ClassFile.FieldType)) (N : Nat) (K68 : Nat → Int32 → Int32 → Int32 → Int32 → Int32 → zo_O → Option zo_R) (hK68 : ∀ (x0 : Nat) (x1 : Int32) (x2 : Int32) (x3 : Int32) (x4 : Int32) (x6 : Int32) (Ω : zo_O) (res : zo_R), K68 x0 x1 x2 x3 x4 x6 Ω = some res → TW Y res Ω 68 [(0, vr 35 x0), (1, vi x1), (2, vi x2), (3, vi x3), (4, vi x4), (6, vi x6)] []) : ∀ (n : Nat) (x0 : Nat) (x1 : Int32) (x2 : Int32) (x3 : Int32) (x4 : Int32) (x5 : Int32) (x6 : Int32) (x7 : Int32) (Ω : zo_O) (res : zo_R), fn_J16_mixedInsertionSort_156 N K68 n x0 x1 x2 x3 x4 x5 x6 x7 Ω = some res → TW Y res Ω 156 [(0, vr 35 x0), (1, vi x1), (2, vi x2), (3, vi x3), (4, vi x4), (5, vi x5), (6, vi x6), (7, vi x7)] [] := by
  intro n
  induction n with
  | zero => intro x0 x1 x2 x3 x4 x5 x6 x7 Ω res h; exact nomatch (show (none : Option zo_R) = some res from h)
  | succ n ih => intro x0 x1 x2 x3 x4 x5 x6 x7 Ω res h; exact cb_J16_mixedInsertionSort_156 hY hJ hCon hr N K68 (fn_J16_mixedInsertionSort_156 N K68 n) hK68 ih x0 x1 x2 x3 x4 x5 x6 x7 Ω res h
def fn_J16_mixedInsertionSort_408 (N : Nat) (K228 : Nat → Int32 → Int32 → zo_O → Option zo_R) (x0 : Nat) (x1 : Int32) (x3 : Int32) (Ω : zo_O) : Option zo_R :=
  K228 x0 (x1 + 1) x3 Ω
theorem ct_J16_mixedInsertionSort_408 {Y : zo_Y} (hY : zo_Gd Y cJ16_mixedInsertionSort 8 RJ16 0) (hJ : zo_JC (zo_J Y)) (hCon : ∀ Ω, zo_J Y Ω → zo_Con Ω) (hr : zo_rt Y (Option.none : Option Jvm.ClassFile.FieldType)) (N : Nat) (K228 : Nat → Int32 → Int32 → zo_O → Option zo_R) (hK228 : ∀ (x0 : Nat) (x1 : Int32) (x3 : Int32) (Ω : zo_O) (res : zo_R), K228 x0 x1 x3 Ω = some res → TW Y res Ω 228 [(0, vr 35 x0), (1, vi x1), (3, vi x3)] []) (x0 : Nat) (x1 : Int32) (x3 : Int32) (Ω : zo_O) (res : zo_R) (h : fn_J16_mixedInsertionSort_408 N K228 x0 x1 x3 Ω = some res) : TW Y res Ω 408 [(0, vr 35 x0), (1, vi x1), (3, vi x3)] [] := by
  unfold fn_J16_mixedInsertionSort_408 at h
  refine zo_iinc hY 1 dJ16_mixedInsertionSort_408 (by decide) (by decide) 1 rfl rfl (ls' := [(1, vi (x1 + 1)), (0, vr 35 x0), (3, vi x3)]) rfl ?_
  refine zo_goto hY 228 dJ16_mixedInsertionSort_411 (by decide) ?_
  refine zo_sub [1, 0, 2] rfl ?_
  exact hK228 x0 (x1 + 1) x3 Ω _ h
def bd_J16_mixedInsertionSort_292 (N : Nat) (K228 : Nat → Int32 → Int32 → zo_O → Option zo_R) (K292 : Nat → Int32 → Int32 → Int32 → Int32 → zo_O → Option zo_R) (x0 : Nat) (x1 : Int32) (x3 : Int32) (x5 : Int32) (x7 : Int32) (Ω : zo_O) : Option zo_R :=
  ix (x5 + (-1)) (gL Ω 35 x0) fun j1 =>
  if gI Ω 35 x0 j1 ≤ x7 then (
    ix ((x5 + (-1)) + 1) (gL Ω 35 x0) fun j3 => lt (sI Ω 35 x0 j3 x7) fun Ω4 =>
    fn_J16_mixedInsertionSort_408 N K228 x0 x1 x3 Ω4
    ) else
  ix (x5 + (-1)) (gL Ω 35 x0) fun j5 =>
  ix ((x5 + (-1)) + 1) (gL Ω 35 x0) fun j6 => lt (sI Ω 35 x0 j6 (gI Ω 35 x0 j5)) fun Ω7 =>
  K292 x0 x1 x3 (x5 + (-1)) x7 Ω7
theorem cb_J16_mixedInsertionSort_292 {Y : zo_Y} (hY : zo_Gd Y cJ16_mixedInsertionSort 8 RJ16 0) (hJ : zo_JC (zo_J Y)) (hCon : ∀ Ω, zo_J Y Ω → zo_Con Ω) (hr : zo_rt Y (Option.none : Option Jvm.ClassFile.FieldType)) (N : Nat) (K228 : Nat → Int32 → Int32 → zo_O → Option zo_R) (K292 : Nat → Int32 → Int32 → Int32 → Int32 → zo_O → Option zo_R) (hK228 : ∀ (x0 : Nat) (x1 : Int32) (x3 : Int32) (Ω : zo_O) (res : zo_R), K228 x0 x1 x3 Ω = some res → TW Y res Ω 228 [(0, vr 35 x0), (1, vi x1), (3, vi x3)] []) (hK292 : ∀ (x0 : Nat) (x1 : Int32) (x3 : Int32) (x5 : Int32) (x7 : Int32) (Ω : zo_O) (res : zo_R), K292 x0 x1 x3 x5 x7 Ω = some res → TW Y res Ω 292 [(0, vr 35 x0), (1, vi x1), (3, vi x3), (5, vi x5), (7, vi x7)] []) (x0 : Nat) (x1 : Int32) (x3 : Int32) (x5 : Int32) (x7 : Int32) (Ω : zo_O) (res : zo_R) (h : bd_J16_mixedInsertionSort_292 N K228 K292 x0 x1 x3 x5 x7 Ω = some res) : TW Y res Ω 292 [(0, vr 35 x0), (1, vi x1), (3, vi x3), (5, vi x5), (7, vi x7)] [] := by
  unfold bd_J16_mixedInsertionSort_292 at h
  refine zo_iload hY dJ16_mixedInsertionSort_292 4 rfl ?_
  refine zo_aload_n hY dJ16_mixedInsertionSort_294 rfl 0 rfl ?_
  refine zo_iinc hY (-1) dJ16_mixedInsertionSort_295 (by decide) (by decide) 3 rfl rfl (ls' := [(5, vi (x5 + (-1))), (0, vr 35 x0), (1, vi x1), (3, vi x3), (7, vi x7)]) rfl ?_
  refine zo_iload hY dJ16_mixedInsertionSort_298 0 rfl ?_
  refine zo_ald hY (by decide) (Or.inl ⟨rfl, dJ16_mixedInsertionSort_300⟩) (fun _ => rfl) h (fun j1 h => ?_)
  refine zo_icmp_ge hY 317 dJ16_mixedInsertionSort_301 (by decide) h (fun c2 h => ?_) (fun c2 h => ?_)
  · refine zo_aload_n hY dJ16_mixedInsertionSort_317 rfl 1 rfl ?_
    refine zo_iload hY dJ16_mixedInsertionSort_318 0 rfl ?_
    refine zo_iconst hY 1 (by decide) dJ16_mixedInsertionSort_320 ?_
    refine zo_iadd hY dJ16_mixedInsertionSort_321 ?_
    refine zo_iload hY dJ16_mixedInsertionSort_322 4 rfl ?_
    refine zo_ast hY hJ (by decide) (Or.inl ⟨rfl, rfl, dJ16_mixedInsertionSort_324⟩) (fun _ => rfl) h (fun j3 Ω4 h => ?_)
    refine zo_goto hY 408 dJ16_mixedInsertionSort_325 (by decide) ?_
    refine zo_sub [1, 2, 3] rfl ?_
    exact ct_J16_mixedInsertionSort_408 hY hJ hCon hr N K228 hK228 x0 x1 x3 Ω4 _ h
  · refine zo_aload_n hY dJ16_mixedInsertionSort_304 rfl 1 rfl ?_
    refine zo_iload hY dJ16_mixedInsertionSort_305 0 rfl ?_
    refine zo_iconst hY 1 (by decide) dJ16_mixedInsertionSort_307 ?_
    refine zo_iadd hY dJ16_mixedInsertionSort_308 ?_
    refine zo_aload_n hY dJ16_mixedInsertionSort_309 rfl 1 rfl ?_
    refine zo_iload hY dJ16_mixedInsertionSort_310 0 rfl ?_
    refine zo_ald hY (by decide) (Or.inl ⟨rfl, dJ16_mixedInsertionSort_312⟩) (fun _ => rfl) h (fun j5 h => ?_)
    refine zo_ast hY hJ (by decide) (Or.inl ⟨rfl, rfl, dJ16_mixedInsertionSort_313⟩) (fun _ => rfl) h (fun j6 Ω7 h => ?_)
    refine zo_goto hY 292 dJ16_mixedInsertionSort_314 (by decide) ?_
    refine zo_sub [1, 2, 3, 0, 4] rfl ?_
    exact hK292 x0 x1 x3 (x5 + (-1)) x7 Ω7 _ h
def fn_J16_mixedInsertionSort_292 (N : Nat) (K228 : Nat → Int32 → Int32 → zo_O → Option zo_R) : Nat → Nat → Int32 → Int32 → Int32 → Int32 → zo_O → Option zo_R
  | 0, _, _, _, _, _, _ => none
  | n + 1, x0, x1, x3, x5, x7, Ω => bd_J16_mixedInsertionSort_292 N K228 (fn_J16_mixedInsertionSort_292 N K228 n) x0 x1 x3 x5 x7 Ω
theorem ct_J16_mixedInsertionSort_292 {Y : zo_Y} (hY : zo_Gd Y cJ16_mixedInsertionSort 8 RJ16 0) (hJ : zo_JC (zo_J Y)) (hCon : ∀ Ω, zo_J Y Ω → zo_Con Ω) (hr : zo_rt Y (Option.none : Option Jvm.ClassFile.FieldType)) (N : Nat) (K228 : Nat → Int32 → Int32 → zo_O → Option zo_R) (hK228 : ∀ (x0 : Nat) (x1 : Int32) (x3 : Int32) (Ω : zo_O) (res : zo_R), K228 x0 x1 x3 Ω = some res → TW Y res Ω 228 [(0, vr 35 x0), (1, vi x1), (3, vi x3)] []) : ∀ (n : Nat) (x0 : Nat) (x1 : Int32) (x3 : Int32) (x5 : Int32) (x7 : Int32) (Ω : zo_O) (res : zo_R), fn_J16_mixedInsertionSort_292 N K228 n x0 x1 x3 x5 x7 Ω = some res → TW Y res Ω 292 [(0, vr 35 x0), (1, vi x1), (3, vi x3), (5, vi x5), (7, vi x7)] [] := by
  intro n
  induction n with
  | zero => intro x0 x1 x3 x5 x7 Ω res h; exact nomatch (show (none : Option zo_R) = some res from h)
  | succ n ih => intro x0 x1 x3 x5 x7 Ω res h; exact cb_J16_mixedInsertionSort_292 hY hJ hCon hr N K228 (fn_J16_mixedInsertionSort_292 N K228 n) hK228 ih x0 x1 x3 x5 x7 Ω res h
def bd_J16_mixedInsertionSort_256 (N : Nat) (K228 : Nat → Int32 → Int32 → zo_O → Option zo_R) (K256 : Nat → Int32 → Int32 → Int32 → Int32 → Int32 → zo_O → Option zo_R) (x0 : Nat) (x1 : Int32) (x3 : Int32) (x5 : Int32) (x6 : Int32) (x7 : Int32) (Ω : zo_O) : Option zo_R :=
  ix (x5 + (-1)) (gL Ω 35 x0) fun j1 =>
  if gI Ω 35 x0 j1 ≤ x6 then (
    ix ((x5 + (-1) + 1) + 1) (gL Ω 35 x0) fun j3 => lt (sI Ω 35 x0 j3 x6) fun Ω4 =>
    fn_J16_mixedInsertionSort_292 N K228 N x0 x1 x3 (x5 + (-1) + 1) x7 Ω4
    ) else
  ix (x5 + (-1)) (gL Ω 35 x0) fun j5 =>
  ix ((x5 + (-1)) + 2) (gL Ω 35 x0) fun j6 => lt (sI Ω 35 x0 j6 (gI Ω 35 x0 j5)) fun Ω7 =>
  K256 x0 x1 x3 (x5 + (-1)) x6 x7 Ω7
theorem cb_J16_mixedInsertionSort_256 {Y : zo_Y} (hY : zo_Gd Y cJ16_mixedInsertionSort 8 RJ16 0) (hJ : zo_JC (zo_J Y)) (hCon : ∀ Ω, zo_J Y Ω → zo_Con Ω) (hr : zo_rt Y (Option.none : Option Jvm.ClassFile.FieldType)) (N : Nat) (K228 : Nat → Int32 → Int32 → zo_O → Option zo_R) (K256 : Nat → Int32 → Int32 → Int32 → Int32 → Int32 → zo_O → Option zo_R) (hK228 : ∀ (x0 : Nat) (x1 : Int32) (x3 : Int32) (Ω : zo_O) (res : zo_R), K228 x0 x1 x3 Ω = some res → TW Y res Ω 228 [(0, vr 35 x0), (1, vi x1), (3, vi x3)] []) (hK256 : ∀ (x0 : Nat) (x1 : Int32) (x3 : Int32) (x5 : Int32) (x6 : Int32) (x7 : Int32) (Ω : zo_O) (res : zo_R), K256 x0 x1 x3 x5 x6 x7 Ω = some res → TW Y res Ω 256 [(0, vr 35 x0), (1, vi x1), (3, vi x3), (5, vi x5), (6, vi x6), (7, vi x7)] []) (x0 : Nat) (x1 : Int32) (x3 : Int32) (x5 : Int32) (x6 : Int32) (x7 : Int32) (Ω : zo_O) (res : zo_R) (h : bd_J16_mixedInsertionSort_256 N K228 K256 x0 x1 x3 x5 x6 x7 Ω = some res) : TW Y res Ω 256 [(0, vr 35 x0), (1, vi x1), (3, vi x3), (5, vi x5), (6, vi x6), (7, vi x7)] [] := by
  unfold bd_J16_mixedInsertionSort_256 at h
  refine zo_iload hY dJ16_mixedInsertionSort_256 4 rfl ?_
  refine zo_aload_n hY dJ16_mixedInsertionSort_258 rfl 0 rfl ?_
  refine zo_iinc hY (-1) dJ16_mixedInsertionSort_259 (by decide) (by decide) 3 rfl rfl (ls' := [(5, vi (x5 + (-1))), (0, vr 35 x0), (1, vi x1), (3, vi x3), (6, vi x6), (7, vi x7)]) rfl ?_
  refine zo_iload hY dJ16_mixedInsertionSort_262 0 rfl ?_
  refine zo_ald hY (by decide) (Or.inl ⟨rfl, dJ16_mixedInsertionSort_264⟩) (fun _ => rfl) h (fun j1 h => ?_)
  refine zo_icmp_ge hY 281 dJ16_mixedInsertionSort_265 (by decide) h (fun c2 h => ?_) (fun c2 h => ?_)
  · refine zo_aload_n hY dJ16_mixedInsertionSort_281 rfl 1 rfl ?_
    refine zo_iinc hY 1 dJ16_mixedInsertionSort_282 (by decide) (by decide) 0 rfl rfl (ls' := [(5, vi (x5 + (-1) + 1)), (0, vr 35 x0), (1, vi x1), (3, vi x3), (6, vi x6), (7, vi x7)]) rfl ?_
    refine zo_iload hY dJ16_mixedInsertionSort_285 0 rfl ?_
    refine zo_iconst hY 1 (by decide) dJ16_mixedInsertionSort_287 ?_
    refine zo_iadd hY dJ16_mixedInsertionSort_288 ?_
    refine zo_iload hY dJ16_mixedInsertionSort_289 4 rfl ?_
    refine zo_ast hY hJ (by decide) (Or.inl ⟨rfl, rfl, dJ16_mixedInsertionSort_291⟩) (fun _ => rfl) h (fun j3 Ω4 h => ?_)
    refine zo_sub [1, 2, 3, 0, 5] rfl ?_
    exact ct_J16_mixedInsertionSort_292 hY hJ hCon hr N K228 hK228 N x0 x1 x3 (x5 + (-1) + 1) x7 Ω4 _ h
  · refine zo_aload_n hY dJ16_mixedInsertionSort_268 rfl 1 rfl ?_
    refine zo_iload hY dJ16_mixedInsertionSort_269 0 rfl ?_
    refine zo_iconst hY 2 (by decide) dJ16_mixedInsertionSort_271 ?_
    refine zo_iadd hY dJ16_mixedInsertionSort_272 ?_
    refine zo_aload_n hY dJ16_mixedInsertionSort_273 rfl 1 rfl ?_
    refine zo_iload hY dJ16_mixedInsertionSort_274 0 rfl ?_
    refine zo_ald hY (by decide) (Or.inl ⟨rfl, dJ16_mixedInsertionSort_276⟩) (fun _ => rfl) h (fun j5 h => ?_)
    refine zo_ast hY hJ (by decide) (Or.inl ⟨rfl, rfl, dJ16_mixedInsertionSort_277⟩) (fun _ => rfl) h (fun j6 Ω7 h => ?_)
    refine zo_goto hY 256 dJ16_mixedInsertionSort_278 (by decide) ?_
    refine zo_sub [1, 2, 3, 0, 4, 5] rfl ?_
    exact hK256 x0 x1 x3 (x5 + (-1)) x6 x7 Ω7 _ h
def fn_J16_mixedInsertionSort_256 (N : Nat) (K228 : Nat → Int32 → Int32 → zo_O → Option zo_R) : Nat → Nat → Int32 → Int32 → Int32 → Int32 → Int32 → zo_O → Option zo_R
  | 0, _, _, _, _, _, _, _ => none
  | n + 1, x0, x1, x3, x5, x6, x7, Ω => bd_J16_mixedInsertionSort_256 N K228 (fn_J16_mixedInsertionSort_256 N K228 n) x0 x1 x3 x5 x6 x7 Ω
theorem ct_J16_mixedInsertionSort_256 {Y : zo_Y} (hY : zo_Gd Y cJ16_mixedInsertionSort 8 RJ16 0) (hJ : zo_JC (zo_J Y)) (hCon : ∀ Ω, zo_J Y Ω → zo_Con Ω) (hr : zo_rt Y (Option.none : Option Jvm.ClassFile.FieldType)) (N : Nat) (K228 : Nat → Int32 → Int32 → zo_O → Option zo_R) (hK228 : ∀ (x0 : Nat) (x1 : Int32) (x3 : Int32) (Ω : zo_O) (res : zo_R), K228 x0 x1 x3 Ω = some res → TW Y res Ω 228 [(0, vr 35 x0), (1, vi x1), (3, vi x3)] []) : ∀ (n : Nat) (x0 : Nat) (x1 : Int32) (x3 : Int32) (x5 : Int32) (x6 : Int32) (x7 : Int32) (Ω : zo_O) (res : zo_R), fn_J16_mixedInsertionSort_256 N K228 n x0 x1 x3 x5 x6 x7 Ω = some res → TW Y res Ω 256 [(0, vr 35 x0), (1, vi x1), (3, vi x3), (5, vi x5), (6, vi x6), (7, vi x7)] [] := by
  intro n
  induction n with
  | zero => intro x0 x1 x3 x5 x6 x7 Ω res h; exact nomatch (show (none : Option zo_R) = some res from h)
  | succ n ih => intro x0 x1 x3 x5 x6 x7 Ω res h; exact cb_J16_mixedInsertionSort_256 hY hJ hCon hr N K228 (fn_J16_mixedInsertionSort_256 N K228 n) hK228 ih x0 x1 x3 x5 x6 x7 Ω res h
def bd_J16_mixedInsertionSort_375 (N : Nat) (K228 : Nat → Int32 → Int32 → zo_O → Option zo_R) (K375 : Nat → Int32 → Int32 → Int32 → Int32 → zo_O → Option zo_R) (x0 : Nat) (x1 : Int32) (x3 : Int32) (x5 : Int32) (x6 : Int32) (Ω : zo_O) : Option zo_R :=
  ix (x5 + (-1)) (gL Ω 35 x0) fun j1 =>
  if gI Ω 35 x0 j1 ≤ x6 then (
    ix ((x5 + (-1)) + 1) (gL Ω 35 x0) fun j3 => lt (sI Ω 35 x0 j3 x6) fun Ω4 =>
    fn_J16_mixedInsertionSort_408 N K228 x0 x1 x3 Ω4
    ) else
  ix (x5 + (-1)) (gL Ω 35 x0) fun j5 =>
  ix ((x5 + (-1)) + 1) (gL Ω 35 x0) fun j6 => lt (sI Ω 35 x0 j6 (gI Ω 35 x0 j5)) fun Ω7 =>
  K375 x0 x1 x3 (x5 + (-1)) x6 Ω7
theorem cb_J16_mixedInsertionSort_375 {Y : zo_Y} (hY : zo_Gd Y cJ16_mixedInsertionSort 8 RJ16 0) (hJ : zo_JC (zo_J Y)) (hCon : ∀ Ω, zo_J Y Ω → zo_Con Ω) (hr : zo_rt Y (Option.none : Option Jvm.ClassFile.FieldType)) (N : Nat) (K228 : Nat → Int32 → Int32 → zo_O → Option zo_R) (K375 : Nat → Int32 → Int32 → Int32 → Int32 → zo_O → Option zo_R) (hK228 : ∀ (x0 : Nat) (x1 : Int32) (x3 : Int32) (Ω : zo_O) (res : zo_R), K228 x0 x1 x3 Ω = some res → TW Y res Ω 228 [(0, vr 35 x0), (1, vi x1), (3, vi x3)] []) (hK375 : ∀ (x0 : Nat) (x1 : Int32) (x3 : Int32) (x5 : Int32) (x6 : Int32) (Ω : zo_O) (res : zo_R), K375 x0 x1 x3 x5 x6 Ω = some res → TW Y res Ω 375 [(0, vr 35 x0), (1, vi x1), (3, vi x3), (5, vi x5), (6, vi x6)] []) (x0 : Nat) (x1 : Int32) (x3 : Int32) (x5 : Int32) (x6 : Int32) (Ω : zo_O) (res : zo_R) (h : bd_J16_mixedInsertionSort_375 N K228 K375 x0 x1 x3 x5 x6 Ω = some res) : TW Y res Ω 375 [(0, vr 35 x0), (1, vi x1), (3, vi x3), (5, vi x5), (6, vi x6)] [] := by
  unfold bd_J16_mixedInsertionSort_375 at h
  refine zo_iload hY dJ16_mixedInsertionSort_375 4 rfl ?_
  refine zo_aload_n hY dJ16_mixedInsertionSort_377 rfl 0 rfl ?_
  refine zo_iinc hY (-1) dJ16_mixedInsertionSort_378 (by decide) (by decide) 3 rfl rfl (ls' := [(5, vi (x5 + (-1))), (0, vr 35 x0), (1, vi x1), (3, vi x3), (6, vi x6)]) rfl ?_
  refine zo_iload hY dJ16_mixedInsertionSort_381 0 rfl ?_
  refine zo_ald hY (by decide) (Or.inl ⟨rfl, dJ16_mixedInsertionSort_383⟩) (fun _ => rfl) h (fun j1 h => ?_)
  refine zo_icmp_ge hY 400 dJ16_mixedInsertionSort_384 (by decide) h (fun c2 h => ?_) (fun c2 h => ?_)
  · refine zo_aload_n hY dJ16_mixedInsertionSort_400 rfl 1 rfl ?_
    refine zo_iload hY dJ16_mixedInsertionSort_401 0 rfl ?_
    refine zo_iconst hY 1 (by decide) dJ16_mixedInsertionSort_403 ?_
    refine zo_iadd hY dJ16_mixedInsertionSort_404 ?_
    refine zo_iload hY dJ16_mixedInsertionSort_405 4 rfl ?_
    refine zo_ast hY hJ (by decide) (Or.inl ⟨rfl, rfl, dJ16_mixedInsertionSort_407⟩) (fun _ => rfl) h (fun j3 Ω4 h => ?_)
    refine zo_sub [1, 2, 3] rfl ?_
    exact ct_J16_mixedInsertionSort_408 hY hJ hCon hr N K228 hK228 x0 x1 x3 Ω4 _ h
  · refine zo_aload_n hY dJ16_mixedInsertionSort_387 rfl 1 rfl ?_
    refine zo_iload hY dJ16_mixedInsertionSort_388 0 rfl ?_
    refine zo_iconst hY 1 (by decide) dJ16_mixedInsertionSort_390 ?_
    refine zo_iadd hY dJ16_mixedInsertionSort_391 ?_
    refine zo_aload_n hY dJ16_mixedInsertionSort_392 rfl 1 rfl ?_
    refine zo_iload hY dJ16_mixedInsertionSort_393 0 rfl ?_
    refine zo_ald hY (by decide) (Or.inl ⟨rfl, dJ16_mixedInsertionSort_395⟩) (fun _ => rfl) h (fun j5 h => ?_)
    refine zo_ast hY hJ (by decide) (Or.inl ⟨rfl, rfl, dJ16_mixedInsertionSort_396⟩) (fun _ => rfl) h (fun j6 Ω7 h => ?_)
    refine zo_goto hY 375 dJ16_mixedInsertionSort_397 (by decide) ?_
    refine zo_sub [1, 2, 3, 0, 4] rfl ?_
    exact hK375 x0 x1 x3 (x5 + (-1)) x6 Ω7 _ h
def fn_J16_mixedInsertionSort_375 (N : Nat) (K228 : Nat → Int32 → Int32 → zo_O → Option zo_R) : Nat → Nat → Int32 → Int32 → Int32 → Int32 → zo_O → Option zo_R
  | 0, _, _, _, _, _, _ => none
  | n + 1, x0, x1, x3, x5, x6, Ω => bd_J16_mixedInsertionSort_375 N K228 (fn_J16_mixedInsertionSort_375 N K228 n) x0 x1 x3 x5 x6 Ω
theorem ct_J16_mixedInsertionSort_375 {Y : zo_Y} (hY : zo_Gd Y cJ16_mixedInsertionSort 8 RJ16 0) (hJ : zo_JC (zo_J Y)) (hCon : ∀ Ω, zo_J Y Ω → zo_Con Ω) (hr : zo_rt Y (Option.none : Option Jvm.ClassFile.FieldType)) (N : Nat) (K228 : Nat → Int32 → Int32 → zo_O → Option zo_R) (hK228 : ∀ (x0 : Nat) (x1 : Int32) (x3 : Int32) (Ω : zo_O) (res : zo_R), K228 x0 x1 x3 Ω = some res → TW Y res Ω 228 [(0, vr 35 x0), (1, vi x1), (3, vi x3)] []) : ∀ (n : Nat) (x0 : Nat) (x1 : Int32) (x3 : Int32) (x5 : Int32) (x6 : Int32) (Ω : zo_O) (res : zo_R), fn_J16_mixedInsertionSort_375 N K228 n x0 x1 x3 x5 x6 Ω = some res → TW Y res Ω 375 [(0, vr 35 x0), (1, vi x1), (3, vi x3), (5, vi x5), (6, vi x6)] [] := by
  intro n
  induction n with
  | zero => intro x0 x1 x3 x5 x6 Ω res h; exact nomatch (show (none : Option zo_R) = some res from h)
  | succ n ih => intro x0 x1 x3 x5 x6 Ω res h; exact cb_J16_mixedInsertionSort_375 hY hJ hCon hr N K228 (fn_J16_mixedInsertionSort_375 N K228 n) hK228 ih x0 x1 x3 x5 x6 Ω res h
def bd_J16_mixedInsertionSort_339 (N : Nat) (K228 : Nat → Int32 → Int32 → zo_O → Option zo_R) (K339 : Nat → Int32 → Int32 → Int32 → Int32 → Int32 → zo_O → Option zo_R) (x0 : Nat) (x1 : Int32) (x3 : Int32) (x5 : Int32) (x6 : Int32) (x7 : Int32) (Ω : zo_O) : Option zo_R :=
  ix (x5 + (-1)) (gL Ω 35 x0) fun j1 =>
  if gI Ω 35 x0 j1 ≤ x7 then (
    ix ((x5 + (-1) + 1) + 1) (gL Ω 35 x0) fun j3 => lt (sI Ω 35 x0 j3 x7) fun Ω4 =>
    fn_J16_mixedInsertionSort_375 N K228 N x0 x1 x3 (x5 + (-1) + 1) x6 Ω4
    ) else
  ix (x5 + (-1)) (gL Ω 35 x0) fun j5 =>
  ix ((x5 + (-1)) + 2) (gL Ω 35 x0) fun j6 => lt (sI Ω 35 x0 j6 (gI Ω 35 x0 j5)) fun Ω7 =>
  K339 x0 x1 x3 (x5 + (-1)) x6 x7 Ω7
theorem cb_J16_mixedInsertionSort_339 {Y : zo_Y} (hY : zo_Gd Y cJ16_mixedInsertionSort 8 RJ16 0) (hJ : zo_JC (zo_J Y)) (hCon : ∀ Ω, zo_J Y Ω → zo_Con Ω) (hr : zo_rt Y (Option.none : Option Jvm.ClassFile.FieldType)) (N : Nat) (K228 : Nat → Int32 → Int32 → zo_O → Option zo_R) (K339 : Nat → Int32 → Int32 → Int32 → Int32 → Int32 → zo_O → Option zo_R) (hK228 : ∀ (x0 : Nat) (x1 : Int32) (x3 : Int32) (Ω : zo_O) (res : zo_R), K228 x0 x1 x3 Ω = some res → TW Y res Ω 228 [(0, vr 35 x0), (1, vi x1), (3, vi x3)] []) (hK339 : ∀ (x0 : Nat) (x1 : Int32) (x3 : Int32) (x5 : Int32) (x6 : Int32) (x7 : Int32) (Ω : zo_O) (res : zo_R), K339 x0 x1 x3 x5 x6 x7 Ω = some res → TW Y res Ω 339 [(0, vr 35 x0), (1, vi x1), (3, vi x3), (5, vi x5), (6, vi x6), (7, vi x7)] []) (x0 : Nat) (x1 : Int32) (x3 : Int32) (x5 : Int32) (x6 : Int32) (x7 : Int32) (Ω : zo_O) (res : zo_R) (h : bd_J16_mixedInsertionSort_339 N K228 K339 x0 x1 x3 x5 x6 x7 Ω = some res) : TW Y res Ω 339 [(0, vr 35 x0), (1, vi x1), (3, vi x3), (5, vi x5), (6, vi x6), (7, vi x7)] [] := by
  unfold bd_J16_mixedInsertionSort_339 at h
  refine zo_iload hY dJ16_mixedInsertionSort_339 5 rfl ?_
  refine zo_aload_n hY dJ16_mixedInsertionSort_341 rfl 0 rfl ?_
  refine zo_iinc hY (-1) dJ16_mixedInsertionSort_342 (by decide) (by decide) 3 rfl rfl (ls' := [(5, vi (x5 + (-1))), (0, vr 35 x0), (1, vi x1), (3, vi x3), (6, vi x6), (7, vi x7)]) rfl ?_
  refine zo_iload hY dJ16_mixedInsertionSort_345 0 rfl ?_
  refine zo_ald hY (by decide) (Or.inl ⟨rfl, dJ16_mixedInsertionSort_347⟩) (fun _ => rfl) h (fun j1 h => ?_)
  refine zo_icmp_ge hY 364 dJ16_mixedInsertionSort_348 (by decide) h (fun c2 h => ?_) (fun c2 h => ?_)
  · refine zo_aload_n hY dJ16_mixedInsertionSort_364 rfl 1 rfl ?_
    refine zo_iinc hY 1 dJ16_mixedInsertionSort_365 (by decide) (by decide) 0 rfl rfl (ls' := [(5, vi (x5 + (-1) + 1)), (0, vr 35 x0), (1, vi x1), (3, vi x3), (6, vi x6), (7, vi x7)]) rfl ?_
    refine zo_iload hY dJ16_mixedInsertionSort_368 0 rfl ?_
    refine zo_iconst hY 1 (by decide) dJ16_mixedInsertionSort_370 ?_
    refine zo_iadd hY dJ16_mixedInsertionSort_371 ?_
    refine zo_iload hY dJ16_mixedInsertionSort_372 5 rfl ?_
    refine zo_ast hY hJ (by decide) (Or.inl ⟨rfl, rfl, dJ16_mixedInsertionSort_374⟩) (fun _ => rfl) h (fun j3 Ω4 h => ?_)
    refine zo_sub [1, 2, 3, 0, 4] rfl ?_
    exact ct_J16_mixedInsertionSort_375 hY hJ hCon hr N K228 hK228 N x0 x1 x3 (x5 + (-1) + 1) x6 Ω4 _ h
  · refine zo_aload_n hY dJ16_mixedInsertionSort_351 rfl 1 rfl ?_
    refine zo_iload hY dJ16_mixedInsertionSort_352 0 rfl ?_
    refine zo_iconst hY 2 (by decide) dJ16_mixedInsertionSort_354 ?_
    refine zo_iadd hY dJ16_mixedInsertionSort_355 ?_
    refine zo_aload_n hY dJ16_mixedInsertionSort_356 rfl 1 rfl ?_
    refine zo_iload hY dJ16_mixedInsertionSort_357 0 rfl ?_
    refine zo_ald hY (by decide) (Or.inl ⟨rfl, dJ16_mixedInsertionSort_359⟩) (fun _ => rfl) h (fun j5 h => ?_)
    refine zo_ast hY hJ (by decide) (Or.inl ⟨rfl, rfl, dJ16_mixedInsertionSort_360⟩) (fun _ => rfl) h (fun j6 Ω7 h => ?_)
    refine zo_goto hY 339 dJ16_mixedInsertionSort_361 (by decide) ?_
    refine zo_sub [1, 2, 3, 0, 4, 5] rfl ?_
    exact hK339 x0 x1 x3 (x5 + (-1)) x6 x7 Ω7 _ h
def fn_J16_mixedInsertionSort_339 (N : Nat) (K228 : Nat → Int32 → Int32 → zo_O → Option zo_R) : Nat → Nat → Int32 → Int32 → Int32 → Int32 → Int32 → zo_O → Option zo_R
  | 0, _, _, _, _, _, _, _ => none
  | n + 1, x0, x1, x3, x5, x6, x7, Ω => bd_J16_mixedInsertionSort_339 N K228 (fn_J16_mixedInsertionSort_339 N K228 n) x0 x1 x3 x5 x6 x7 Ω
theorem ct_J16_mixedInsertionSort_339 {Y : zo_Y} (hY : zo_Gd Y cJ16_mixedInsertionSort 8 RJ16 0) (hJ : zo_JC (zo_J Y)) (hCon : ∀ Ω, zo_J Y Ω → zo_Con Ω) (hr : zo_rt Y (Option.none : Option Jvm.ClassFile.FieldType)) (N : Nat) (K228 : Nat → Int32 → Int32 → zo_O → Option zo_R) (hK228 : ∀ (x0 : Nat) (x1 : Int32) (x3 : Int32) (Ω : zo_O) (res : zo_R), K228 x0 x1 x3 Ω = some res → TW Y res Ω 228 [(0, vr 35 x0), (1, vi x1), (3, vi x3)] []) : ∀ (n : Nat) (x0 : Nat) (x1 : Int32) (x3 : Int32) (x5 : Int32) (x6 : Int32) (x7 : Int32) (Ω : zo_O) (res : zo_R), fn_J16_mixedInsertionSort_339 N K228 n x0 x1 x3 x5 x6 x7 Ω = some res → TW Y res Ω 339 [(0, vr 35 x0), (1, vi x1), (3, vi x3), (5, vi x5), (6, vi x6), (7, vi x7)] [] := by
  intro n
  induction n with
  | zero => intro x0 x1 x3 x5 x6 x7 Ω res h; exact nomatch (show (none : Option zo_R) = some res from h)
  | succ n ih => intro x0 x1 x3 x5 x6 x7 Ω res h; exact cb_J16_mixedInsertionSort_339 hY hJ hCon hr N K228 (fn_J16_mixedInsertionSort_339 N K228 n) hK228 ih x0 x1 x3 x5 x6 x7 Ω res h
def bd_J16_mixedInsertionSort_228 (N : Nat)  (K228 : Nat → Int32 → Int32 → zo_O → Option zo_R) (x0 : Nat) (x1 : Int32) (x3 : Int32) (Ω : zo_O) : Option zo_R :=
  if x3 ≤ x1 then (
    fn_J16_mixedInsertionSort_414 N Ω
    ) else
  ix x1 (gL Ω 35 x0) fun j2 =>
  li (gI Ω 35 x0 j2) fun y3 =>
  ix (x1 + 1) (gL Ω 35 x0) fun j4 =>
  li (gI Ω 35 x0 j4) fun y5 =>
  if y3 ≤ y5 then (
    ix (x1 - 1) (gL Ω 35 x0) fun j7 =>
    if gI Ω 35 x0 j7 ≤ y3 then (
      fn_J16_mixedInsertionSort_408 N K228 x0 (x1 + 1) x3 Ω
      ) else
    fn_J16_mixedInsertionSort_339 N K228 N x0 (x1 + 1) x3 x1 y3 y5 Ω
    ) else
  fn_J16_mixedInsertionSort_256 N K228 N x0 (x1 + 1) x3 x1 y3 y5 Ω
theorem cb_J16_mixedInsertionSort_228 {Y : zo_Y} (hY : zo_Gd Y cJ16_mixedInsertionSort 8 RJ16 0) (hJ : zo_JC (zo_J Y)) (hCon : ∀ Ω, zo_J Y Ω → zo_Con Ω) (hr : zo_rt Y (Option.none : Option Jvm.ClassFile.FieldType)) (N : Nat)  (K228 : Nat → Int32 → Int32 → zo_O → Option zo_R)  (hK228 : ∀ (x0 : Nat) (x1 : Int32) (x3 : Int32) (Ω : zo_O) (res : zo_R), K228 x0 x1 x3 Ω = some res → TW Y res Ω 228 [(0, vr 35 x0), (1, vi x1), (3, vi x3)] []) (x0 : Nat) (x1 : Int32) (x3 : Int32) (Ω : zo_O) (res : zo_R) (h : bd_J16_mixedInsertionSort_228 N  K228 x0 x1 x3 Ω = some res) : TW Y res Ω 228 [(0, vr 35 x0), (1, vi x1), (3, vi x3)] [] := by
  unfold bd_J16_mixedInsertionSort_228 at h
  refine zo_iload_n hY dJ16_mixedInsertionSort_228 rfl 1 rfl ?_
  refine zo_iload_n hY dJ16_mixedInsertionSort_229 rfl 2 rfl ?_
  refine zo_icmp_ge hY 414 dJ16_mixedInsertionSort_230 (by decide) h (fun c1 h => ?_) (fun c1 h => ?_)
  · refine zo_sub [] rfl ?_
    exact ct_J16_mixedInsertionSort_414 hY hJ hCon hr N Ω _ h
  · refine zo_aload_n hY dJ16_mixedInsertionSort_233 rfl 0 rfl ?_
    refine zo_iload_n hY dJ16_mixedInsertionSort_234 rfl 1 rfl ?_
    refine zo_dup hY dJ16_mixedInsertionSort_235 (Or.inl rfl) ?_
    refine zo_istore hY dJ16_mixedInsertionSort_236 (by decide) rfl (ls' := [(5, vi x1), (0, vr 35 x0), (1, vi x1), (3, vi x3)]) rfl ?_
    refine zo_ald hY (by decide) (Or.inl ⟨rfl, dJ16_mixedInsertionSort_238⟩) (fun _ => rfl) h (fun j2 h => ?_)
    refine zo_nmi h (fun y3 h => ?_)
    refine zo_istore hY dJ16_mixedInsertionSort_239 (by decide) rfl (ls' := [(6, vi y3), (5, vi x1), (0, vr 35 x0), (1, vi x1), (3, vi x3)]) rfl ?_
    refine zo_aload_n hY dJ16_mixedInsertionSort_241 rfl 2 rfl ?_
    refine zo_iinc hY 1 dJ16_mixedInsertionSort_242 (by decide) (by decide) 3 rfl rfl (ls' := [(1, vi (x1 + 1)), (6, vi y3), (5, vi x1), (0, vr 35 x0), (3, vi x3)]) rfl ?_
    refine zo_iload_n hY dJ16_mixedInsertionSort_245 rfl 0 rfl ?_
    refine zo_ald hY (by decide) (Or.inl ⟨rfl, dJ16_mixedInsertionSort_246⟩) (fun _ => rfl) h (fun j4 h => ?_)
    refine zo_nmi h (fun y5 h => ?_)
    refine zo_istore hY dJ16_mixedInsertionSort_247 (by decide) rfl (ls' := [(7, vi y5), (1, vi (x1 + 1)), (6, vi y3), (5, vi x1), (0, vr 35 x0), (3, vi x3)]) rfl ?_
    refine zo_iload hY dJ16_mixedInsertionSort_249 2 rfl ?_
    refine zo_iload hY dJ16_mixedInsertionSort_251 0 rfl ?_
    refine zo_icmp_le hY 328 dJ16_mixedInsertionSort_253 (by decide) h (fun c6 h => ?_) (fun c6 h => ?_)
    · refine zo_iload hY dJ16_mixedInsertionSort_328 2 rfl ?_
      refine zo_aload_n hY dJ16_mixedInsertionSort_330 rfl 4 rfl ?_
      refine zo_iload hY dJ16_mixedInsertionSort_331 3 rfl ?_
      refine zo_iconst hY 1 (by decide) dJ16_mixedInsertionSort_333 ?_
      refine zo_isub hY dJ16_mixedInsertionSort_334 ?_
      refine zo_ald hY (by decide) (Or.inl ⟨rfl, dJ16_mixedInsertionSort_335⟩) (fun _ => rfl) h (fun j7 h => ?_)
      refine zo_icmp_ge hY 408 dJ16_mixedInsertionSort_336 (by decide) h (fun c8 h => ?_) (fun c8 h => ?_)
      · refine zo_sub [4, 1, 5] rfl ?_
        exact ct_J16_mixedInsertionSort_408 hY hJ hCon hr N K228 hK228 x0 (x1 + 1) x3 Ω _ h
      · refine zo_sub [4, 1, 5, 3, 2, 0] rfl ?_
        exact ct_J16_mixedInsertionSort_339 hY hJ hCon hr N K228 hK228 N x0 (x1 + 1) x3 x1 y3 y5 Ω _ h
    · refine zo_sub [4, 1, 5, 3, 2, 0] rfl ?_
      exact ct_J16_mixedInsertionSort_256 hY hJ hCon hr N K228 hK228 N x0 (x1 + 1) x3 x1 y3 y5 Ω _ h
def fn_J16_mixedInsertionSort_228 (N : Nat)  : Nat → Nat → Int32 → Int32 → zo_O → Option zo_R
  | 0, _, _, _, _ => none
  | n + 1, x0, x1, x3, Ω => bd_J16_mixedInsertionSort_228 N  (fn_J16_mixedInsertionSort_228 N  n) x0 x1 x3 Ω
theorem ct_J16_mixedInsertionSort_228 {Y : zo_Y} (hY : zo_Gd Y cJ16_mixedInsertionSort 8 RJ16 0) (hJ : zo_JC (zo_J Y)) (hCon : ∀ Ω, zo_J Y Ω → zo_Con Ω) (hr : zo_rt Y (Option.none : Option Jvm.ClassFile.FieldType)) (N : Nat)   : ∀ (n : Nat) (x0 : Nat) (x1 : Int32) (x3 : Int32) (Ω : zo_O) (res : zo_R), fn_J16_mixedInsertionSort_228 N  n x0 x1 x3 Ω = some res → TW Y res Ω 228 [(0, vr 35 x0), (1, vi x1), (3, vi x3)] [] := by
  intro n
  induction n with
  | zero => intro x0 x1 x3 Ω res h; exact nomatch (show (none : Option zo_R) = some res from h)
  | succ n ih => intro x0 x1 x3 Ω res h; exact cb_J16_mixedInsertionSort_228 hY hJ hCon hr N  (fn_J16_mixedInsertionSort_228 N  n)  ih x0 x1 x3 Ω res h
def bd_J16_mixedInsertionSort_68 (N : Nat)  (K68 : Nat → Int32 → Int32 → Int32 → Int32 → Int32 → zo_O → Option zo_R) (x0 : Nat) (x1 : Int32) (x2 : Int32) (x3 : Int32) (x4 : Int32) (x6 : Int32) (Ω : zo_O) : Option zo_R :=
  if x2 ≤ x1 + 1 then (
    fn_J16_mixedInsertionSort_228 N N x0 (x1 + 1) x3 Ω
    ) else
  li (x1 + 1) fun y2 =>
  ix (x1 + 1) (gL Ω 35 x0) fun j3 =>
  li (gI Ω 35 x0 j3) fun y4 =>
  ix (y2 - 1) (gL Ω 35 x0) fun j5 =>
  if gI Ω 35 x0 j5 ≤ y4 then (
    if x6 ≤ y2 then (
      fn_J16_mixedInsertionSort_225 N K68 x0 (x1 + 1) x2 x3 x4 x6 Ω
      ) else
    if y4 ≤ x4 then (
      fn_J16_mixedInsertionSort_225 N K68 x0 (x1 + 1) x2 x3 x4 x6 Ω
      ) else
    fn_J16_mixedInsertionSort_156 N K68 N x0 (x1 + 1) x2 x3 x4 y2 x6 y4 Ω
    ) else
  ix (y2 + (-1)) (gL Ω 35 x0) fun j9 =>
  ix y2 (gL Ω 35 x0) fun j10 => lt (sI Ω 35 x0 j10 (gI Ω 35 x0 j9)) fun Ω11 =>
  fn_J16_mixedInsertionSort_106 N K68 N x0 (x1 + 1) x2 x3 x4 (y2 + (-1)) x6 y4 Ω11
theorem cb_J16_mixedInsertionSort_68 {Y : zo_Y} (hY : zo_Gd Y cJ16_mixedInsertionSort 8 RJ16 0) (hJ : zo_JC (zo_J Y)) (hCon : ∀ Ω, zo_J Y Ω → zo_Con Ω) (hr : zo_rt Y (Option.none : Option Jvm.ClassFile.FieldType)) (N : Nat)  (K68 : Nat → Int32 → Int32 → Int32 → Int32 → Int32 → zo_O → Option zo_R)  (hK68 : ∀ (x0 : Nat) (x1 : Int32) (x2 : Int32) (x3 : Int32) (x4 : Int32) (x6 : Int32) (Ω : zo_O) (res : zo_R), K68 x0 x1 x2 x3 x4 x6 Ω = some res → TW Y res Ω 68 [(0, vr 35 x0), (1, vi x1), (2, vi x2), (3, vi x3), (4, vi x4), (6, vi x6)] []) (x0 : Nat) (x1 : Int32) (x2 : Int32) (x3 : Int32) (x4 : Int32) (x6 : Int32) (Ω : zo_O) (res : zo_R) (h : bd_J16_mixedInsertionSort_68 N  K68 x0 x1 x2 x3 x4 x6 Ω = some res) : TW Y res Ω 68 [(0, vr 35 x0), (1, vi x1), (2, vi x2), (3, vi x3), (4, vi x4), (6, vi x6)] [] := by
  unfold bd_J16_mixedInsertionSort_68 at h
  refine zo_iinc hY 1 dJ16_mixedInsertionSort_68 (by decide) (by decide) 1 rfl rfl (ls' := [(1, vi (x1 + 1)), (0, vr 35 x0), (2, vi x2), (3, vi x3), (4, vi x4), (6, vi x6)]) rfl ?_
  refine zo_iload_n hY dJ16_mixedInsertionSort_71 rfl 0 rfl ?_
  refine zo_iload_n hY dJ16_mixedInsertionSort_72 rfl 2 rfl ?_
  refine zo_icmp_ge hY 228 dJ16_mixedInsertionSort_73 (by decide) h (fun c1 h => ?_) (fun c1 h => ?_)
  · refine zo_sub [1, 0, 3] rfl ?_
    exact ct_J16_mixedInsertionSort_228 hY hJ hCon hr N N x0 (x1 + 1) x3 Ω _ h
  · refine zo_aload_n hY dJ16_mixedInsertionSort_76 rfl 1 rfl ?_
    refine zo_iload_n hY dJ16_mixedInsertionSort_77 rfl 0 rfl ?_
    refine zo_dup hY dJ16_mixedInsertionSort_78 (Or.inl rfl) ?_
    refine zo_nmi h (fun y2 h => ?_)
    refine zo_istore hY dJ16_mixedInsertionSort_79 (by decide) rfl (ls' := [(5, vi y2), (1, vi (x1 + 1)), (0, vr 35 x0), (2, vi x2), (3, vi x3), (4, vi x4), (6, vi x6)]) rfl ?_
    refine zo_ald hY (by decide) (Or.inl ⟨rfl, dJ16_mixedInsertionSort_81⟩) (fun _ => rfl) h (fun j3 h => ?_)
    refine zo_nmi h (fun y4 h => ?_)
    refine zo_istore hY dJ16_mixedInsertionSort_82 (by decide) rfl (ls' := [(7, vi y4), (5, vi y2), (1, vi (x1 + 1)), (0, vr 35 x0), (2, vi x2), (3, vi x3), (4, vi x4), (6, vi x6)]) rfl ?_
    refine zo_iload hY dJ16_mixedInsertionSort_84 0 rfl ?_
    refine zo_aload_n hY dJ16_mixedInsertionSort_86 rfl 3 rfl ?_
    refine zo_iload hY dJ16_mixedInsertionSort_87 1 rfl ?_
    refine zo_iconst hY 1 (by decide) dJ16_mixedInsertionSort_89 ?_
    refine zo_isub hY dJ16_mixedInsertionSort_90 ?_
    refine zo_ald hY (by decide) (Or.inl ⟨rfl, dJ16_mixedInsertionSort_91⟩) (fun _ => rfl) h (fun j5 h => ?_)
    refine zo_icmp_ge hY 142 dJ16_mixedInsertionSort_92 (by decide) h (fun c6 h => ?_) (fun c6 h => ?_)
    · refine zo_iload hY dJ16_mixedInsertionSort_142 7 rfl ?_
      refine zo_iload hY dJ16_mixedInsertionSort_144 1 rfl ?_
      refine zo_icmp_le hY 225 dJ16_mixedInsertionSort_146 (by decide) h (fun c7 h => ?_) (fun c7 h => ?_)
      · refine zo_sub [3, 2, 4, 5, 6, 7] rfl ?_
        exact ct_J16_mixedInsertionSort_225 hY hJ hCon hr N K68 hK68 x0 (x1 + 1) x2 x3 x4 x6 Ω _ h
      · refine zo_iload hY dJ16_mixedInsertionSort_149 0 rfl ?_
        refine zo_iload hY dJ16_mixedInsertionSort_151 6 rfl ?_
        refine zo_icmp_le hY 225 dJ16_mixedInsertionSort_153 (by decide) h (fun c8 h => ?_) (fun c8 h => ?_)
        · refine zo_sub [3, 2, 4, 5, 6, 7] rfl ?_
          exact ct_J16_mixedInsertionSort_225 hY hJ hCon hr N K68 hK68 x0 (x1 + 1) x2 x3 x4 x6 Ω _ h
        · refine zo_sub [3, 2, 4, 5, 6, 1, 7, 0] rfl ?_
          exact ct_J16_mixedInsertionSort_156 hY hJ hCon hr N K68 hK68 N x0 (x1 + 1) x2 x3 x4 y2 x6 y4 Ω _ h
    · refine zo_aload_n hY dJ16_mixedInsertionSort_95 rfl 3 rfl ?_
      refine zo_iload hY dJ16_mixedInsertionSort_96 1 rfl ?_
      refine zo_aload_n hY dJ16_mixedInsertionSort_98 rfl 3 rfl ?_
      refine zo_iinc hY (-1) dJ16_mixedInsertionSort_99 (by decide) (by decide) 1 rfl rfl (ls' := [(5, vi (y2 + (-1))), (7, vi y4), (1, vi (x1 + 1)), (0, vr 35 x0), (2, vi x2), (3, vi x3), (4, vi x4), (6, vi x6)]) rfl ?_
      refine zo_iload hY dJ16_mixedInsertionSort_102 0 rfl ?_
      refine zo_ald hY (by decide) (Or.inl ⟨rfl, dJ16_mixedInsertionSort_104⟩) (fun _ => rfl) h (fun j9 h => ?_)
      refine zo_ast hY hJ (by decide) (Or.inl ⟨rfl, rfl, dJ16_mixedInsertionSort_105⟩) (fun _ => rfl) h (fun j10 Ω11 h => ?_)
      refine zo_sub [3, 2, 4, 5, 6, 0, 7, 1] rfl ?_
      exact ct_J16_mixedInsertionSort_106 hY hJ hCon hr N K68 hK68 N x0 (x1 + 1) x2 x3 x4 (y2 + (-1)) x6 y4 Ω11 _ h
def fn_J16_mixedInsertionSort_68 (N : Nat)  : Nat → Nat → Int32 → Int32 → Int32 → Int32 → Int32 → zo_O → Option zo_R
  | 0, _, _, _, _, _, _, _ => none
  | n + 1, x0, x1, x2, x3, x4, x6, Ω => bd_J16_mixedInsertionSort_68 N  (fn_J16_mixedInsertionSort_68 N  n) x0 x1 x2 x3 x4 x6 Ω
theorem ct_J16_mixedInsertionSort_68 {Y : zo_Y} (hY : zo_Gd Y cJ16_mixedInsertionSort 8 RJ16 0) (hJ : zo_JC (zo_J Y)) (hCon : ∀ Ω, zo_J Y Ω → zo_Con Ω) (hr : zo_rt Y (Option.none : Option Jvm.ClassFile.FieldType)) (N : Nat)   : ∀ (n : Nat) (x0 : Nat) (x1 : Int32) (x2 : Int32) (x3 : Int32) (x4 : Int32) (x6 : Int32) (Ω : zo_O) (res : zo_R), fn_J16_mixedInsertionSort_68 N  n x0 x1 x2 x3 x4 x6 Ω = some res → TW Y res Ω 68 [(0, vr 35 x0), (1, vi x1), (2, vi x2), (3, vi x3), (4, vi x4), (6, vi x6)] [] := by
  intro n
  induction n with
  | zero => intro x0 x1 x2 x3 x4 x6 Ω res h; exact nomatch (show (none : Option zo_R) = some res from h)
  | succ n ih => intro x0 x1 x2 x3 x4 x6 Ω res h; exact cb_J16_mixedInsertionSort_68 hY hJ hCon hr N  (fn_J16_mixedInsertionSort_68 N  n)  ih x0 x1 x2 x3 x4 x6 Ω res h
def fn_J16_mixedInsertionSort (N : Nat) (x0 : Nat) (x1 : Int32) (x2 : Int32) (x3 : Int32) (Ω : zo_O) : Option zo_R :=
  if x2 = x3 then (
    fn_J16_mixedInsertionSort_5 N N x0 x1 x2 Ω
    ) else
  ix x2 (gL Ω 35 x0) fun j2 =>
  li (gI Ω 35 x0 j2) fun y3 =>
  fn_J16_mixedInsertionSort_68 N N x0 x1 x2 x3 y3 x3 Ω
theorem mt_J16_mixedInsertionSort {G : zo_G} {J : zo_O → Prop} (hJ : zo_JC J) (hCon : ∀ Ω, J Ω → zo_Con Ω) (N : Nat) (x0 : Nat) (x1 : Int32) (x2 : Int32) (x3 : Int32) (Ω : zo_O) (res : zo_R) (h : fn_J16_mixedInsertionSort N x0 x1 x2 x3 Ω = some res) : zo_MT G J yJ16_mixedInsertionSort cJ16_mixedInsertionSort 8 (Option.none : Option Jvm.ClassFile.FieldType) 0 [vr 35 x0, vi x1, vi x2, vi x3] Ω res := by
  refine zo_enter (by decide) rfl (Nat.le_of_ble_eq_true rfl) (fun Y hY eJ hr hmn => ?_)
  subst eJ
  show TW Y res Ω 0 [(0, vr 35 x0), (1, vi x1), (2, vi x2), (3, vi x3)] []
  unfold fn_J16_mixedInsertionSort at h
  refine zo_iload_n hY dJ16_mixedInsertionSort_0 rfl 2 rfl ?_
  refine zo_iload_n hY dJ16_mixedInsertionSort_1 rfl 3 rfl ?_
  refine zo_icmp_ne hY 60 dJ16_mixedInsertionSort_2 (by decide) h (fun c1 h => ?_) (fun c1 h => ?_)
  · refine zo_sub [0, 1, 2] rfl ?_
    exact ct_J16_mixedInsertionSort_5 hY hJ hCon hr N N x0 x1 x2 Ω _ h
  · refine zo_aload_n hY dJ16_mixedInsertionSort_60 rfl 0 rfl ?_
    refine zo_iload_n hY dJ16_mixedInsertionSort_61 rfl 2 rfl ?_
    refine zo_ald hY (by decide) (Or.inl ⟨rfl, dJ16_mixedInsertionSort_62⟩) (fun _ => rfl) h (fun j2 h => ?_)
    refine zo_nmi h (fun y3 h => ?_)
    refine zo_istore hY dJ16_mixedInsertionSort_63 (by decide) rfl (ls' := [(4, vi y3), (0, vr 35 x0), (1, vi x1), (2, vi x2), (3, vi x3)]) rfl ?_
    refine zo_iload_n hY dJ16_mixedInsertionSort_65 rfl 4 rfl ?_
    refine zo_istore hY dJ16_mixedInsertionSort_66 (by decide) rfl (ls' := [(6, vi x3), (4, vi y3), (0, vr 35 x0), (1, vi x1), (2, vi x2), (3, vi x3)]) rfl ?_
    refine zo_sub [2, 3, 4, 5, 1, 0] rfl ?_
    exact ct_J16_mixedInsertionSort_68 hY hJ hCon hr N N x0 x1 x2 x3 y3 x3 Ω _ h
theorem dJ16_tryMergeRuns_0 : decode cJ16_tryMergeRuns 0 = .ok (.aconst_null, 1) := by decide +kernel
theorem dJ16_tryMergeRuns_1 : decode cJ16_tryMergeRuns 1 = .ok (.astore 4, 2) := by decide +kernel
theorem dJ16_tryMergeRuns_3 : decode cJ16_tryMergeRuns 3 = .ok (.iload_n 2, 1) := by decide +kernel
theorem dJ16_tryMergeRuns_4 : decode cJ16_tryMergeRuns 4 = .ok (.iload_n 3, 1) := by decide +kernel
theorem dJ16_tryMergeRuns_5 : decode cJ16_tryMergeRuns 5 = .ok (.iadd, 1) := by decide +kernel
theorem dJ16_tryMergeRuns_6 : decode cJ16_tryMergeRuns 6 = .ok (.istore 5, 2) := by decide +kernel
theorem dJ16_tryMergeRuns_8 : decode cJ16_tryMergeRuns 8 = .ok (.iconst 1, 1) := by decide +kernel
theorem dJ16_tryMergeRuns_9 : decode cJ16_tryMergeRuns 9 = .ok (.istore 6, 2) := by decide +kernel
theorem dJ16_tryMergeRuns_11 : decode cJ16_tryMergeRuns 11 = .ok (.iload_n 2, 1) := by decide +kernel
theorem dJ16_tryMergeRuns_12 : decode cJ16_tryMergeRuns 12 = .ok (.istore 7, 2) := by decide +kernel
theorem dJ16_tryMergeRuns_14 : decode cJ16_tryMergeRuns 14 = .ok (.iload_n 2, 1) := by decide +kernel
theorem dJ16_tryMergeRuns_15 : decode cJ16_tryMergeRuns 15 = .ok (.iconst 1, 1) := by decide +kernel
theorem dJ16_tryMergeRuns_16 : decode cJ16_tryMergeRuns 16 = .ok (.iadd, 1) := by decide +kernel
theorem dJ16_tryMergeRuns_17 : decode cJ16_tryMergeRuns 17 = .ok (.istore 8, 2) := by decide +kernel
theorem dJ16_tryMergeRuns_19 : decode cJ16_tryMergeRuns 19 = .ok (.iload 8, 2) := by decide +kernel
theorem dJ16_tryMergeRuns_21 : decode cJ16_tryMergeRuns 21 = .ok (.iload 5, 2) := by decide +kernel
theorem dJ16_tryMergeRuns_23 : decode cJ16_tryMergeRuns 23 = .ok (.if_icmp .ge 299, 3) := by decide +kernel
theorem dJ16_tryMergeRuns_26 : decode cJ16_tryMergeRuns 26 = .ok (.aload_n 1, 1) := by decide +kernel
theorem dJ16_tryMergeRuns_27 : decode cJ16_tryMergeRuns 27 = .ok (.iload 8, 2) := by decide +kernel
theorem dJ16_tryMergeRuns_29 : decode cJ16_tryMergeRuns 29 = .ok (.iconst 1, 1) := by decide +kernel
theorem dJ16_tryMergeRuns_30 : decode cJ16_tryMergeRuns 30 = .ok (.isub, 1) := by decide +kernel
theorem dJ16_tryMergeRuns_31 : decode cJ16_tryMergeRuns 31 = .ok (.iaload, 1) := by decide +kernel
theorem dJ16_tryMergeRuns_32 : decode cJ16_tryMergeRuns 32 = .ok (.aload_n 1, 1) := by decide +kernel
theorem dJ16_tryMergeRuns_33 : decode cJ16_tryMergeRuns 33 = .ok (.iload 8, 2) := by decide +kernel
theorem dJ16_tryMergeRuns_35 : decode cJ16_tryMergeRuns 35 = .ok (.iaload, 1) := by decide +kernel
theorem dJ16_tryMergeRuns_36 : decode cJ16_tryMergeRuns 36 = .ok (.if_icmp .ge 29, 3) := by decide +kernel
theorem dJ16_tryMergeRuns_39 : decode cJ16_tryMergeRuns 39 = .ok (.iinc 8 1, 3) := by decide +kernel
theorem dJ16_tryMergeRuns_42 : decode cJ16_tryMergeRuns 42 = .ok (.iload 8, 2) := by decide +kernel
theorem dJ16_tryMergeRuns_44 : decode cJ16_tryMergeRuns 44 = .ok (.iload 5, 2) := by decide +kernel
theorem dJ16_tryMergeRuns_46 : decode cJ16_tryMergeRuns 46 = .ok (.if_icmp .ge 156, 3) := by decide +kernel
theorem dJ16_tryMergeRuns_49 : decode cJ16_tryMergeRuns 49 = .ok (.aload_n 1, 1) := by decide +kernel
theorem dJ16_tryMergeRuns_50 : decode cJ16_tryMergeRuns 50 = .ok (.iload 8, 2) := by decide +kernel
theorem dJ16_tryMergeRuns_52 : decode cJ16_tryMergeRuns 52 = .ok (.iconst 1, 1) := by decide +kernel
theorem dJ16_tryMergeRuns_53 : decode cJ16_tryMergeRuns 53 = .ok (.isub, 1) := by decide +kernel
theorem dJ16_tryMergeRuns_54 : decode cJ16_tryMergeRuns 54 = .ok (.iaload, 1) := by decide +kernel
theorem dJ16_tryMergeRuns_55 : decode cJ16_tryMergeRuns 55 = .ok (.aload_n 1, 1) := by decide +kernel
theorem dJ16_tryMergeRuns_56 : decode cJ16_tryMergeRuns 56 = .ok (.iload 8, 2) := by decide +kernel
theorem dJ16_tryMergeRuns_58 : decode cJ16_tryMergeRuns 58 = .ok (.iaload, 1) := by decide +kernel
theorem dJ16_tryMergeRuns_59 : decode cJ16_tryMergeRuns 59 = .ok (.if_icmp .gt 143, 3) := by decide +kernel
theorem dJ16_tryMergeRuns_62 : decode cJ16_tryMergeRuns 62 = .ok (.goto (-23), 3) := by decide +kernel
theorem dJ16_tryMergeRuns_65 : decode cJ16_tryMergeRuns 65 = .ok (.aload_n 1, 1) := by decide +kernel
theorem dJ16_tryMergeRuns_66 : decode cJ16_tryMergeRuns 66 = .ok (.iload 8, 2) := by decide +kernel
theorem dJ16_tryMergeRuns_68 : decode cJ16_tryMergeRuns 68 = .ok (.iconst 1, 1) := by decide +kernel
theorem dJ16_tryMergeRuns_69 : decode cJ16_tryMergeRuns 69 = .ok (.isub, 1) := by decide +kernel
theorem dJ16_tryMergeRuns_70 : decode cJ16_tryMergeRuns 70 = .ok (.iaload, 1) := by decide +kernel
theorem dJ16_tryMergeRuns_71 : decode cJ16_tryMergeRuns 71 = .ok (.aload_n 1, 1) := by decide +kernel
theorem dJ16_tryMergeRuns_72 : decode cJ16_tryMergeRuns 72 = .ok (.iload 8, 2) := by decide +kernel
theorem dJ16_tryMergeRuns_74 : decode cJ16_tryMergeRuns 74 = .ok (.iaload, 1) := by decide +kernel
theorem dJ16_tryMergeRuns_75 : decode cJ16_tryMergeRuns 75 = .ok (.if_icmp .le 89, 3) := by decide +kernel
theorem dJ16_tryMergeRuns_78 : decode cJ16_tryMergeRuns 78 = .ok (.iinc 8 1, 3) := by decide +kernel
theorem dJ16_tryMergeRuns_81 : decode cJ16_tryMergeRuns 81 = .ok (.iload 8, 2) := by decide +kernel
theorem dJ16_tryMergeRuns_83 : decode cJ16_tryMergeRuns 83 = .ok (.iload 5, 2) := by decide +kernel
theorem dJ16_tryMergeRuns_85 : decode cJ16_tryMergeRuns 85 = .ok (.if_icmp .ge 19, 3) := by decide +kernel
theorem dJ16_tryMergeRuns_88 : decode cJ16_tryMergeRuns 88 = .ok (.aload_n 1, 1) := by decide +kernel
theorem dJ16_tryMergeRuns_89 : decode cJ16_tryMergeRuns 89 = .ok (.iload 8, 2) := by decide +kernel
theorem dJ16_tryMergeRuns_91 : decode cJ16_tryMergeRuns 91 = .ok (.iconst 1, 1) := by decide +kernel
theorem dJ16_tryMergeRuns_92 : decode cJ16_tryMergeRuns 92 = .ok (.isub, 1) := by decide +kernel
theorem dJ16_tryMergeRuns_93 : decode cJ16_tryMergeRuns 93 = .ok (.iaload, 1) := by decide +kernel
theorem dJ16_tryMergeRuns_94 : decode cJ16_tryMergeRuns 94 = .ok (.aload_n 1, 1) := by decide +kernel
theorem dJ16_tryMergeRuns_95 : decode cJ16_tryMergeRuns 95 = .ok (.iload 8, 2) := by decide +kernel
theorem dJ16_tryMergeRuns_97 : decode cJ16_tryMergeRuns 97 = .ok (.iaload, 1) := by decide +kernel
theorem dJ16_tryMergeRuns_98 : decode cJ16_tryMergeRuns 98 = .ok (.if_icmp .lt 6, 3) := by decide +kernel
theorem dJ16_tryMergeRuns_101 : decode cJ16_tryMergeRuns 101 = .ok (.goto (-23), 3) := by decide +kernel
theorem dJ16_tryMergeRuns_104 : decode cJ16_tryMergeRuns 104 = .ok (.iload 7, 2) := by decide +kernel
theorem dJ16_tryMergeRuns_106 : decode cJ16_tryMergeRuns 106 = .ok (.iconst 1, 1) := by decide +kernel
theorem dJ16_tryMergeRuns_107 : decode cJ16_tryMergeRuns 107 = .ok (.isub, 1) := by decide +kernel
theorem dJ16_tryMergeRuns_108 : decode cJ16_tryMergeRuns 108 = .ok (.istore 9, 2) := by decide +kernel
theorem dJ16_tryMergeRuns_110 : decode cJ16_tryMergeRuns 110 = .ok (.iload 8, 2) := by decide +kernel
theorem dJ16_tryMergeRuns_112 : decode cJ16_tryMergeRuns 112 = .ok (.istore 10, 2) := by decide +kernel
theorem dJ16_tryMergeRuns_114 : decode cJ16_tryMergeRuns 114 = .ok (.iinc 9 1, 3) := by decide +kernel
theorem dJ16_tryMergeRuns_117 : decode cJ16_tryMergeRuns 117 = .ok (.iload 9, 2) := by decide +kernel
theorem dJ16_tryMergeRuns_119 : decode cJ16_tryMergeRuns 119 = .ok (.iinc 10 (-1), 3) := by decide +kernel
theorem dJ16_tryMergeRuns_122 : decode cJ16_tryMergeRuns 122 = .ok (.iload 10, 2) := by decide +kernel
theorem dJ16_tryMergeRuns_124 : decode cJ16_tryMergeRuns 124 = .ok (.if_icmp .ge 37, 3) := by decide +kernel
theorem dJ16_tryMergeRuns_127 : decode cJ16_tryMergeRuns 127 = .ok (.aload_n 1, 1) := by decide +kernel
theorem dJ16_tryMergeRuns_128 : decode cJ16_tryMergeRuns 128 = .ok (.iload 9, 2) := by decide +kernel
theorem dJ16_tryMergeRuns_130 : decode cJ16_tryMergeRuns 130 = .ok (.iaload, 1) := by decide +kernel
theorem dJ16_tryMergeRuns_131 : decode cJ16_tryMergeRuns 131 = .ok (.aload_n 1, 1) := by decide +kernel
theorem dJ16_tryMergeRuns_132 : decode cJ16_tryMergeRuns 132 = .ok (.iload 10, 2) := by decide +kernel
theorem dJ16_tryMergeRuns_134 : decode cJ16_tryMergeRuns 134 = .ok (.iaload, 1) := by decide +kernel
theorem dJ16_tryMergeRuns_135 : decode cJ16_tryMergeRuns 135 = .ok (.if_icmp .le 26, 3) := by decide +kernel
theorem dJ16_tryMergeRuns_138 : decode cJ16_tryMergeRuns 138 = .ok (.aload_n 1, 1) := by decide +kernel
theorem dJ16_tryMergeRuns_139 : decode cJ16_tryMergeRuns 139 = .ok (.iload 9, 2) := by decide +kernel
theorem dJ16_tryMergeRuns_141 : decode cJ16_tryMergeRuns 141 = .ok (.iaload, 1) := by decide +kernel
theorem dJ16_tryMergeRuns_142 : decode cJ16_tryMergeRuns 142 = .ok (.istore 11, 2) := by decide +kernel
theorem dJ16_tryMergeRuns_144 : decode cJ16_tryMergeRuns 144 = .ok (.aload_n 1, 1) := by decide +kernel
theorem dJ16_tryMergeRuns_145 : decode cJ16_tryMergeRuns 145 = .ok (.iload 9, 2) := by decide +kernel
theorem dJ16_tryMergeRuns_147 : decode cJ16_tryMergeRuns 147 = .ok (.aload_n 1, 1) := by decide +kernel
theorem dJ16_tryMergeRuns_148 : decode cJ16_tryMergeRuns 148 = .ok (.iload 10, 2) := by decide +kernel
theorem dJ16_tryMergeRuns_150 : decode cJ16_tryMergeRuns 150 = .ok (.iaload, 1) := by decide +kernel
theorem dJ16_tryMergeRuns_151 : decode cJ16_tryMergeRuns 151 = .ok (.iastore, 1) := by decide +kernel
theorem dJ16_tryMergeRuns_152 : decode cJ16_tryMergeRuns 152 = .ok (.aload_n 1, 1) := by decide +kernel
theorem dJ16_tryMergeRuns_153 : decode cJ16_tryMergeRuns 153 = .ok (.iload 10, 2) := by decide +kernel
theorem dJ16_tryMergeRuns_155 : decode cJ16_tryMergeRuns 155 = .ok (.iload 11, 2) := by decide +kernel
theorem dJ16_tryMergeRuns_157 : decode cJ16_tryMergeRuns 157 = .ok (.iastore, 1) := by decide +kernel
theorem dJ16_tryMergeRuns_158 : decode cJ16_tryMergeRuns 158 = .ok (.goto (-44), 3) := by decide +kernel
theorem dJ16_tryMergeRuns_161 : decode cJ16_tryMergeRuns 161 = .ok (.goto 41, 3) := by decide +kernel
theorem dJ16_tryMergeRuns_164 : decode cJ16_tryMergeRuns 164 = .ok (.aload_n 1, 1) := by decide +kernel
theorem dJ16_tryMergeRuns_165 : decode cJ16_tryMergeRuns 165 = .ok (.iload 8, 2) := by decide +kernel
theorem dJ16_tryMergeRuns_167 : decode cJ16_tryMergeRuns 167 = .ok (.iaload, 1) := by decide +kernel
theorem dJ16_tryMergeRuns_168 : decode cJ16_tryMergeRuns 168 = .ok (.istore 9, 2) := by decide +kernel
theorem dJ16_tryMergeRuns_170 : decode cJ16_tryMergeRuns 170 = .ok (.iinc 8 1, 3) := by decide +kernel
theorem dJ16_tryMergeRuns_173 : decode cJ16_tryMergeRuns 173 = .ok (.iload 8, 2) := by decide +kernel
theorem dJ16_tryMergeRuns_175 : decode cJ16_tryMergeRuns 175 = .ok (.iload 5, 2) := by decide +kernel
theorem dJ16_tryMergeRuns_177 : decode cJ16_tryMergeRuns 177 = .ok (.if_icmp .ge 15, 3) := by decide +kernel
theorem dJ16_tryMergeRuns_180 : decode cJ16_tryMergeRuns 180 = .ok (.iload 9, 2) := by decide +kernel
theorem dJ16_tryMergeRuns_182 : decode cJ16_tryMergeRuns 182 = .ok (.aload_n 1, 1) := by decide +kernel
theorem dJ16_tryMergeRuns_183 : decode cJ16_tryMergeRuns 183 = .ok (.iload 8, 2) := by decide +kernel
theorem dJ16_tryMergeRuns_185 : decode cJ16_tryMergeRuns 185 = .ok (.iaload, 1) := by decide +kernel
theorem dJ16_tryMergeRuns_186 : decode cJ16_tryMergeRuns 186 = .ok (.if_icmp .ne 6, 3) := by decide +kernel
theorem dJ16_tryMergeRuns_189 : decode cJ16_tryMergeRuns 189 = .ok (.goto (-19), 3) := by decide +kernel
theorem dJ16_tryMergeRuns_192 : decode cJ16_tryMergeRuns 192 = .ok (.iload 8, 2) := by decide +kernel
theorem dJ16_tryMergeRuns_194 : decode cJ16_tryMergeRuns 194 = .ok (.iload 5, 2) := by decide +kernel
theorem dJ16_tryMergeRuns_196 : decode cJ16_tryMergeRuns 196 = .ok (.if_icmp .ge 6, 3) := by decide +kernel
theorem dJ16_tryMergeRuns_199 : decode cJ16_tryMergeRuns 199 = .ok (.goto (-180), 3) := by decide +kernel
theorem dJ16_tryMergeRuns_202 : decode cJ16_tryMergeRuns 202 = .ok (.aload 4, 2) := by decide +kernel
theorem dJ16_tryMergeRuns_204 : decode cJ16_tryMergeRuns 204 = .ok (.ifnonnull 46, 3) := by decide +kernel
theorem dJ16_tryMergeRuns_207 : decode cJ16_tryMergeRuns 207 = .ok (.iload 8, 2) := by decide +kernel
theorem dJ16_tryMergeRuns_209 : decode cJ16_tryMergeRuns 209 = .ok (.iload 5, 2) := by decide +kernel
theorem dJ16_tryMergeRuns_211 : decode cJ16_tryMergeRuns 211 = .ok (.if_icmp .ne 5, 3) := by decide +kernel
theorem dJ16_tryMergeRuns_214 : decode cJ16_tryMergeRuns 214 = .ok (.iconst 1, 1) := by decide +kernel
theorem dJ16_tryMergeRuns_215 : decode cJ16_tryMergeRuns 215 = .ok (.ireturn, 1) := by decide +kernel
theorem dJ16_tryMergeRuns_216 : decode cJ16_tryMergeRuns 216 = .ok (.iload 8, 2) := by decide +kernel
theorem dJ16_tryMergeRuns_218 : decode cJ16_tryMergeRuns 218 = .ok (.iload_n 2, 1) := by decide +kernel
theorem dJ16_tryMergeRuns_219 : decode cJ16_tryMergeRuns 219 = .ok (.isub, 1) := by decide +kernel
theorem dJ16_tryMergeRuns_220 : decode cJ16_tryMergeRuns 220 = .ok (.bipush 16, 2) := by decide +kernel
theorem dJ16_tryMergeRuns_222 : decode cJ16_tryMergeRuns 222 = .ok (.if_icmp .ge 5, 3) := by decide +kernel
theorem dJ16_tryMergeRuns_225 : decode cJ16_tryMergeRuns 225 = .ok (.iconst 0, 1) := by decide +kernel
theorem dJ16_tryMergeRuns_226 : decode cJ16_tryMergeRuns 226 = .ok (.ireturn, 1) := by decide +kernel
theorem dJ16_tryMergeRuns_227 : decode cJ16_tryMergeRuns 227 = .ok (.iload_n 3, 1) := by decide +kernel
theorem dJ16_tryMergeRuns_228 : decode cJ16_tryMergeRuns 228 = .ok (.bipush 10, 2) := by decide +kernel
theorem dJ16_tryMergeRuns_230 : decode cJ16_tryMergeRuns 230 = .ok (.ishr, 1) := by decide +kernel
theorem dJ16_tryMergeRuns_231 : decode cJ16_tryMergeRuns 231 = .ok (.bipush 127, 2) := by decide +kernel
theorem dJ16_tryMergeRuns_233 : decode cJ16_tryMergeRuns 233 = .ok (.ior, 1) := by decide +kernel
theorem dJ16_tryMergeRuns_234 : decode cJ16_tryMergeRuns 234 = .ok (.sipush 1023, 3) := by decide +kernel
theorem dJ16_tryMergeRuns_237 : decode cJ16_tryMergeRuns 237 = .ok (.iand, 1) := by decide +kernel
theorem dJ16_tryMergeRuns_238 : decode cJ16_tryMergeRuns 238 = .ok (.newarray .int, 2) := by decide +kernel
theorem dJ16_tryMergeRuns_240 : decode cJ16_tryMergeRuns 240 = .ok (.astore 4, 2) := by decide +kernel
theorem dJ16_tryMergeRuns_242 : decode cJ16_tryMergeRuns 242 = .ok (.aload 4, 2) := by decide +kernel
theorem dJ16_tryMergeRuns_244 : decode cJ16_tryMergeRuns 244 = .ok (.iconst 0, 1) := by decide +kernel
theorem dJ16_tryMergeRuns_245 : decode cJ16_tryMergeRuns 245 = .ok (.iload_n 2, 1) := by decide +kernel
theorem dJ16_tryMergeRuns_246 : decode cJ16_tryMergeRuns 246 = .ok (.iastore, 1) := by decide +kernel
theorem dJ16_tryMergeRuns_247 : decode cJ16_tryMergeRuns 247 = .ok (.goto 62, 3) := by decide +kernel
theorem dJ16_tryMergeRuns_250 : decode cJ16_tryMergeRuns 250 = .ok (.aload_n 1, 1) := by decide +kernel
theorem dJ16_tryMergeRuns_251 : decode cJ16_tryMergeRuns 251 = .ok (.iload 7, 2) := by decide +kernel
theorem dJ16_tryMergeRuns_253 : decode cJ16_tryMergeRuns 253 = .ok (.iconst 1, 1) := by decide +kernel
theorem dJ16_tryMergeRuns_254 : decode cJ16_tryMergeRuns 254 = .ok (.isub, 1) := by decide +kernel
theorem dJ16_tryMergeRuns_255 : decode cJ16_tryMergeRuns 255 = .ok (.iaload, 1) := by decide +kernel
theorem dJ16_tryMergeRuns_256 : decode cJ16_tryMergeRuns 256 = .ok (.aload_n 1, 1) := by decide +kernel
theorem dJ16_tryMergeRuns_257 : decode cJ16_tryMergeRuns 257 = .ok (.iload 7, 2) := by decide +kernel
theorem dJ16_tryMergeRuns_259 : decode cJ16_tryMergeRuns 259 = .ok (.iaload, 1) := by decide +kernel
theorem dJ16_tryMergeRuns_260 : decode cJ16_tryMergeRuns 260 = .ok (.if_icmp .le 49, 3) := by decide +kernel
theorem dJ16_tryMergeRuns_263 : decode cJ16_tryMergeRuns 263 = .ok (.iload 6, 2) := by decide +kernel
theorem dJ16_tryMergeRuns_265 : decode cJ16_tryMergeRuns 265 = .ok (.iload 8, 2) := by decide +kernel
theorem dJ16_tryMergeRuns_267 : decode cJ16_tryMergeRuns 267 = .ok (.iload_n 2, 1) := by decide +kernel
theorem dJ16_tryMergeRuns_268 : decode cJ16_tryMergeRuns 268 = .ok (.isub, 1) := by decide +kernel
theorem dJ16_tryMergeRuns_269 : decode cJ16_tryMergeRuns 269 = .ok (.bipush 7, 2) := by decide +kernel
theorem dJ16_tryMergeRuns_271 : decode cJ16_tryMergeRuns 271 = .ok (.ishr, 1) := by decide +kernel
theorem dJ16_tryMergeRuns_272 : decode cJ16_tryMergeRuns 272 = .ok (.if_icmp .le 5, 3) := by decide +kernel
theorem dJ16_tryMergeRuns_275 : decode cJ16_tryMergeRuns 275 = .ok (.iconst 0, 1) := by decide +kernel
theorem dJ16_tryMergeRuns_276 : decode cJ16_tryMergeRuns 276 = .ok (.ireturn, 1) := by decide +kernel
theorem dJ16_tryMergeRuns_277 : decode cJ16_tryMergeRuns 277 = .ok (.iinc 6 1, 3) := by decide +kernel
theorem dJ16_tryMergeRuns_280 : decode cJ16_tryMergeRuns 280 = .ok (.iload 6, 2) := by decide +kernel
theorem dJ16_tryMergeRuns_282 : decode cJ16_tryMergeRuns 282 = .ok (.sipush 5120, 3) := by decide +kernel
theorem dJ16_tryMergeRuns_285 : decode cJ16_tryMergeRuns 285 = .ok (.if_icmp .ne 5, 3) := by decide +kernel
theorem dJ16_tryMergeRuns_288 : decode cJ16_tryMergeRuns 288 = .ok (.iconst 0, 1) := by decide +kernel
theorem dJ16_tryMergeRuns_289 : decode cJ16_tryMergeRuns 289 = .ok (.ireturn, 1) := by decide +kernel
theorem dJ16_tryMergeRuns_290 : decode cJ16_tryMergeRuns 290 = .ok (.iload 6, 2) := by decide +kernel
theorem dJ16_tryMergeRuns_292 : decode cJ16_tryMergeRuns 292 = .ok (.aload 4, 2) := by decide +kernel
theorem dJ16_tryMergeRuns_294 : decode cJ16_tryMergeRuns 294 = .ok (.arraylength, 1) := by decide +kernel
theorem dJ16_tryMergeRuns_295 : decode cJ16_tryMergeRuns 295 = .ok (.if_icmp .ne 14, 3) := by decide +kernel
theorem dJ16_tryMergeRuns_298 : decode cJ16_tryMergeRuns 298 = .ok (.aload 4, 2) := by decide +kernel
theorem dJ16_tryMergeRuns_300 : decode cJ16_tryMergeRuns 300 = .ok (.iload 6, 2) := by decide +kernel
theorem dJ16_tryMergeRuns_302 : decode cJ16_tryMergeRuns 302 = .ok (.iconst 1, 1) := by decide +kernel
theorem dJ16_tryMergeRuns_303 : decode cJ16_tryMergeRuns 303 = .ok (.ishl, 1) := by decide +kernel
theorem dJ16_tryMergeRuns_304 : decode cJ16_tryMergeRuns 304 = .ok (.invokestatic 53, 3) := by decide +kernel
theorem dJ16_tryMergeRuns_307 : decode cJ16_tryMergeRuns 307 = .ok (.astore 4, 2) := by decide +kernel
theorem dJ16_tryMergeRuns_309 : decode cJ16_tryMergeRuns 309 = .ok (.aload 4, 2) := by decide +kernel
theorem dJ16_tryMergeRuns_311 : decode cJ16_tryMergeRuns 311 = .ok (.iload 6, 2) := by decide +kernel
theorem dJ16_tryMergeRuns_313 : decode cJ16_tryMergeRuns 313 = .ok (.iload 8, 2) := by decide +kernel
theorem dJ16_tryMergeRuns_315 : decode cJ16_tryMergeRuns 315 = .ok (.dup, 1) := by decide +kernel
theorem dJ16_tryMergeRuns_316 : decode cJ16_tryMergeRuns 316 = .ok (.istore 7, 2) := by decide +kernel
theorem dJ16_tryMergeRuns_318 : decode cJ16_tryMergeRuns 318 = .ok (.iastore, 1) := by decide +kernel
theorem dJ16_tryMergeRuns_319 : decode cJ16_tryMergeRuns 319 = .ok (.goto (-300), 3) := by decide +kernel
theorem dJ16_tryMergeRuns_322 : decode cJ16_tryMergeRuns 322 = .ok (.iload 6, 2) := by decide +kernel
theorem dJ16_tryMergeRuns_324 : decode cJ16_tryMergeRuns 324 = .ok (.iconst 1, 1) := by decide +kernel
theorem dJ16_tryMergeRuns_325 : decode cJ16_tryMergeRuns 325 = .ok (.if_icmp .le 61, 3) := by decide +kernel
theorem dJ16_tryMergeRuns_328 : decode cJ16_tryMergeRuns 328 = .ok (.iload_n 2, 1) := by decide +kernel
theorem dJ16_tryMergeRuns_329 : decode cJ16_tryMergeRuns 329 = .ok (.istore 9, 2) := by decide +kernel
theorem dJ16_tryMergeRuns_331 : decode cJ16_tryMergeRuns 331 = .ok (.aload_n 0, 1) := by decide +kernel
theorem dJ16_tryMergeRuns_332 : decode cJ16_tryMergeRuns 332 = .ok (.ifnull 16, 3) := by decide +kernel
theorem dJ16_tryMergeRuns_335 : decode cJ16_tryMergeRuns 335 = .ok (.aload_n 0, 1) := by decide +kernel
theorem dJ16_tryMergeRuns_336 : decode cJ16_tryMergeRuns 336 = .ok (.getfield 59, 3) := by decide +kernel
theorem dJ16_tryMergeRuns_339 : decode cJ16_tryMergeRuns 339 = .ok (.checkcast 63, 3) := by decide +kernel
theorem dJ16_tryMergeRuns_342 : decode cJ16_tryMergeRuns 342 = .ok (.dup, 1) := by decide +kernel
theorem dJ16_tryMergeRuns_343 : decode cJ16_tryMergeRuns 343 = .ok (.astore 8, 2) := by decide +kernel
theorem dJ16_tryMergeRuns_345 : decode cJ16_tryMergeRuns 345 = .ok (.ifnonnull 11, 3) := by decide +kernel
theorem dJ16_tryMergeRuns_348 : decode cJ16_tryMergeRuns 348 = .ok (.iload_n 3, 1) := by decide +kernel
theorem dJ16_tryMergeRuns_349 : decode cJ16_tryMergeRuns 349 = .ok (.newarray .int, 2) := by decide +kernel
theorem dJ16_tryMergeRuns_351 : decode cJ16_tryMergeRuns 351 = .ok (.astore 8, 2) := by decide +kernel
theorem dJ16_tryMergeRuns_353 : decode cJ16_tryMergeRuns 353 = .ok (.goto 9, 3) := by decide +kernel
theorem dJ16_tryMergeRuns_356 : decode cJ16_tryMergeRuns 356 = .ok (.aload_n 0, 1) := by decide +kernel
theorem dJ16_tryMergeRuns_357 : decode cJ16_tryMergeRuns 357 = .ok (.getfield 65, 3) := by decide +kernel
theorem dJ16_tryMergeRuns_360 : decode cJ16_tryMergeRuns 360 = .ok (.istore 9, 2) := by decide +kernel
theorem dJ16_tryMergeRuns_362 : decode cJ16_tryMergeRuns 362 = .ok (.aload_n 1, 1) := by decide +kernel
theorem dJ16_tryMergeRuns_363 : decode cJ16_tryMergeRuns 363 = .ok (.aload 8, 2) := by decide +kernel
theorem dJ16_tryMergeRuns_365 : decode cJ16_tryMergeRuns 365 = .ok (.iload 9, 2) := by decide +kernel
theorem dJ16_tryMergeRuns_367 : decode cJ16_tryMergeRuns 367 = .ok (.iconst 1, 1) := by decide +kernel
theorem dJ16_tryMergeRuns_368 : decode cJ16_tryMergeRuns 368 = .ok (.aload_n 0, 1) := by decide +kernel
theorem dJ16_tryMergeRuns_369 : decode cJ16_tryMergeRuns 369 = .ok (.ifnull 7, 3) := by decide +kernel
theorem dJ16_tryMergeRuns_372 : decode cJ16_tryMergeRuns 372 = .ok (.iconst 1, 1) := by decide +kernel
theorem dJ16_tryMergeRuns_373 : decode cJ16_tryMergeRuns 373 = .ok (.goto 4, 3) := by decide +kernel
theorem dJ16_tryMergeRuns_376 : decode cJ16_tryMergeRuns 376 = .ok (.iconst 0, 1) := by decide +kernel
theorem dJ16_tryMergeRuns_377 : decode cJ16_tryMergeRuns 377 = .ok (.aload 4, 2) := by decide +kernel
theorem dJ16_tryMergeRuns_379 : decode cJ16_tryMergeRuns 379 = .ok (.iconst 0, 1) := by decide +kernel
theorem dJ16_tryMergeRuns_380 : decode cJ16_tryMergeRuns 380 = .ok (.iload 6, 2) := by decide +kernel
theorem dJ16_tryMergeRuns_382 : decode cJ16_tryMergeRuns 382 = .ok (.invokestatic 69, 3) := by decide +kernel
theorem dJ16_tryMergeRuns_385 : decode cJ16_tryMergeRuns 385 = .ok (.pop, 1) := by decide +kernel
theorem dJ16_tryMergeRuns_386 : decode cJ16_tryMergeRuns 386 = .ok (.iconst 1, 1) := by decide +kernel
theorem dJ16_tryMergeRuns_387 : decode cJ16_tryMergeRuns 387 = .ok (.ireturn, 1) := by decide +kernel
def fn_J16_tryMergeRuns_309 (N : Nat) (K19 : Nat → Int32 → Int32 → Option zo_T → Int32 → Int32 → Int32 → Int32 → zo_O → Option zo_R) (x1 : Nat) (x2 : Int32) (x3 : Int32) (x4 : Nat) (x5 : Int32) (x6 : Int32) (x8 : Int32) (Ω : zo_O) : Option zo_R :=
  ix x6 (gL Ω 35 x4) fun j1 => lt (sI Ω 35 x4 j1 x8) fun Ω2 =>
  K19 x1 x2 x3 (some (35, x4)) x5 x6 x8 x8 Ω2
theorem ct_J16_tryMergeRuns_309 {Y : zo_Y} (hY : zo_Gd Y cJ16_tryMergeRuns 12 RJ16 0) (hJ : zo_JC (zo_J Y)) (hCon : ∀ Ω, zo_J Y Ω → zo_Con Ω) (hr : zo_rt Y (Option.some Jvm.ClassFile.FieldType.boolean)) (N : Nat) (K19 : Nat → Int32 → Int32 → Option zo_T → Int32 → Int32 → Int32 → Int32 → zo_O → Option zo_R) (hK19 : ∀ (x1 : Nat) (x2 : Int32) (x3 : Int32) (x4 : Option zo_T) (x5 : Int32) (x6 : Int32) (x7 : Int32) (x8 : Int32) (Ω : zo_O) (res : zo_R), K19 x1 x2 x3 x4 x5 x6 x7 x8 Ω = some res → TW Y res Ω 19 [(0, vo none), (1, vr 35 x1), (2, vi x2), (3, vi x3), (4, vo x4), (5, vi x5), (6, vi x6), (7, vi x7), (8, vi x8)] []) (x1 : Nat) (x2 : Int32) (x3 : Int32) (x4 : Nat) (x5 : Int32) (x6 : Int32) (x8 : Int32) (Ω : zo_O) (res : zo_R) (h : fn_J16_tryMergeRuns_309 N K19 x1 x2 x3 x4 x5 x6 x8 Ω = some res) : TW Y res Ω 309 [(0, vo none), (1, vr 35 x1), (2, vi x2), (3, vi x3), (4, vr 35 x4), (5, vi x5), (6, vi x6), (8, vi x8)] [] := by
  unfold fn_J16_tryMergeRuns_309 at h
  refine zo_aload hY dJ16_tryMergeRuns_309 4 rfl ?_
  refine zo_iload hY dJ16_tryMergeRuns_311 6 rfl ?_
  refine zo_iload hY dJ16_tryMergeRuns_313 7 rfl ?_
  refine zo_dup hY dJ16_tryMergeRuns_315 (Or.inl rfl) ?_
  refine zo_istore hY dJ16_tryMergeRuns_316 (by decide) rfl (ls' := [(7, vi x8), (0, vo none), (1, vr 35 x1), (2, vi x2), (3, vi x3), (4, vr 35 x4), (5, vi x5), (6, vi x6), (8, vi x8)]) rfl ?_
  refine zo_ast hY hJ (by decide) (Or.inl ⟨rfl, rfl, dJ16_tryMergeRuns_318⟩) (fun _ => rfl) h (fun j1 Ω2 h => ?_)
  refine zo_goto hY 19 dJ16_tryMergeRuns_319 (by decide) ?_
  refine zo_sub [1, 2, 3, 4, 5, 6, 7, 0, 8] rfl ?_
  exact hK19 x1 x2 x3 (some (35, x4)) x5 x6 x8 x8 Ω2 _ h
def fn_J16_tryMergeRuns_202 (N : Nat) (K19 : Nat → Int32 → Int32 → Option zo_T → Int32 → Int32 → Int32 → Int32 → zo_O → Option zo_R) (x1 : Nat) (x2 : Int32) (x3 : Int32) (x4 : Option zo_T) (x5 : Int32) (x6 : Int32) (x7 : Int32) (x8 : Int32) (Ω : zo_O) : Option zo_R :=
  cn x4 35 (
    if x8 = x5 then (
      rZ 1 Ω
      ) else
    if 16 ≤ x8 - x2 then (
      gd (¬ ((x3 >>> ((10 : Int32) &&& 31)) ||| 127) &&& 1023 < 0 ∧ (((x3 >>> ((10 : Int32) &&& 31)) ||| 127) &&& 1023).toNatClampNeg ≤ 65536) <| ad 1 (((x3 >>> ((10 : Int32) &&& 31)) ||| 127) &&& 1023).toNatClampNeg <| lt (nw Ω 35 (((x3 >>> ((10 : Int32) &&& 31)) ||| 127) &&& 1023).toNatClampNeg) fun Ω4 =>
      ix 0 (gL Ω4 35 (gC Ω 35)) fun j5 => lt (sI Ω4 35 (gC Ω 35) j5 x2) fun Ω6 =>
      fn_J16_tryMergeRuns_309 N K19 x1 x2 x3 (gC Ω 35) x5 x6 x8 Ω6
      ) else
    rZ 0 Ω
    ) fun n1 =>
  ix (x7 - 1) (gL Ω 35 x1) fun j7 =>
  ix x7 (gL Ω 35 x1) fun j8 =>
  if gI Ω 35 x1 j7 ≤ gI Ω 35 x1 j8 then (
    fn_J16_tryMergeRuns_309 N K19 x1 x2 x3 n1 x5 x6 x8 Ω
    ) else
  if x6 ≤ (x8 - x2) >>> ((7 : Int32) &&& 31) then (
    if x6 + 1 = 5120 then (
      rZ 0 Ω
      ) else
    if x6 + 1 = nI ((gL Ω 35 n1)) then (
      none
      ) else
    fn_J16_tryMergeRuns_309 N K19 x1 x2 x3 n1 x5 (x6 + 1) x8 Ω
    ) else
  rZ 0 Ω
theorem ct_J16_tryMergeRuns_202 {Y : zo_Y} (hY : zo_Gd Y cJ16_tryMergeRuns 12 RJ16 0) (hJ : zo_JC (zo_J Y)) (hCon : ∀ Ω, zo_J Y Ω → zo_Con Ω) (hr : zo_rt Y (Option.some Jvm.ClassFile.FieldType.boolean)) (N : Nat) (K19 : Nat → Int32 → Int32 → Option zo_T → Int32 → Int32 → Int32 → Int32 → zo_O → Option zo_R) (hK19 : ∀ (x1 : Nat) (x2 : Int32) (x3 : Int32) (x4 : Option zo_T) (x5 : Int32) (x6 : Int32) (x7 : Int32) (x8 : Int32) (Ω : zo_O) (res : zo_R), K19 x1 x2 x3 x4 x5 x6 x7 x8 Ω = some res → TW Y res Ω 19 [(0, vo none), (1, vr 35 x1), (2, vi x2), (3, vi x3), (4, vo x4), (5, vi x5), (6, vi x6), (7, vi x7), (8, vi x8)] []) (x1 : Nat) (x2 : Int32) (x3 : Int32) (x4 : Option zo_T) (x5 : Int32) (x6 : Int32) (x7 : Int32) (x8 : Int32) (Ω : zo_O) (res : zo_R) (h : fn_J16_tryMergeRuns_202 N K19 x1 x2 x3 x4 x5 x6 x7 x8 Ω = some res) : TW Y res Ω 202 [(0, vo none), (1, vr 35 x1), (2, vi x2), (3, vi x3), (4, vo x4), (5, vi x5), (6, vi x6), (7, vi x7), (8, vi x8)] [] := by
  unfold fn_J16_tryMergeRuns_202 at h
  refine zo_aload hY dJ16_tryMergeRuns_202 4 rfl ?_
  refine zo_ifnonnull hY (K := 35) 250 dJ16_tryMergeRuns_204 (by decide) h (fun e13 h => ?_) (fun n1 e13 h => ?_)
  · refine zo_iload hY dJ16_tryMergeRuns_207 8 rfl ?_
    refine zo_iload hY dJ16_tryMergeRuns_209 5 rfl ?_
    refine zo_icmp_ne hY 216 dJ16_tryMergeRuns_211 (by decide) h (fun c2 h => ?_) (fun c2 h => ?_)
    · refine zo_iconst hY 1 (by decide) dJ16_tryMergeRuns_214 ?_
      exact zo_zret hY hr dJ16_tryMergeRuns_215 h
    · refine zo_iload hY dJ16_tryMergeRuns_216 8 rfl ?_
      refine zo_iload_n hY dJ16_tryMergeRuns_218 rfl 2 rfl ?_
      refine zo_isub hY dJ16_tryMergeRuns_219 ?_
      refine zo_bipush hY 16 (by decide) dJ16_tryMergeRuns_220 ?_
      refine zo_icmp_ge hY 227 dJ16_tryMergeRuns_222 (by decide) h (fun c3 h => ?_) (fun c3 h => ?_)
      · refine zo_iload_n hY dJ16_tryMergeRuns_227 rfl 3 rfl ?_
        refine zo_bipush hY 10 (by decide) dJ16_tryMergeRuns_228 ?_
        refine zo_ishr hY dJ16_tryMergeRuns_230 ?_
        refine zo_bipush hY 127 (by decide) dJ16_tryMergeRuns_231 ?_
        refine zo_ior hY dJ16_tryMergeRuns_233 ?_
        refine zo_sipush hY 1023 (by decide) dJ16_tryMergeRuns_234 ?_
        refine zo_iand hY dJ16_tryMergeRuns_237 ?_
        refine zo_newa hY hJ (k := 35) (aty := .int) (by decide) rfl rfl (Or.inl rfl) q233 dJ16_tryMergeRuns_238 h (fun Ω4 res h => ?_)
        refine zo_astore hY dJ16_tryMergeRuns_240 (by decide) rfl (ls' := [(4, vr 35 (gC Ω 35)), (0, vo none), (1, vr 35 x1), (2, vi x2), (3, vi x3), (5, vi x5), (6, vi x6), (7, vi x7), (8, vi x8)]) rfl ?_
        refine zo_aload hY dJ16_tryMergeRuns_242 0 rfl ?_
        refine zo_iconst hY 0 (by decide) dJ16_tryMergeRuns_244 ?_
        refine zo_iload_n hY dJ16_tryMergeRuns_245 rfl 3 rfl ?_
        refine zo_ast hY hJ (by decide) (Or.inl ⟨rfl, rfl, dJ16_tryMergeRuns_246⟩) (fun _ => rfl) h (fun j5 Ω6 h => ?_)
        refine zo_goto hY 309 dJ16_tryMergeRuns_247 (by decide) ?_
        refine zo_sub [1, 2, 3, 4, 0, 5, 6, 8] rfl ?_
        exact ct_J16_tryMergeRuns_309 hY hJ hCon hr N K19 hK19 x1 x2 x3 (gC Ω 35) x5 x6 x8 Ω6 _ h
      · refine zo_iconst hY 0 (by decide) dJ16_tryMergeRuns_225 ?_
        exact zo_zret hY hr dJ16_tryMergeRuns_226 h
  · rw [e13]
    refine zo_aload_n hY dJ16_tryMergeRuns_250 rfl 1 rfl ?_
    refine zo_iload hY dJ16_tryMergeRuns_251 7 rfl ?_
    refine zo_iconst hY 1 (by decide) dJ16_tryMergeRuns_253 ?_
    refine zo_isub hY dJ16_tryMergeRuns_254 ?_
    refine zo_ald hY (by decide) (Or.inl ⟨rfl, dJ16_tryMergeRuns_255⟩) (fun _ => rfl) h (fun j7 h => ?_)
    refine zo_aload_n hY dJ16_tryMergeRuns_256 rfl 1 rfl ?_
    refine zo_iload hY dJ16_tryMergeRuns_257 7 rfl ?_
    refine zo_ald hY (by decide) (Or.inl ⟨rfl, dJ16_tryMergeRuns_259⟩) (fun _ => rfl) h (fun j8 h => ?_)
    refine zo_icmp_le hY 309 dJ16_tryMergeRuns_260 (by decide) h (fun c9 h => ?_) (fun c9 h => ?_)
    · refine zo_sub [0, 1, 2, 3, 4, 5, 6, 8] rfl ?_
      exact ct_J16_tryMergeRuns_309 hY hJ hCon hr N K19 hK19 x1 x2 x3 n1 x5 x6 x8 Ω _ h
    · refine zo_iload hY dJ16_tryMergeRuns_263 6 rfl ?_
      refine zo_iload hY dJ16_tryMergeRuns_265 8 rfl ?_
      refine zo_iload_n hY dJ16_tryMergeRuns_267 rfl 2 rfl ?_
      refine zo_isub hY dJ16_tryMergeRuns_268 ?_
      refine zo_bipush hY 7 (by decide) dJ16_tryMergeRuns_269 ?_
      refine zo_ishr hY dJ16_tryMergeRuns_271 ?_
      refine zo_icmp_le hY 277 dJ16_tryMergeRuns_272 (by decide) h (fun c10 h => ?_) (fun c10 h => ?_)
      · refine zo_iinc hY 1 dJ16_tryMergeRuns_277 (by decide) (by decide) 6 rfl rfl (ls' := [(6, vi (x6 + 1)), (0, vo none), (1, vr 35 x1), (2, vi x2), (3, vi x3), (4, vr 35 n1), (5, vi x5), (7, vi x7), (8, vi x8)]) rfl ?_
        refine zo_iload hY dJ16_tryMergeRuns_280 0 rfl ?_
        refine zo_sipush hY 5120 (by decide) dJ16_tryMergeRuns_282 ?_
        refine zo_icmp_ne hY 290 dJ16_tryMergeRuns_285 (by decide) h (fun c11 h => ?_) (fun c11 h => ?_)
        · refine zo_iconst hY 0 (by decide) dJ16_tryMergeRuns_288 ?_
          exact zo_zret hY hr dJ16_tryMergeRuns_289 h
        · refine zo_iload hY dJ16_tryMergeRuns_290 0 rfl ?_
          refine zo_aload hY dJ16_tryMergeRuns_292 5 rfl ?_
          refine zo_alen hY (by decide) (by decide) (fun _ => rfl) dJ16_tryMergeRuns_294 ?_
          refine zo_icmp_ne hY 309 dJ16_tryMergeRuns_295 (by decide) h (fun c12 h => ?_) (fun c12 h => ?_)
          · refine zo_aload hY dJ16_tryMergeRuns_298 5 rfl ?_
            refine zo_iload hY dJ16_tryMergeRuns_300 0 rfl ?_
            refine zo_iconst hY 1 (by decide) dJ16_tryMergeRuns_302 ?_
            refine zo_ishl hY dJ16_tryMergeRuns_303 ?_
            cases h
          · refine zo_sub [1, 2, 3, 4, 5, 6, 0, 8] rfl ?_
            exact ct_J16_tryMergeRuns_309 hY hJ hCon hr N K19 hK19 x1 x2 x3 n1 x5 (x6 + 1) x8 Ω _ h
      · refine zo_iconst hY 0 (by decide) dJ16_tryMergeRuns_275 ?_
        exact zo_zret hY hr dJ16_tryMergeRuns_276 h
def bd_J16_tryMergeRuns_39 (N : Nat) (K19 : Nat → Int32 → Int32 → Option zo_T → Int32 → Int32 → Int32 → Int32 → zo_O → Option zo_R) (K39 : Nat → Int32 → Int32 → Option zo_T → Int32 → Int32 → Int32 → Int32 → zo_O → Option zo_R) (x1 : Nat) (x2 : Int32) (x3 : Int32) (x4 : Option zo_T) (x5 : Int32) (x6 : Int32) (x7 : Int32) (x8 : Int32) (Ω : zo_O) : Option zo_R :=
  if x5 ≤ x8 + 1 then (
    fn_J16_tryMergeRuns_202 N K19 x1 x2 x3 x4 x5 x6 x7 (x8 + 1) Ω
    ) else
  ix ((x8 + 1) - 1) (gL Ω 35 x1) fun j2 =>
  ix (x8 + 1) (gL Ω 35 x1) fun j3 =>
  if gI Ω 35 x1 j3 < gI Ω 35 x1 j2 then (
    fn_J16_tryMergeRuns_202 N K19 x1 x2 x3 x4 x5 x6 x7 (x8 + 1) Ω
    ) else
  K39 x1 x2 x3 x4 x5 x6 x7 (x8 + 1) Ω
theorem cb_J16_tryMergeRuns_39 {Y : zo_Y} (hY : zo_Gd Y cJ16_tryMergeRuns 12 RJ16 0) (hJ : zo_JC (zo_J Y)) (hCon : ∀ Ω, zo_J Y Ω → zo_Con Ω) (hr : zo_rt Y (Option.some Jvm.ClassFile.FieldType.boolean)) (N : Nat) (K19 : Nat → Int32 → Int32 → Option zo_T → Int32 → Int32 → Int32 → Int32 → zo_O → Option zo_R) (K39 : Nat → Int32 → Int32 → Option zo_T → Int32 → Int32 → Int32 → Int32 → zo_O → Option zo_R) (hK19 : ∀ (x1 : Nat) (x2 : Int32) (x3 : Int32) (x4 : Option zo_T) (x5 : Int32) (x6 : Int32) (x7 : Int32) (x8 : Int32) (Ω : zo_O) (res : zo_R), K19 x1 x2 x3 x4 x5 x6 x7 x8 Ω = some res → TW Y res Ω 19 [(0, vo none), (1, vr 35 x1), (2, vi x2), (3, vi x3), (4, vo x4), (5, vi x5), (6, vi x6), (7, vi x7), (8, vi x8)] []) (hK39 : ∀ (x1 : Nat) (x2 : Int32) (x3 : Int32) (x4 : Option zo_T) (x5 : Int32) (x6 : Int32) (x7 : Int32) (x8 : Int32) (Ω : zo_O) (res : zo_R), K39 x1 x2 x3 x4 x5 x6 x7 x8 Ω = some res → TW Y res Ω 39 [(0, vo none), (1, vr 35 x1), (2, vi x2), (3, vi x3), (4, vo x4), (5, vi x5), (6, vi x6), (7, vi x7), (8, vi x8)] []) (x1 : Nat) (x2 : Int32) (x3 : Int32) (x4 : Option zo_T) (x5 : Int32) (x6 : Int32) (x7 : Int32) (x8 : Int32) (Ω : zo_O) (res : zo_R) (h : bd_J16_tryMergeRuns_39 N K19 K39 x1 x2 x3 x4 x5 x6 x7 x8 Ω = some res) : TW Y res Ω 39 [(0, vo none), (1, vr 35 x1), (2, vi x2), (3, vi x3), (4, vo x4), (5, vi x5), (6, vi x6), (7, vi x7), (8, vi x8)] [] := by
  unfold bd_J16_tryMergeRuns_39 at h
  refine zo_iinc hY 1 dJ16_tryMergeRuns_39 (by decide) (by decide) 8 rfl rfl (ls' := [(8, vi (x8 + 1)), (0, vo none), (1, vr 35 x1), (2, vi x2), (3, vi x3), (4, vo x4), (5, vi x5), (6, vi x6), (7, vi x7)]) rfl ?_
  refine zo_iload hY dJ16_tryMergeRuns_42 0 rfl ?_
  refine zo_iload hY dJ16_tryMergeRuns_44 6 rfl ?_
  refine zo_icmp_ge hY 202 dJ16_tryMergeRuns_46 (by decide) h (fun c1 h => ?_) (fun c1 h => ?_)
  · refine zo_sub [1, 2, 3, 4, 5, 6, 7, 8, 0] rfl ?_
    exact ct_J16_tryMergeRuns_202 hY hJ hCon hr N K19 hK19 x1 x2 x3 x4 x5 x6 x7 (x8 + 1) Ω _ h
  · refine zo_aload_n hY dJ16_tryMergeRuns_49 rfl 2 rfl ?_
    refine zo_iload hY dJ16_tryMergeRuns_50 0 rfl ?_
    refine zo_iconst hY 1 (by decide) dJ16_tryMergeRuns_52 ?_
    refine zo_isub hY dJ16_tryMergeRuns_53 ?_
    refine zo_ald hY (by decide) (Or.inl ⟨rfl, dJ16_tryMergeRuns_54⟩) (fun _ => rfl) h (fun j2 h => ?_)
    refine zo_aload_n hY dJ16_tryMergeRuns_55 rfl 2 rfl ?_
    refine zo_iload hY dJ16_tryMergeRuns_56 0 rfl ?_
    refine zo_ald hY (by decide) (Or.inl ⟨rfl, dJ16_tryMergeRuns_58⟩) (fun _ => rfl) h (fun j3 h => ?_)
    refine zo_icmp_gt hY 202 dJ16_tryMergeRuns_59 (by decide) h (fun c4 h => ?_) (fun c4 h => ?_)
    · refine zo_sub [1, 2, 3, 4, 5, 6, 7, 8, 0] rfl ?_
      exact ct_J16_tryMergeRuns_202 hY hJ hCon hr N K19 hK19 x1 x2 x3 x4 x5 x6 x7 (x8 + 1) Ω _ h
    · refine zo_goto hY 39 dJ16_tryMergeRuns_62 (by decide) ?_
      refine zo_sub [1, 2, 3, 4, 5, 6, 7, 8, 0] rfl ?_
      exact hK39 x1 x2 x3 x4 x5 x6 x7 (x8 + 1) Ω _ h
def fn_J16_tryMergeRuns_39 (N : Nat) (K19 : Nat → Int32 → Int32 → Option zo_T → Int32 → Int32 → Int32 → Int32 → zo_O → Option zo_R) : Nat → Nat → Int32 → Int32 → Option zo_T → Int32 → Int32 → Int32 → Int32 → zo_O → Option zo_R
  | 0, _, _, _, _, _, _, _, _, _ => none
  | n + 1, x1, x2, x3, x4, x5, x6, x7, x8, Ω => bd_J16_tryMergeRuns_39 N K19 (fn_J16_tryMergeRuns_39 N K19 n) x1 x2 x3 x4 x5 x6 x7 x8 Ω
theorem ct_J16_tryMergeRuns_39 {Y : zo_Y} (hY : zo_Gd Y cJ16_tryMergeRuns 12 RJ16 0) (hJ : zo_JC (zo_J Y)) (hCon : ∀ Ω, zo_J Y Ω → zo_Con Ω) (hr : zo_rt Y (Option.some Jvm.ClassFile.FieldType.boolean)) (N : Nat) (K19 : Nat → Int32 → Int32 → Option zo_T → Int32 → Int32 → Int32 → Int32 → zo_O → Option zo_R) (hK19 : ∀ (x1 : Nat) (x2 : Int32) (x3 : Int32) (x4 : Option zo_T) (x5 : Int32) (x6 : Int32) (x7 : Int32) (x8 : Int32) (Ω : zo_O) (res : zo_R), K19 x1 x2 x3 x4 x5 x6 x7 x8 Ω = some res → TW Y res Ω 19 [(0, vo none), (1, vr 35 x1), (2, vi x2), (3, vi x3), (4, vo x4), (5, vi x5), (6, vi x6), (7, vi x7), (8, vi x8)] []) : ∀ (n : Nat) (x1 : Nat) (x2 : Int32) (x3 : Int32) (x4 : Option zo_T) (x5 : Int32) (x6 : Int32) (x7 : Int32) (x8 : Int32) (Ω : zo_O) (res : zo_R), fn_J16_tryMergeRuns_39 N K19 n x1 x2 x3 x4 x5 x6 x7 x8 Ω = some res → TW Y res Ω 39 [(0, vo none), (1, vr 35 x1), (2, vi x2), (3, vi x3), (4, vo x4), (5, vi x5), (6, vi x6), (7, vi x7), (8, vi x8)] [] := by
  intro n
  induction n with
  | zero => intro x1 x2 x3 x4 x5 x6 x7 x8 Ω res h; exact nomatch (show (none : Option zo_R) = some res from h)
  | succ n ih => intro x1 x2 x3 x4 x5 x6 x7 x8 Ω res h; exact cb_J16_tryMergeRuns_39 hY hJ hCon hr N K19 (fn_J16_tryMergeRuns_39 N K19 n) hK19 ih x1 x2 x3 x4 x5 x6 x7 x8 Ω res h
def fn_J16_tryMergeRuns_161 (N : Nat) (K19 : Nat → Int32 → Int32 → Option zo_T → Int32 → Int32 → Int32 → Int32 → zo_O → Option zo_R) (x1 : Nat) (x2 : Int32) (x3 : Int32) (x4 : Option zo_T) (x5 : Int32) (x6 : Int32) (x7 : Int32) (x8 : Int32) (Ω : zo_O) : Option zo_R :=
  fn_J16_tryMergeRuns_202 N K19 x1 x2 x3 x4 x5 x6 x7 x8 Ω
theorem ct_J16_tryMergeRuns_161 {Y : zo_Y} (hY : zo_Gd Y cJ16_tryMergeRuns 12 RJ16 0) (hJ : zo_JC (zo_J Y)) (hCon : ∀ Ω, zo_J Y Ω → zo_Con Ω) (hr : zo_rt Y (Option.some Jvm.ClassFile.FieldType.boolean)) (N : Nat) (K19 : Nat → Int32 → Int32 → Option zo_T → Int32 → Int32 → Int32 → Int32 → zo_O → Option zo_R) (hK19 : ∀ (x1 : Nat) (x2 : Int32) (x3 : Int32) (x4 : Option zo_T) (x5 : Int32) (x6 : Int32) (x7 : Int32) (x8 : Int32) (Ω : zo_O) (res : zo_R), K19 x1 x2 x3 x4 x5 x6 x7 x8 Ω = some res → TW Y res Ω 19 [(0, vo none), (1, vr 35 x1), (2, vi x2), (3, vi x3), (4, vo x4), (5, vi x5), (6, vi x6), (7, vi x7), (8, vi x8)] []) (x1 : Nat) (x2 : Int32) (x3 : Int32) (x4 : Option zo_T) (x5 : Int32) (x6 : Int32) (x7 : Int32) (x8 : Int32) (Ω : zo_O) (res : zo_R) (h : fn_J16_tryMergeRuns_161 N K19 x1 x2 x3 x4 x5 x6 x7 x8 Ω = some res) : TW Y res Ω 161 [(0, vo none), (1, vr 35 x1), (2, vi x2), (3, vi x3), (4, vo x4), (5, vi x5), (6, vi x6), (7, vi x7), (8, vi x8)] [] := by
  unfold fn_J16_tryMergeRuns_161 at h
  refine zo_goto hY 202 dJ16_tryMergeRuns_161 (by decide) ?_
  exact ct_J16_tryMergeRuns_202 hY hJ hCon hr N K19 hK19 x1 x2 x3 x4 x5 x6 x7 x8 Ω _ h
def bd_J16_tryMergeRuns_114 (N : Nat) (K19 : Nat → Int32 → Int32 → Option zo_T → Int32 → Int32 → Int32 → Int32 → zo_O → Option zo_R) (K114 : Nat → Int32 → Int32 → Option zo_T → Int32 → Int32 → Int32 → Int32 → Int32 → Int32 → zo_O → Option zo_R) (x1 : Nat) (x2 : Int32) (x3 : Int32) (x4 : Option zo_T) (x5 : Int32) (x6 : Int32) (x7 : Int32) (x8 : Int32) (x9 : Int32) (x10 : Int32) (Ω : zo_O) : Option zo_R :=
  if x10 + (-1) ≤ x9 + 1 then (
    fn_J16_tryMergeRuns_161 N K19 x1 x2 x3 x4 x5 x6 x7 x8 Ω
    ) else
  ix (x9 + 1) (gL Ω 35 x1) fun j2 =>
  ix (x10 + (-1)) (gL Ω 35 x1) fun j3 =>
  if gI Ω 35 x1 j2 ≤ gI Ω 35 x1 j3 then (
    fn_J16_tryMergeRuns_161 N K19 x1 x2 x3 x4 x5 x6 x7 x8 Ω
    ) else
  ix (x9 + 1) (gL Ω 35 x1) fun j5 =>
  li (gI Ω 35 x1 j5) fun y6 =>
  ix (x10 + (-1)) (gL Ω 35 x1) fun j7 =>
  ix (x9 + 1) (gL Ω 35 x1) fun j8 => lt (sI Ω 35 x1 j8 (gI Ω 35 x1 j7)) fun Ω9 =>
  ix (x10 + (-1)) (gL Ω9 35 x1) fun j10 => lt (sI Ω9 35 x1 j10 y6) fun Ω11 =>
  K114 x1 x2 x3 x4 x5 x6 x7 x8 (x9 + 1) (x10 + (-1)) Ω11
theorem cb_J16_tryMergeRuns_114 {Y : zo_Y} (hY : zo_Gd Y cJ16_tryMergeRuns 12 RJ16 0) (hJ : zo_JC (zo_J Y)) (hCon : ∀ Ω, zo_J Y Ω → zo_Con Ω) (hr : zo_rt Y (Option.some Jvm.ClassFile.FieldType.boolean)) (N : Nat) (K19 : Nat → Int32 → Int32 → Option zo_T → Int32 → Int32 → Int32 → Int32 → zo_O → Option zo_R) (K114 : Nat → Int32 → Int32 → Option zo_T → Int32 → Int32 → Int32 → Int32 → Int32 → Int32 → zo_O → Option zo_R) (hK19 : ∀ (x1 : Nat) (x2 : Int32) (x3 : Int32) (x4 : Option zo_T) (x5 : Int32) (x6 : Int32) (x7 : Int32) (x8 : Int32) (Ω : zo_O) (res : zo_R), K19 x1 x2 x3 x4 x5 x6 x7 x8 Ω = some res → TW Y res Ω 19 [(0, vo none), (1, vr 35 x1), (2, vi x2), (3, vi x3), (4, vo x4), (5, vi x5), (6, vi x6), (7, vi x7), (8, vi x8)] []) (hK114 : ∀ (x1 : Nat) (x2 : Int32) (x3 : Int32) (x4 : Option zo_T) (x5 : Int32) (x6 : Int32) (x7 : Int32) (x8 : Int32) (x9 : Int32) (x10 : Int32) (Ω : zo_O) (res : zo_R), K114 x1 x2 x3 x4 x5 x6 x7 x8 x9 x10 Ω = some res → TW Y res Ω 114 [(0, vo none), (1, vr 35 x1), (2, vi x2), (3, vi x3), (4, vo x4), (5, vi x5), (6, vi x6), (7, vi x7), (8, vi x8), (9, vi x9), (10, vi x10)] []) (x1 : Nat) (x2 : Int32) (x3 : Int32) (x4 : Option zo_T) (x5 : Int32) (x6 : Int32) (x7 : Int32) (x8 : Int32) (x9 : Int32) (x10 : Int32) (Ω : zo_O) (res : zo_R) (h : bd_J16_tryMergeRuns_114 N K19 K114 x1 x2 x3 x4 x5 x6 x7 x8 x9 x10 Ω = some res) : TW Y res Ω 114 [(0, vo none), (1, vr 35 x1), (2, vi x2), (3, vi x3), (4, vo x4), (5, vi x5), (6, vi x6), (7, vi x7), (8, vi x8), (9, vi x9), (10, vi x10)] [] := by
  unfold bd_J16_tryMergeRuns_114 at h
  refine zo_iinc hY 1 dJ16_tryMergeRuns_114 (by decide) (by decide) 9 rfl rfl (ls' := [(9, vi (x9 + 1)), (0, vo none), (1, vr 35 x1), (2, vi x2), (3, vi x3), (4, vo x4), (5, vi x5), (6, vi x6), (7, vi x7), (8, vi x8), (10, vi x10)]) rfl ?_
  refine zo_iload hY dJ16_tryMergeRuns_117 0 rfl ?_
  refine zo_iinc hY (-1) dJ16_tryMergeRuns_119 (by decide) (by decide) 10 rfl rfl (ls' := [(10, vi (x10 + (-1))), (9, vi (x9 + 1)), (0, vo none), (1, vr 35 x1), (2, vi x2), (3, vi x3), (4, vo x4), (5, vi x5), (6, vi x6), (7, vi x7), (8, vi x8)]) rfl ?_
  refine zo_iload hY dJ16_tryMergeRuns_122 0 rfl ?_
  refine zo_icmp_ge hY 161 dJ16_tryMergeRuns_124 (by decide) h (fun c1 h => ?_) (fun c1 h => ?_)
  · refine zo_sub [2, 3, 4, 5, 6, 7, 8, 9, 10] rfl ?_
    exact ct_J16_tryMergeRuns_161 hY hJ hCon hr N K19 hK19 x1 x2 x3 x4 x5 x6 x7 x8 Ω _ h
  · refine zo_aload_n hY dJ16_tryMergeRuns_127 rfl 3 rfl ?_
    refine zo_iload hY dJ16_tryMergeRuns_128 1 rfl ?_
    refine zo_ald hY (by decide) (Or.inl ⟨rfl, dJ16_tryMergeRuns_130⟩) (fun _ => rfl) h (fun j2 h => ?_)
    refine zo_aload_n hY dJ16_tryMergeRuns_131 rfl 3 rfl ?_
    refine zo_iload hY dJ16_tryMergeRuns_132 0 rfl ?_
    refine zo_ald hY (by decide) (Or.inl ⟨rfl, dJ16_tryMergeRuns_134⟩) (fun _ => rfl) h (fun j3 h => ?_)
    refine zo_icmp_le hY 161 dJ16_tryMergeRuns_135 (by decide) h (fun c4 h => ?_) (fun c4 h => ?_)
    · refine zo_sub [2, 3, 4, 5, 6, 7, 8, 9, 10] rfl ?_
      exact ct_J16_tryMergeRuns_161 hY hJ hCon hr N K19 hK19 x1 x2 x3 x4 x5 x6 x7 x8 Ω _ h
    · refine zo_aload_n hY dJ16_tryMergeRuns_138 rfl 3 rfl ?_
      refine zo_iload hY dJ16_tryMergeRuns_139 1 rfl ?_
      refine zo_ald hY (by decide) (Or.inl ⟨rfl, dJ16_tryMergeRuns_141⟩) (fun _ => rfl) h (fun j5 h => ?_)
      refine zo_nmi h (fun y6 h => ?_)
      refine zo_istore hY dJ16_tryMergeRuns_142 (by decide) rfl (ls' := [(11, vi y6), (10, vi (x10 + (-1))), (9, vi (x9 + 1)), (0, vo none), (1, vr 35 x1), (2, vi x2), (3, vi x3), (4, vo x4), (5, vi x5), (6, vi x6), (7, vi x7), (8, vi x8)]) rfl ?_
      refine zo_aload_n hY dJ16_tryMergeRuns_144 rfl 4 rfl ?_
      refine zo_iload hY dJ16_tryMergeRuns_145 2 rfl ?_
      refine zo_aload_n hY dJ16_tryMergeRuns_147 rfl 4 rfl ?_
      refine zo_iload hY dJ16_tryMergeRuns_148 1 rfl ?_
      refine zo_ald hY (by decide) (Or.inl ⟨rfl, dJ16_tryMergeRuns_150⟩) (fun _ => rfl) h (fun j7 h => ?_)
      refine zo_ast hY hJ (by decide) (Or.inl ⟨rfl, rfl, dJ16_tryMergeRuns_151⟩) (fun _ => rfl) h (fun j8 Ω9 h => ?_)
      refine zo_aload_n hY dJ16_tryMergeRuns_152 rfl 4 rfl ?_
      refine zo_iload hY dJ16_tryMergeRuns_153 1 rfl ?_
      refine zo_iload hY dJ16_tryMergeRuns_155 0 rfl ?_
      refine zo_ast hY hJ (by decide) (Or.inl ⟨rfl, rfl, dJ16_tryMergeRuns_157⟩) (fun _ => rfl) h (fun j10 Ω11 h => ?_)
      refine zo_goto hY 114 dJ16_tryMergeRuns_158 (by decide) ?_
      refine zo_sub [3, 4, 5, 6, 7, 8, 9, 10, 11, 2, 1] rfl ?_
      exact hK114 x1 x2 x3 x4 x5 x6 x7 x8 (x9 + 1) (x10 + (-1)) Ω11 _ h
def fn_J16_tryMergeRuns_114 (N : Nat) (K19 : Nat → Int32 → Int32 → Option zo_T → Int32 → Int32 → Int32 → Int32 → zo_O → Option zo_R) : Nat → Nat → Int32 → Int32 → Option zo_T → Int32 → Int32 → Int32 → Int32 → Int32 → Int32 → zo_O → Option zo_R
  | 0, _, _, _, _, _, _, _, _, _, _, _ => none
  | n + 1, x1, x2, x3, x4, x5, x6, x7, x8, x9, x10, Ω => bd_J16_tryMergeRuns_114 N K19 (fn_J16_tryMergeRuns_114 N K19 n) x1 x2 x3 x4 x5 x6 x7 x8 x9 x10 Ω
theorem ct_J16_tryMergeRuns_114 {Y : zo_Y} (hY : zo_Gd Y cJ16_tryMergeRuns 12 RJ16 0) (hJ : zo_JC (zo_J Y)) (hCon : ∀ Ω, zo_J Y Ω → zo_Con Ω) (hr : zo_rt Y (Option.some Jvm.ClassFile.FieldType.boolean)) (N : Nat) (K19 : Nat → Int32 → Int32 → Option zo_T → Int32 → Int32 → Int32 → Int32 → zo_O → Option zo_R) (hK19 : ∀ (x1 : Nat) (x2 : Int32) (x3 : Int32) (x4 : Option zo_T) (x5 : Int32) (x6 : Int32) (x7 : Int32) (x8 : Int32) (Ω : zo_O) (res : zo_R), K19 x1 x2 x3 x4 x5 x6 x7 x8 Ω = some res → TW Y res Ω 19 [(0, vo none), (1, vr 35 x1), (2, vi x2), (3, vi x3), (4, vo x4), (5, vi x5), (6, vi x6), (7, vi x7), (8, vi x8)] []) : ∀ (n : Nat) (x1 : Nat) (x2 : Int32) (x3 : Int32) (x4 : Option zo_T) (x5 : Int32) (x6 : Int32) (x7 : Int32) (x8 : Int32) (x9 : Int32) (x10 : Int32) (Ω : zo_O) (res : zo_R), fn_J16_tryMergeRuns_114 N K19 n x1 x2 x3 x4 x5 x6 x7 x8 x9 x10 Ω = some res → TW Y res Ω 114 [(0, vo none), (1, vr 35 x1), (2, vi x2), (3, vi x3), (4, vo x4), (5, vi x5), (6, vi x6), (7, vi x7), (8, vi x8), (9, vi x9), (10, vi x10)] [] := by
  intro n
  induction n with
  | zero => intro x1 x2 x3 x4 x5 x6 x7 x8 x9 x10 Ω res h; exact nomatch (show (none : Option zo_R) = some res from h)
  | succ n ih => intro x1 x2 x3 x4 x5 x6 x7 x8 x9 x10 Ω res h; exact cb_J16_tryMergeRuns_114 hY hJ hCon hr N K19 (fn_J16_tryMergeRuns_114 N K19 n) hK19 ih x1 x2 x3 x4 x5 x6 x7 x8 x9 x10 Ω res h
def fn_J16_tryMergeRuns_104 (N : Nat) (K19 : Nat → Int32 → Int32 → Option zo_T → Int32 → Int32 → Int32 → Int32 → zo_O → Option zo_R) (x1 : Nat) (x2 : Int32) (x3 : Int32) (x4 : Option zo_T) (x5 : Int32) (x6 : Int32) (x7 : Int32) (x8 : Int32) (Ω : zo_O) : Option zo_R :=
  li (x7 - 1) fun y1 =>
  fn_J16_tryMergeRuns_114 N K19 N x1 x2 x3 x4 x5 x6 x7 x8 y1 x8 Ω
theorem ct_J16_tryMergeRuns_104 {Y : zo_Y} (hY : zo_Gd Y cJ16_tryMergeRuns 12 RJ16 0) (hJ : zo_JC (zo_J Y)) (hCon : ∀ Ω, zo_J Y Ω → zo_Con Ω) (hr : zo_rt Y (Option.some Jvm.ClassFile.FieldType.boolean)) (N : Nat) (K19 : Nat → Int32 → Int32 → Option zo_T → Int32 → Int32 → Int32 → Int32 → zo_O → Option zo_R) (hK19 : ∀ (x1 : Nat) (x2 : Int32) (x3 : Int32) (x4 : Option zo_T) (x5 : Int32) (x6 : Int32) (x7 : Int32) (x8 : Int32) (Ω : zo_O) (res : zo_R), K19 x1 x2 x3 x4 x5 x6 x7 x8 Ω = some res → TW Y res Ω 19 [(0, vo none), (1, vr 35 x1), (2, vi x2), (3, vi x3), (4, vo x4), (5, vi x5), (6, vi x6), (7, vi x7), (8, vi x8)] []) (x1 : Nat) (x2 : Int32) (x3 : Int32) (x4 : Option zo_T) (x5 : Int32) (x6 : Int32) (x7 : Int32) (x8 : Int32) (Ω : zo_O) (res : zo_R) (h : fn_J16_tryMergeRuns_104 N K19 x1 x2 x3 x4 x5 x6 x7 x8 Ω = some res) : TW Y res Ω 104 [(0, vo none), (1, vr 35 x1), (2, vi x2), (3, vi x3), (4, vo x4), (5, vi x5), (6, vi x6), (7, vi x7), (8, vi x8)] [] := by
  unfold fn_J16_tryMergeRuns_104 at h
  refine zo_iload hY dJ16_tryMergeRuns_104 7 rfl ?_
  refine zo_iconst hY 1 (by decide) dJ16_tryMergeRuns_106 ?_
  refine zo_isub hY dJ16_tryMergeRuns_107 ?_
  refine zo_nmi h (fun y1 h => ?_)
  refine zo_istore hY dJ16_tryMergeRuns_108 (by decide) rfl (ls' := [(9, vi y1), (0, vo none), (1, vr 35 x1), (2, vi x2), (3, vi x3), (4, vo x4), (5, vi x5), (6, vi x6), (7, vi x7), (8, vi x8)]) rfl ?_
  refine zo_iload hY dJ16_tryMergeRuns_110 9 rfl ?_
  refine zo_istore hY dJ16_tryMergeRuns_112 (by decide) rfl (ls' := [(10, vi x8), (9, vi y1), (0, vo none), (1, vr 35 x1), (2, vi x2), (3, vi x3), (4, vo x4), (5, vi x5), (6, vi x6), (7, vi x7), (8, vi x8)]) rfl ?_
  refine zo_sub [2, 3, 4, 5, 6, 7, 8, 9, 10, 1, 0] rfl ?_
  exact ct_J16_tryMergeRuns_114 hY hJ hCon hr N K19 hK19 N x1 x2 x3 x4 x5 x6 x7 x8 y1 x8 Ω _ h
def bd_J16_tryMergeRuns_78 (N : Nat) (K19 : Nat → Int32 → Int32 → Option zo_T → Int32 → Int32 → Int32 → Int32 → zo_O → Option zo_R) (K78 : Nat → Int32 → Int32 → Option zo_T → Int32 → Int32 → Int32 → Int32 → zo_O → Option zo_R) (x1 : Nat) (x2 : Int32) (x3 : Int32) (x4 : Option zo_T) (x5 : Int32) (x6 : Int32) (x7 : Int32) (x8 : Int32) (Ω : zo_O) : Option zo_R :=
  if x5 ≤ x8 + 1 then (
    fn_J16_tryMergeRuns_104 N K19 x1 x2 x3 x4 x5 x6 x7 (x8 + 1) Ω
    ) else
  ix ((x8 + 1) - 1) (gL Ω 35 x1) fun j2 =>
  ix (x8 + 1) (gL Ω 35 x1) fun j3 =>
  if gI Ω 35 x1 j2 < gI Ω 35 x1 j3 then (
    fn_J16_tryMergeRuns_104 N K19 x1 x2 x3 x4 x5 x6 x7 (x8 + 1) Ω
    ) else
  K78 x1 x2 x3 x4 x5 x6 x7 (x8 + 1) Ω
theorem cb_J16_tryMergeRuns_78 {Y : zo_Y} (hY : zo_Gd Y cJ16_tryMergeRuns 12 RJ16 0) (hJ : zo_JC (zo_J Y)) (hCon : ∀ Ω, zo_J Y Ω → zo_Con Ω) (hr : zo_rt Y (Option.some Jvm.ClassFile.FieldType.boolean)) (N : Nat) (K19 : Nat → Int32 → Int32 → Option zo_T → Int32 → Int32 → Int32 → Int32 → zo_O → Option zo_R) (K78 : Nat → Int32 → Int32 → Option zo_T → Int32 → Int32 → Int32 → Int32 → zo_O → Option zo_R) (hK19 : ∀ (x1 : Nat) (x2 : Int32) (x3 : Int32) (x4 : Option zo_T) (x5 : Int32) (x6 : Int32) (x7 : Int32) (x8 : Int32) (Ω : zo_O) (res : zo_R), K19 x1 x2 x3 x4 x5 x6 x7 x8 Ω = some res → TW Y res Ω 19 [(0, vo none), (1, vr 35 x1), (2, vi x2), (3, vi x3), (4, vo x4), (5, vi x5), (6, vi x6), (7, vi x7), (8, vi x8)] []) (hK78 : ∀ (x1 : Nat) (x2 : Int32) (x3 : Int32) (x4 : Option zo_T) (x5 : Int32) (x6 : Int32) (x7 : Int32) (x8 : Int32) (Ω : zo_O) (res : zo_R), K78 x1 x2 x3 x4 x5 x6 x7 x8 Ω = some res → TW Y res Ω 78 [(0, vo none), (1, vr 35 x1), (2, vi x2), (3, vi x3), (4, vo x4), (5, vi x5), (6, vi x6), (7, vi x7), (8, vi x8)] []) (x1 : Nat) (x2 : Int32) (x3 : Int32) (x4 : Option zo_T) (x5 : Int32) (x6 : Int32) (x7 : Int32) (x8 : Int32) (Ω : zo_O) (res : zo_R) (h : bd_J16_tryMergeRuns_78 N K19 K78 x1 x2 x3 x4 x5 x6 x7 x8 Ω = some res) : TW Y res Ω 78 [(0, vo none), (1, vr 35 x1), (2, vi x2), (3, vi x3), (4, vo x4), (5, vi x5), (6, vi x6), (7, vi x7), (8, vi x8)] [] := by
  unfold bd_J16_tryMergeRuns_78 at h
  refine zo_iinc hY 1 dJ16_tryMergeRuns_78 (by decide) (by decide) 8 rfl rfl (ls' := [(8, vi (x8 + 1)), (0, vo none), (1, vr 35 x1), (2, vi x2), (3, vi x3), (4, vo x4), (5, vi x5), (6, vi x6), (7, vi x7)]) rfl ?_
  refine zo_iload hY dJ16_tryMergeRuns_81 0 rfl ?_
  refine zo_iload hY dJ16_tryMergeRuns_83 6 rfl ?_
  refine zo_icmp_ge hY 104 dJ16_tryMergeRuns_85 (by decide) h (fun c1 h => ?_) (fun c1 h => ?_)
  · refine zo_sub [1, 2, 3, 4, 5, 6, 7, 8, 0] rfl ?_
    exact ct_J16_tryMergeRuns_104 hY hJ hCon hr N K19 hK19 x1 x2 x3 x4 x5 x6 x7 (x8 + 1) Ω _ h
  · refine zo_aload_n hY dJ16_tryMergeRuns_88 rfl 2 rfl ?_
    refine zo_iload hY dJ16_tryMergeRuns_89 0 rfl ?_
    refine zo_iconst hY 1 (by decide) dJ16_tryMergeRuns_91 ?_
    refine zo_isub hY dJ16_tryMergeRuns_92 ?_
    refine zo_ald hY (by decide) (Or.inl ⟨rfl, dJ16_tryMergeRuns_93⟩) (fun _ => rfl) h (fun j2 h => ?_)
    refine zo_aload_n hY dJ16_tryMergeRuns_94 rfl 2 rfl ?_
    refine zo_iload hY dJ16_tryMergeRuns_95 0 rfl ?_
    refine zo_ald hY (by decide) (Or.inl ⟨rfl, dJ16_tryMergeRuns_97⟩) (fun _ => rfl) h (fun j3 h => ?_)
    refine zo_icmp_lt hY 104 dJ16_tryMergeRuns_98 (by decide) h (fun c4 h => ?_) (fun c4 h => ?_)
    · refine zo_sub [1, 2, 3, 4, 5, 6, 7, 8, 0] rfl ?_
      exact ct_J16_tryMergeRuns_104 hY hJ hCon hr N K19 hK19 x1 x2 x3 x4 x5 x6 x7 (x8 + 1) Ω _ h
    · refine zo_goto hY 78 dJ16_tryMergeRuns_101 (by decide) ?_
      refine zo_sub [1, 2, 3, 4, 5, 6, 7, 8, 0] rfl ?_
      exact hK78 x1 x2 x3 x4 x5 x6 x7 (x8 + 1) Ω _ h
def fn_J16_tryMergeRuns_78 (N : Nat) (K19 : Nat → Int32 → Int32 → Option zo_T → Int32 → Int32 → Int32 → Int32 → zo_O → Option zo_R) : Nat → Nat → Int32 → Int32 → Option zo_T → Int32 → Int32 → Int32 → Int32 → zo_O → Option zo_R
  | 0, _, _, _, _, _, _, _, _, _ => none
  | n + 1, x1, x2, x3, x4, x5, x6, x7, x8, Ω => bd_J16_tryMergeRuns_78 N K19 (fn_J16_tryMergeRuns_78 N K19 n) x1 x2 x3 x4 x5 x6 x7 x8 Ω
theorem ct_J16_tryMergeRuns_78 {Y : zo_Y} (hY : zo_Gd Y cJ16_tryMergeRuns 12 RJ16 0) (hJ : zo_JC (zo_J Y)) (hCon : ∀ Ω, zo_J Y Ω → zo_Con Ω) (hr : zo_rt Y (Option.some Jvm.ClassFile.FieldType.boolean)) (N : Nat) (K19 : Nat → Int32 → Int32 → Option zo_T → Int32 → Int32 → Int32 → Int32 → zo_O → Option zo_R) (hK19 : ∀ (x1 : Nat) (x2 : Int32) (x3 : Int32) (x4 : Option zo_T) (x5 : Int32) (x6 : Int32) (x7 : Int32) (x8 : Int32) (Ω : zo_O) (res : zo_R), K19 x1 x2 x3 x4 x5 x6 x7 x8 Ω = some res → TW Y res Ω 19 [(0, vo none), (1, vr 35 x1), (2, vi x2), (3, vi x3), (4, vo x4), (5, vi x5), (6, vi x6), (7, vi x7), (8, vi x8)] []) : ∀ (n : Nat) (x1 : Nat) (x2 : Int32) (x3 : Int32) (x4 : Option zo_T) (x5 : Int32) (x6 : Int32) (x7 : Int32) (x8 : Int32) (Ω : zo_O) (res : zo_R), fn_J16_tryMergeRuns_78 N K19 n x1 x2 x3 x4 x5 x6 x7 x8 Ω = some res → TW Y res Ω 78 [(0, vo none), (1, vr 35 x1), (2, vi x2), (3, vi x3), (4, vo x4), (5, vi x5), (6, vi x6), (7, vi x7), (8, vi x8)] [] := by
  intro n
  induction n with
  | zero => intro x1 x2 x3 x4 x5 x6 x7 x8 Ω res h; exact nomatch (show (none : Option zo_R) = some res from h)
  | succ n ih => intro x1 x2 x3 x4 x5 x6 x7 x8 Ω res h; exact cb_J16_tryMergeRuns_78 hY hJ hCon hr N K19 (fn_J16_tryMergeRuns_78 N K19 n) hK19 ih x1 x2 x3 x4 x5 x6 x7 x8 Ω res h
def fn_J16_tryMergeRuns_192 (N : Nat) (K19 : Nat → Int32 → Int32 → Option zo_T → Int32 → Int32 → Int32 → Int32 → zo_O → Option zo_R) (x1 : Nat) (x2 : Int32) (x3 : Int32) (x4 : Option zo_T) (x5 : Int32) (x6 : Int32) (x7 : Int32) (x8 : Int32) (Ω : zo_O) : Option zo_R :=
  if x5 ≤ x8 then (
    fn_J16_tryMergeRuns_202 N K19 x1 x2 x3 x4 x5 x6 x7 x8 Ω
    ) else
  K19 x1 x2 x3 x4 x5 x6 x7 x8 Ω
theorem ct_J16_tryMergeRuns_192 {Y : zo_Y} (hY : zo_Gd Y cJ16_tryMergeRuns 12 RJ16 0) (hJ : zo_JC (zo_J Y)) (hCon : ∀ Ω, zo_J Y Ω → zo_Con Ω) (hr : zo_rt Y (Option.some Jvm.ClassFile.FieldType.boolean)) (N : Nat) (K19 : Nat → Int32 → Int32 → Option zo_T → Int32 → Int32 → Int32 → Int32 → zo_O → Option zo_R) (hK19 : ∀ (x1 : Nat) (x2 : Int32) (x3 : Int32) (x4 : Option zo_T) (x5 : Int32) (x6 : Int32) (x7 : Int32) (x8 : Int32) (Ω : zo_O) (res : zo_R), K19 x1 x2 x3 x4 x5 x6 x7 x8 Ω = some res → TW Y res Ω 19 [(0, vo none), (1, vr 35 x1), (2, vi x2), (3, vi x3), (4, vo x4), (5, vi x5), (6, vi x6), (7, vi x7), (8, vi x8)] []) (x1 : Nat) (x2 : Int32) (x3 : Int32) (x4 : Option zo_T) (x5 : Int32) (x6 : Int32) (x7 : Int32) (x8 : Int32) (Ω : zo_O) (res : zo_R) (h : fn_J16_tryMergeRuns_192 N K19 x1 x2 x3 x4 x5 x6 x7 x8 Ω = some res) : TW Y res Ω 192 [(0, vo none), (1, vr 35 x1), (2, vi x2), (3, vi x3), (4, vo x4), (5, vi x5), (6, vi x6), (7, vi x7), (8, vi x8)] [] := by
  unfold fn_J16_tryMergeRuns_192 at h
  refine zo_iload hY dJ16_tryMergeRuns_192 8 rfl ?_
  refine zo_iload hY dJ16_tryMergeRuns_194 5 rfl ?_
  refine zo_icmp_ge hY 202 dJ16_tryMergeRuns_196 (by decide) h (fun c1 h => ?_) (fun c1 h => ?_)
  · exact ct_J16_tryMergeRuns_202 hY hJ hCon hr N K19 hK19 x1 x2 x3 x4 x5 x6 x7 x8 Ω _ h
  · refine zo_goto hY 19 dJ16_tryMergeRuns_199 (by decide) ?_
    exact hK19 x1 x2 x3 x4 x5 x6 x7 x8 Ω _ h
def bd_J16_tryMergeRuns_170 (N : Nat) (K19 : Nat → Int32 → Int32 → Option zo_T → Int32 → Int32 → Int32 → Int32 → zo_O → Option zo_R) (K170 : Nat → Int32 → Int32 → Option zo_T → Int32 → Int32 → Int32 → Int32 → Int32 → zo_O → Option zo_R) (x1 : Nat) (x2 : Int32) (x3 : Int32) (x4 : Option zo_T) (x5 : Int32) (x6 : Int32) (x7 : Int32) (x8 : Int32) (x9 : Int32) (Ω : zo_O) : Option zo_R :=
  if x5 ≤ x8 + 1 then (
    fn_J16_tryMergeRuns_192 N K19 x1 x2 x3 x4 x5 x6 x7 (x8 + 1) Ω
    ) else
  ix (x8 + 1) (gL Ω 35 x1) fun j2 =>
  if x9 = gI Ω 35 x1 j2 then (
    K170 x1 x2 x3 x4 x5 x6 x7 (x8 + 1) x9 Ω
    ) else
  fn_J16_tryMergeRuns_192 N K19 x1 x2 x3 x4 x5 x6 x7 (x8 + 1) Ω
theorem cb_J16_tryMergeRuns_170 {Y : zo_Y} (hY : zo_Gd Y cJ16_tryMergeRuns 12 RJ16 0) (hJ : zo_JC (zo_J Y)) (hCon : ∀ Ω, zo_J Y Ω → zo_Con Ω) (hr : zo_rt Y (Option.some Jvm.ClassFile.FieldType.boolean)) (N : Nat) (K19 : Nat → Int32 → Int32 → Option zo_T → Int32 → Int32 → Int32 → Int32 → zo_O → Option zo_R) (K170 : Nat → Int32 → Int32 → Option zo_T → Int32 → Int32 → Int32 → Int32 → Int32 → zo_O → Option zo_R) (hK19 : ∀ (x1 : Nat) (x2 : Int32) (x3 : Int32) (x4 : Option zo_T) (x5 : Int32) (x6 : Int32) (x7 : Int32) (x8 : Int32) (Ω : zo_O) (res : zo_R), K19 x1 x2 x3 x4 x5 x6 x7 x8 Ω = some res → TW Y res Ω 19 [(0, vo none), (1, vr 35 x1), (2, vi x2), (3, vi x3), (4, vo x4), (5, vi x5), (6, vi x6), (7, vi x7), (8, vi x8)] []) (hK170 : ∀ (x1 : Nat) (x2 : Int32) (x3 : Int32) (x4 : Option zo_T) (x5 : Int32) (x6 : Int32) (x7 : Int32) (x8 : Int32) (x9 : Int32) (Ω : zo_O) (res : zo_R), K170 x1 x2 x3 x4 x5 x6 x7 x8 x9 Ω = some res → TW Y res Ω 170 [(0, vo none), (1, vr 35 x1), (2, vi x2), (3, vi x3), (4, vo x4), (5, vi x5), (6, vi x6), (7, vi x7), (8, vi x8), (9, vi x9)] []) (x1 : Nat) (x2 : Int32) (x3 : Int32) (x4 : Option zo_T) (x5 : Int32) (x6 : Int32) (x7 : Int32) (x8 : Int32) (x9 : Int32) (Ω : zo_O) (res : zo_R) (h : bd_J16_tryMergeRuns_170 N K19 K170 x1 x2 x3 x4 x5 x6 x7 x8 x9 Ω = some res) : TW Y res Ω 170 [(0, vo none), (1, vr 35 x1), (2, vi x2), (3, vi x3), (4, vo x4), (5, vi x5), (6, vi x6), (7, vi x7), (8, vi x8), (9, vi x9)] [] := by
  unfold bd_J16_tryMergeRuns_170 at h
  refine zo_iinc hY 1 dJ16_tryMergeRuns_170 (by decide) (by decide) 8 rfl rfl (ls' := [(8, vi (x8 + 1)), (0, vo none), (1, vr 35 x1), (2, vi x2), (3, vi x3), (4, vo x4), (5, vi x5), (6, vi x6), (7, vi x7), (9, vi x9)]) rfl ?_
  refine zo_iload hY dJ16_tryMergeRuns_173 0 rfl ?_
  refine zo_iload hY dJ16_tryMergeRuns_175 6 rfl ?_
  refine zo_icmp_ge hY 192 dJ16_tryMergeRuns_177 (by decide) h (fun c1 h => ?_) (fun c1 h => ?_)
  · refine zo_sub [1, 2, 3, 4, 5, 6, 7, 8, 0] rfl ?_
    exact ct_J16_tryMergeRuns_192 hY hJ hCon hr N K19 hK19 x1 x2 x3 x4 x5 x6 x7 (x8 + 1) Ω _ h
  · refine zo_iload hY dJ16_tryMergeRuns_180 9 rfl ?_
    refine zo_aload_n hY dJ16_tryMergeRuns_182 rfl 2 rfl ?_
    refine zo_iload hY dJ16_tryMergeRuns_183 0 rfl ?_
    refine zo_ald hY (by decide) (Or.inl ⟨rfl, dJ16_tryMergeRuns_185⟩) (fun _ => rfl) h (fun j2 h => ?_)
    refine zo_icmp_ne hY 192 dJ16_tryMergeRuns_186 (by decide) h (fun c3 h => ?_) (fun c3 h => ?_)
    · refine zo_goto hY 170 dJ16_tryMergeRuns_189 (by decide) ?_
      refine zo_sub [1, 2, 3, 4, 5, 6, 7, 8, 0, 9] rfl ?_
      exact hK170 x1 x2 x3 x4 x5 x6 x7 (x8 + 1) x9 Ω _ h
    · refine zo_sub [1, 2, 3, 4, 5, 6, 7, 8, 0] rfl ?_
      exact ct_J16_tryMergeRuns_192 hY hJ hCon hr N K19 hK19 x1 x2 x3 x4 x5 x6 x7 (x8 + 1) Ω _ h
def fn_J16_tryMergeRuns_170 (N : Nat) (K19 : Nat → Int32 → Int32 → Option zo_T → Int32 → Int32 → Int32 → Int32 → zo_O → Option zo_R) : Nat → Nat → Int32 → Int32 → Option zo_T → Int32 → Int32 → Int32 → Int32 → Int32 → zo_O → Option zo_R
  | 0, _, _, _, _, _, _, _, _, _, _ => none
  | n + 1, x1, x2, x3, x4, x5, x6, x7, x8, x9, Ω => bd_J16_tryMergeRuns_170 N K19 (fn_J16_tryMergeRuns_170 N K19 n) x1 x2 x3 x4 x5 x6 x7 x8 x9 Ω
theorem ct_J16_tryMergeRuns_170 {Y : zo_Y} (hY : zo_Gd Y cJ16_tryMergeRuns 12 RJ16 0) (hJ : zo_JC (zo_J Y)) (hCon : ∀ Ω, zo_J Y Ω → zo_Con Ω) (hr : zo_rt Y (Option.some Jvm.ClassFile.FieldType.boolean)) (N : Nat) (K19 : Nat → Int32 → Int32 → Option zo_T → Int32 → Int32 → Int32 → Int32 → zo_O → Option zo_R) (hK19 : ∀ (x1 : Nat) (x2 : Int32) (x3 : Int32) (x4 : Option zo_T) (x5 : Int32) (x6 : Int32) (x7 : Int32) (x8 : Int32) (Ω : zo_O) (res : zo_R), K19 x1 x2 x3 x4 x5 x6 x7 x8 Ω = some res → TW Y res Ω 19 [(0, vo none), (1, vr 35 x1), (2, vi x2), (3, vi x3), (4, vo x4), (5, vi x5), (6, vi x6), (7, vi x7), (8, vi x8)] []) : ∀ (n : Nat) (x1 : Nat) (x2 : Int32) (x3 : Int32) (x4 : Option zo_T) (x5 : Int32) (x6 : Int32) (x7 : Int32) (x8 : Int32) (x9 : Int32) (Ω : zo_O) (res : zo_R), fn_J16_tryMergeRuns_170 N K19 n x1 x2 x3 x4 x5 x6 x7 x8 x9 Ω = some res → TW Y res Ω 170 [(0, vo none), (1, vr 35 x1), (2, vi x2), (3, vi x3), (4, vo x4), (5, vi x5), (6, vi x6), (7, vi x7), (8, vi x8), (9, vi x9)] [] := by
  intro n
  induction n with
  | zero => intro x1 x2 x3 x4 x5 x6 x7 x8 x9 Ω res h; exact nomatch (show (none : Option zo_R) = some res from h)
  | succ n ih => intro x1 x2 x3 x4 x5 x6 x7 x8 x9 Ω res h; exact cb_J16_tryMergeRuns_170 hY hJ hCon hr N K19 (fn_J16_tryMergeRuns_170 N K19 n) hK19 ih x1 x2 x3 x4 x5 x6 x7 x8 x9 Ω res h
def fn_J16_tryMergeRuns_377 (N : Nat)  (x4 : Option zo_T) (x6 : Int32) (s0 : Int32) (s1 : Int32) (s2 : Int32) (s3 : Nat) (s4 : Nat) (Ω : zo_O) : Option zo_R :=
  none
theorem ct_J16_tryMergeRuns_377 {Y : zo_Y} (hY : zo_Gd Y cJ16_tryMergeRuns 12 RJ16 0) (hJ : zo_JC (zo_J Y)) (hCon : ∀ Ω, zo_J Y Ω → zo_Con Ω) (hr : zo_rt Y (Option.some Jvm.ClassFile.FieldType.boolean)) (N : Nat)   (x4 : Option zo_T) (x6 : Int32) (s0 : Int32) (s1 : Int32) (s2 : Int32) (s3 : Nat) (s4 : Nat) (Ω : zo_O) (res : zo_R) (h : fn_J16_tryMergeRuns_377 N  x4 x6 s0 s1 s2 s3 s4 Ω = some res) : TW Y res Ω 377 [(4, vo x4), (6, vi x6)] [vi s0, vi s1, vi s2, vr 35 s3, vr 35 s4] := by
  unfold fn_J16_tryMergeRuns_377 at h
  refine zo_aload hY dJ16_tryMergeRuns_377 0 rfl ?_
  refine zo_iconst hY 0 (by decide) dJ16_tryMergeRuns_379 ?_
  refine zo_iload hY dJ16_tryMergeRuns_380 1 rfl ?_
  cases h
def fn_J16_tryMergeRuns_362 (N : Nat)  (x1 : Nat) (x4 : Option zo_T) (x6 : Int32) (x8 : Nat) (x9 : Int32) (Ω : zo_O) : Option zo_R :=
  fn_J16_tryMergeRuns_377 N x4 x6 0 1 x9 x8 x1 Ω
theorem ct_J16_tryMergeRuns_362 {Y : zo_Y} (hY : zo_Gd Y cJ16_tryMergeRuns 12 RJ16 0) (hJ : zo_JC (zo_J Y)) (hCon : ∀ Ω, zo_J Y Ω → zo_Con Ω) (hr : zo_rt Y (Option.some Jvm.ClassFile.FieldType.boolean)) (N : Nat)   (x1 : Nat) (x4 : Option zo_T) (x6 : Int32) (x8 : Nat) (x9 : Int32) (Ω : zo_O) (res : zo_R) (h : fn_J16_tryMergeRuns_362 N  x1 x4 x6 x8 x9 Ω = some res) : TW Y res Ω 362 [(0, vo none), (1, vr 35 x1), (4, vo x4), (6, vi x6), (8, vr 35 x8), (9, vi x9)] [] := by
  unfold fn_J16_tryMergeRuns_362 at h
  refine zo_aload_n hY dJ16_tryMergeRuns_362 rfl 1 rfl ?_
  refine zo_aload hY dJ16_tryMergeRuns_363 4 rfl ?_
  refine zo_iload hY dJ16_tryMergeRuns_365 5 rfl ?_
  refine zo_iconst hY 1 (by decide) dJ16_tryMergeRuns_367 ?_
  refine zo_aload_n hY dJ16_tryMergeRuns_368 rfl 0 rfl ?_
  refine zo_ifnull0 hY 376 dJ16_tryMergeRuns_369 (by decide) ?_
  refine zo_iconst hY 0 (by decide) dJ16_tryMergeRuns_376 ?_
  refine zo_sub [2, 3] rfl ?_
  exact ct_J16_tryMergeRuns_377 hY hJ hCon hr N x4 x6 0 1 x9 x8 x1 Ω _ h
def fn_J16_tryMergeRuns_348 (N : Nat)  (x1 : Nat) (x3 : Int32) (x4 : Option zo_T) (x6 : Int32) (x9 : Int32) (Ω : zo_O) : Option zo_R :=
  gd (¬ x3 < 0 ∧ x3.toNatClampNeg ≤ 65536) <| ad 1 x3.toNatClampNeg <| lt (nw Ω 35 x3.toNatClampNeg) fun Ω1 =>
  fn_J16_tryMergeRuns_362 N x1 x4 x6 (gC Ω 35) x9 Ω1
theorem ct_J16_tryMergeRuns_348 {Y : zo_Y} (hY : zo_Gd Y cJ16_tryMergeRuns 12 RJ16 0) (hJ : zo_JC (zo_J Y)) (hCon : ∀ Ω, zo_J Y Ω → zo_Con Ω) (hr : zo_rt Y (Option.some Jvm.ClassFile.FieldType.boolean)) (N : Nat)   (x1 : Nat) (x3 : Int32) (x4 : Option zo_T) (x6 : Int32) (x9 : Int32) (Ω : zo_O) (res : zo_R) (h : fn_J16_tryMergeRuns_348 N  x1 x3 x4 x6 x9 Ω = some res) : TW Y res Ω 348 [(0, vo none), (1, vr 35 x1), (3, vi x3), (4, vo x4), (6, vi x6), (9, vi x9)] [] := by
  unfold fn_J16_tryMergeRuns_348 at h
  refine zo_iload_n hY dJ16_tryMergeRuns_348 rfl 2 rfl ?_
  refine zo_newa hY hJ (k := 35) (aty := .int) (by decide) rfl rfl (Or.inl rfl) q233 dJ16_tryMergeRuns_349 h (fun Ω1 res h => ?_)
  refine zo_astore hY dJ16_tryMergeRuns_351 (by decide) rfl (ls' := [(8, vr 35 (gC Ω 35)), (0, vo none), (1, vr 35 x1), (3, vi x3), (4, vo x4), (6, vi x6), (9, vi x9)]) rfl ?_
  refine zo_goto hY 362 dJ16_tryMergeRuns_353 (by decide) ?_
  refine zo_sub [1, 2, 4, 5, 0, 6] rfl ?_
  exact ct_J16_tryMergeRuns_362 hY hJ hCon hr N x1 x4 x6 (gC Ω 35) x9 Ω1 _ h
def fn_J16_tryMergeRuns_386 (N : Nat)   (Ω : zo_O) : Option zo_R :=
  rZ 1 Ω
theorem ct_J16_tryMergeRuns_386 {Y : zo_Y} (hY : zo_Gd Y cJ16_tryMergeRuns 12 RJ16 0) (hJ : zo_JC (zo_J Y)) (hCon : ∀ Ω, zo_J Y Ω → zo_Con Ω) (hr : zo_rt Y (Option.some Jvm.ClassFile.FieldType.boolean)) (N : Nat)    (Ω : zo_O) (res : zo_R) (h : fn_J16_tryMergeRuns_386 N   Ω = some res) : TW Y res Ω 386 [] [] := by
  unfold fn_J16_tryMergeRuns_386 at h
  refine zo_iconst hY 1 (by decide) dJ16_tryMergeRuns_386 ?_
  exact zo_zret hY hr dJ16_tryMergeRuns_387 h
def bd_J16_tryMergeRuns_19 (N : Nat)  (K19 : Nat → Int32 → Int32 → Option zo_T → Int32 → Int32 → Int32 → Int32 → zo_O → Option zo_R) (x1 : Nat) (x2 : Int32) (x3 : Int32) (x4 : Option zo_T) (x5 : Int32) (x6 : Int32) (x7 : Int32) (x8 : Int32) (Ω : zo_O) : Option zo_R :=
  if x5 ≤ x8 then (
    if x6 ≤ 1 then (
      fn_J16_tryMergeRuns_386 N Ω
      ) else
    fn_J16_tryMergeRuns_348 N x1 x3 x4 x6 x2 Ω
    ) else
  ix (x8 - 1) (gL Ω 35 x1) fun j3 =>
  ix x8 (gL Ω 35 x1) fun j4 =>
  if gI Ω 35 x1 j4 ≤ gI Ω 35 x1 j3 then (
    ix (x8 - 1) (gL Ω 35 x1) fun j6 =>
    ix x8 (gL Ω 35 x1) fun j7 =>
    if gI Ω 35 x1 j6 ≤ gI Ω 35 x1 j7 then (
      ix x8 (gL Ω 35 x1) fun j9 =>
      li (gI Ω 35 x1 j9) fun y10 =>
      fn_J16_tryMergeRuns_170 N K19 N x1 x2 x3 x4 x5 x6 x7 x8 y10 Ω
      ) else
    fn_J16_tryMergeRuns_78 N K19 N x1 x2 x3 x4 x5 x6 x7 x8 Ω
    ) else
  fn_J16_tryMergeRuns_39 N K19 N x1 x2 x3 x4 x5 x6 x7 x8 Ω
theorem cb_J16_tryMergeRuns_19 {Y : zo_Y} (hY : zo_Gd Y cJ16_tryMergeRuns 12 RJ16 0) (hJ : zo_JC (zo_J Y)) (hCon : ∀ Ω, zo_J Y Ω → zo_Con Ω) (hr : zo_rt Y (Option.some Jvm.ClassFile.FieldType.boolean)) (N : Nat)  (K19 : Nat → Int32 → Int32 → Option zo_T → Int32 → Int32 → Int32 → Int32 → zo_O → Option zo_R)  (hK19 : ∀ (x1 : Nat) (x2 : Int32) (x3 : Int32) (x4 : Option zo_T) (x5 : Int32) (x6 : Int32) (x7 : Int32) (x8 : Int32) (Ω : zo_O) (res : zo_R), K19 x1 x2 x3 x4 x5 x6 x7 x8 Ω = some res → TW Y res Ω 19 [(0, vo none), (1, vr 35 x1), (2, vi x2), (3, vi x3), (4, vo x4), (5, vi x5), (6, vi x6), (7, vi x7), (8, vi x8)] []) (x1 : Nat) (x2 : Int32) (x3 : Int32) (x4 : Option zo_T) (x5 : Int32) (x6 : Int32) (x7 : Int32) (x8 : Int32) (Ω : zo_O) (res : zo_R) (h : bd_J16_tryMergeRuns_19 N  K19 x1 x2 x3 x4 x5 x6 x7 x8 Ω = some res) : TW Y res Ω 19 [(0, vo none), (1, vr 35 x1), (2, vi x2), (3, vi x3), (4, vo x4), (5, vi x5), (6, vi x6), (7, vi x7), (8, vi x8)] [] := by
  unfold bd_J16_tryMergeRuns_19 at h
  refine zo_iload hY dJ16_tryMergeRuns_19 8 rfl ?_
  refine zo_iload hY dJ16_tryMergeRuns_21 5 rfl ?_
  refine zo_icmp_ge hY 322 dJ16_tryMergeRuns_23 (by decide) h (fun c1 h => ?_) (fun c1 h => ?_)
  · refine zo_iload hY dJ16_tryMergeRuns_322 6 rfl ?_
    refine zo_iconst hY 1 (by decide) dJ16_tryMergeRuns_324 ?_
    refine zo_icmp_le hY 386 dJ16_tryMergeRuns_325 (by decide) h (fun c2 h => ?_) (fun c2 h => ?_)
    · refine zo_sub [] rfl ?_
      exact ct_J16_tryMergeRuns_386 hY hJ hCon hr N Ω _ h
    · refine zo_iload_n hY dJ16_tryMergeRuns_328 rfl 2 rfl ?_
      refine zo_istore hY dJ16_tryMergeRuns_329 (by decide) rfl (ls' := [(9, vi x2), (0, vo none), (1, vr 35 x1), (2, vi x2), (3, vi x3), (4, vo x4), (5, vi x5), (6, vi x6), (7, vi x7), (8, vi x8)]) rfl ?_
      refine zo_aload_n hY dJ16_tryMergeRuns_331 rfl 1 rfl ?_
      refine zo_ifnull0 hY 348 dJ16_tryMergeRuns_332 (by decide) ?_
      refine zo_sub [1, 2, 4, 5, 7, 0] rfl ?_
      exact ct_J16_tryMergeRuns_348 hY hJ hCon hr N x1 x3 x4 x6 x2 Ω _ h
  · refine zo_aload_n hY dJ16_tryMergeRuns_26 rfl 1 rfl ?_
    refine zo_iload hY dJ16_tryMergeRuns_27 8 rfl ?_
    refine zo_iconst hY 1 (by decide) dJ16_tryMergeRuns_29 ?_
    refine zo_isub hY dJ16_tryMergeRuns_30 ?_
    refine zo_ald hY (by decide) (Or.inl ⟨rfl, dJ16_tryMergeRuns_31⟩) (fun _ => rfl) h (fun j3 h => ?_)
    refine zo_aload_n hY dJ16_tryMergeRuns_32 rfl 1 rfl ?_
    refine zo_iload hY dJ16_tryMergeRuns_33 8 rfl ?_
    refine zo_ald hY (by decide) (Or.inl ⟨rfl, dJ16_tryMergeRuns_35⟩) (fun _ => rfl) h (fun j4 h => ?_)
    refine zo_icmp_ge hY 65 dJ16_tryMergeRuns_36 (by decide) h (fun c5 h => ?_) (fun c5 h => ?_)
    · refine zo_aload_n hY dJ16_tryMergeRuns_65 rfl 1 rfl ?_
      refine zo_iload hY dJ16_tryMergeRuns_66 8 rfl ?_
      refine zo_iconst hY 1 (by decide) dJ16_tryMergeRuns_68 ?_
      refine zo_isub hY dJ16_tryMergeRuns_69 ?_
      refine zo_ald hY (by decide) (Or.inl ⟨rfl, dJ16_tryMergeRuns_70⟩) (fun _ => rfl) h (fun j6 h => ?_)
      refine zo_aload_n hY dJ16_tryMergeRuns_71 rfl 1 rfl ?_
      refine zo_iload hY dJ16_tryMergeRuns_72 8 rfl ?_
      refine zo_ald hY (by decide) (Or.inl ⟨rfl, dJ16_tryMergeRuns_74⟩) (fun _ => rfl) h (fun j7 h => ?_)
      refine zo_icmp_le hY 164 dJ16_tryMergeRuns_75 (by decide) h (fun c8 h => ?_) (fun c8 h => ?_)
      · refine zo_aload_n hY dJ16_tryMergeRuns_164 rfl 1 rfl ?_
        refine zo_iload hY dJ16_tryMergeRuns_165 8 rfl ?_
        refine zo_ald hY (by decide) (Or.inl ⟨rfl, dJ16_tryMergeRuns_167⟩) (fun _ => rfl) h (fun j9 h => ?_)
        refine zo_nmi h (fun y10 h => ?_)
        refine zo_istore hY dJ16_tryMergeRuns_168 (by decide) rfl (ls' := [(9, vi y10), (0, vo none), (1, vr 35 x1), (2, vi x2), (3, vi x3), (4, vo x4), (5, vi x5), (6, vi x6), (7, vi x7), (8, vi x8)]) rfl ?_
        refine zo_sub [1, 2, 3, 4, 5, 6, 7, 8, 9, 0] rfl ?_
        exact ct_J16_tryMergeRuns_170 hY hJ hCon hr N K19 hK19 N x1 x2 x3 x4 x5 x6 x7 x8 y10 Ω _ h
      · exact ct_J16_tryMergeRuns_78 hY hJ hCon hr N K19 hK19 N x1 x2 x3 x4 x5 x6 x7 x8 Ω _ h
    · exact ct_J16_tryMergeRuns_39 hY hJ hCon hr N K19 hK19 N x1 x2 x3 x4 x5 x6 x7 x8 Ω _ h
def fn_J16_tryMergeRuns_19 (N : Nat)  : Nat → Nat → Int32 → Int32 → Option zo_T → Int32 → Int32 → Int32 → Int32 → zo_O → Option zo_R
  | 0, _, _, _, _, _, _, _, _, _ => none
  | n + 1, x1, x2, x3, x4, x5, x6, x7, x8, Ω => bd_J16_tryMergeRuns_19 N  (fn_J16_tryMergeRuns_19 N  n) x1 x2 x3 x4 x5 x6 x7 x8 Ω
theorem ct_J16_tryMergeRuns_19 {Y : zo_Y} (hY : zo_Gd Y cJ16_tryMergeRuns 12 RJ16 0) (hJ : zo_JC (zo_J Y)) (hCon : ∀ Ω, zo_J Y Ω → zo_Con Ω) (hr : zo_rt Y (Option.some Jvm.ClassFile.FieldType.boolean)) (N : Nat)   : ∀ (n : Nat) (x1 : Nat) (x2 : Int32) (x3 : Int32) (x4 : Option zo_T) (x5 : Int32) (x6 : Int32) (x7 : Int32) (x8 : Int32) (Ω : zo_O) (res : zo_R), fn_J16_tryMergeRuns_19 N  n x1 x2 x3 x4 x5 x6 x7 x8 Ω = some res → TW Y res Ω 19 [(0, vo none), (1, vr 35 x1), (2, vi x2), (3, vi x3), (4, vo x4), (5, vi x5), (6, vi x6), (7, vi x7), (8, vi x8)] [] := by
  intro n
  induction n with
  | zero => intro x1 x2 x3 x4 x5 x6 x7 x8 Ω res h; exact nomatch (show (none : Option zo_R) = some res from h)
  | succ n ih => intro x1 x2 x3 x4 x5 x6 x7 x8 Ω res h; exact cb_J16_tryMergeRuns_19 hY hJ hCon hr N  (fn_J16_tryMergeRuns_19 N  n)  ih x1 x2 x3 x4 x5 x6 x7 x8 Ω res h
def fn_J16_tryMergeRuns (N : Nat) (x1 : Nat) (x2 : Int32) (x3 : Int32) (Ω : zo_O) : Option zo_R :=
  li (x2 + x3) fun y1 =>
  li (x2 + 1) fun y2 =>
  fn_J16_tryMergeRuns_19 N N x1 x2 x3 none y1 1 x2 y2 Ω
theorem mt_J16_tryMergeRuns {G : zo_G} {J : zo_O → Prop} (hJ : zo_JC J) (hCon : ∀ Ω, J Ω → zo_Con Ω) (N : Nat) (x1 : Nat) (x2 : Int32) (x3 : Int32) (Ω : zo_O) (res : zo_R) (h : fn_J16_tryMergeRuns N x1 x2 x3 Ω = some res) : zo_MT G J yJ16_tryMergeRuns cJ16_tryMergeRuns 12 (Option.some Jvm.ClassFile.FieldType.boolean) 0 [vo none, vr 35 x1, vi x2, vi x3] Ω res := by
  refine zo_enter (by decide) rfl (Nat.le_of_ble_eq_true rfl) (fun Y hY eJ hr hmn => ?_)
  subst eJ
  show TW Y res Ω 0 [(0, vo none), (1, vr 35 x1), (2, vi x2), (3, vi x3)] []
  unfold fn_J16_tryMergeRuns at h
  refine zo_null hY dJ16_tryMergeRuns_0 ?_
  refine zo_astore hY dJ16_tryMergeRuns_1 (by decide) rfl (ls' := [(4, vo none), (0, vo none), (1, vr 35 x1), (2, vi x2), (3, vi x3)]) rfl ?_
  refine zo_iload_n hY dJ16_tryMergeRuns_3 rfl 3 rfl ?_
  refine zo_iload_n hY dJ16_tryMergeRuns_4 rfl 4 rfl ?_
  refine zo_iadd hY dJ16_tryMergeRuns_5 ?_
  refine zo_nmi h (fun y1 h => ?_)
  refine zo_istore hY dJ16_tryMergeRuns_6 (by decide) rfl (ls' := [(5, vi y1), (4, vo none), (0, vo none), (1, vr 35 x1), (2, vi x2), (3, vi x3)]) rfl ?_
  refine zo_iconst hY 1 (by decide) dJ16_tryMergeRuns_8 ?_
  refine zo_istore hY dJ16_tryMergeRuns_9 (by decide) rfl (ls' := [(6, vi 1), (5, vi y1), (4, vo none), (0, vo none), (1, vr 35 x1), (2, vi x2), (3, vi x3)]) rfl ?_
  refine zo_iload_n hY dJ16_tryMergeRuns_11 rfl 5 rfl ?_
  refine zo_istore hY dJ16_tryMergeRuns_12 (by decide) rfl (ls' := [(7, vi x2), (6, vi 1), (5, vi y1), (4, vo none), (0, vo none), (1, vr 35 x1), (2, vi x2), (3, vi x3)]) rfl ?_
  refine zo_iload_n hY dJ16_tryMergeRuns_14 rfl 6 rfl ?_
  refine zo_iconst hY 1 (by decide) dJ16_tryMergeRuns_15 ?_
  refine zo_iadd hY dJ16_tryMergeRuns_16 ?_
  refine zo_nmi h (fun y2 h => ?_)
  refine zo_istore hY dJ16_tryMergeRuns_17 (by decide) rfl (ls' := [(8, vi y2), (7, vi x2), (6, vi 1), (5, vi y1), (4, vo none), (0, vo none), (1, vr 35 x1), (2, vi x2), (3, vi x3)]) rfl ?_
  refine zo_sub [5, 6, 7, 8, 4, 3, 2, 1, 0] rfl ?_
  exact ct_J16_tryMergeRuns_19 hY hJ hCon hr N N x1 x2 x3 none y1 1 x2 y2 Ω _ h
