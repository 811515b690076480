set_option maxRecDepth 100000
/-! ===== the worlds of the constructors ===== -/
def zi_a : zo_O := nw zo_E 0 0
def zi_r1 : zo_R := (fn_X1_init 0 0 zi_a).getD (none, zo_E, 0, 0)
def zi_b : zo_O := zi_r1.2.1
def zi_c : zo_O := nw zi_b 1 0
def zi_r2 : zo_R := (fn_X2_init 0 0 zi_c).getD (none, zo_E, 0, 0)
def zi_d : zo_O := zi_r2.2.1
def zi_e : zo_O := nw zi_d 42 1
theorem zi_1 (N : Nat) : fn_X1_init N 0 zi_a = some (none, zi_b, 19, 389) := rfl
theorem zi_2 (N : Nat) : fn_X2_init N 0 zi_c = some (none, zi_d, 54, zi_r2.2.2.2) := rfl
theorem zi_n1 : gC zo_E 0 = 0 ∧ gC zi_b 1 = 0 ∧ gC zi_d 42 = 0 := by decide +kernel
theorem zi_36 : ∀ n, n < 5 → gL zi_e 36 n = 5 := by decide +kernel
theorem zi_con : zo_Con zi_e := by
  refine ⟨fun f t h => ?_, fun f t h => ?_, fun i hi => ?_, fun k n N h => ?_⟩
  · unfold zo_k0 at h
    split at h
    all_goals first | (cases h; decide +kernel) | cases h
  · unfold zo_k1 at h
    split at h
    all_goals first | (cases h; decide +kernel) | cases h
  · match i, hi with
    | 0, _ => decide +kernel
    | 1, _ => decide +kernel
    | 2, _ => decide +kernel
    | 3, _ => decide +kernel
    | 4, _ => decide +kernel
  · unfold zo_kl at h
    split at h
    all_goals first | (split at h <;> first | (cases h; decide +kernel) | (cases h; subst_vars; decide +kernel) | (cases h; exact zi_36 _ (by assumption)) | cases h) | cases h
theorem cn_X1_init : zo_Cn yX1_init 0 := ⟨by decide, by decide, by decide +kernel⟩
theorem cn_X2_init : zo_Cn yX2_init 0 := ⟨by decide, by decide, by decide +kernel⟩
noncomputable def gdc (c : Prop) (X : Option zo_R) : Option zo_R := @gd c (Classical.propDecidable c) X
theorem gdc_e {c : Prop} {X : Option zo_R} {r : zo_R} (h : gdc c X = some r) : c ∧ X = some r := @gd_e c (Classical.propDecidable c) X r h
theorem gdc_i {c : Prop} {X : Option zo_R} (h : c) : gdc c X = X := by
  unfold gdc gd
  exact if_pos h
section CTW
variable {p : Program} {l : Launch} {e : Env} {R : Room} {s : State} {m : MethodId} {args : Array Value} {below : List Frame} {meth : Method} {c : Code} {G : zo_G} {ρ0 : Nat → Nat → Nat} {Ω0 : zo_O} {Q : Option zo_V → zo_O → State → Prop} {L : Nat} {xs : Nat → Int32}
theorem ct_whole (hY : zo_Gd (p, l, e, R, s, m, args, below, meth, c, G, (fun _ => True), ρ0, Ω0, 7, Q) cL_law 7 RX0 13) (hr : zo_rtL (p, l, e, R, s, m, args, below, meth, c, G, (fun _ => True), ρ0, Ω0, 7, Q)) (hS : zo_scr (p, l, e, R, s, m, args, below, meth, c, G, (fun _ => True), ρ0, Ω0, 7, Q) L xs) (N : Nat) (res : zo_R) (h : fw1 N L xs zo_E = some res) :
    TW (p, l, e, R, s, m, args, below, meth, c, G, (fun _ => True), ρ0, Ω0, 7, Q) res zo_E 0 [(0, vr 22 0)] [] := by
  have h' : ad 1 23 (lt (nw zo_E 0 0) fun Ω1 => gdc (Ω1 = zi_a) (cv (fn_X1_init N 0 Ω1) fun Ω2 => fw2 N L xs Ω2)) = some res := by
    rw [← h]
    show ad 1 23 (gdc (zi_a = zi_a) _) = _
    rw [gdc_i rfl]
    rfl
  refine zo_new hY zo_JT (k := 0) (by decide) (Or.inr (fun _ _ => trivial)) rfl q118 q119 q78 dL_law_0 h' (fun Ω1 res h => ?_)
  obtain ⟨rfl, h⟩ := gdc_e h
  refine zo_dup hY dL_law_3 (Or.inr ⟨_, rfl⟩) ?_
  refine zo_callI (X := fn_X1_init N 0 zi_a) hY (fun q hq => mt_X1_init zo_JT (fun _ => trivial) N 0 zi_a q hq) (by decide) (by decide) cn_X1_init rfl rfl q120 q121 q78 q122 (Nat.le_of_ble_eq_true rfl) dL_law_4 rfl h (fun q r' hX h => ?_)
  rw [zi_1] at hX
  cases hX
  have h : fw2 N L xs zi_b = some r' := h
  show TW _ r' zi_b 7 [(0, vr 22 0)] [vr 0 0]
  refine zo_astore_n hY dL_law_7 rfl (by decide) rfl (ls' := [(1, vr 0 0), (0, vr 22 0)]) rfl ?_
  have h' : ad 1 80 (lt (nw zi_b 1 0) fun Ω3 => gdc (Ω3 = zi_c) (cv (fn_X2_init N 0 Ω3) fun Ω4 => fw3 N L xs Ω4)) = some r' := by
    rw [← h]
    show ad 1 80 (gdc (zi_c = zi_c) _) = _
    rw [gdc_i rfl]
    rfl
  refine zo_new hY zo_JT (k := 1) (by decide) (Or.inr (fun _ _ => trivial)) rfl q1265 q1266 q82 dL_law_8 h' (fun Ω3 res h => ?_)
  obtain ⟨rfl, h⟩ := gdc_e h
  rw [zi_n1.2.1]
  refine zo_dup hY dL_law_11 (Or.inr ⟨_, rfl⟩) ?_
  refine zo_callI (X := fn_X2_init N 0 zi_c) hY (fun q hq => mt_X2_init zo_JT (fun _ => trivial) N 0 zi_c q hq) (by decide) (by decide) cn_X2_init rfl rfl q1267 q1268 q82 q1269 (Nat.le_of_ble_eq_true rfl) dL_law_12 rfl h (fun q r' hX h => ?_)
  rw [zi_2] at hX
  cases hX
  have h : fw3 N L xs zi_d = some r' := h
  show TW _ r' zi_d 15 [(1, vr 0 0), (0, vr 22 0)] [vr 1 0]
  refine zo_astore_n hY dL_law_15 rfl (by decide) rfl (ls' := [(2, vr 1 0), (1, vr 0 0), (0, vr 22 0)]) rfl ?_
  refine zo_iconst hY 1 (by decide) dL_law_16 ?_
  have h' : gd (¬ (1 : Int32) < 0 ∧ ((1 : Int32)).toNatClampNeg ≤ 65536) (ad 1 ((1 : Int32)).toNatClampNeg (lt (nw zi_d 42 ((1 : Int32)).toNatClampNeg) fun Ω5 => gdc (Ω5 = zi_e) (fn_L_law N L xs Ω5))) = some r' := by
    rw [← h]
    unfold fw3
    congr 2
    show gdc (zi_e = zi_e) _ = _
    rw [gdc_i rfl]
    rfl
  refine zo_newa hY zo_JT (k := 42) (aty := .long) (by decide) rfl rfl (Or.inr (fun _ _ _ => trivial)) q1822 dL_law_17 h' (fun Ω5 res h => ?_)
  obtain ⟨rfl, h⟩ := gdc_e h
  rw [zi_n1.2.2]
  refine zo_astore_n hY dL_law_19 rfl (by decide) rfl (ls' := [(3, vr 42 0), (2, vr 1 0), (1, vr 0 0), (0, vr 22 0)]) rfl ?_
  refine zo_toCon (J' := zo_Con) zi_con ?_
  refine zo_sub [3, 2, 1, 0] rfl ?_
  exact ct_L_law (Y := (p, l, e, R, s, m, args, below, meth, c, G, zo_Con, ρ0, Ω0, 7, Q)) hY zo_JCon (fun _ h => h) hr hS N zi_e res h
end CTW
