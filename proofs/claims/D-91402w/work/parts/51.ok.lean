/-! ===== plain part: rules for the printed functions, Int32 by way of Int ===== -/
def ok (X : Option zo_R) (P : Option zo_V → zo_O → Nat → Nat → Prop) : Prop := ∃ v Ω c s, X = some (v, Ω, c, s) ∧ P v Ω c s
section OK
variable {P Q : Option zo_V → zo_O → Nat → Nat → Prop} {X A B : Option zo_R} {Ω : zo_O}
theorem ok_mk {v : Option zo_V} {c s : Nat} (h : P v Ω c s) : ok (some (v, Ω, c, s)) P := ⟨v, Ω, c, s, rfl, h⟩
theorem ok.mono (h : ok X P) (k : ∀ v Ω c s, P v Ω c s → Q v Ω c s) : ok X Q := by
  obtain ⟨v, Ω, c, s, e, h⟩ := h
  exact ⟨v, Ω, c, s, e, k v Ω c s h⟩
theorem ok_eq {v : Option zo_V} {c s : Nat} (e : X = some (v, Ω, c, s)) (h : P v Ω c s) : ok X P := ⟨v, Ω, c, s, e, h⟩
theorem ok.eq {v : Option zo_V} {c s : Nat} (h : ok X (fun v' Ω' c' s' => v' = v ∧ Ω' = Ω ∧ c' = c ∧ s' = s)) : X = some (v, Ω, c, s) := by
  obtain ⟨v', Ω', c', s', e, rfl, rfl, rfl, rfl⟩ := h
  exact e
theorem ok_gd {c : Prop} [Decidable c] (h : c) (k : ok X P) : ok (gd c X) P := by unfold gd; rw [if_pos h]; exact k
theorem ok_lt {F : zo_O → Option zo_R} (k : ok (F Ω) P) : ok (lt Ω F) P := k
theorem ok_li {a : Int32} {F : Int32 → Option zo_R} (k : ok (F a) P) : ok (li a F) P := k
theorem ok_ix {i : Int32} {N m : Nat} {F : Nat → Option zo_R} (e : i = nI m) (h : m < N) (hN : N < 2147483648) (k : ok (F m) P) : ok (ix i N F) P := by
  subst e
  unfold ix
  rw [if_neg (nI_pos (by omega)), nI_clamp (by omega), if_neg (by omega)]
  exact k
theorem ok_ad {a b : Nat} (k : ok X (fun v Ω c s => P v Ω (c + a) (s + b))) : ok (ad a b X) P := by
  obtain ⟨v, Ω, c, s, rfl, h⟩ := k
  exact ⟨v, Ω, c + a, s + b, rfl, h⟩
theorem ok_cl {F : Option zo_V → zo_O → Option zo_R} (k : ok X (fun v Ω c s => ok (F v Ω) (fun v' Ω' c' s' => P v' Ω' (c' + c) (s' + s)))) : ok (cl X F) P := by
  obtain ⟨v, Ω, c, s, rfl, h⟩ := k
  exact ok_ad h
theorem ok_ci {F : Int32 → zo_O → Option zo_R} (k : ok X (fun v Ω c s => ∃ x, v = some (vi x) ∧ ok (F x Ω) (fun v' Ω' c' s' => P v' Ω' (c' + c) (s' + s)))) : ok (ci X F) P :=
  ok_cl (k.mono (fun v Ω c s ⟨x, e, h⟩ => by subst e; exact h))
theorem ok_cv {F : zo_O → Option zo_R} (k : ok X (fun v Ω c s => v = none ∧ ok (F Ω) (fun v' Ω' c' s' => P v' Ω' (c' + c) (s' + s)))) : ok (cv X F) P :=
  ok_cl (k.mono (fun v Ω c s ⟨e, h⟩ => by subst e; exact h))
theorem ok_cr {F : Option zo_T → zo_O → Option zo_R} (k : ok X (fun v Ω c s => ∃ o, v = some (vo o) ∧ ok (F o Ω) (fun v' Ω' c' s' => P v' Ω' (c' + c) (s' + s)))) : ok (cr X F) P :=
  ok_cl (k.mono (fun v Ω c s ⟨x, e, h⟩ => by subst e; exact h))
theorem ok_bk {o : Option zo_T} {k n : Nat} {F : Nat → Option zo_R} (e : o = some (k, n)) (h : ok (F n) P) : ok (bk o k F) P := by
  subst e
  show ok (if k = k then F n else none) P
  rw [if_pos rfl]; exact h
theorem ok_cnS {o : Option zo_T} {k n : Nat} {F : Nat → Option zo_R} (e : o = some (k, n)) (h : ok (F n) P) : ok (cn o k X F) P := by
  subst e
  show ok (if k = k then F n else none) P
  rw [if_pos rfl]; exact h
theorem ok_cnN {o : Option zo_T} {k : Nat} {F : Nat → Option zo_R} (e : o = none) (h : ok X P) : ok (cn o k X F) P := by subst e; exact h
theorem ok_ck {K : Nat} {F : Nat → zo_O → Option zo_R} (k : ok X (fun v Ω c s => ∃ n, v = some (vr K n) ∧ ok (F n Ω) (fun v' Ω' c' s' => P v' Ω' (c' + c) (s' + s)))) : ok (ck X K F) P :=
  ok_cl (k.mono (fun v Ω c s ⟨n, e, h⟩ => by subst e; exact ok_bk (F := fun n => F n _) rfl h))
theorem ok_if {c : Prop} [Decidable c] (h1 : c → ok A P) (h2 : ¬ c → ok B P) : ok (if c then A else B) P := by
  by_cases h : c
  · rw [if_pos h]; exact h1 h
  · rw [if_neg h]; exact h2 h
theorem ok_t {c : Prop} [Decidable c] (h : c) (k : ok A P) : ok (if c then A else B) P := by rw [if_pos h]; exact k
theorem ok_f {c : Prop} [Decidable c] (h : ¬ c) (k : ok B P) : ok (if c then A else B) P := by rw [if_neg h]; exact k
theorem ok_rI {a : Int32} (h : P (some (vi a)) Ω 0 0) : ok (rI a Ω) P := ok_mk h
theorem ok_rV (h : P none Ω 0 0) : ok (rV Ω) P := ok_mk h
theorem ok_rR {o : Option zo_T} (h : P (some (vo o)) Ω 0 0) : ok (rR o Ω) P := ok_mk h
theorem ok_rZ {a : Int32} (e : a = 0 ∨ a = 1) (h : P (some (vi a)) Ω 0 0) : ok (rZ a Ω) P := ok_gd e (ok_mk h)
end OK
theorem fa_lt (a b : Int32) : a < b ↔ a.toInt < b.toInt := Int32.lt_iff_toInt_lt
theorem fa_le (a b : Int32) : a ≤ b ↔ a.toInt ≤ b.toInt := Int32.le_iff_toInt_le
theorem fa_eq (a b : Int32) : a = b ↔ a.toInt = b.toInt := Int32.toInt_inj.symm
theorem fi_lit {n : Nat} (h : n < 2147483648) : (OfNat.ofNat n : Int32).toInt = n := nI_toInt h
theorem fi_b (a : Int32) : -2147483648 ≤ a.toInt ∧ a.toInt < 2147483648 := ⟨Int32.le_toInt a, Int32.toInt_lt a⟩
theorem fi_add {a b : Int32} (h1 : -2147483648 ≤ a.toInt + b.toInt) (h2 : a.toInt + b.toInt < 2147483648) : (a + b).toInt = a.toInt + b.toInt := by
  rw [Int32.toInt_add]
  exact Int.bmod_eq_of_le (by omega) (by omega)
theorem fi_sub {a b : Int32} (h1 : -2147483648 ≤ a.toInt - b.toInt) (h2 : a.toInt - b.toInt < 2147483648) : (a - b).toInt = a.toInt - b.toInt := by
  rw [Int32.toInt_sub]
  exact Int.bmod_eq_of_le (by omega) (by omega)
theorem fi_mul {a b : Int32} (h1 : -2147483648 ≤ a.toInt * b.toInt) (h2 : a.toInt * b.toInt < 2147483648) : (a * b).toInt = a.toInt * b.toInt := by
  rw [Int32.toInt_mul]
  exact Int.bmod_eq_of_le (by omega) (by omega)
theorem fi_neg {a : Int32} (h : -2147483648 < a.toInt) : (-a).toInt = -a.toInt := by
  have := fi_b a
  rw [Int32.toInt_neg]
  exact Int.bmod_eq_of_le (by omega) (by omega)
theorem fi_n {n : Nat} (h : n < 2147483648) : (nI n).toInt = n := nI_toInt h
theorem fi_mx (a b : Int32) : (mx a b).toInt = max a.toInt b.toInt := by
  unfold mx
  split
  · rename_i h; rw [fa_lt] at h; omega
  · rename_i h; rw [fa_lt] at h; omega
theorem fi_mn (a b : Int32) : (mn a b).toInt = min a.toInt b.toInt := by
  unfold mn
  split
  · rename_i h; rw [fa_lt] at h; omega
  · rename_i h; rw [fa_lt] at h; omega
theorem nI_mul (a b : Nat) : nI a * nI b = nI (a * b) := (Int32.ofNat_mul a b).symm
theorem fa_lit (n : Nat) : (OfNat.ofNat n : Int32) = nI n := rfl
/-- an int that is not below 0 -/
theorem fi_nat {x : Int32} (h : 0 ≤ x.toInt) : x = nI x.toInt.toNat := by
  rw [fa_eq, fi_n (by have := fi_b x; omega)]
  omega
theorem ad_0 (X : Option zo_R) : ad 0 0 X = X := by cases X <;> rfl
theorem ci_mk {x : Int32} {Ω : zo_O} {F : Int32 → zo_O → Option zo_R} : ci (some (some (vi x), Ω, 0, 0)) F = F x Ω := ad_0 _
theorem cv_mk {Ω : zo_O} {F : zo_O → Option zo_R} : cv (some (none, Ω, 0, 0)) F = F Ω := ad_0 _
theorem rZ_b {c : Prop} [Decidable c] {Ω : zo_O} : rZ (if c then 1 else 0) Ω = some (some (vi (if c then 1 else 0)), Ω, 0, 0) := by
  unfold rZ gd
  by_cases h : c
  · simp [h]
  · simp [h]
theorem if_10 {c : Prop} [Decidable c] {A B : Option zo_R} : (if (if c then (1 : Int32) else 0) = 0 then A else B) = if c then B else A := by
  by_cases h : c
  · simp [h]
  · simp [h]
theorem rZ_0 {Ω : zo_O} : rZ 0 Ω = some (some (vi 0), Ω, 0, 0) := rfl
theorem rZ_1 {Ω : zo_O} : rZ 1 Ω = some (some (vi 1), Ω, 0, 0) := rfl
theorem ix_n {m N : Nat} {F : Nat → Option zo_R} (h : m < N) (hN : N < 2147483648) : ix (nI m) N F = F m := by
  unfold ix
  rw [if_neg (nI_pos (by omega)), nI_clamp (by omega), if_neg (by omega)]
/-! reading a world that was written -/
theorem gI_sI (Ω : zo_O) (k n f : Nat) (v : Int32) (k' n' f' : Nat) : gI (sI Ω k n f v) k' n' f' = if k' = k ∧ n' = n ∧ f' = f then v else gI Ω k' n' f' := rfl
theorem gR_sI (Ω : zo_O) (k n f : Nat) (v : Int32) (k' n' f' : Nat) : gR (sI Ω k n f v) k' n' f' = gR Ω k' n' f' := rfl
theorem gL_sI (Ω : zo_O) (k n f : Nat) (v : Int32) (k' n' : Nat) : gL (sI Ω k n f v) k' n' = gL Ω k' n' := rfl
theorem gS_sI (Ω : zo_O) (k n f : Nat) (v : Int32) (n' : Nat) : gS (sI Ω k n f v) n' = gS Ω n' := rfl
theorem gC_sI (Ω : zo_O) (k n f : Nat) (v : Int32) (k' : Nat) : gC (sI Ω k n f v) k' = gC Ω k' := rfl
theorem gJ_sI (Ω : zo_O) (k n f : Nat) (v : Int32) (k' n' f' : Nat) : gJ (sI Ω k n f v) k' n' f' = gJ Ω k' n' f' := rfl
theorem gI_sR (Ω : zo_O) (k n f : Nat) (v : Option zo_T) (k' n' f' : Nat) : gI (sR Ω k n f v) k' n' f' = gI Ω k' n' f' := rfl
theorem gR_sR (Ω : zo_O) (k n f : Nat) (v : Option zo_T) (k' n' f' : Nat) : gR (sR Ω k n f v) k' n' f' = if k' = k ∧ n' = n ∧ f' = f then v else gR Ω k' n' f' := rfl
theorem gL_sR (Ω : zo_O) (k n f : Nat) (v : Option zo_T) (k' n' : Nat) : gL (sR Ω k n f v) k' n' = gL Ω k' n' := rfl
theorem gS_sR (Ω : zo_O) (k n f : Nat) (v : Option zo_T) (n' : Nat) : gS (sR Ω k n f v) n' = gS Ω n' := rfl
theorem gC_sR (Ω : zo_O) (k n f : Nat) (v : Option zo_T) (k' : Nat) : gC (sR Ω k n f v) k' = gC Ω k' := rfl
theorem gI_sS (Ω : zo_O) (m : Nat) (l : List zo_T) (k' n' f' : Nat) : gI (sS Ω m l) k' n' f' = gI Ω k' n' f' := rfl
theorem gR_sS (Ω : zo_O) (m : Nat) (l : List zo_T) (k' n' f' : Nat) : gR (sS Ω m l) k' n' f' = gR Ω k' n' f' := rfl
theorem gL_sS (Ω : zo_O) (m : Nat) (l : List zo_T) (k' n' : Nat) : gL (sS Ω m l) k' n' = gL Ω k' n' := rfl
theorem gS_sS (Ω : zo_O) (m : Nat) (l : List zo_T) (n' : Nat) : gS (sS Ω m l) n' = if n' = m then l else gS Ω n' := rfl
theorem gC_sS (Ω : zo_O) (m : Nat) (l : List zo_T) (k' : Nat) : gC (sS Ω m l) k' = gC Ω k' := rfl
theorem gI_nw (Ω : zo_O) (k len k' n' f' : Nat) : gI (nw Ω k len) k' n' f' = if k' = k ∧ n' = gC Ω k then 0 else gI Ω k' n' f' := rfl
theorem gR_nw (Ω : zo_O) (k len k' n' f' : Nat) : gR (nw Ω k len) k' n' f' = if k' = k ∧ n' = gC Ω k then none else gR Ω k' n' f' := rfl
theorem gL_nw (Ω : zo_O) (k len k' n' : Nat) : gL (nw Ω k len) k' n' = if k' = k ∧ n' = gC Ω k then len else gL Ω k' n' := rfl
theorem gS_nw (Ω : zo_O) (k len n' : Nat) : gS (nw Ω k len) n' = if k = 20 ∧ n' = gC Ω k then [] else gS Ω n' := rfl
theorem gC_nw (Ω : zo_O) (k len k' : Nat) : gC (nw Ω k len) k' = if k' = k then gC Ω k + 1 else gC Ω k' := rfl
