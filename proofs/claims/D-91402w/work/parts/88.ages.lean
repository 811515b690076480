/-! ===== ages: by halving and one by one ===== -/
theorem nI_half : ∀ s, s < 1700 → nI s / 2 = nI (s / 2) := by decide +kernel
section M
variable {B : zo_O} (hB : Bse B) {R : Nat} {lw up : bLs} (hl : ∀ t ∈ lw, bOk B t) (hu : ∀ t ∈ up, bOk B t)
include hB
include hu in
theorem gsV_mono {i k : Nat} (h : i ≤ k) (hk : k ≤ 800) : (gsV (gI B 1 0 42) R up (nI i)).toInt ≤ (gsV (gI B 1 0 42) R up (nI k)).toInt := by
  have hi : (nI i).toInt = i := fi_n (by omega)
  have hkI : (nI k).toInt = k := fi_n (by omega)
  obtain ⟨r1, r2⟩ := rate_b hB
  have m1 := rate_mul hB (y := nI i) (by omega) (by omega)
  have m2 := rate_mul hB (y := nI k) (by omega) (by omega)
  have h0 := (mnF (fun t : Nat × Int32 × Int32 => R.testBit t.1 = true) (fun t => hiAt (gI B 1 0 42) t.2.1 t.2.2 (nI i)) up (gI B 1 0 42 * nI i) (gsV (gI B 1 0 42) R up (nI i)).toInt).1 (Int.le_refl _)
  refine (mnF (fun t : Nat × Int32 × Int32 => R.testBit t.1 = true) (fun t => hiAt (gI B 1 0 42) t.2.1 t.2.2 (nI k)) up (gI B 1 0 42 * nI k) (gsV (gI B 1 0 42) R up (nI i)).toInt).2 ⟨?_, fun t ht hc => ?_⟩
  · refine Int.le_trans h0.1 ?_
    rw [m1.1, m2.1, hi, hkI]
    exact Int.mul_le_mul_of_nonneg_left (by omega) (by omega)
  · refine Int.le_trans (h0.2 t ht hc) ?_
    obtain ⟨_, ha, hv⟩ := hu t ht
    unfold hiAt
    have e1 : (nI i - t.2.1).toInt = i - t.2.1.toInt := by rw [fi_sub (by omega) (by omega), hi]
    have e2 : (nI k - t.2.1).toInt = k - t.2.1.toInt := by rw [fi_sub (by omega) (by omega), hkI]
    have n1 := rate_mul hB (y := nI i - t.2.1) (by omega) (by omega)
    have n2 := rate_mul hB (y := nI k - t.2.1) (by omega) (by omega)
    by_cases g1 : t.2.1 < nI i
    · have g2 : t.2.1 < nI k := by rw [fa_lt] at g1 ⊢; omega
      rw [if_pos g1, if_pos g2, fi_add (by omega) (by omega), fi_add (by omega) (by omega), n1.1, n2.1, e1, e2]
      have : (gI B 1 0 42).toInt * ((i : Int) - t.2.1.toInt) ≤ (gI B 1 0 42).toInt * ((k : Int) - t.2.1.toInt) := Int.mul_le_mul_of_nonneg_left (by omega) (by omega)
      omega
    · rw [if_neg g1]
      by_cases g2 : t.2.1 < nI k
      · rw [if_pos g2, fi_add (by omega) (by omega), n2.1, e2]
        have : 0 ≤ (gI B 1 0 42).toInt * ((k : Int) - t.2.1.toInt) := Int.mul_nonneg (by omega) (by rw [fa_lt, hkI] at g2; omega)
        omega
      · rw [if_neg g2]; exact Int.le_refl _
include hl in
theorem lsV_mono {i k : Nat} (h : i ≤ k) (hk : k ≤ 800) : (lsV (gI B 1 0 42) R lw (nI i)).toInt ≤ (lsV (gI B 1 0 42) R lw (nI k)).toInt := by
  have hi : (nI i).toInt = i := fi_n (by omega)
  have hkI : (nI k).toInt = k := fi_n (by omega)
  obtain ⟨r1, r2⟩ := rate_b hB
  have h0 := (mxF (fun t : Nat × Int32 × Int32 => R.testBit t.1 = true) (fun t => lowAt (gI B 1 0 42) t.2.1 t.2.2 (nI k)) lw 0 (lsV (gI B 1 0 42) R lw (nI k)).toInt).1 (Int.le_refl _)
  refine (mxF (fun t : Nat × Int32 × Int32 => R.testBit t.1 = true) (fun t => lowAt (gI B 1 0 42) t.2.1 t.2.2 (nI i)) lw 0 (lsV (gI B 1 0 42) R lw (nI k)).toInt).2 ⟨h0.1, fun t ht hc => ?_⟩
  refine Int.le_trans ?_ (h0.2 t ht hc)
  obtain ⟨_, ha, hv⟩ := hl t ht
  unfold lowAt
  have e1 : (t.2.1 - nI i).toInt = t.2.1.toInt - i := by rw [fi_sub (by omega) (by omega), hi]
  have e2 : (t.2.1 - nI k).toInt = t.2.1.toInt - k := by rw [fi_sub (by omega) (by omega), hkI]
  have n1 := rate_mul hB (y := t.2.1 - nI i) (by omega) (by omega)
  have n2 := rate_mul hB (y := t.2.1 - nI k) (by omega) (by omega)
  by_cases g2 : nI k < t.2.1
  · have g1 : nI i < t.2.1 := by rw [fa_lt] at g2 ⊢; omega
    rw [if_pos g1, if_pos g2, fi_sub (by omega) (by omega), fi_sub (by omega) (by omega), n1.1, n2.1, e1, e2]
    have : (gI B 1 0 42).toInt * (t.2.1.toInt - (k : Int)) ≤ (gI B 1 0 42).toInt * (t.2.1.toInt - (i : Int)) := Int.mul_le_mul_of_nonneg_left (by omega) (by omega)
    omega
  · rw [if_neg g2]
    by_cases g1 : nI i < t.2.1
    · rw [if_pos g1, fi_sub (by omega) (by omega), n1.1, e1]
      have : 0 ≤ (gI B 1 0 42).toInt * (t.2.1.toInt - (i : Int)) := Int.mul_nonneg (by omega) (by rw [fa_lt, hi] at g1; omega)
      omega
    · rw [if_neg g1]; exact Int.le_refl _
omit hB in
/-- what stands asks nothing at the age 0 -/
theorem lsV_0 {r : Int32} (h : ∀ s, alo r lw s → R.testBit s = true) : (lsV r R lw (nI 0)).toInt ≤ 0 := by
  refine (mxF (fun t : Nat × Int32 × Int32 => R.testBit t.1 = true) (fun t => lowAt r t.2.1 t.2.2 (nI 0)) lw 0 0).2 ⟨by decide, fun t ht hc => ?_⟩
  have : ¬ 0 < lowAt r t.2.1 t.2.2 0 := fun w => hc (h t.1 ⟨t.2.1, t.2.2, ht, w⟩)
  rw [fa_lt] at this
  have h0 : (0 : Int32).toInt = 0 := rfl
  show (lowAt r t.2.1 t.2.2 0).toInt ≤ 0
  omega
end M
/-- what the searches give -/
def fsA (G : Nat → Int) (v : Int) (p : Nat) : Prop := p ≤ 801 ∧ (∀ i, i < p → G i < v) ∧ (p < 801 → v ≤ G p)
def lsA (L : Nat → Int) (v : Int) (p : Nat) : Prop := p ≤ 800 ∧ L p ≤ v ∧ ∀ i, p < i → i ≤ 800 → v < L i
theorem fsA_one {G : Nat → Int} {v : Int} {p p' : Nat} (h : fsA G v p) (h' : fsA G v p') : p = p' := by
  obtain ⟨a, b, c⟩ := h
  obtain ⟨a', b', c'⟩ := h'
  rcases Nat.lt_trichotomy p p' with h | h | h
  · have := b' p h; have := c (by omega); omega
  · exact h
  · have := b p' h; have := c' (by omega); omega
theorem lsA_one {L : Nat → Int} {v : Int} {p p' : Nat} (h : lsA L v p) (h' : lsA L v p') : p = p' := by
  obtain ⟨a, b, c⟩ := h
  obtain ⟨a', b', c'⟩ := h'
  rcases Nat.lt_trichotomy p p' with h | h | h
  · have := c p' h a'; omega
  · exact h
  · have := c' p h a; omega
theorem m_ageFromL {N : Nat} {Ω : zo_O} {v : Int32} : ∀ m i n, i + m = 801 → m < n → (∀ x, x < i → (gI Ω 32 43 x).toInt < v.toInt) → ∃ p, fn_X2_ageFrom_2 N n v (nI i) Ω = some (some (vi (nI p)), Ω, 0, 0) ∧ fsA (fun x => (gI Ω 32 43 x).toInt) v.toInt p := by
  intro m
  induction m with
  | zero =>
    intro i n hi hn hz
    obtain ⟨n, rfl⟩ : ∃ k, n = k + 1 := ⟨n - 1, by omega⟩
    have : i = 801 := by omega
    subst this
    unfold fn_X2_ageFrom_2 bd_X2_ageFrom_2
    rw [if_pos (by decide)]
    exact ⟨801, rfl, Nat.le_refl _, hz, fun h => by omega⟩
  | succ m ih =>
    intro i n hi hn hz
    obtain ⟨n, rfl⟩ : ∃ k, n = k + 1 := ⟨n - 1, by omega⟩
    unfold fn_X2_ageFrom_2 bd_X2_ageFrom_2 fn_X2_ageFrom_25
    rw [if_neg (by rw [show (800 : Int32) = nI 800 from rfl, nI_ltI (by decide) (by omega)]; omega), ix_n (show i < 801 by omega) (by decide), nI_1]
    by_cases h : v ≤ gI Ω 32 43 i
    · rw [if_pos h]
      rw [fa_le] at h
      exact ⟨i, rfl, by omega, hz, fun _ => h⟩
    · rw [if_neg h]
      rw [fa_le] at h
      exact ih (i + 1) n (by omega) (by omega) (fun x hx => by
        by_cases e : x = i
        · subst e; omega
        · exact hz x (by omega))
theorem m_ageFrom {N : Nat} {Ω : zo_O} {v : Int32} (hN : 810 ≤ N) : ∃ p, fn_X2_ageFrom N v Ω = some (some (vi (nI p)), Ω, 0, 0) ∧ fsA (fun x => (gI Ω 32 43 x).toInt) v.toInt p :=
  m_ageFromL 801 0 N (by omega) (by omega) (fun x h => by omega)
theorem m_ageToL {N : Nat} {Ω : zo_O} {v : Int32} (h0 : (gI Ω 32 42 0).toInt ≤ v.toInt) : ∀ i n, i ≤ 800 → i < n → (∀ x, i < x → x ≤ 800 → v.toInt < (gI Ω 32 42 x).toInt) → ∃ p, fn_X2_ageTo_4 N n v (nI i) Ω = some (some (vi (nI p)), Ω, 0, 0) ∧ lsA (fun x => (gI Ω 32 42 x).toInt) v.toInt p := by
  intro i
  induction i with
  | zero =>
    intro n hi hn hz
    obtain ⟨n, rfl⟩ : ∃ k, n = k + 1 := ⟨n - 1, by omega⟩
    unfold fn_X2_ageTo_4 bd_X2_ageTo_4 fn_X2_ageTo_24
    rw [if_neg (by decide), ix_n (show 0 < 801 by omega) (by decide), if_pos (by rw [fa_le]; exact h0)]
    exact ⟨0, rfl, by omega, h0, hz⟩
  | succ i ih =>
    intro n hi hn hz
    obtain ⟨n, rfl⟩ : ∃ k, n = k + 1 := ⟨n - 1, by omega⟩
    unfold fn_X2_ageTo_4 bd_X2_ageTo_4 fn_X2_ageTo_24
    rw [if_neg (nI_pos (by omega)), ix_n (show i + 1 < 801 by omega) (by decide)]
    by_cases h : gI Ω 32 42 (i + 1) ≤ v
    · rw [if_pos h]
      rw [fa_le] at h
      exact ⟨i + 1, rfl, by omega, h, hz⟩
    · rw [if_neg h]
      rw [fa_le] at h
      have e : nI (i + 1) + -1 = nI i := by rw [show nI (i + 1) + -1 = nI (i + 1) - 1 by grind, nI_pred]
      rw [e]
      exact ih n (by omega) (by omega) (fun x hx hx2 => by
        by_cases e : x = i + 1
        · subst e; omega
        · exact hz x (by omega) hx2)
theorem m_ageTo {N : Nat} {Ω : zo_O} {v : Int32} (hN : 810 ≤ N) (h0 : (gI Ω 32 42 0).toInt ≤ v.toInt) : ∃ p, fn_X2_ageTo N v Ω = some (some (vi (nI p)), Ω, 0, 0) ∧ lsA (fun x => (gI Ω 32 42 x).toInt) v.toInt p :=
  m_ageToL h0 800 N (by omega) (by omega) (fun x h1 h2 => by omega)
section X
variable {N j : Nat} {Ω : zo_O} {v : Int32}
theorem x_firstL {F : Int32 → Int32} (hF : ∀ i, i ≤ 800 → fn_X17_greatest N j (nI i) Ω = some (some (vi (F (nI i))), Ω, 0, 0)) (hm : ∀ i k, i ≤ k → k ≤ 800 → (F (nI i)).toInt ≤ (F (nI k)).toInt) : ∀ n lo hi, lo ≤ hi → hi ≤ 801 → hi - lo < n → (∀ i, i < lo → (F (nI i)).toInt < v.toInt) → (∀ i, hi ≤ i → i ≤ 800 → v.toInt ≤ (F (nI i)).toInt) → ∃ p, fn_X17_firstAge_6 N n j v (nI lo) (nI hi) Ω = some (some (vi (nI p)), Ω, 0, 0) ∧ fsA (fun x => (F (nI x)).toInt) v.toInt p := by
  intro n
  induction n with
  | zero => intro lo hi _ _ h; omega
  | succ n ih =>
    intro lo hi h1 h2 h3 h4 h5
    unfold fn_X17_firstAge_6 bd_X17_firstAge_6 fn_X17_firstAge_39
    by_cases e : hi ≤ lo
    · rw [if_pos (by rw [nI_leI (by omega) (by omega)]; exact e)]
      exact ⟨lo, rfl, by omega, h4, fun h => h5 lo (by omega) (by omega)⟩
    · rw [if_neg (by rw [nI_leI (by omega) (by omega)]; exact e)]
      simp only [gd, li, show ¬ ((2 : Int32) = 0) by decide, not_false_eq_true, if_true, nI_add, nI_half (lo + hi) (by omega), hF ((lo + hi) / 2) (by omega), ci_mk, nI_1]
      by_cases g : F (nI ((lo + hi) / 2)) < v
      · rw [if_pos g]
        rw [fa_lt] at g
        exact ih ((lo + hi) / 2 + 1) hi (by omega) h2 (by omega) (fun i hi' => by
          have := hm i ((lo + hi) / 2) (by omega) (by omega)
          omega) h5
      · rw [if_neg g]
        rw [fa_lt] at g
        exact ih lo ((lo + hi) / 2) (by omega) (by omega) (by omega) h4 (fun i hi' hi2 => by
          have := hm ((lo + hi) / 2) i hi' hi2
          omega)
theorem x_firstAge {F : Int32 → Int32} (hN : 810 ≤ N) (hF : ∀ i, i ≤ 800 → fn_X17_greatest N j (nI i) Ω = some (some (vi (F (nI i))), Ω, 0, 0)) (hm : ∀ i k, i ≤ k → k ≤ 800 → (F (nI i)).toInt ≤ (F (nI k)).toInt) : ∃ p, fn_X17_firstAge N j v Ω = some (some (vi (nI p)), Ω, 0, 0) ∧ fsA (fun x => (F (nI x)).toInt) v.toInt p :=
  x_firstL hF hm N 0 801 (by omega) (by omega) (by omega) (fun i h => by omega) (fun i h h2 => by omega)
theorem x_lastL {F : Int32 → Int32} (hF : ∀ i, i ≤ 800 → fn_X17_least N j (nI i) Ω = some (some (vi (F (nI i))), Ω, 0, 0)) (hm : ∀ i k, i ≤ k → k ≤ 800 → (F (nI i)).toInt ≤ (F (nI k)).toInt) : ∀ n lo hi, lo ≤ hi → hi ≤ 800 → hi - lo < n → (F (nI lo)).toInt ≤ v.toInt → (∀ i, hi < i → i ≤ 800 → v.toInt < (F (nI i)).toInt) → ∃ p, fn_X17_lastAge_6 N n j v (nI lo) (nI hi) Ω = some (some (vi (nI p)), Ω, 0, 0) ∧ lsA (fun x => (F (nI x)).toInt) v.toInt p := by
  intro n
  induction n with
  | zero => intro lo hi _ _ h; omega
  | succ n ih =>
    intro lo hi h1 h2 h3 h4 h5
    unfold fn_X17_lastAge_6 bd_X17_lastAge_6 fn_X17_lastAge_41
    by_cases e : hi ≤ lo
    · rw [if_pos (by rw [nI_leI (by omega) (by omega)]; exact e)]
      have : hi = lo := by omega
      subst this
      exact ⟨hi, rfl, h2, h4, h5⟩
    · rw [if_neg (by rw [nI_leI (by omega) (by omega)]; exact e)]
      simp only [gd, li, show ¬ ((2 : Int32) = 0) by decide, not_false_eq_true, if_true, nI_add, nI_1, nI_half (lo + hi + 1) (by omega), hF ((lo + hi + 1) / 2) (by omega), ci_mk]
      by_cases g : v < F (nI ((lo + hi + 1) / 2))
      · rw [if_pos g]
        rw [fa_lt] at g
        have e1 : nI ((lo + hi + 1) / 2) - 1 = nI ((lo + hi + 1) / 2 - 1) := by
          obtain ⟨x, hx⟩ : ∃ x, (lo + hi + 1) / 2 = x + 1 := ⟨(lo + hi + 1) / 2 - 1, by omega⟩
          rw [hx, nI_pred]; rfl
        rw [e1]
        exact ih lo ((lo + hi + 1) / 2 - 1) (by omega) (by omega) (by omega) h4 (fun i hi' hi2 => by
          have := hm ((lo + hi + 1) / 2) i (by omega) hi2
          omega)
      · rw [if_neg g]
        rw [fa_lt] at g
        exact ih ((lo + hi + 1) / 2) hi (by omega) h2 (by omega) (by omega) h5
theorem x_lastAge {F : Int32 → Int32} (hN : 810 ≤ N) (hF : ∀ i, i ≤ 800 → fn_X17_least N j (nI i) Ω = some (some (vi (F (nI i))), Ω, 0, 0)) (hm : ∀ i k, i ≤ k → k ≤ 800 → (F (nI i)).toInt ≤ (F (nI k)).toInt) (h0 : (F (nI 0)).toInt ≤ v.toInt) : ∃ p, fn_X17_lastAge N j v Ω = some (some (vi (nI p)), Ω, 0, 0) ∧ lsA (fun x => (F (nI x)).toInt) v.toInt p :=
  x_lastL hF hm N 0 800 (by omega) (by omega) (by omega) h0 (fun i h h2 => by omega)
end X
/-- the ages of a curve, by X or by M -/
theorem fsA_cong {G G' : Nat → Int} {v : Int} {p : Nat} (h : ∀ i, i < 801 → G i = G' i) (hp : fsA G v p) : fsA G' v p := by
  obtain ⟨a, b, c⟩ := hp
  exact ⟨a, fun i hi => by rw [← h i (by omega)]; exact b i hi, fun hp => by rw [← h p hp]; exact c hp⟩
theorem lsA_cong {G G' : Nat → Int} {v : Int} {p : Nat} (h : ∀ i, i < 801 → G i = G' i) (hp : lsA G v p) : lsA G' v p := by
  obtain ⟨a, b, c⟩ := hp
  exact ⟨a, by rw [← h p (by omega)]; exact b, fun i h1 h2 => by rw [← h i (by omega)]; exact c i h1 h2⟩
