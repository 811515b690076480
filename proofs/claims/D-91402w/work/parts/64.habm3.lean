/-! ===== M's habits: whole ===== -/
def sLm : List (Nat × Nat) := [(1, 65), (32, 36), (32, 37), (32, 38), (33, 3)]
theorem mtM_W {Ω Ω' : zo_O} {D : hM} {L : List (Nat × Nat)} (h : mtM Ω D) (hw : Wx L Ω Ω') (hL : (32, 38) ∉ L) : mtM Ω' D := fun x y hx hy => by
  rw [hw.I (by simpa [ky] using hL) (Or.inl (fx_m (by decide)))]; exact h x y hx hy
theorem m_hq {N : Nat} {D : hM} : ∀ m i n Ω (fl : Int32), i + m = 5 → m < n → (fl = 0 ∨ fl = 1) → gI Ω 1 0 65 = fl → mtM Ω D → ∃ Ω' fl', fn_X2_habits_161 N n (nI i) Ω = fn_X2_habits_202 N N 0 Ω' ∧ Wx [(1, 65)] Ω Ω' ∧ gI Ω' 1 0 65 = fl' ∧ (fl' = 0 ∨ fl' = 1) ∧ (fl' = 1 ↔ (fl = 1 ∨ ∃ x, i ≤ x ∧ x < 5 ∧ D x x < 0)) := by
  intro m
  induction m with
  | zero =>
    intro i n Ω fl hi hn hl h65 hm
    obtain ⟨n, rfl⟩ : ∃ k, n = k + 1 := ⟨n - 1, by omega⟩
    have : i = 5 := by omega
    subst this
    unfold fn_X2_habits_161 bd_X2_habits_161
    rw [if_pos (by decide)]
    refine ⟨Ω, fl, rfl, Wx.refl, h65, hl, ?_⟩
    constructor
    · exact Or.inl
    · rintro (h | ⟨x, h1, h2, _⟩)
      · exact h
      · omega
  | succ m ih =>
    intro i n Ω fl hi hn hl h65 hm
    obtain ⟨n, rfl⟩ : ∃ k, n = k + 1 := ⟨n - 1, by omega⟩
    have l5 : ¬ (5 : Int32) ≤ nI i := by rw [show (5 : Int32) = nI 5 from rfl, nI_leI (by decide) (by omega)]; omega
    have e6 : (6 : Int32) * nI i = nI (5 * i + i) := by rw [show (6 : Int32) = nI 6 from rfl, nI_mul]; congr 1; omega
    have hd := hm i i (by omega) (by omega)
    have c1 : (0 : Int32) ≤ gI Ω 32 38 (5 * i + i) ↔ 0 ≤ D i i := by rw [fa_le, hd]; exact Iff.rfl
    have key : ∀ v : Int32, (v = 0 ∨ v = 1) → (v = 1 ↔ (fl = 1 ∨ D i i < 0)) → ∃ Ω' fl', fn_X2_habits_161 N n (nI (i + 1)) (sI Ω 1 0 65 v) = fn_X2_habits_202 N N 0 Ω' ∧ Wx [(1, 65)] Ω Ω' ∧ gI Ω' 1 0 65 = fl' ∧ (fl' = 0 ∨ fl' = 1) ∧ (fl' = 1 ↔ (fl = 1 ∨ ∃ x, i ≤ x ∧ x < 5 ∧ D x x < 0)) := by
      intro v hv hv2
      have hW : Wx [(1, 65)] Ω (sI Ω 1 0 65 v) := Wx.refl.sI (Or.inl (by simp [ky]))
      obtain ⟨Ω', fl', k1, k2, k3, k4, k5⟩ := ih (i + 1) n (sI Ω 1 0 65 v) v (by omega) (by omega) hv (by rw [gI_sI, if_pos ⟨rfl, rfl, rfl⟩]) (mtM_W hm hW (by decide))
      refine ⟨Ω', fl', k1, hW.trans k2, k3, k4, k5.trans ?_⟩
      rw [hv2]
      constructor
      · rintro ((h | h) | ⟨x, h1, h2, h3⟩)
        · exact Or.inl h
        · exact Or.inr ⟨i, by omega, by omega, h⟩
        · exact Or.inr ⟨x, by omega, h2, h3⟩
      · rintro (h | ⟨x, h1, h2, h3⟩)
        · exact Or.inl (Or.inl h)
        · by_cases e : x = i
          · subst e; exact Or.inl (Or.inr h3)
          · exact Or.inr ⟨x, by omega, h2, h3⟩
    unfold fn_X2_habits_161 bd_X2_habits_161 fn_X2_habits_191 fn_X2_habits_186 fn_X2_habits_191
    simp only [if_neg l5, h65, e6, ix_n (show 5 * i + i < 25 by omega) (by decide), c1, gd, lt, nI_1]
    rcases hl with rfl | rfl
    · rw [if_pos rfl]
      by_cases h : 0 ≤ D i i
      · rw [if_pos h, if_pos (by decide)]
        exact key 0 (Or.inl rfl) ⟨fun q => absurd q (by decide), fun q => by rcases q with q | q; exact q; omega⟩
      · rw [if_neg h, if_pos (by decide)]
        exact key 1 (Or.inr rfl) ⟨fun q => Or.inr (by omega), fun q => rfl⟩
    · rw [if_neg (by decide), if_pos (by decide)]
      exact key 1 (Or.inr rfl) ⟨fun q => Or.inl rfl, fun q => rfl⟩
theorem m_hl {N : Nat} : ∀ m i n Ω, i + m = 5 → m < n → ∃ Ω', fn_X2_habits_202 N n (nI i) Ω = some (none, Ω', 0, 0) ∧ Wx [(32, 36), (32, 37), (33, 3)] Ω Ω' ∧ (∀ x, x < i → gI Ω' 33 3 x = gI Ω 33 3 x ∧ gI Ω' 32 37 x = gI Ω 32 37 x ∧ gI Ω' 32 36 x = gI Ω 32 36 x) ∧ ∀ x, i ≤ x → x < 5 → gI Ω' 33 3 x = (if gI Ω 32 38 (5 * x) < 1000000 then 1 else 0) ∧ gI Ω' 32 37 x = gI Ω 32 38 (5 * x) ∧ gI Ω' 32 36 x = - gI Ω 32 38 x := by
  intro m
  induction m with
  | zero =>
    intro i n Ω hi hn
    obtain ⟨n, rfl⟩ : ∃ k, n = k + 1 := ⟨n - 1, by omega⟩
    have : i = 5 := by omega
    subst this
    unfold fn_X2_habits_202 bd_X2_habits_202
    rw [if_pos (by decide)]
    exact ⟨Ω, rfl, Wx.refl, fun _ _ => ⟨rfl, rfl, rfl⟩, fun x h1 h2 => by omega⟩
  | succ m ih =>
    intro i n Ω hi hn
    obtain ⟨n, rfl⟩ : ∃ k, n = k + 1 := ⟨n - 1, by omega⟩
    have l5 : ¬ (5 : Int32) ≤ nI i := by rw [show (5 : Int32) = nI 5 from rfl, nI_leI (by decide) (by omega)]; omega
    have e1 : vp_nar .boolean 1 = 1 := rfl
    have e0 : vp_nar .boolean 0 = 0 := rfl
    have key : ∀ v : Int32, v = (if gI Ω 32 38 (5 * i) < 1000000 then 1 else 0) → ∃ Ω', fn_X2_habits_202 N n (nI (i + 1)) (sI (sI (sI Ω 33 3 i v) 32 37 i (gI Ω 32 38 (5 * i))) 32 36 i (- gI Ω 32 38 i)) = some (none, Ω', 0, 0) ∧ Wx [(32, 36), (32, 37), (33, 3)] Ω Ω' ∧ (∀ x, x < i → gI Ω' 33 3 x = gI Ω 33 3 x ∧ gI Ω' 32 37 x = gI Ω 32 37 x ∧ gI Ω' 32 36 x = gI Ω 32 36 x) ∧ ∀ x, i ≤ x → x < 5 → gI Ω' 33 3 x = (if gI Ω 32 38 (5 * x) < 1000000 then 1 else 0) ∧ gI Ω' 32 37 x = gI Ω 32 38 (5 * x) ∧ gI Ω' 32 36 x = - gI Ω 32 38 x := by
      intro v hv
      obtain ⟨Ω', k1, k2, k3, k4⟩ := ih (i + 1) n (sI (sI (sI Ω 33 3 i v) 32 37 i (gI Ω 32 38 (5 * i))) 32 36 i (- gI Ω 32 38 i)) (by omega) (by omega)
      refine ⟨Ω', k1, Wx.trans (((Wx.refl.sI (Or.inl (by simp [ky]))).sI (Or.inl (by simp [ky]))).sI (Or.inl (by simp [ky]))) k2, fun x hx => ?_, fun x h1 h2 => ?_⟩
      · obtain ⟨q1, q2, q3⟩ := k3 x (by omega)
        rw [q1, q2, q3]
        have : x ≠ i := by omega
        simp [gI_sI, this]
      · by_cases e : x = i
        · subst e
          obtain ⟨q1, q2, q3⟩ := k3 x (by omega)
          rw [q1, q2, q3]
          simp [gI_sI, hv]
        · obtain ⟨q1, q2, q3⟩ := k4 x (by omega) h2
          rw [q1, q2, q3]
          simp [gI_sI]
    unfold fn_X2_habits_202 bd_X2_habits_202 fn_X2_habits_231
    simp only [if_neg l5, nI_l5, ix_n (show 5 * i < 25 by omega) (by decide), ix_n (show i < 25 by omega) (by decide), ix_n (show i < 5 by omega) (by decide), lt, nI_1, e0, e1, gI_sI]
    simp only [show ¬ ((32 : Nat) = 33 ∧ (38 : Nat) = 3 ∧ 5 * i = i) by omega, show ¬ ((32 : Nat) = 33 ∧ (38 : Nat) = 3 ∧ i = i) by omega, show ¬ ((32 : Nat) = 32 ∧ (38 : Nat) = 37 ∧ i = i) by omega, if_false]
    by_cases h : 1000000 ≤ gI Ω 32 38 (5 * i)
    · rw [if_pos h]
      exact key 0 (by rw [if_neg (by grind)])
    · rw [if_neg h]
      exact key 1 (by rw [if_pos (by grind)])
section U
variable {B : zo_O} (hB : Bse B) {kn : Int32}
include hB
theorem m_rd2 {N : Nat} (hNN : 50 ≤ N) : ∀ m r n Ω fl D, r + m = 10 → m < n → Wx sS0 B Ω → mtM Ω D → rgM D → (fl = 0 ∨ fl = 1) → ((hG (uE B kn (gC B 5)) D ∧ fl = 0) ∨ (hN D ∧ hS (uE B kn (gC B 5)) D)) → ∃ Ω' fl' D', fn_X2_habits_38 N n kn fl (nI r) Ω = fn_X2_habits_154 N fl' Ω' ∧ Wx [(32, 38)] Ω Ω' ∧ mtM Ω' D' ∧ rgM D' ∧ (fl' = 0 ∨ fl' = 1) ∧ ((hG (uE B kn (gC B 5)) D' ∧ fl' = 0) ∨ (hN D' ∧ hS (uE B kn (gC B 5)) D')) := by
  have h40 : gC B 5 ≤ 40 := (hB.1 5 (by decide) (by decide)).2.2
  intro m
  induction m with
  | zero =>
    intro r n Ω fl D hr hn hw hm hg hl hD
    obtain ⟨n, rfl⟩ : ∃ k, n = k + 1 := ⟨n - 1, by omega⟩
    have : r = 10 := by omega
    subst this
    unfold fn_X2_habits_38 bd_X2_habits_38
    rw [if_pos (by decide)]
    exact ⟨Ω, fl, D, rfl, Wx.refl, hm, hg, hl, hD⟩
  | succ m ih =>
    intro r n Ω fl D hr hn hw hm hg hl hD
    obtain ⟨n, rfl⟩ : ∃ k, n = k + 1 := ⟨n - 1, by omega⟩
    unfold fn_X2_habits_38 bd_X2_habits_38
    rw [if_neg (by rw [show (10 : Int32) = nI 10 from rfl, nI_leI (by decide) (by omega)]; omega)]
    by_cases h0 : fl = 0
    · rw [if_pos h0]
      exact ⟨Ω, fl, D, rfl, Wx.refl, hm, hg, hl, hD⟩
    · rw [if_neg h0]
      rcases hD with hD | ⟨hD1, hD2⟩
      · exact absurd hD.2 h0
      · obtain ⟨Ω1, f1, e1, x1, m1, r1, g1, t1⟩ := m_pass hB (kn := kn) (N := N) (rd := nI r) (K38 := fn_X2_habits_38 N n) (by omega) (gC B 5) 0 N Ω 0 D (by omega) (by omega) hw hm hg (Or.inl rfl)
        rw [show nI 0 = (0 : Int32) from rfl, nI_1] at e1
        obtain ⟨Ω2, f2, D2, e2, x2, m2, r2, g2, t2⟩ := ih (r + 1) n Ω1 f1 _ (by omega) (by omega) (hw.step x1 (by decide)) m1 r1 g1 (Or.inr ⟨pD_N hB _ _ _ hD1, pD_S hB _ _ _ (by omega) (fun e q => by rw [Nat.zero_add] at q; exact q) hD2⟩)
        exact ⟨Ω2, f2, D2, e1.trans e2, x1.trans x2, m2, r2, g2, t2⟩
theorem m_rd1 {N : Nat} (hNN : 50 ≤ N) : ∀ n Ω fl D, 9 < n → Wx sS0 B Ω → mtM Ω D → rgM D → (fl = 0 ∨ fl = 1) → ((hG (uE B kn (gC B 5)) D) ∨ (hN D)) → hS (uE B kn (gC B 5)) D → ∃ Ω' fl' D', fn_X2_habits_38 N n kn fl (nI 1) Ω = fn_X2_habits_154 N fl' Ω' ∧ Wx [(32, 38)] Ω Ω' ∧ mtM Ω' D' ∧ rgM D' ∧ (fl' = 0 ∨ fl' = 1) ∧ ((hG (uE B kn (gC B 5)) D' ∧ fl' = 0) ∨ (hN D' ∧ hS (uE B kn (gC B 5)) D')) := by
  have h40 : gC B 5 ≤ 40 := (hB.1 5 (by decide) (by decide)).2.2
  intro n Ω fl D hn hw hm hg hl hD hSS
  obtain ⟨n, rfl⟩ : ∃ k, n = k + 1 := ⟨n - 1, by omega⟩
  unfold fn_X2_habits_38 bd_X2_habits_38
  rw [if_neg (by decide)]
  by_cases h0 : fl = 0
  · rw [if_pos h0]
    exact ⟨Ω, fl, D, rfl, Wx.refl, hm, hg, hl, by rcases hD with h | h; exact Or.inl ⟨h, h0⟩; exact Or.inr ⟨h, hSS⟩⟩
  · rw [if_neg h0]
    obtain ⟨Ω1, f1, e1, x1, m1, r1, g1, t1⟩ := m_pass hB (kn := kn) (N := N) (rd := nI 1) (K38 := fn_X2_habits_38 N n) (by omega) (gC B 5) 0 N Ω 0 D (by omega) (by omega) hw hm hg (Or.inl rfl)
    rw [show nI 0 = (0 : Int32) from rfl, nI_1] at e1
    obtain ⟨Ω2, f2, D2, e2, x2, m2, r2, g2, t2⟩ := m_rd2 hB (kn := kn) hNN 8 2 n Ω1 f1 _ (by omega) (by omega) (hw.step x1 (by decide)) m1 r1 g1 (by
      rcases hD with hD | hD
      · obtain ⟨q1, q2⟩ := t1 (still_all hB hD)
        rw [q2]; exact Or.inl ⟨hD, q1⟩
      · exact Or.inr ⟨pD_N hB _ _ _ hD, pD_S hB _ _ _ (by omega) (fun e q => by rw [Nat.zero_add] at q; exact q) hSS⟩)
    exact ⟨Ω2, f2, D2, e1.trans e2, x1.trans x2, m2, r2, g2, t2⟩
theorem m_rd0 {N : Nat} (hNN : 50 ≤ N) {n : Nat} {Ω : zo_O} (hn : 10 < n) (hw : Wx sS0 B Ω) (hm : mtM Ω hI) : ∃ Ω' fl' D', fn_X2_habits_38 N n kn 1 0 Ω = fn_X2_habits_154 N fl' Ω' ∧ Wx [(32, 38)] Ω Ω' ∧ mtM Ω' D' ∧ rgM D' ∧ (fl' = 0 ∨ fl' = 1) ∧ ((hG (uE B kn (gC B 5)) D' ∧ fl' = 0) ∨ (hN D' ∧ hS (uE B kn (gC B 5)) D')) := by
  have h40 : gC B 5 ≤ 40 := (hB.1 5 (by decide) (by decide)).2.2
  obtain ⟨n, rfl⟩ : ∃ k, n = k + 1 := ⟨n - 1, by omega⟩
  have hg : rgM hI := fun x y _ _ => by unfold hI; split <;> decide
  unfold fn_X2_habits_38 bd_X2_habits_38
  rw [if_neg (by decide), if_neg (by decide)]
  obtain ⟨Ω1, f1, e1, x1, m1, r1, g1, t1⟩ := m_pass hB (kn := kn) (N := N) (rd := 0) (K38 := fn_X2_habits_38 N n) (by omega) (gC B 5) 0 N Ω 0 hI (by omega) (by omega) hw hm hg (Or.inl rfl)
  rw [show nI 0 = (0 : Int32) from rfl, show (0 : Int32) + 1 = nI 1 from rfl] at e1
  have hG0 := pD_G hB (kn := kn) (gC B 5) 0 hI (by omega) (Or.inl hG_nil)
  rw [Nat.zero_add] at hG0
  obtain ⟨Ω2, f2, D2, e2, x2, m2, r2, g2, t2⟩ := m_rd1 hB (kn := kn) hNN n Ω1 f1 _ (by omega) (hw.step x1 (by decide)) m1 r1 g1 hG0 (pD_S hB _ _ _ (by omega) (fun e q => by rw [Nat.zero_add] at q; exact q) (hS_I _))
  exact ⟨Ω2, f2, D2, e1.trans e2, x1.trans x2, m2, r2, g2, t2⟩
omit hB in
theorem m_hI {N : Nat} : ∀ m i n Ω, i + m = 25 → m < n → (∀ x, x < i → gI Ω 32 38 x = if x % 6 = 0 then 0 else 1000000) → ∃ Ω', fn_X2_habits_2 N n kn (nI i) Ω = fn_X2_habits_38 N N kn 1 0 Ω' ∧ Wx [(32, 38)] Ω Ω' ∧ ∀ x, x < 25 → gI Ω' 32 38 x = if x % 6 = 0 then 0 else 1000000 := by
  intro m
  induction m with
  | zero =>
    intro i n Ω hi hn hx
    obtain ⟨n, rfl⟩ : ∃ k, n = k + 1 := ⟨n - 1, by omega⟩
    have : i = 25 := by omega
    subst this
    unfold fn_X2_habits_2 bd_X2_habits_2
    rw [if_pos (by decide)]
    exact ⟨Ω, rfl, Wx.refl, hx⟩
  | succ m ih =>
    intro i n Ω hi hn hx
    obtain ⟨n, rfl⟩ : ∃ k, n = k + 1 := ⟨n - 1, by omega⟩
    have l5 : ¬ (25 : Int32) ≤ nI i := by rw [show (25 : Int32) = nI 25 from rfl, nI_leI (by decide) (by omega)]; omega
    have h6 : (nI i - nI i / 6 * 6 = 0) ↔ i % 6 = 0 := by
      have : ∀ i, i < 25 → ((nI i - nI i / 6 * 6 = 0) ↔ i % 6 = 0) := by decide +kernel
      exact this i (by omega)
    have key : ∀ v, v = (if i % 6 = 0 then 0 else 1000000) → ∃ Ω', fn_X2_habits_2 N n kn (nI (i + 1)) (sI Ω 32 38 i v) = fn_X2_habits_38 N N kn 1 0 Ω' ∧ Wx [(32, 38)] Ω Ω' ∧ ∀ x, x < 25 → gI Ω' 32 38 x = if x % 6 = 0 then 0 else 1000000 := by
      intro v hv
      obtain ⟨Ω', k1, k2, k3⟩ := ih (i + 1) n (sI Ω 32 38 i v) (by omega) (by omega) (fun x q => by
        rw [gI_sI]
        by_cases e : x = i
        · subst e; simp [hv]
        · rw [if_neg (by omega)]; exact hx x (by omega))
      exact ⟨Ω', k1, Wx.trans (Wx.refl.sI (Or.inl (by simp [ky]))) k2, k3⟩
    unfold fn_X2_habits_2 bd_X2_habits_2 fn_X2_habits_27
    simp only [if_neg l5, gd, h6, ix_n (show i < 25 by omega) (by decide), lt, nI_1]
    rw [if_pos (by decide)]
    by_cases h : i % 6 = 0
    · rw [if_pos h]; exact key 0 (by rw [if_pos h])
    · rw [if_neg h]; exact key 1000000 (by rw [if_neg h])
theorem m_habits {N : Nat} (hNN : 50 ≤ N) {Ω : zo_O} (hw : Wx sS0 B Ω) : ∃ Ω' D, fn_X2_habits N kn Ω = some (none, Ω', 0, 0) ∧ Wx sLm Ω Ω' ∧ rgM D ∧ ((hG (uE B kn (gC B 5)) D ∧ gI Ω' 1 0 65 = 0) ∨ (hN D ∧ hS (uE B kn (gC B 5)) D ∧ gI Ω' 1 0 65 = 1)) ∧ ∀ x, x < 5 → ∃ u v : Int32, u.toInt = D x 0 ∧ v.toInt = D 0 x ∧ gI Ω' 33 3 x = (if u < 1000000 then 1 else 0) ∧ gI Ω' 32 37 x = u ∧ gI Ω' 32 36 x = - v := by
  obtain ⟨Ω1, a1, a2, a3⟩ := m_hI (N := N) (kn := kn) 25 0 N Ω (by omega) (by omega) (fun x h => by omega)
  have hw1 : Wx sS0 B Ω1 := hw.step a2 (by decide)
  have hm1 : mtM Ω1 hI := fun x y hx hy => by
    rw [a3 (5 * x + y) (by omega)]
    unfold hI
    by_cases e : x = y
    · rw [if_pos (by omega), if_pos e]; rfl
    · rw [if_neg (by omega), if_neg e]; rfl
  obtain ⟨Ω2, f2, D, b1, b2, b3, b4, b5, b6⟩ := m_rd0 hB (kn := kn) hNN (n := N) (by omega) hw1 hm1
  have hW2 : Wx [(1, 65)] Ω2 (sI Ω2 1 0 65 f2) := Wx.refl.sI (Or.inl (by simp [ky]))
  obtain ⟨Ω3, f3, c1, c2, c3, c4, c5⟩ := m_hq (N := N) (D := D) 5 0 N (sI Ω2 1 0 65 f2) f2 (by omega) (by omega) b5 (by rw [gI_sI, if_pos ⟨rfl, rfl, rfl⟩]) (mtM_W b3 hW2 (by decide))
  obtain ⟨Ω4, d1, d2, d3, d4⟩ := m_hl (N := N) 5 0 N Ω3 (by omega) (by omega)
  have hm3 : mtM Ω3 D := mtM_W (mtM_W b3 hW2 (by decide)) c2 (by decide)
  have h65 : gI Ω4 1 0 65 = f3 := by rw [d2.I (by simp [ky]) (Or.inl fx_1)]; exact c3
  refine ⟨Ω4, D, ?_, ?_, b4, ?_, ?_⟩
  · unfold fn_X2_habits
    rw [show (0 : Int32) = nI 0 from rfl, a1, b1]
    unfold fn_X2_habits_154
    unfold gd
    rw [if_pos b5]
    unfold lt
    rw [show (0 : Int32) = nI 0 from rfl]
    exact c1.trans d1
  · exact ((((a2.mono (by decide)).step b2 (by decide)).step hW2 (by decide)).step c2 (by decide)).step d2 (by decide)
  · rw [h65]
    rcases b6 with ⟨g, g0⟩ | ⟨g, g1⟩
    · left
      refine ⟨g, ?_⟩
      rcases c4 with c4 | c4
      · exact c4
      · rcases c5.1 c4 with q | ⟨x, q1, q2, q3⟩
        · rw [g0] at q; exact absurd q (by decide)
        · have := g.2.2.2 x q2
          omega
    · right
      obtain ⟨x, x1, x2⟩ := g
      exact ⟨⟨x, x1, x2⟩, g1, c5.2 (Or.inr ⟨x, by omega, x1, x2⟩)⟩
  · intro x hx
    obtain ⟨q1, q2, q3⟩ := d4 x (by omega) hx
    have e1 := hm3 x 0 hx (by decide)
    have e2 := hm3 0 x (by decide) hx
    rw [Nat.mul_zero, Nat.zero_add] at e2
    exact ⟨_, _, e1, e2, q1, q2, q3⟩
end U
