/-! ===== M's habits ===== -/
def rgM (D : hM) : Prop := ∀ x y, x < 5 → y < 5 → -1000000 ≤ D x y ∧ D x y ≤ 1000000
def mtM (Ω : zo_O) (D : hM) : Prop := ∀ x y, x < 5 → y < 5 → (gI Ω 32 38 (5 * x + y)).toInt = D x y
def hStl (D : hM) (a b : Nat) (w : Int) : Prop := ∀ f t, f < 5 → t < 5 → D f a < 1000000 → D b t < 1000000 → D f t ≤ D f a + w + D b t
theorem hbs_still {D : hM} {a b f t : Nat} {w : Int} (h : hStl D a b w) (hf : f < 5) (ht : t < 5) : hbs D a b w f t = D := by
  unfold hbs
  rw [if_neg]
  rintro ⟨h1, h2, h3, _⟩
  have := h f t hf ht h1 h2
  omega
theorem hbr_still {D : hM} {a b f : Nat} {w : Int} (h : hStl D a b w) (hf : f < 5) : ∀ t, t ≤ 5 → hbr D a b w f t = D
  | 0, _ => rfl
  | t + 1, ht => by rw [hbr, hbr_still h hf t (by omega)]; exact hbs_still h hf (by omega)
theorem hbf_still {D : hM} {a b : Nat} {w : Int} (h : hStl D a b w) : ∀ f, f ≤ 5 → hbf D a b w f = D
  | 0, _ => rfl
  | f + 1, hf => by rw [hbf, hbf_still h f (by omega)]; exact hbr_still h (by omega) 5 (by omega)
theorem rg_bs {D : hM} {a b f t : Nat} {w : Int} (h : rgM D) (hf : f < 5) (ht : t < 5) : rgM (hbs D a b w f t) := by
  intro x y hx hy
  unfold hbs
  split
  · rename_i q
    unfold hU
    split
    · have := h f t hf ht
      omega
    · exact h x y hx hy
  · exact h x y hx hy
theorem nI_l5 (s : Nat) : (5 : Int32) * nI s = nI (5 * s) := nI_mul 5 s
theorem Int32_ofInt {x : Int32} {n : Nat} (h : x.toInt = n) : x = nI n := by
  have := fi_b x
  rw [fa_eq, h, fi_n (by omega)]
theorem m_bs {N a b f t : Nat} {w fl : Int32} {Ω : zo_O} {D : hM} {K6 : Int32 → Int32 → Int32 → Int32 → Int32 → zo_O → Option zo_R} {K15 : Int32 → Int32 → Int32 → Int32 → Int32 → Int32 → zo_O → Option zo_R} (ha : a < 5) (hb : b < 5) (hf : f < 5) (ht : t < 5) (hw1 : -2029 ≤ w.toInt) (hw2 : w.toInt ≤ 2029) (hm : mtM Ω D) (hr : rgM D) :
    ∃ Ω' fl', bd_X2_bounds_15 N K6 K15 (nI a) (nI b) w fl (nI f) (nI t) Ω = K15 (nI a) (nI b) w fl' (nI f) (nI (t + 1)) Ω' ∧ Wx [(32, 38)] Ω Ω' ∧ mtM Ω' (hbs D a b w.toInt f t) ∧ (fl' = fl ∨ fl' = 1) ∧ (hbs D a b w.toInt f t = D → (D f a < 1000000 → D b t < 1000000 → D f t ≤ D f a + w.toInt + D b t) → fl' = fl) := by
  have e1 := hm f a hf ha
  have e2 := hm b t hb ht
  have e3 := hm f t hf ht
  have r1 := hr f a hf ha
  have r2 := hr b t hb ht
  have r3 := hr f t hf ht
  have l5 : ¬ (5 : Int32) ≤ nI t := by rw [show (5 : Int32) = nI 5 from rfl, nI_leI (by decide) (by omega)]; omega
  have s1 : (gI Ω 32 38 (5 * f + a) + w).toInt = D f a + w.toInt := by rw [fi_add (by omega) (by omega), e1]
  have s2 : ((gI Ω 32 38 (5 * f + a) + w) + gI Ω 32 38 (5 * b + t)).toInt = D f a + w.toInt + D b t := by rw [fi_add (by omega) (by omega), s1, e2]
  have c1 : (1000000 : Int32) ≤ gI Ω 32 38 (5 * f + a) ↔ 1000000 ≤ D f a := by rw [fa_le, e1]; exact Iff.rfl
  have c2 : gI Ω 32 38 (5 * b + t) < (1000000 : Int32) ↔ D b t < 1000000 := by rw [fa_lt, e2]; exact Iff.rfl
  have c3 : gI Ω 32 38 (5 * f + t) ≤ (gI Ω 32 38 (5 * f + a) + w) + gI Ω 32 38 (5 * b + t) ↔ D f t ≤ D f a + w.toInt + D b t := by rw [fa_le, e3, s2]
  have c4 : (-1000000 : Int32) ≤ (gI Ω 32 38 (5 * f + a) + w) + gI Ω 32 38 (5 * b + t) ↔ -1000000 ≤ D f a + w.toInt + D b t := by rw [fa_le, s2]; exact Iff.rfl
  unfold bd_X2_bounds_15 fn_X2_bounds_130
  simp only [if_neg l5, nI_l5, nI_add, ix_n (show 5 * f + a < 25 by omega) (by decide), ix_n (show 5 * b + t < 25 by omega) (by decide), ix_n (show 5 * f + t < 25 by omega) (by decide), li, lt, nI_1, c1, c2, c3, c4]
  unfold hbs
  by_cases h1 : 1000000 ≤ D f a
  · rw [if_pos h1, if_neg (by omega)]
    exact ⟨Ω, fl, rfl, Wx.refl, hm, Or.inl rfl, fun _ _ => rfl⟩
  · rw [if_neg h1]
    by_cases h2 : D b t < 1000000
    · rw [if_pos h2]
      by_cases h3 : D f t ≤ D f a + w.toInt + D b t
      · rw [if_pos h3, if_neg (by omega)]
        exact ⟨Ω, fl, rfl, Wx.refl, hm, Or.inl rfl, fun _ _ => rfl⟩
      · rw [if_neg h3]
        by_cases h4 : -1000000 ≤ D f a + w.toInt + D b t
        · rw [if_pos h4, if_pos (by omega)]
          refine ⟨_, 1, rfl, Wx.refl.sI (Or.inl (by simp [ky])), ?_, Or.inr rfl, fun q h => absurd (h (by omega) h2) h3⟩
          intro x y hx hy
          rw [gI_sI]
          unfold hU
          by_cases e : x = f ∧ y = t
          · obtain ⟨rfl, rfl⟩ := e
            simp only [and_self, if_true]
            exact s2
          · rw [if_neg (by omega), if_neg e]
            exact hm x y hx hy
        · rw [if_neg h4, if_neg (by omega)]
          exact ⟨Ω, fl, rfl, Wx.refl, hm, Or.inl rfl, fun _ _ => rfl⟩
    · rw [if_neg h2, if_neg (by omega)]
      exact ⟨Ω, fl, rfl, Wx.refl, hm, Or.inl rfl, fun _ _ => rfl⟩
theorem rg_br {D : hM} {a b f : Nat} {w : Int} (h : rgM D) (hf : f < 5) : ∀ t, t ≤ 5 → rgM (hbr D a b w f t)
  | 0, _ => h
  | t + 1, ht => rg_bs (rg_br h hf t (by omega)) hf (by omega)
theorem rg_bf {D : hM} {a b : Nat} {w : Int} (h : rgM D) : ∀ f, f ≤ 5 → rgM (hbf D a b w f)
  | 0, _ => h
  | f + 1, hf => rg_br (rg_bf h f (by omega)) (by omega) 5 (by omega)
theorem m_br {N a b f : Nat} {w : Int32} {D : hM} {K6 : Int32 → Int32 → Int32 → Int32 → Int32 → zo_O → Option zo_R} (ha : a < 5) (hb : b < 5) (hf : f < 5) (hw1 : -2029 ≤ w.toInt) (hw2 : w.toInt ≤ 2029) (hr : rgM D) :
    ∀ m t n Ω fl, t + m = 5 → m < n → mtM Ω (hbr D a b w.toInt f t) → ∃ Ω' fl', fn_X2_bounds_15 N K6 n (nI a) (nI b) w fl (nI f) (nI t) Ω = K6 (nI a) (nI b) w fl' (nI (f + 1)) Ω' ∧ Wx [(32, 38)] Ω Ω' ∧ mtM Ω' (hbr D a b w.toInt f 5) ∧ (fl' = fl ∨ fl' = 1) ∧ (hStl D a b w.toInt → fl' = fl) := by
  intro m
  induction m with
  | zero =>
    intro t n Ω fl ht hn hm
    obtain ⟨n, rfl⟩ : ∃ k, n = k + 1 := ⟨n - 1, by omega⟩
    have : t = 5 := by omega
    subst this
    unfold fn_X2_bounds_15 bd_X2_bounds_15
    rw [if_pos (by decide), nI_1]
    exact ⟨Ω, fl, rfl, Wx.refl, hm, Or.inl rfl, fun _ => rfl⟩
  | succ m ih =>
    intro t n Ω fl ht hn hm
    obtain ⟨n, rfl⟩ : ∃ k, n = k + 1 := ⟨n - 1, by omega⟩
    unfold fn_X2_bounds_15
    obtain ⟨Ω1, fl1, e, w1, m1, f1, s1⟩ := m_bs (N := N) (fl := fl) (K6 := K6) (K15 := fn_X2_bounds_15 N K6 n) ha hb hf (show t < 5 by omega) hw1 hw2 hm (rg_br hr hf t (by omega))
    obtain ⟨Ω2, fl2, e2, w2, m2, f2, s2⟩ := ih (t + 1) n Ω1 fl1 (by omega) (by omega) m1
    refine ⟨Ω2, fl2, e.trans e2, w1.trans w2, m2, ?_, ?_⟩
    · rcases f2 with f2 | f2
      · rw [f2]; exact f1
      · exact Or.inr f2
    · intro h
      rw [s2 h]
      have hd : hbr D a b w.toInt f t = D := hbr_still h hf t (by omega)
      rw [hd] at s1
      exact s1 (hbs_still h hf (by omega)) (h f t hf (by omega))
theorem m_bf {N a b : Nat} {w : Int32} {D : hM} (hN : 6 ≤ N) (ha : a < 5) (hb : b < 5) (hw1 : -2029 ≤ w.toInt) (hw2 : w.toInt ≤ 2029) (hr : rgM D) :
    ∀ m f n Ω fl, f + m = 5 → m < n → (fl = 0 ∨ fl = 1) → mtM Ω (hbf D a b w.toInt f) → ∃ Ω' fl', fn_X2_bounds_6 N n (nI a) (nI b) w fl (nI f) Ω = some (some (vi fl'), Ω', 0, 0) ∧ Wx [(32, 38)] Ω Ω' ∧ mtM Ω' (hbf D a b w.toInt 5) ∧ (fl' = 0 ∨ fl' = 1) ∧ (hStl D a b w.toInt → fl' = fl) := by
  intro m
  induction m with
  | zero =>
    intro f n Ω fl ht hn hl hm
    obtain ⟨n, rfl⟩ : ∃ k, n = k + 1 := ⟨n - 1, by omega⟩
    have : f = 5 := by omega
    subst this
    unfold fn_X2_bounds_6 bd_X2_bounds_6
    rw [if_pos (by decide)]
    refine ⟨Ω, fl, ?_, Wx.refl, hm, hl, fun _ => rfl⟩
    rcases hl with rfl | rfl <;> rfl
  | succ m ih =>
    intro f n Ω fl ht hn hl hm
    obtain ⟨n, rfl⟩ : ∃ k, n = k + 1 := ⟨n - 1, by omega⟩
    unfold fn_X2_bounds_6 bd_X2_bounds_6
    rw [if_neg (by rw [show (5 : Int32) = nI 5 from rfl, nI_leI (by decide) (by omega)]; omega)]
    obtain ⟨Ω1, fl1, e, w1, m1, f1, s1⟩ := m_br (N := N) (K6 := fn_X2_bounds_6 N n) ha hb (show f < 5 by omega) hw1 hw2 (rg_bf hr f (by omega)) 5 0 N Ω fl (by omega) (by omega) hm
    obtain ⟨Ω2, fl2, e2, w2, m2, f2, s2⟩ := ih (f + 1) n Ω1 fl1 (by omega) (by omega) (by rcases f1 with f1 | f1 <;> rw [f1] <;> simp [hl]) m1
    refine ⟨Ω2, fl2, e.trans e2, w1.trans w2, m2, f2, ?_⟩
    intro h
    rw [s2 h]
    rw [hbf_still h f (by omega)] at s1
    exact s1 h
theorem m_bounds {N a b : Nat} {w : Int32} {D : hM} {Ω : zo_O} (hN : 6 ≤ N) (ha : a < 5) (hb : b < 5) (hw1 : -2029 ≤ w.toInt) (hw2 : w.toInt ≤ 2029) (hr : rgM D) (hm : mtM Ω D) :
    ∃ Ω' fl', fn_X2_bounds N (nI a) (nI b) w Ω = some (some (vi fl'), Ω', 0, 0) ∧ Wx [(32, 38)] Ω Ω' ∧ mtM Ω' (hbf D a b w.toInt 5) ∧ rgM (hbf D a b w.toInt 5) ∧ (fl' = 0 ∨ fl' = 1) ∧ (hStl D a b w.toInt → fl' = 0) := by
  obtain ⟨Ω2, fl2, e2, w2, m2, f2, s2⟩ := m_bf (N := N) hN ha hb hw1 hw2 hr 5 0 N Ω 0 (by omega) (by omega) (Or.inl rfl) hm
  exact ⟨Ω2, fl2, e2, w2, m2, rg_bf hr 5 (by omega), f2, s2⟩
