/-! ===== questions: used, trueSize, grown, habit, count, place ===== -/
def Qy (X M : zo_O → Option zo_R) (Ω : zo_O) : Prop := ∃ r Ω1 c1 s1 Ω2, X Ω = some (some (vi r), Ω1, c1, s1) ∧ M Ω1 = some (some (vi r), Ω2, 0, 0) ∧ Wx sQ Ω Ω2 ∧ c1 ≤ 17000 ∧ s1 ≤ 87000
theorem Qy_mk {X M : zo_O → Option zo_R} {Ω Ω1 Ω2 : zo_O} {r : Int32} {c1 s1 : Nat} (h1 : X Ω = some (some (vi r), Ω1, c1, s1)) (h2 : M Ω1 = some (some (vi r), Ω2, 0, 0)) (h3 : Wx sQ Ω Ω2) (h4 : c1 ≤ 17000) (h5 : s1 ≤ 87000) : Qy X M Ω := ⟨r, Ω1, c1, s1, Ω2, h1, h2, h3, h4, h5⟩
theorem W_thrown {B Ω : zo_O} {v : Int32} (h : Wx sS0 B Ω) : Wx sS0 B (sI Ω 1 0 0 v) := h.sI (Or.inl (by decide))
theorem Q_t {B : zo_O} {v : Int32} : Wx sQ B (sI B 1 0 0 v) := Wx.refl.sI (Or.inl (by decide))
theorem Q_t2 {B Ω : zo_O} {v : Int32} (h : Wx sQ B Ω) : Wx sQ B (sI Ω 1 0 0 v) := h.sI (Or.inl (by decide))
theorem cnN {k : Nat} {X : Option zo_R} {F : Nat → Option zo_R} : cn none k X F = X := rfl
theorem cn_mk {k n : Nat} {X : Option zo_R} {F : Nat → Option zo_R} : cn (some (k, n)) k X F = F n := if_pos rfl
theorem Bse_k {B : zo_O} (hB : Bse B) {k : Nat} (h2 : 2 ≤ k) (h8 : k ≤ 8) : gS B (k - 2) = tks k (gC B k) ∧ gI B 1 0 (iv_cf k) = nI (gC B k) ∧ gC B k ≤ iv_cap k := hB.1 k h2 h8
theorem if_out {c : Prop} [Decidable c] {a b : Int32} {Ω : zo_O} : (if c then (some (some (vi a), Ω, 0, 0) : Option zo_R) else some (some (vi b), Ω, 0, 0)) = some (some (vi (if c then a else b)), Ω, 0, 0) := by split <;> rfl
theorem cnt_ne {w : Int32} (g : ¬ (13 ≤ w ∧ w ≤ 15)) : ¬ w = 13 ∧ ¬ w = 14 ∧ ¬ w = 15 := ⟨fun h => g (by rw [h]; decide), fun h => g (by rw [h]; decide), fun h => g (by rw [h]; decide)⟩
section U
variable {B : zo_O} (hB : Bse B)
include hB
theorem b_c : gS B 1 = tks 3 (gC B 3) ∧ gI B 1 0 8 = nI (gC B 3) := ⟨(hB.1 3 (by decide) (by decide)).1, (hB.1 3 (by decide) (by decide)).2.1⟩
theorem b_s : gS B 0 = tks 2 (gC B 2) ∧ gI B 1 0 2 = nI (gC B 2) := ⟨(hB.1 2 (by decide) (by decide)).1, (hB.1 2 (by decide) (by decide)).2.1⟩
theorem b_a : gS B 6 = tks 8 (gC B 8) ∧ gI B 1 0 37 = nI (gC B 8) ∧ gC B 8 ≤ 30 := ⟨(hB.1 8 (by decide) (by decide)).1, (hB.1 8 (by decide) (by decide)).2.1, (hB.1 8 (by decide) (by decide)).2.2⟩
theorem b_now : gI B 0 0 8 = gI B 1 0 1 := hB.2.2.2.2.2.1.1
theorem x_circleAt {N : Nat} {c kn : Int32} : fn_X1_circleAt N c kn B = some (some (vo (if (0 ≤ c ∧ c ≤ nI (gC B 3) - 1) ∧ (0 ≤ kn ∧ kn ≤ gI B 1 0 1) then some (3, c.toNatClampNeg) else none)), B, 0, 0) := by
  obtain ⟨h1, _⟩ := b_c hB
  have h120 := n_3 hB
  unfold fn_X1_circleAt fn_X1_circleAt_39 fn_X1_circleAt_40
  simp only [x_size, x_in, x_isKnown, ci_mk, if_10, h1, tks_len, b_now hB, rR]
  by_cases g1 : 0 ≤ c ∧ c ≤ nI (gC B 3) - 1
  · by_cases g2 : 0 ≤ kn ∧ kn ≤ gI B 1 0 1
    · obtain ⟨j, j1, rfl⟩ := nI_between (by omega) g1
      have hg := x_get (N := N) (l := 1) (i := j) (Ω := B) (by rw [h1, tks_len]; omega) (by rw [h1, tks_len]; omega)
      rw [h1, tks_get j1] at hg
      rw [if_pos g1, if_pos g2, if_pos ⟨g1, g2⟩, hg, cr_mk, bk_mk, nI_clamp (by omega)]
    · rw [if_pos g1, if_neg g2, if_neg (by grind)]
  · rw [if_neg g1, if_neg (by grind)]
theorem q_used {N : Nat} (hN : 50 ≤ N) {c kn : Int32} : Qy (fn_X1_used N c kn) (fn_X2_used N c kn) B := by
  have h120 := n_3 hB
  have hw0 : Wx sS0 B B := Wx.refl
  have hw1 : Wx sS0 B (sI B 1 0 0 0) := W_thrown hw0
  by_cases g : (0 ≤ c ∧ c ≤ nI (gC B 3) - 1) ∧ (0 ≤ kn ∧ kn ≤ gI B 1 0 1)
  · obtain ⟨g1, g2⟩ := g
    obtain ⟨j, j1, rfl⟩ := nI_between (by omega) g1
    obtain ⟨q, D, hD, hX, hM⟩ := habits_both hB (kn := kn)
    obtain ⟨Ω1, x1, x2, x3⟩ := hX N B hN hw0
    have hw2 : Wx sS0 B Ω1 := hw0.step x2 (by decide)
    have hw3 : Wx sS0 B (sI Ω1 1 0 0 0) := W_thrown hw2
    obtain ⟨Ω2, m1, m2, m3⟩ := hM N (sI Ω1 1 0 0 0) hN hw3
    have hw4 : Wx sS0 B Ω2 := hw3.step m2 (by decide)
    refine Qy_mk (r := if sU B q D kn j = true then 1 else 0) (Ω1 := Ω1) (Ω2 := Ω2) (c1 := 0) (s1 := 0) ?_ ?_ ((Q_t2 (Wx.refl.step x2 (by decide))).step m2 (by decide)) (by decide) (by decide)
    · unfold fn_X1_used fn_X1_used_32
      rw [x_circleAt hB, cr_mk, if_pos ⟨g1, g2⟩, nI_clamp (by omega), cn_mk, x1, cv_mk, x_isUsed hB hw2 (by omega) x3 j1, ci_mk]
      cases sU B q D kn j <;> rfl
    · unfold fn_X2_used fn_X2_used_42 lt
      simp only [m_isCircle, m_isKnown, ci_mk, if_10, w_m hw3 (show (1, 8) ∉ sS0 by decide), w_m hw3 (show (1, 1) ∉ sS0 by decide), (b_c hB).2]
      rw [if_pos g1, if_pos g2, m1, cv_mk, m_isUsed hB hw4 (by omega) m3 j1, ci_mk]
      cases sU B q D kn j <;> rfl
  · refine Qy_mk (r := -1) (Ω1 := B) (Ω2 := sI B 1 0 0 0) (c1 := 0) (s1 := 0) ?_ ?_ Q_t (by decide) (by decide)
    · unfold fn_X1_used
      rw [x_circleAt hB, cr_mk, if_neg g]; rfl
    · unfold fn_X2_used fn_X2_used_21 lt
      simp only [m_isCircle, m_isKnown, ci_mk, if_10, w_m hw1 (show (1, 8) ∉ sS0 by decide), w_m hw1 (show (1, 1) ∉ sS0 by decide), (b_c hB).2, rI]
      grind
theorem q_trueSize {N : Nat} (hN : 50 ≤ N) {c kn wh : Int32} : Qy (fn_X1_trueSize N c kn wh) (fn_X2_trueSize N c kn wh) B := by
  have h120 := n_3 hB
  have hw0 : Wx sS0 B B := Wx.refl
  have hw1 : Wx sS0 B (sI B 1 0 0 0) := W_thrown hw0
  by_cases g : ((0 ≤ c ∧ c ≤ nI (gC B 3) - 1) ∧ (0 ≤ kn ∧ kn ≤ gI B 1 0 1)) ∧ (0 ≤ wh ∧ wh ≤ 1)
  · obtain ⟨⟨g1, g2⟩, g3⟩ := g
    obtain ⟨j, j1, rfl⟩ := nI_between (by omega) g1
    obtain ⟨q, D, hD, hX, hM⟩ := habits_both hB (kn := kn)
    obtain ⟨Ω1, x1, x2, x3⟩ := hX N B hN hw0
    have hw2 : Wx sS0 B Ω1 := hw0.step x2 (by decide)
    have hw3 : Wx sS0 B (sI Ω1 1 0 0 0) := W_thrown hw2
    obtain ⟨Ω2, m1, m2, m3⟩ := hM N (sI Ω1 1 0 0 0) hN hw3
    have hw4 : Wx sS0 B Ω2 := hw3.step m2 (by decide)
    refine Qy_mk (r := if sU B q D kn j = true then (if wh = 0 then sLo B D j else sHi B D j) else -1) (Ω1 := Ω1) (Ω2 := Ω2) (c1 := 0) (s1 := 0) ?_ ?_ ((Q_t2 (Wx.refl.step x2 (by decide))).step m2 (by decide)) (by decide) (by decide)
    · unfold fn_X1_trueSize fn_X1_trueSize_62
      rw [x_circleAt hB, cr_mk, if_pos ⟨g1, g2⟩, nI_clamp (by omega), cn_mk, x_in, ci_mk, if_10, if_pos g3, x1, cv_mk, x_isUsed hB hw2 (by omega) x3 j1, ci_mk, if_10]
      by_cases hu : sU B q D kn j = true
      · rw [if_pos hu, if_pos hu, x_least hB hw2 x3 (sU_q hu) j1, x_most hB hw2 x3 (sU_q hu) j1, ci_mk, ci_mk]
        split <;> rfl
      · rw [if_neg hu, if_neg hu]; rfl
    · unfold fn_X2_trueSize fn_X2_trueSize_67 lt
      simp only [m_isCircle, m_isKnown, m_within, ci_mk, if_10, w_m hw3 (show (1, 8) ∉ sS0 by decide), w_m hw3 (show (1, 1) ∉ sS0 by decide), (b_c hB).2]
      rw [if_pos g1, if_pos g2, if_pos g3, m1, cv_mk, m_isUsed hB hw4 (by omega) m3 j1, ci_mk, if_10]
      by_cases hu : sU B q D kn j = true
      · rw [if_pos hu, if_pos hu, m_lowOf hB hw4 m3 (sU_q hu) j1, m_highOf hB hw4 m3 (sU_q hu) j1, ci_mk, ci_mk]
        split <;> rfl
      · rw [if_neg hu, if_neg hu]; rfl
  · refine Qy_mk (r := -1) (Ω1 := B) (Ω2 := sI B 1 0 0 0) (c1 := 0) (s1 := 0) ?_ ?_ Q_t (by decide) (by decide)
    · unfold fn_X1_trueSize fn_X1_trueSize_22
      rw [x_circleAt hB, cr_mk]
      by_cases g' : (0 ≤ c ∧ c ≤ nI (gC B 3) - 1) ∧ (0 ≤ kn ∧ kn ≤ gI B 1 0 1)
      · rw [if_pos g', cn_mk, x_in, ci_mk, if_10, if_neg (by grind)]; rfl
      · rw [if_neg g']; rfl
    · unfold fn_X2_trueSize fn_X2_trueSize_30 lt
      simp only [m_isCircle, m_isKnown, m_within, ci_mk, if_10, w_m hw1 (show (1, 8) ∉ sS0 by decide), w_m hw1 (show (1, 1) ∉ sS0 by decide), (b_c hB).2, rI]
      grind
theorem q_place {N : Nat} : Qy (fn_X1_place N) (fn_X2_place N) B := by
  have hw1 : Wx sS0 B (sI B 1 0 0 0) := W_thrown Wx.refl
  refine Qy_mk (r := gI B 0 0 14) (Ω1 := B) (Ω2 := sI B 1 0 0 0) (c1 := 0) (s1 := 0) (x_place N B) ?_ Q_t (by decide) (by decide)
  have h : gI B 0 0 14 = gI B 1 0 56 := hB.2.2.2.2.2.1.2.2.2.2.2.1
  simp only [fn_X2_place, lt, rI, w_m hw1 (show (1, 56) ∉ sS0 by decide), h]
theorem q_count {N : Nat} {w : Int32} : Qy (fn_X1_count N w) (fn_X2_count N w) B := by
  have hw1 : Wx sS0 B (sI B 1 0 0 0) := W_thrown Wx.refl
  obtain ⟨y1, y2, y3, y4, y5, y6, y7, y8, y9, y10, y11, y12, y13⟩ := hB.2.2.2.2.2.1
  obtain ⟨k2, k2', _⟩ := hB.1 2 (by decide) (by decide)
  obtain ⟨k3, k3', _⟩ := hB.1 3 (by decide) (by decide)
  obtain ⟨k4, k4', _⟩ := hB.1 4 (by decide) (by decide)
  obtain ⟨k5, k5', _⟩ := hB.1 5 (by decide) (by decide)
  obtain ⟨k6, k6', _⟩ := hB.1 6 (by decide) (by decide)
  obtain ⟨k7, k7', _⟩ := hB.1 7 (by decide) (by decide)
  obtain ⟨k8, k8', _⟩ := hB.1 8 (by decide) (by decide)
  simp only [iv_cf] at k2' k3' k4' k5' k6' k7' k8'
  simp only [show 2 - 2 = 0 from rfl, show 3 - 2 = 1 from rfl, show 4 - 2 = 2 from rfl, show 5 - 2 = 3 from rfl, show 6 - 2 = 4 from rfl, show 7 - 2 = 5 from rfl, show 8 - 2 = 6 from rfl] at k2 k3 k4 k5 k6 k7 k8
  obtain ⟨r, r1, r2, r3, _⟩ := rl_x hB
  have hr := (rl_m hB).2.1
  by_cases g : 13 ≤ w ∧ w ≤ 15
  · have h3 : w = 13 ∨ w = 14 ∨ w = 15 := by grind
    have : ∃ j, j < 3 ∧ w - 13 = nI j ∧ (w = 13 ∨ w = 14 ∨ w = 15) := by
      rcases h3 with rfl | rfl | rfl
      · exact ⟨0, by decide, by decide, by decide⟩
      · exact ⟨1, by decide, by decide, by decide⟩
      · exact ⟨2, by decide, by decide, by decide⟩
    obtain ⟨j, j1, j2, _⟩ := this
    refine Qy_mk (r := gI B 32 31 j) (Ω1 := B) (Ω2 := sI B 1 0 0 0) (c1 := 0) (s1 := 0) ?_ ?_ Q_t (by decide) (by decide)
    · unfold fn_X1_count
      rw [x_in, ci_mk, if_10, if_pos g, j2, ix_n j1 (by decide), (y12 j j1).1]; rfl
    · unfold fn_X2_count fn_X2_count_149 lt
      simp only [j2, ix_n j1 (show 3 < 2147483648 by decide), w_c hw1 (show 31 ≤ 35 by decide), rI]
      rcases h3 with rfl | rfl | rfl <;> rfl
  · have X : fn_X1_count N w B = some (some (vi (if w = 0 then nI (gC B 2) else if w = 1 then nI (gC B 3) else if w = 2 then nI (gC B 4) else if w = 3 then nI (gC B 5) else if w = 4 then nI (gC B 6) else if w = 5 then nI (gC B 7) else if w = 6 then nI (gC B 8) else if w = 7 then gI B 1 0 1 else if w = 8 then gI B 1 0 54 else if w = 9 then nI (stn B) else if w = 10 then gI B 1 0 41 else if w = 11 then gI B 1 0 42 else if w = 12 then gI B 1 0 43 else -1)), B, 0, 0) := by
      unfold fn_X1_count
      rw [x_in, ci_mk, if_10, if_neg g]
      simp only [x_size, ci_mk, k2, k3, k4, k5, k6, k7, k8, tks_len, rI, r1, bk_mk, r3, y1, y5, y2, y3, y4, if_out]
    obtain ⟨n1, n2, n3⟩ := cnt_ne g
    refine Qy_mk (Ω2 := sI B 1 0 0 0) X ?_ Q_t (by decide) (by decide)
    simp only [fn_X2_count, lt, rI, n1, n2, n3, if_false, if_out]
    generalize hO : sI B 1 0 0 0 = Ω1 at *
    have e1 := w_m hw1 (show (1, 2) ∉ sS0 by decide)
    have e2 := w_m hw1 (show (1, 8) ∉ sS0 by decide)
    have e3 := w_m hw1 (show (1, 17) ∉ sS0 by decide)
    have e4 := w_m hw1 (show (1, 22) ∉ sS0 by decide)
    have e5 := w_m hw1 (show (1, 27) ∉ sS0 by decide)
    have e6 := w_m hw1 (show (1, 32) ∉ sS0 by decide)
    have e7 := w_m hw1 (show (1, 37) ∉ sS0 by decide)
    have e8 := w_m hw1 (show (1, 1) ∉ sS0 by decide)
    have e9 := w_m hw1 (show (1, 54) ∉ sS0 by decide)
    have e10 := w_m hw1 (show (1, 45) ∉ sS0 by decide)
    have e11 := w_m hw1 (show (1, 41) ∉ sS0 by decide)
    have e12 := w_m hw1 (show (1, 42) ∉ sS0 by decide)
    have e13 := w_m hw1 (show (1, 43) ∉ sS0 by decide)
    rw [e1, e2, e3, e4, e5, e6, e7, e8, e9, e10, e11, e12, e13, k2', k3', k4', k5', k6', k7', k8', hr]
end U
