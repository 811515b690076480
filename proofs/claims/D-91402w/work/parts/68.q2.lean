/-! ===== questions: grown, habit ===== -/
section U
variable {B : zo_O} (hB : Bse B)
include hB
theorem sLo_b {D : Nat → Nat → Int32} (hD : DBd D) {c : Nat} (hc : c < gC B 3) : 0 ≤ (sLo B D c).toInt ∧ (sLo B D c).toInt ≤ 70000 := by
  obtain ⟨m1, m2⟩ := mea_n hB hc
  obtain ⟨s, _, _, _, _, _, _, _, _, _, hl, _⟩ := hB.2.2.2.1 c hc
  rw [fa_le, fa_le] at hl
  have h1 : (1 : Int32).toInt = 1 := rfl
  have h2 : (2000 : Int32).toInt = 2000 := rfl
  have h0 : (0 : Int32).toInt = 0 := rfl
  have hd := hD _ _ m1 (show 0 < 5 by decide)
  unfold sLo
  rw [fi_mx, fi_sub (by omega) (by omega)]
  omega
theorem sHi_b {D : Nat → Nat → Int32} (hD : DBd D) {c : Nat} (hc : c < gC B 3) : 0 ≤ (sHi B D c).toInt ∧ (sHi B D c).toInt ≤ 1002000 := by
  obtain ⟨m1, m2⟩ := mea_n hB hc
  obtain ⟨s, _, _, _, _, _, _, _, _, _, hl, _⟩ := hB.2.2.2.1 c hc
  rw [fa_le, fa_le] at hl
  have h1 : (1 : Int32).toInt = 1 := rfl
  have h2 : (2000 : Int32).toInt = 2000 := rfl
  have h0 : (0 : Int32).toInt = 0 := rfl
  have hd := hD _ _ (show 0 < 5 by decide) m1
  unfold sHi
  rw [fi_mx, fi_add (by omega) (by omega)]
  omega
theorem rate_b : 1 ≤ (gI B 1 0 42).toInt ∧ (gI B 1 0 42).toInt ≤ 40 := by
  have h := hB.2.2.2.2.2.1.2.2.2.2.2.2.2.2.1
  rw [fa_le, fa_le] at h
  exact h
theorem year_b {c : Nat} (hc : c < gC B 3) : 1000 ≤ (gI B 32 10 c).toInt ∧ (gI B 32 10 c).toInt ≤ 2100 := by
  obtain ⟨s, _, _, _, _, _, _, _, _, _, _, _, h⟩ := hB.2.2.2.1 c hc
  rw [fa_le, fa_le] at h
  exact h
theorem rate_x : gI B 0 0 10 = gI B 1 0 42 := hB.2.2.2.2.2.1.2.2.1
theorem rate_mul {y : Int32} (h1 : -1200 ≤ y.toInt) (h2 : y.toInt ≤ 1200) : (gI B 1 0 42 * y).toInt = (gI B 1 0 42).toInt * y.toInt ∧ -48000 ≤ (gI B 1 0 42).toInt * y.toInt ∧ (gI B 1 0 42).toInt * y.toInt ≤ 48000 := by
  obtain ⟨r1, r2⟩ := rate_b hB
  have k1 : (gI B 1 0 42).toInt * y.toInt ≤ 48000 := by
    by_cases h : 0 ≤ y.toInt
    · exact Int.le_trans (Int.mul_le_mul_of_nonneg_right r2 h) (by omega)
    · have : (gI B 1 0 42).toInt * y.toInt ≤ 0 := Int.mul_nonpos_of_nonneg_of_nonpos (by omega) (by omega)
      omega
  have k2 : -48000 ≤ (gI B 1 0 42).toInt * y.toInt := by
    by_cases h : 0 ≤ y.toInt
    · have : 0 ≤ (gI B 1 0 42).toInt * y.toInt := Int.mul_nonneg (by omega) h
      omega
    · have := Int.mul_le_mul_of_nonpos_right r2 (show y.toInt ≤ 0 by omega)
      omega
  exact ⟨fi_mul (by omega) (by omega), k2, k1⟩
theorem q_grown {N : Nat} (hN : 50 ≤ N) {i kn : Int32} : Qy (fn_X1_grown N i kn) (fn_X2_grown N i kn) B := by
  have h120 := n_3 hB
  obtain ⟨a1, a2, a3⟩ := b_a hB
  obtain ⟨l1, l2⟩ := b_c hB
  have hw0 : Wx sS0 B B := Wx.refl
  have hw1 : Wx sS0 B (sI B 1 0 0 0) := W_thrown hw0
  have col : ∀ Ω, Wx sS0 B Ω → ∀ j, j < gC B 8 → ∀ f c, (8, f, c) ∈ iv_cols → gI Ω 8 j f = gI B 32 c j := fun Ω hw j hj f c h => by
    rw [w_o hw (by decide) hj]; exact hB.2.1 _ h j hj
  by_cases g1 : 0 ≤ i ∧ i ≤ nI (gC B 8) - 1
  · obtain ⟨j, j1, rfl⟩ := nI_between (by omega) g1
    have hg := x_get (N := N) (l := 6) (i := j) (Ω := B) (by rw [a1, tks_len]; omega) (by rw [a1, tks_len]; omega)
    rw [a1, tks_get j1] at hg
    by_cases g : (0 ≤ kn ∧ kn ≤ gI B 1 0 1) ∧ gI B 32 30 j ≤ kn
    · obtain ⟨g2, g3⟩ := g
      obtain ⟨a, b, ha, hb, ea, eb⟩ := hB.2.2.2.2.1.2.2.2.2 j j1
      have hga := x_get (N := N) (l := 1) (i := a) (Ω := B) (by rw [l1, tks_len]; omega) (by rw [l1, tks_len]; omega)
      have hgb := x_get (N := N) (l := 1) (i := b) (Ω := B) (by rw [l1, tks_len]; omega) (by rw [l1, tks_len]; omega)
      rw [l1, tks_get ha] at hga
      rw [l1, tks_get hb] at hgb
      obtain ⟨q, D, hD, hX, hM⟩ := habits_both hB (kn := kn)
      obtain ⟨Ω1, x1, x2, x3⟩ := hX N B hN hw0
      have hw2 : Wx sS0 B Ω1 := hw0.step x2 (by decide)
      have hw3 : Wx sS0 B (sI Ω1 1 0 0 0) := W_thrown hw2
      obtain ⟨Ω2, m1, m2, m3⟩ := hM N (sI Ω1 1 0 0 0) hN hw3
      have hw4 : Wx sS0 B Ω2 := hw3.step m2 (by decide)
      refine Qy_mk (r := if sU B q D kn a = true ∧ sU B q D kn b = true then (if ¬ sHi B D b < sLo B D a ∧ ¬ sHi B D a + gI B 1 0 42 * (gI B 32 10 b - gI B 32 10 a) < sLo B D b then 1 else 0) else -1) (Ω1 := Ω1) (Ω2 := Ω2) (c1 := 0) (s1 := 0) ?_ ?_ ((Q_t2 (Wx.refl.step x2 (by decide))).step m2 (by decide)) (by decide) (by decide)
      · unfold fn_X1_grown fn_X1_grown_120 fn_X1_grown_170 fn_X1_grown_171 fn_X3_isBy_8 fn_X3_isBy_8_13
        simp only [x_size, a1, tks_len, ci_mk, x_in, if_10, if_pos g1, x_isKnown, b_now hB, if_pos g2, hg, cr_mk, bk_mk, col B hw0 j j1 0 30 (by decide), col B hw0 j j1 1 28 (by decide), col B hw0 j j1 2 29 (by decide), if_neg (show ¬ kn < gI B 32 30 j by grind), rZ_1, ea, eb, hga, hgb, x1, cv_mk]
        rw [if_neg (by decide), x_isUsed hB hw2 (by omega) x3 ha, ci_mk, if_10]
        by_cases ua : sU B q D kn a = true
        · rw [if_pos ua, x_isUsed hB hw2 (by omega) x3 hb, ci_mk, if_10]
          by_cases ub : sU B q D kn b = true
          · have hq := sU_q ua
            have hD := hD hq
            have ra : gI Ω1 3 a 5 = gI B 32 10 a := (cirX hB hw2 ha).2.2.2.2.2.1
            have rb : gI Ω1 3 b 5 = gI B 32 10 b := (cirX hB hw2 hb).2.2.2.2.2.1
            have r10 : gI Ω1 0 0 10 = gI B 1 0 42 := by rw [w_x hw2 (by decide)]; exact rate_x hB
            have y1 := year_b hB ha
            have y2 := year_b hB hb
            have sy : (gI B 32 10 b - gI B 32 10 a).toInt = (gI B 32 10 b).toInt - (gI B 32 10 a).toInt := fi_sub (by omega) (by omega)
            obtain ⟨t1, t2, t3⟩ := rate_mul hB (y := gI B 32 10 b - gI B 32 10 a) (by omega) (by omega)
            have b1 := sLo_b hB hD hb
            have b2 := sHi_b hB hD ha
            have cmp : gI B 1 0 42 * (gI B 32 10 b - gI B 32 10 a) < sLo B D b - sHi B D a ↔ sHi B D a + gI B 1 0 42 * (gI B 32 10 b - gI B 32 10 a) < sLo B D b := by
              rw [fa_lt, fa_lt, fi_sub (by omega) (by omega), fi_add (by omega) (by omega)]
              omega
            rw [if_pos ub, if_pos (show sU B q D kn a = true ∧ sU B q D kn b = true from ⟨ua, ub⟩), x_most hB hw2 x3 hq hb, ci_mk, x_least hB hw2 x3 hq ha, ci_mk, x_least hB hw2 x3 hq hb, ci_mk, x_most hB hw2 x3 hq ha, ci_mk]
            simp only [ra, rb, r10, cmp, rI]
            by_cases k1 : sHi B D b < sLo B D a
            · rw [if_pos k1, if_neg (by simp [k1])]
            · rw [if_neg k1]
              by_cases k2 : sHi B D a + gI B 1 0 42 * (gI B 32 10 b - gI B 32 10 a) < sLo B D b
              · rw [if_pos k2, if_neg (by simp [k2])]
              · rw [if_neg k2, if_pos ⟨k1, k2⟩]
          · rw [if_neg ub, if_neg (by simp [ub])]; rfl
        · rw [if_neg ua, if_neg (by simp [ua])]; rfl
      · unfold fn_X2_grown fn_X2_grown_78 fn_X2_grown_132 fn_X2_grown_133 lt
        simp only [m_within, m_isKnown, w_m hw3 (show (1, 37) ∉ sS0 by decide), w_m hw3 (show (1, 1) ∉ sS0 by decide), a2, ci_mk, if_10, if_pos g1, if_pos g2, ix_n (show j < 30 by omega) (show 30 < 2147483648 by decide), w_c hw3 (show 30 ≤ 35 by decide), m1, cv_mk, li, w_c hw4 (show 28 ≤ 35 by decide), w_c hw4 (show 29 ≤ 35 by decide), ea, eb, ix_n (show a < 120 by omega) (show 120 < 2147483648 by decide), ix_n (show b < 120 by omega) (show 120 < 2147483648 by decide)]
        rw [if_pos g3]
        rw [m_isUsed hB hw4 (by omega) m3 ha, ci_mk, if_10]
        by_cases ua : sU B q D kn a = true
        · rw [if_pos ua, m_isUsed hB hw4 (by omega) m3 hb, ci_mk, if_10]
          by_cases ub : sU B q D kn b = true
          · have hq := sU_q ua
            rw [if_pos ub, if_pos (show sU B q D kn a = true ∧ sU B q D kn b = true from ⟨ua, ub⟩), m_highOf hB hw4 m3 hq hb, ci_mk, m_lowOf hB hw4 m3 hq ha, ci_mk, m_lowOf hB hw4 m3 hq hb, ci_mk, m_highOf hB hw4 m3 hq ha, ci_mk]
            simp only [w_c hw4 (show 10 ≤ 35 by decide), w_m hw4 (show (1, 42) ∉ sS0 by decide), rI]
            by_cases k1 : sHi B D b < sLo B D a
            · simp [k1]
            · rw [if_neg k1]
              by_cases k2 : sHi B D a + gI B 1 0 42 * (gI B 32 10 b - gI B 32 10 a) < sLo B D b
              · simp [k1, k2]
              · simp [k1, k2]
          · simp [ub, rI]
        · simp [ua, rI]
    · refine Qy_mk (r := -1) (Ω1 := B) (Ω2 := sI B 1 0 0 0) (c1 := 0) (s1 := 0) ?_ ?_ Q_t (by decide) (by decide)
      · unfold fn_X1_grown fn_X1_grown_43 fn_X3_isBy_8 fn_X3_isBy_8_13
        simp only [x_size, a1, tks_len, ci_mk, x_in, if_10, if_pos g1, x_isKnown, b_now hB, hg, cr_mk, bk_mk, col B hw0 j j1 0 30 (by decide), rZ_1, rZ_0, rI]
        by_cases g2 : 0 ≤ kn ∧ kn ≤ gI B 1 0 1
        · rw [if_pos g2, if_pos (show kn < gI B 32 30 j by grind), ci_mk, if_pos rfl]
        · rw [if_neg g2]
      · unfold fn_X2_grown fn_X2_grown_37 lt
        simp only [m_within, m_isKnown, w_m hw1 (show (1, 37) ∉ sS0 by decide), w_m hw1 (show (1, 1) ∉ sS0 by decide), a2, ci_mk, if_10, if_pos g1, ix_n (show j < 30 by omega) (show 30 < 2147483648 by decide), w_c hw1 (show 30 ≤ 35 by decide), rI]
        by_cases g2 : 0 ≤ kn ∧ kn ≤ gI B 1 0 1
        · rw [if_pos g2, if_neg (show ¬ gI B 32 30 j ≤ kn by grind)]; rfl
        · rw [if_neg g2]; rfl
  · refine Qy_mk (r := -1) (Ω1 := B) (Ω2 := sI B 1 0 0 0) (c1 := 0) (s1 := 0) ?_ ?_ Q_t (by decide) (by decide)
    · unfold fn_X1_grown fn_X1_grown_43
      simp only [x_size, a1, tks_len, ci_mk, x_in, if_10, if_neg g1, rI]
    · unfold fn_X2_grown fn_X2_grown_37 lt
      simp only [m_within, w_m hw1 (show (1, 37) ∉ sS0 by decide), a2, ci_mk, if_10, if_neg g1, rI]
      rfl
theorem q_habit (hI : gL B 42 0 = 1) {N : Nat} (hN : 50 ≤ N) {m kn wh : Int32} : ∃ k Ω1 c1 s1 b Ω2, fn_X0_habit N m kn wh B = some (some (vi k), Ω1, c1, s1) ∧ fn_X2_habit N m kn wh Ω1 = some (some (vi b), Ω2, 0, 0) ∧ Wx sQ B Ω2 ∧ gI Ω2 1 0 0 = k ∧ (k = 0 → gJ Ω2 42 0 0 = b.toInt64) ∧ c1 ≤ 1 ∧ s1 ≤ 6 := by
  have hw0 : Wx sS0 B B := Wx.refl
  have hw1 : Wx sS0 B (sI B 1 0 0 1) := W_thrown hw0
  by_cases g : (0 ≤ m ∧ m ≤ 4) ∧ (0 ≤ kn ∧ kn ≤ gI B 1 0 1) ∧ (0 ≤ wh ∧ wh ≤ 1)
  · obtain ⟨g1, g2, g3⟩ := g
    obtain ⟨j, j1, rfl⟩ := nI_between (n := 5) (by decide) (show 0 ≤ m ∧ m ≤ nI 5 - 1 from g1)
    obtain ⟨q, D, hD, hX, hM⟩ := habits_both hB (kn := kn)
    obtain ⟨Ω1, x1, x2, x3⟩ := hX N B hN hw0
    have hw2 : Wx sS0 B Ω1 := hw0.step x2 (by decide)
    have e0 : ix (0 : Int32) 5 = ix (nI 0) 5 := rfl
    have e1 : ix (0 : Int32) 1 = ix (nI 0) 1 := rfl
    have XH : fn_X1_habit N (nI j) kn wh B = if (!q && decide (D j 0 < 1000000)) = true then (if wh = 0 then some (some (vi (- gI Ω1 36 0 j)), Ω1, 0, 0) else some (some (vi (gI Ω1 36 j 0)), Ω1, 0, 0)) else rE Ω1 := by
      unfold fn_X1_habit fn_X1_habit_77
      rw [x_isMeasurer, ci_mk, if_10, if_pos g1, x_isKnown, ci_mk, if_10, b_now hB, if_pos g2, x_in, ci_mk, if_10, if_pos g3, x1, cv_mk, x_isLed hB hw2 x3 j1, ci_mk, if_10]
      simp only [e0, ix_n (show 0 < 5 by decide) (show 5 < 2147483648 by decide), ix_n j1 (show 5 < 2147483648 by decide), L36 hB hw2 (show 0 < 5 by decide), L36 hB hw2 j1, rI]
    have hL1 : gL Ω1 42 0 = 1 := by rw [hw2.L (Or.inl (fx_m (by decide)))]; exact hI
    have MH : ∀ Ω, Wx sS0 B Ω → ∃ Ω2, fn_X2_habit N (nI j) kn wh Ω = (if (!q && decide (D j 0 < 1000000)) = true then some (some (vi (if wh = 0 then - D 0 j else D j 0)), sI Ω2 1 0 0 0, 0, 0) else some (some (vi 0), sI Ω2 1 0 0 1, 0, 0)) ∧ Wx sLm Ω Ω2 := by
      intro Ω hw
      obtain ⟨Ω2, m1, m2, m3⟩ := hM N Ω hN hw
      refine ⟨Ω2, ?_, m2⟩
      unfold fn_X2_habit fn_X2_habit_31 fn_X2_habit_43 fn_X2_habit_68 fn_X2_habit_69 fn_X2_habit_82 fn_X2_habit_113 lt
      simp only [m_within, m_isKnown, ci_mk, if_10, w_m hw (show (1, 1) ∉ sS0 by decide), if_pos g1, if_pos g2, if_pos g3, show ¬ ((1 : Int32) = 0) by decide, if_false, m1, cv_mk, ix_n j1 (show 5 < 2147483648 by decide), rI]
      cases hq : q with
      | true => simp [m3.1, hq]
      | false =>
        obtain ⟨k1, k2, k3⟩ := m3.2 hq j j1
        rw [k1]
        by_cases hd : D j 0 < 1000000
        · simp [hd, m3.1, hq, gI_sI, k2, k3]
          split <;> rfl
        · simp [hd]
    by_cases hl : (!q && decide (D j 0 < 1000000)) = true
    · have hq : q = false := by cases q <;> simp_all
      have d1 : gI Ω1 36 0 j = D 0 j := x3.2 hq 0 j (by decide) j1
      have d2 : gI Ω1 36 j 0 = D j 0 := x3.2 hq j 0 j1 (by decide)
      obtain ⟨Ω2, m1, m2⟩ := MH (sJ Ω1 42 0 0 (if wh = 0 then - D 0 j else D j 0).toInt64) (hw2.sJ (by decide))
      rw [if_pos hl] at m1
      refine ⟨0, _, 0, 0, _, _, ?_, m1, Q_t2 ((((Wx.refl.step x2 (by decide)).sJ (by decide))).step m2 (by decide)), by rw [gI_sI, if_pos ⟨rfl, rfl, rfl⟩], fun _ => ?_, by decide, by decide⟩
      · unfold fn_X0_habit
        rw [XH, if_pos hl, d1, d2]
        by_cases h0 : wh = 0
        · rw [if_pos h0, if_pos h0]
          simp only [chN, hL1, e1, ix_n (show 0 < 1 by decide) (show 1 < 2147483648 by decide), lt, rI, ad_0]
        · rw [if_neg h0, if_neg h0]
          simp only [chN, hL1, e1, ix_n (show 0 < 1 by decide) (show 1 < 2147483648 by decide), lt, rI, ad_0]
      · rw [gJ_sI, m2.J (by decide)]
        rfl
    · obtain ⟨Ω2, m1, m2⟩ := MH Ω1 hw2
      rw [if_neg hl] at m1
      refine ⟨1, Ω1, 1, 6, _, _, ?_, m1, Q_t2 ((Wx.refl.step x2 (by decide)).step m2 (by decide)), by rw [gI_sI, if_pos ⟨rfl, rfl, rfl⟩], fun h => absurd h (by decide), by decide, by decide⟩
      unfold fn_X0_habit
      rw [XH, if_neg hl]
      rfl
  · refine ⟨1, B, 1, 6, 0, sI B 1 0 0 1, ?_, ?_, Q_t, by rw [gI_sI, if_pos ⟨rfl, rfl, rfl⟩], fun h => absurd h (by decide), by decide, by decide⟩
    · have XH : fn_X1_habit N m kn wh B = rE B := by
        unfold fn_X1_habit fn_X1_habit_24
        simp only [x_isMeasurer, ci_mk, if_10, x_isKnown, b_now hB, x_in]
        grind
      unfold fn_X0_habit
      rw [XH]
      rfl
    · unfold fn_X2_habit fn_X2_habit_30 fn_X2_habit_31 fn_X2_habit_43 fn_X2_habit_68 fn_X2_habit_69 fn_X2_habit_82 fn_X2_habit_113 lt
      simp only [m_within, m_isKnown, ci_mk, if_10, if_true, rI]
      grind
end U
