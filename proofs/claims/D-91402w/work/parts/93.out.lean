/-! ===== question out ===== -/
theorem Wx_19 {B Ω : zo_O} {v u : Int32} (w : Wx sQ (sI B 0 0 19 v) Ω) (h : gI B 0 0 19 = u) : Wx sQ B (sI Ω 0 0 19 u) := by
  obtain ⟨a1, a2, a3, a4, a5, a6, a7⟩ := w
  refine ⟨fun k n f m q => ?_, fun k n f m q => ?_, fun n m q => ?_, fun k => ?_, fun k q => ?_, fun k n q => ?_, fun m f => ?_⟩
  · rw [gI_sI]
    by_cases e : k = 0 ∧ n = 0 ∧ f = 19
    · obtain ⟨rfl, rfl, rfl⟩ := e
      rw [if_pos ⟨rfl, rfl, rfl⟩, h]
    · rw [if_neg e, a1 k n f m q, gI_sI, if_neg e]
  · exact a2 k n f m q
  · exact a3 n m q
  · exact a4 k
  · exact a5 k q
  · exact a6 k n q
  · exact a7 m f
theorem x_hasY {N j : Nat} {Ω : zo_O} {y : Int32} : fn_X22_has N j y Ω = some (some (vi (if gI Ω 18 j 0 ≤ y ∧ y ≤ gI Ω 18 j 1 then 1 else 0)), Ω, 0, 0) := by
  unfold fn_X22_has fn_X22_has_20 fn_X22_has_21
  by_cases h1 : y < gI Ω 18 j 0
  · rw [if_pos h1, if_neg (by grind)]; rfl
  · rw [if_neg h1]
    by_cases h2 : gI Ω 18 j 1 < y
    · rw [if_pos h2, if_neg (by grind)]; rfl
    · rw [if_neg h2, if_pos (by grind)]; rfl
section U
variable {B : zo_O} (hB : Bse B) {kn : Int32}
include hB
theorem q_out (hI : gI B 0 0 19 = -1) (hn : gC B 3 ≤ 63) {N : Nat} (hN : 40000 ≤ N) {x : Int32} : Qy (fn_X1_out N x kn) (fn_X2_out N x kn) B := by
  have hw0 : Wx sS0 B B := Wx.refl
  have hw1 : Wx sS0 B (sI B 1 0 0 0) := W_thrown hw0
  have h14 := n_2 hB
  obtain ⟨hS0, h2⟩ := b_s hB
  have h7 : 7 ≤ gC B 20 := hB.2.2.2.2.2.2.2.1
  by_cases g1 : 0 ≤ x ∧ x ≤ nI (gC B 2) - 1
  · obtain ⟨j, j1, rfl⟩ := nI_between (by omega) g1
    have hgB := x_get (N := N) (l := 0) (i := j) (Ω := B) (by rw [hS0, tks_len]; omega) (by rw [hS0, tks_len]; omega)
    rw [hS0, tks_get j1] at hgB
    have y5 : gI B 2 j 5 = gI B 32 3 j := (sitX hB hw0 j1).2.2.2.2.2
    by_cases g : (0 ≤ kn ∧ kn ≤ gI B 1 0 1) ∧ gI B 32 4 j ≤ kn ∧ gI B 32 3 j ≠ -1
    · obtain ⟨g2, g3, g4⟩ := g
      have hyr := syear_b hB j1 g4
      obtain ⟨q, D, hD, hX, hM⟩ := x_begins hB (kn := kn)
      have hw9 : Wx sS0 B (sI B 0 0 19 (nI j)) := hw0.sI (Or.inl (by decide))
      obtain ⟨Ω1, x1, x2, x3, x4⟩ := hX N (sI B 0 0 19 (nI j)) (nI j) (by omega) hw9
      have h19 : gI Ω1 0 0 19 = nI j := by rw [x2.I (by decide) (Or.inl fx_0), gI_sI, if_pos ⟨rfl, rfl, rfl⟩]
      have hSO : gS Ω1 0 = tks 2 (gC B 2) := by rw [x3.1.S (by simp [sS0, sQ]) (by omega)]; exact hS0
      have hg := x_get (N := N) (l := 0) (i := j) (Ω := Ω1) (by rw [hSO, tks_len]; omega) (by rw [hSO, tks_len]; omega)
      rw [hSO, tks_get j1] at hg
      obtain ⟨Ω2, cc, sl, y1, y2, y7, y8⟩ := x_spanBy hB hD (kn := kn) (but := nI j) (N := N) hN hn j1 x3 x4 h19
      have hw2 : Wx sS0 B (sI Ω2 0 0 19 (-1)) := y2.1.1.sI (Or.inl (by decide))
      have hSO2 : gS (sI Ω2 0 0 19 (-1)) 0 = tks 2 (gC B 2) := by rw [hw2.S (by simp [sS0, sQ]) (by omega)]; exact hS0
      have hg2 := x_get (N := N) (l := 0) (i := j) (Ω := sI Ω2 0 0 19 (-1)) (by rw [hSO2, tks_len]; omega) (by rw [hSO2, tks_len]; omega)
      rw [hSO2, tks_get j1] at hg2
      have yy : gI (sI Ω2 0 0 19 (-1)) 2 j 5 = gI B 32 3 j := (sitX hB hw2 j1).2.2.2.2.2
      have hw3 : Wx sS0 B (sI (sI Ω2 0 0 19 (-1)) 1 0 0 0) := W_thrown hw2
      obtain ⟨Ω3, m1, m2, m3⟩ := hM N (sI (sI Ω2 0 0 19 (-1)) 1 0 0 0) (by omega) hw3
      obtain ⟨Ω4, n1, n2⟩ := m_lays hB hD (kn := kn) (N := N) hN j1 m3
      have e0 : ∀ f, gI (sI Ω2 0 0 19 (-1)) 18 (gC Ω1 18) f = gI Ω2 18 (gC Ω1 18) f := fun f => by rw [gI_sI, if_neg (by omega)]
      obtain ⟨f1, f2⟩ := FT_XM y2.2.2.2.2.2 n2.2.2.2
      have hiff : (gI Ω2 18 (gC Ω1 18) 0 ≤ gI B 32 3 j ∧ gI B 32 3 j ≤ gI Ω2 18 (gC Ω1 18) 1) ↔ (gI Ω4 32 45 j ≤ gI B 32 3 j ∧ gI B 32 3 j ≤ gI Ω4 32 46 j) := by
        rw [f1]
        rcases f2 with f2 | ⟨f2, f3⟩
        · rw [f2]
        · rw [fa_le, fa_le, fa_le]
          constructor
          · rintro ⟨_, h⟩; omega
          · rintro ⟨_, h⟩; omega
      have hcv := cvN_le Ω1 18
      have wQ : Wx sQ B (sI Ω2 0 0 19 (-1)) := Wx_19 ((Wx.refl.step x2 (by decide)).step y2.2.2.1 (by decide)) hI
      refine Qy_mk (r := if gI Ω2 18 (gC Ω1 18) 0 ≤ gI B 32 3 j ∧ gI B 32 3 j ≤ gI Ω2 18 (gC Ω1 18) 1 then 1 else 0) (Ω1 := sI Ω2 0 0 19 (-1)) (Ω2 := Ω4) (c1 := cc) (s1 := sl) ?_ ?_ (((Q_t2 wQ).step m2 (by decide)).step n2.2.1 (by decide)) (by omega) (by omega)
      · unfold fn_X1_out fn_X1_out_86
        rw [x_isThere hB, ci_mk, if_10, nI_clamp (by omega), if_pos ⟨g1, g2, g3⟩, hgB, cr_mk, bk_mk, x_isDated, ci_mk, if_10, y5, if_pos g4]
        simp only [lt, x1, cv_mk, hg, cr_mk, bk_mk, y1, ck_mk, hg2, x_hasY, ci_mk, if_10, yy, e0]
        split <;> simp [rI, ad]
      · unfold fn_X2_out fn_X2_out_82 lt
        simp only [m_isSite, m_isKnown, m_isThere hB hw3 j1, w_m hw3 (show (1, 1) ∉ sS0 by decide), w_m hw3 (show (1, 2) ∉ sS0 by decide), h2, ci_mk, if_10, ix_n (show j < 14 by omega) (show 14 < 2147483648 by decide), w_c hw3 (show 3 ≤ 35 by decide)]
        rw [if_pos g1, if_pos g2, if_pos g3, if_neg g4, m1, cv_mk, n1, cv_mk, m_within, ci_mk, if_10, w_c n2.1.1 (show 3 ≤ 35 by decide)]
        by_cases e : gI Ω4 32 45 j ≤ gI B 32 3 j ∧ gI B 32 3 j ≤ gI Ω4 32 46 j
        · rw [if_pos e, if_pos (hiff.2 e)]; rfl
        · rw [if_neg e, if_neg (fun w => e (hiff.1 w))]; rfl
    · refine Qy_mk (r := -1) (Ω1 := B) (Ω2 := sI B 1 0 0 0) (c1 := 0) (s1 := 0) ?_ ?_ Q_t (by decide) (by decide)
      · unfold fn_X1_out fn_X1_out_26
        simp only [x_isThere hB, ci_mk, if_10, rI, nI_clamp (show j < 2 ^ 31 by omega), hgB, cr_mk, bk_mk, x_isDated, y5]
        exact if_n2 (fun w => g ⟨w.1.2.1, w.1.2.2, w.2⟩)
      · unfold fn_X2_out fn_X2_out_40 lt
        simp only [m_isSite, m_isKnown, m_isThere hB hw1 j1, w_m hw1 (show (1, 1) ∉ sS0 by decide), w_m hw1 (show (1, 2) ∉ sS0 by decide), h2, ci_mk, if_10, rI, ix_n (show j < 14 by omega) (show 14 < 2147483648 by decide), w_c hw1 (show 3 ≤ 35 by decide)]
        by_cases q1 : (0 ≤ kn ∧ kn ≤ gI B 1 0 1) ∧ gI B 32 4 j ≤ kn
        · have q2 : gI B 32 3 j = -1 := by
            cases Classical.em (gI B 32 3 j = -1) with
            | inl w => exact w
            | inr w => exact absurd ⟨q1.1, q1.2, w⟩ g
          rw [if_pos g1, if_pos q1.1, if_pos q1.2, if_pos q2]
        · exact if_n3 (fun w => q1 w.2)
  · refine Qy_mk (r := -1) (Ω1 := B) (Ω2 := sI B 1 0 0 0) (c1 := 0) (s1 := 0) ?_ ?_ Q_t (by decide) (by decide)
    · unfold fn_X1_out fn_X1_out_26
      simp only [x_isThere hB, ci_mk, if_10, rI]
      rw [if_neg (fun w => g1 w.1)]
    · unfold fn_X2_out fn_X2_out_40 lt
      simp only [m_isSite, w_m hw1 (show (1, 2) ∉ sS0 by decide), h2, ci_mk, if_10, rI]
      rw [if_neg g1]
end U
