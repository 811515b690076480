theorem x_four {N t : Nat} {v : Int32} {Ω : zo_O} (hN : 6 ≤ N) (h0 : gI Ω 0 0 13 = nI t) (ht : t + 4 ≤ 300) : fn_X1_four N v Ω = some (none, fdW Ω 38 0 13 t (fdB v) 4, 0, 0) := by
  have key : ∀ m j n, j + m = 4 → m < n → fn_X1_four_3 N n v (24 - nI (8 * j)) (fdW Ω 38 0 13 t (fdB v) j) = some (none, fdW Ω 38 0 13 t (fdB v) 4, 0, 0) := by
    intro m
    induction m with
    | zero =>
      intro j n hj hn
      obtain ⟨n, rfl⟩ : ∃ n', n = n' + 1 := ⟨n - 1, by omega⟩
      obtain rfl : j = 4 := by omega
      show bd_X1_four_3 N _ v (24 - nI (8 * 4)) _ = _
      unfold bd_X1_four_3
      rw [if_pos (show (24 - nI (8 * 4)) < 0 by decide)]
      rfl
    | succ m ih =>
      intro j n hj hn
      obtain ⟨n, rfl⟩ : ∃ n', n = n' + 1 := ⟨n - 1, by omega⟩
      have hT : gI (fdW Ω 38 0 13 t (fdB v) j) 0 0 13 = nI (t + j) := by
        rw [fdW_I (by decide)]
        by_cases hz : 0 < j
        · rw [if_pos (by omega)]
        · rw [if_neg (by omega), if_neg (by omega), h0, show j = 0 by omega]; rfl
      have hs : ∀ j, j < 4 → ¬ (24 - nI (8 * j)) < 0 ∧ 24 - nI (8 * j) = nI (24 - 8 * j) ∧ (24 - nI (8 * j)) + (-8) = 24 - nI (8 * (j + 1)) := by decide +kernel
      obtain ⟨s1, s2, s3⟩ := hs j (by omega)
      show bd_X1_four_3 N (fn_X1_four_3 N n) v (24 - nI (8 * j)) _ = _
      unfold bd_X1_four_3
      rw [if_neg s1, hT]
      simp only [lt, ix_n (show t + j < 300 by omega) (by decide), gI_sI, hT]
      have := ih (j + 1) n (by omega) (by omega)
      rw [← this, s3, s2]
      show fn_X1_four_3 N n v (24 - nI (8 * (j + 1))) (sI (sI (fdW Ω 38 0 13 t (fdB v) j) 38 0 (t + j) (fdB v j)) 0 0 13 (nI (t + j) + 1)) = _
      rw [nI_1]
      rfl
  exact key 4 0 N rfl (by omega)
theorem m_feed {N t : Nat} {a b c d e : Int32} {Ω : zo_O} (hN : 21 ≤ N) (h0 : gI Ω 1 0 54 = nI t) (ht : t ≤ 300) : fn_X2_feed N a b c d e Ω = if t + 20 ≤ 300 then some (some (vi (nI (t + 20))), fdW (sI Ω 1 0 0 0) 34 1 54 t (fdF a b c d e) 20, 0, 0) else some (some (vi (-1)), sI Ω 1 0 0 0, 0, 0) := by
  unfold fn_X2_feed
  have e0 : gI (sI Ω 1 0 0 0) 1 0 54 = nI t := h0
  have l : (nI t ≤ 280) ↔ t ≤ 280 := nI_leI (b := 280) (by omega) (by decide)
  simp only [lt, e0, l]
  by_cases h : t ≤ 280
  · rw [if_pos h, if_pos (by omega)]
    exact m_feedL e0 (by omega) 20 0 N rfl (by omega)
  · rw [if_neg h, if_neg (by omega)]; rfl
theorem fdW_T {Ω : zo_O} {ka kf ff t j : Nat} {fb : Nat → Int32} (hk : ka ≠ kf) (hj : 0 < j) : gI (fdW Ω ka kf ff t fb j) kf 0 ff = nI (t + j) := by
  rw [fdW_I hk, if_pos ⟨rfl, rfl, rfl, hj⟩]
theorem fdW_cong {Ω : zo_O} {ka kf ff t : Nat} {f g : Nat → Int32} : ∀ {j}, (∀ i, i < j → f i = g i) → fdW Ω ka kf ff t f j = fdW Ω ka kf ff t g j
  | 0, _ => rfl
  | j + 1, h => by
    show sI (sI (fdW Ω ka kf ff t f j) ka 0 (t + j) (f j)) kf 0 ff _ = sI (sI (fdW Ω ka kf ff t g j) ka 0 (t + j) (g j)) kf 0 ff _
    rw [fdW_cong (fun i hi => h i (by omega)), h j (by omega)]
theorem x_feed {N t : Nat} {a b c d e : Int32} {Ω : zo_O} (hN : 6 ≤ N) (h0 : gI Ω 0 0 13 = nI t) (ht : t ≤ 300) : fn_X1_feed N a b c d e Ω = if t + 20 ≤ 300 then some (some (vi (nI (t + 20))), fdW Ω 38 0 13 t (fdF a b c d e) 20, 0, 0) else some (some (vi (-1)), Ω, 0, 0) := by
  unfold fn_X1_feed
  have l : (nI t + 20 ≤ 300) ↔ t + 20 ≤ 300 := by
    rw [show nI t + 20 = nI (t + 20) from nI_add t 20]
    exact nI_leI (b := 300) (by omega) (by decide)
  simp only [h0, l]
  by_cases h : t + 20 ≤ 300
  · rw [if_pos h, if_pos h]
    rw [x_four hN h0 (by omega), cv_mk, x_four (t := t + 4) hN (fdW_T (by decide) (by decide)) (by omega), cv_mk, fdW_cat,
      x_four (t := t + 8) hN (fdW_T (t := t) (by decide) (by decide)) (by omega), cv_mk]
    rw [show t + 8 = t + (4 + 4) from rfl, fdW_cat, x_four (t := t + 12) hN (fdW_T (t := t) (by decide) (by decide)) (by omega), cv_mk]
    rw [show t + 12 = t + (4 + 4 + 4) from rfl, fdW_cat, x_four (t := t + 16) hN (fdW_T (t := t) (by decide) (by decide)) (by omega), cv_mk]
    rw [show t + 16 = t + (4 + 4 + 4 + 4) from rfl, fdW_cat]
    rw [show rI (gI (fdW Ω 38 0 13 t (fun j => if j < 4 + 4 + 4 + 4 then (fun j => if j < 4 + 4 + 4 then (fun j => if j < 4 + 4 then (fun j => if j < 4 then fdB a j else fdB b (j - 4)) j else fdB c (j - (4 + 4))) j else fdB d (j - (4 + 4 + 4))) j else fdB e (j - (4 + 4 + 4 + 4))) (4 + 4 + 4 + 4 + 4)) 0 0 13) _ = _ from rfl, fdW_T (by decide) (by decide)]
    show some (some (vi (nI (t + 20))), fdW Ω 38 0 13 t _ 20, 0, 0) = _
    rw [fdW_cong (g := fdF a b c d e) (fun i hi => ?_)]
    unfold fdF
    have : i = 0 ∨ i = 1 ∨ i = 2 ∨ i = 3 ∨ i = 4 ∨ i = 5 ∨ i = 6 ∨ i = 7 ∨ i = 8 ∨ i = 9 ∨ i = 10 ∨ i = 11 ∨ i = 12 ∨ i = 13 ∨ i = 14 ∨ i = 15 ∨ i = 16 ∨ i = 17 ∨ i = 18 ∨ i = 19 := by omega
    rcases this with rfl | rfl | rfl | rfl | rfl | rfl | rfl | rfl | rfl | rfl | rfl | rfl | rfl | rfl | rfl | rfl | rfl | rfl | rfl | rfl <;> rfl
  · rw [if_neg h, if_neg h]; rfl
