/-! ===== feed ===== -/
def fdB (v : Int32) (j : Nat) : Int32 := ((v >>> ((nI (24 - 8 * j) : Int32) &&& 31)).toInt8.toInt32).toInt8.toInt32
def fdF (a b c d e : Int32) (j : Nat) : Int32 := fdB (if j < 4 then a else if j < 8 then b else if j < 12 then c else if j < 16 then d else e) (j % 4)
def fdW (Ω : zo_O) (ka kf ff t : Nat) (fb : Nat → Int32) : Nat → zo_O
  | 0 => Ω
  | j + 1 => sI (sI (fdW Ω ka kf ff t fb j) ka 0 (t + j) (fb j)) kf 0 ff (nI (t + j + 1))
theorem fdW_2 {Ω : zo_O} {ka kf ff t : Nat} {fb : Nat → Int32} : ∀ j, (fdW Ω ka kf ff t fb j).2 = Ω.2
  | 0 => rfl
  | j + 1 => fdW_2 j
theorem fdW_I {Ω : zo_O} {ka kf ff t : Nat} {fb : Nat → Int32} (hk : ka ≠ kf) : ∀ j k n i, gI (fdW Ω ka kf ff t fb j) k n i = if k = kf ∧ n = 0 ∧ i = ff ∧ 0 < j then nI (t + j) else if k = ka ∧ n = 0 ∧ t ≤ i ∧ i < t + j then fb (i - t) else gI Ω k n i
  | 0, k, n, i => by
    rw [if_neg (by omega), if_neg (by omega)]; rfl
  | j + 1, k, n, i => by
    have ih := fdW_I (Ω := Ω) (ff := ff) (t := t) (fb := fb) hk j k n i
    show gI (sI (sI (fdW Ω ka kf ff t fb j) ka 0 (t + j) (fb j)) kf 0 ff (nI (t + j + 1))) k n i = _
    rw [gI_sI, gI_sI, ih]
    by_cases h1 : k = kf ∧ n = 0 ∧ i = ff
    · rw [if_pos h1, if_pos (by omega)]; rfl
    · rw [if_neg h1, if_neg (show ¬ (k = kf ∧ n = 0 ∧ i = ff ∧ 0 < j) by omega), if_neg (show ¬ (k = kf ∧ n = 0 ∧ i = ff ∧ 0 < j + 1) by omega)]
      by_cases h2 : k = ka ∧ n = 0 ∧ i = t + j
      · obtain ⟨rfl, rfl, rfl⟩ := h2
        rw [if_pos (show k = k ∧ 0 = 0 ∧ t + j = t + j from ⟨rfl, rfl, rfl⟩), if_pos (by omega), show t + j - t = j by omega]
      · rw [if_neg h2]
        by_cases h3 : k = ka ∧ n = 0 ∧ t ≤ i ∧ i < t + j
        · rw [if_pos h3, if_pos (by omega)]
        · rw [if_neg h3, if_neg (by omega)]
theorem fdW_cat {Ω : zo_O} {ka kf ff t j1 : Nat} {f1 f2 : Nat → Int32} : ∀ j2, fdW (fdW Ω ka kf ff t f1 j1) ka kf ff (t + j1) f2 j2 = fdW Ω ka kf ff t (fun j => if j < j1 then f1 j else f2 (j - j1)) (j1 + j2)
  | 0 => by
    have : ∀ j, j ≤ j1 → fdW Ω ka kf ff t f1 j = fdW Ω ka kf ff t (fun j => if j < j1 then f1 j else f2 (j - j1)) j := by
      intro j
      induction j with
      | zero => intro _; rfl
      | succ j ih =>
        intro hj
        show sI (sI (fdW Ω ka kf ff t f1 j) ka 0 (t + j) (f1 j)) kf 0 ff _ = sI (sI (fdW Ω ka kf ff t _ j) ka 0 (t + j) (if j < j1 then f1 j else f2 (j - j1))) kf 0 ff _
        rw [ih (by omega), if_pos (by omega)]
    exact this j1 (Nat.le_refl _)
  | j2 + 1 => by
    show sI (sI (fdW (fdW Ω ka kf ff t f1 j1) ka kf ff (t + j1) f2 j2) ka 0 (t + j1 + j2) (f2 j2)) kf 0 ff (nI (t + j1 + j2 + 1)) = sI (sI (fdW Ω ka kf ff t _ (j1 + j2)) ka 0 (t + (j1 + j2)) (if j1 + j2 < j1 then f1 (j1 + j2) else f2 (j1 + j2 - j1))) kf 0 ff (nI (t + (j1 + j2) + 1))
    rw [fdW_cat j2, if_neg (by omega), show j1 + j2 - j1 = j2 by omega, show t + j1 + j2 = t + (j1 + j2) by omega]
theorem fd_sh : ∀ j, j < 20 → (24 - (8 * (nI j - nI j / 4 * 4)) : Int32) = nI (24 - 8 * (j % 4)) := by decide +kernel
theorem m_feedL {N t : Nat} {a b c d e : Int32} {Ω : zo_O} (h0 : gI Ω 1 0 54 = nI t) (ht : t + 20 ≤ 300) : ∀ m j n, j + m = 20 → m < n → fn_X2_feed_20 N n a b c d e (nI j) (fdW Ω 34 1 54 t (fdF a b c d e) j) = some (some (vi (nI (t + 20))), fdW Ω 34 1 54 t (fdF a b c d e) 20, 0, 0) := by
  intro m
  induction m with
  | zero =>
    intro j n hj hn
    obtain ⟨n, rfl⟩ : ∃ n', n = n' + 1 := ⟨n - 1, by omega⟩
    obtain rfl : j = 20 := by omega
    show bd_X2_feed_20 N _ a b c d e (nI 20) _ = _
    unfold bd_X2_feed_20
    rw [if_pos (show (20 : Int32) ≤ nI 20 by decide), fdW_I (by decide), if_pos (by omega)]
    rfl
  | succ m ih =>
    intro j n hj hn
    obtain ⟨n, rfl⟩ : ∃ n', n = n' + 1 := ⟨n - 1, by omega⟩
    have hT : gI (fdW Ω 34 1 54 t (fdF a b c d e) j) 1 0 54 = nI (t + j) := by
      rw [fdW_I (by decide)]
      by_cases hz : 0 < j
      · rw [if_pos (by omega)]
      · rw [if_neg (by omega), if_neg (by omega), h0, show j = 0 by omega]; rfl
    have key : ∀ w, fdB w (j % 4) = fdF a b c d e j → fn_X2_feed_73 N (fn_X2_feed_20 N n) a b c d e (nI j) w (fdW Ω 34 1 54 t (fdF a b c d e) j) = some (some (vi (nI (t + 20))), fdW Ω 34 1 54 t (fdF a b c d e) 20, 0, 0) := by
      intro w hw
      unfold fn_X2_feed_73
      rw [hT]
      simp only [gd, lt, ix_n (show t + j < 300 by omega) (by decide), gI_sI, hT, fd_sh j (by omega)]
      have := ih (j + 1) n (by omega) (by omega)
      rw [← this, nI_1]
      show (if ¬ (4 : Int32) = 0 then _ else none) = _
      rw [if_pos (by decide)]
      show fn_X2_feed_20 N n a b c d e (nI (j + 1)) (sI (sI (fdW Ω 34 1 54 t (fdF a b c d e) j) 34 0 (t + j) (fdB w (j % 4))) 1 0 54 (nI (t + j) + 1)) = _
      rw [hw, nI_1]
      rfl
    show bd_X2_feed_20 N (fn_X2_feed_20 N n) a b c d e (nI j) _ = _
    unfold bd_X2_feed_20
    have l4 : (4 ≤ nI j) ↔ 4 ≤ j := nI_leI (a := 4) (by decide) (by omega)
    have l8 : (8 ≤ nI j) ↔ 8 ≤ j := nI_leI (a := 8) (by decide) (by omega)
    have l12 : (12 ≤ nI j) ↔ 12 ≤ j := nI_leI (a := 12) (by decide) (by omega)
    have l16 : (16 ≤ nI j) ↔ 16 ≤ j := nI_leI (a := 16) (by decide) (by omega)
    have l20 : (20 ≤ nI j) ↔ 20 ≤ j := nI_leI (a := 20) (by decide) (by omega)
    simp only [l4, l8, l12, l16, l20]
    rw [if_neg (by omega)]
    by_cases c1 : 4 ≤ j
    · rw [if_pos c1]
      by_cases c2 : 8 ≤ j
      · rw [if_pos c2]
        by_cases c3 : 12 ≤ j
        · rw [if_pos c3]
          by_cases c4 : 16 ≤ j
          · rw [if_pos c4]; exact key _ (by unfold fdF; rw [if_neg (by omega), if_neg (by omega), if_neg (by omega), if_neg (by omega)])
          · rw [if_neg c4]; exact key _ (by unfold fdF; rw [if_neg (by omega), if_neg (by omega), if_neg (by omega), if_pos (by omega)])
        · rw [if_neg c3]; exact key _ (by unfold fdF; rw [if_neg (by omega), if_neg (by omega), if_pos (by omega)])
      · rw [if_neg c2]; exact key _ (by unfold fdF; rw [if_neg (by omega), if_pos (by omega)])
    · rw [if_neg c1]; exact key _ (by unfold fdF; rw [if_pos (by omega)])
