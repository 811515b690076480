/-! ===== M: the simple calls ===== -/
theorem m_within (N : Nat) (v lo hi : Int32) (Ω : zo_O) : fn_X2_within N v lo hi Ω = some (some (vi (if lo ≤ v ∧ v ≤ hi then 1 else 0)), Ω, 0, 0) := by
  unfold fn_X2_within fn_X2_within_14 fn_X2_within_15
  by_cases h1 : v < lo
  · rw [if_pos h1, if_neg (by grind)]; rfl
  · by_cases h2 : hi < v
    · rw [if_neg h1, if_pos h2, if_neg (by grind)]; rfl
    · rw [if_neg h1, if_neg h2, if_pos (by grind)]; rfl
theorem m_isYear (N : Nat) (v : Int32) (Ω : zo_O) : fn_X2_isYear N v Ω = some (some (vi (if 1000 ≤ v ∧ v ≤ 2100 then 1 else 0)), Ω, 0, 0) := by
  simp only [fn_X2_isYear, m_within, ci_mk, rZ_b]
theorem m_isSite (N : Nat) (v : Int32) (Ω : zo_O) : fn_X2_isSite N v Ω = some (some (vi (if 0 ≤ v ∧ v ≤ gI Ω 1 0 2 - 1 then 1 else 0)), Ω, 0, 0) := by
  simp only [fn_X2_isSite, m_within, ci_mk, rZ_b]
theorem m_isKnown (N : Nat) (v : Int32) (Ω : zo_O) : fn_X2_isKnown N v Ω = some (some (vi (if 0 ≤ v ∧ v ≤ gI Ω 1 0 1 then 1 else 0)), Ω, 0, 0) := by
  simp only [fn_X2_isKnown, m_within, ci_mk, rZ_b]
theorem m_isKind (N : Nat) (v : Int32) (Ω : zo_O) : fn_X2_isKind N v Ω = some (some (vi (if 0 ≤ v ∧ v ≤ 2 then 1 else 0)), Ω, 0, 0) := by
  simp only [fn_X2_isKind, m_within, ci_mk, rZ_b]
theorem m_isSize (N : Nat) (v : Int32) (Ω : zo_O) : fn_X2_isSize N v Ω = some (some (vi (if 1 ≤ v ∧ v ≤ 2000 then 1 else 0)), Ω, 0, 0) := by
  simp only [fn_X2_isSize, m_within, ci_mk, rZ_b]
theorem m_isCircle (N : Nat) (v : Int32) (Ω : zo_O) : fn_X2_isCircle N v Ω = some (some (vi (if 0 ≤ v ∧ v ≤ gI Ω 1 0 8 - 1 then 1 else 0)), Ω, 0, 0) := by
  simp only [fn_X2_isCircle, m_within, ci_mk, rZ_b]
def m_siteW (Ω : zo_O) (n : Nat) (a b p y : Int32) : zo_O := sI (sI (sI (sI (sI (sI (sI Ω 1 0 0 0) 32 0 n a) 32 1 n b) 32 2 n p) 32 3 n y) 32 4 n (gI Ω 1 0 1)) 1 0 2 (nI (n + 1))
theorem m_site (N n : Nat) (a b p y : Int32) (Ω : zo_O) (hn : gI Ω 1 0 2 = nI n) (h14 : n ≤ 14) : fn_X2_site N a b p y Ω = if ((0 ≤ a ∧ a ≤ 1) ∧ (0 ≤ b ∧ b ≤ 2) ∧ (0 ≤ p ∧ p ≤ 999) ∧ (y = -1 ∨ (1000 ≤ y ∧ y ≤ 2100))) ∧ n < 14 then some (some (vi (nI n)), m_siteW Ω n a b p y, 0, 0) else some (some (vi (-1)), sI Ω 1 0 0 0, 0, 0) := by
  have key : ∀ Ω', Ω' = sI Ω 1 0 0 0 → fn_X2_site_48 N a b p y Ω' = if n < 14 then some (some (vi (nI n)), m_siteW Ω n a b p y, 0, 0) else some (some (vi (-1)), sI Ω 1 0 0 0, 0, 0) := by
    rintro _ rfl
    unfold fn_X2_site_48
    have e : gI (sI Ω 1 0 0 0) 1 0 2 = nI n := hn
    rw [e]
    by_cases h : n < 14
    · have hne : ¬ nI n = 14 := show ¬ nI n = nI 14 from fun q => by rw [nI_eq (by omega) (by omega)] at q; omega
      rw [if_neg hne, if_pos h]
      simp only [lt, ix_n h (by decide), gI_sI, hn, rI]
      simp [hn, ix_n h, m_siteW, nI_1, gI_sI, rI, nI_pred]
    · rw [if_pos (show nI n = 14 by rw [show n = 14 by omega]; rfl), if_neg h]
      rfl
  unfold fn_X2_site
  simp only [lt, m_within, m_isYear, ci_mk, if_10]
  rw [key _ rfl]
  unfold fn_X2_site_57 rI
  grind
def m_circleW (Ω : zo_O) (n : Nat) (a b p q r y g : Int32) : zo_O := sI (sI (sI (sI (sI (sI (sI (sI (sI (sI Ω 1 0 0 0) 32 5 n a) 32 6 n b) 32 7 n p) 32 8 n q) 32 9 n r) 32 10 n y) 33 0 n (vp_nar .boolean g)) 32 11 n (gI Ω 1 0 1)) 1 0 8 (nI (n + 1))
theorem m_circle (N n : Nat) (a b p q r y g : Int32) (Ω : zo_O) (hn : gI Ω 1 0 8 = nI n) (h14 : n ≤ 120) : fn_X2_circle N a b p q r y g Ω = if ((0 ≤ a ∧ a ≤ gI Ω 1 0 2 - 1) ∧ (0 ≤ b ∧ b ≤ 2) ∧ (0 ≤ p ∧ p ≤ 4) ∧ (1 ≤ q ∧ q ≤ 2000) ∧ (1 ≤ r ∧ r ≤ q) ∧ (1000 ≤ y ∧ y ≤ 2100)) ∧ n < 120 then some (some (vi (nI n)), m_circleW Ω n a b p q r y g, 0, 0) else some (some (vi (-1)), sI Ω 1 0 0 0, 0, 0) := by
  unfold fn_X2_circle fn_X2_circle_65
  by_cases h : n < 120
  · have hne : ¬ nI n = 120 := show ¬ nI n = nI 120 from fun q => by rw [nI_eq (by omega) (by omega)] at q; omega
    simp [lt, m_within, m_isYear, m_isSite, m_isKind, m_isSize, ci_mk, if_10, gI_sI, hn, ix_n h, nI_1, nI_pred, rI, hne, h, m_circleW]
    grind
  · have e : n = 120 := by omega
    subst e
    have hne : nI 120 = 120 := rfl
    simp [lt, m_within, m_isYear, m_isSite, m_isKind, m_isSize, ci_mk, if_10, gI_sI, hn, rI, hne]
def m_lookedW (Ω : zo_O) (n : Nat) (a b p : Int32) : zo_O := sI (sI (sI (sI (sI (sI Ω 1 0 0 0) 32 12 n a) 32 13 n b) 32 14 n p) 32 15 n (gI Ω 1 0 1)) 1 0 17 (nI (n + 1))
theorem m_looked (N n : Nat) (a b p : Int32) (Ω : zo_O) (hn : gI Ω 1 0 17 = nI n) (h14 : n ≤ 100) : fn_X2_looked N a b p Ω = if ((0 ≤ a ∧ a ≤ gI Ω 1 0 2 - 1) ∧ (0 ≤ b ∧ b ≤ 2) ∧ (0 ≤ p ∧ p ≤ 999)) ∧ n < 100 then some (some (vi 1), m_lookedW Ω n a b p, 0, 0) else some (some (vi 0), sI Ω 1 0 0 0, 0, 0) := by
  unfold fn_X2_looked fn_X2_looked_40
  by_cases h : n < 100
  · have hne : ¬ nI n = 100 := show ¬ nI n = nI 100 from fun q => by rw [nI_eq (by omega) (by omega)] at q; omega
    simp [lt, m_within, m_isYear, m_isSite, m_isKind, m_isSize, ci_mk, if_10, gI_sI, hn, ix_n h, nI_1, rZ_0, rZ_1, hne, h, m_lookedW]
    grind
  · have e : n = 100 := by omega
    subst e
    have hne : nI 100 = 100 := rfl
    simp [lt, m_within, m_isYear, m_isSite, m_isKind, m_isSize, ci_mk, if_10, gI_sI, hn, rZ_0, hne]
def m_twiceW (Ω : zo_O) (n : Nat) (a sa b sb : Int32) : zo_O := sI (sI (sI (sI (sI (sI Ω 1 0 0 0) 32 16 n a) 32 17 n b) 32 18 n (sa - sb)) 32 19 n (gI Ω 1 0 1)) 1 0 22 (nI (n + 1))
theorem m_twice (N n : Nat) (a sa b sb : Int32) (Ω : zo_O) (hn : gI Ω 1 0 22 = nI n) (h14 : n ≤ 40) : fn_X2_twice N a sa b sb Ω = if ((0 ≤ a ∧ a ≤ 4) ∧ (0 ≤ b ∧ b ≤ 4) ∧ a ≠ b ∧ (1 ≤ sa ∧ sa ≤ 2000) ∧ (1 ≤ sb ∧ sb ≤ 2000)) ∧ n < 40 then some (some (vi 1), m_twiceW Ω n a sa b sb, 0, 0) else some (some (vi 0), sI Ω 1 0 0 0, 0, 0) := by
  unfold fn_X2_twice fn_X2_twice_52
  by_cases h : n < 40
  · have hne : ¬ nI n = 40 := show ¬ nI n = nI 40 from fun q => by rw [nI_eq (by omega) (by omega)] at q; omega
    simp [lt, m_within, m_isYear, m_isSite, m_isKind, m_isSize, ci_mk, if_10, gI_sI, hn, ix_n h, nI_1, rZ_0, rZ_1, hne, h, m_twiceW]
    grind
  · have e : n = 40 := by omega
    subst e
    have hne : nI 40 = 40 := rfl
    simp [lt, m_within, m_isYear, m_isSite, m_isKind, m_isSize, ci_mk, if_10, gI_sI, hn, rZ_0, hne]
def m_witnessW (Ω : zo_O) (n : Nat) (a b p : Int32) : zo_O := sI (sI (sI (sI (sI (sI Ω 1 0 0 0) 32 20 n a) 32 21 n b) 32 22 n p) 32 23 n (gI Ω 1 0 1)) 1 0 27 (nI (n + 1))
theorem m_witness (N n : Nat) (a b p : Int32) (Ω : zo_O) (hn : gI Ω 1 0 27 = nI n) (h14 : n ≤ 20) : fn_X2_witness N a b p Ω = if ((0 ≤ a ∧ a ≤ gI Ω 1 0 2 - 1) ∧ (1000 ≤ b ∧ b ≤ 2100) ∧ (1000 ≤ p ∧ p ≤ 2100) ∧ b ≤ p) ∧ n < 20 then some (some (vi 1), m_witnessW Ω n a b p, 0, 0) else some (some (vi 0), sI Ω 1 0 0 0, 0, 0) := by
  unfold fn_X2_witness fn_X2_witness_41
  by_cases h : n < 20
  · have hne : ¬ nI n = 20 := show ¬ nI n = nI 20 from fun q => by rw [nI_eq (by omega) (by omega)] at q; omega
    simp [lt, m_within, m_isYear, m_isSite, m_isKind, m_isSize, ci_mk, if_10, gI_sI, hn, ix_n h, nI_1, rZ_0, rZ_1, hne, h, m_witnessW]
    grind
  · have e : n = 20 := by omega
    subst e
    have hne : nI 20 = 20 := rfl
    simp [lt, m_within, m_isYear, m_isSite, m_isKind, m_isSize, ci_mk, if_10, gI_sI, hn, rZ_0, hne]
def m_orderW (Ω : zo_O) (n : Nat) (a b p : Int32) : zo_O := sI (sI (sI (sI (sI (sI Ω 1 0 0 0) 32 24 n a) 32 25 n b) 32 26 n p) 32 27 n (gI Ω 1 0 1)) 1 0 32 (nI (n + 1))
theorem m_order (N n : Nat) (a b p : Int32) (Ω : zo_O) (hn : gI Ω 1 0 32 = nI n) (h14 : n ≤ 40) : fn_X2_order N a b p Ω = if ((0 ≤ a ∧ a ≤ gI Ω 1 0 2 - 1) ∧ (0 ≤ b ∧ b ≤ gI Ω 1 0 2 - 1) ∧ a ≠ b ∧ (0 ≤ p ∧ p ≤ 500)) ∧ n < 40 then some (some (vi 1), m_orderW Ω n a b p, 0, 0) else some (some (vi 0), sI Ω 1 0 0 0, 0, 0) := by
  unfold fn_X2_order fn_X2_order_46
  by_cases h : n < 40
  · have hne : ¬ nI n = 40 := show ¬ nI n = nI 40 from fun q => by rw [nI_eq (by omega) (by omega)] at q; omega
    simp [lt, m_within, m_isYear, m_isSite, m_isKind, m_isSize, ci_mk, if_10, gI_sI, hn, ix_n h, nI_1, rZ_0, rZ_1, hne, h, m_orderW]
    grind
  · have e : n = 40 := by omega
    subst e
    have hne : nI 40 = 40 := rfl
    simp [lt, m_within, m_isYear, m_isSite, m_isKind, m_isSize, ci_mk, if_10, gI_sI, hn, rZ_0, hne]
def m_houseW (Ω : zo_O) (a b p : Int32) : zo_O := sI (sI (sI (sI Ω 1 0 0 0) 1 0 41 a) 1 0 42 b) 1 0 43 p
theorem m_house (N : Nat) (a b p : Int32) (Ω : zo_O) : fn_X2_house N a b p Ω = if (0 ≤ a ∧ a ≤ 30) ∧ (1 ≤ b ∧ b ≤ 40) ∧ (1 ≤ p ∧ p ≤ 999) then some (some (vi 1), m_houseW Ω a b p, 0, 0) else some (some (vi 0), sI Ω 1 0 0 0, 0, 0) := by
  unfold fn_X2_house fn_X2_house_36
  simp [lt, m_within, ci_mk, if_10, rZ_0, rZ_1, m_houseW]
  grind
theorem m_delay (N : Nat) (a b : Int32) (Ω : zo_O) : fn_X2_delay N a b Ω = if (0 ≤ a ∧ a ≤ 2) ∧ (0 ≤ b ∧ b ≤ 60) then some (some (vi 1), sI (sI Ω 1 0 0 0) 32 31 a.toNatClampNeg b, 0, 0) else some (some (vi 0), sI Ω 1 0 0 0, 0, 0) := by
  unfold fn_X2_delay fn_X2_delay_22
  simp only [lt, m_within, m_isKind, ci_mk, if_10, rZ_0, rZ_1]
  by_cases h : 0 ≤ a ∧ a ≤ 2
  · obtain ⟨j, hj, rfl⟩ := nI_of2 (x := a) (M := 2) (n := 2) rfl (by grind) h.2
    simp only [h, ix_n (show j < 3 by omega) (by decide), nI_clamp (show j < 2 ^ 31 by omega)]
    grind
  · simp [h]
theorem m_day (N : Nat) (a : Int32) (Ω : zo_O) : fn_X2_day N a Ω = if (0 ≤ a ∧ a ≤ 1000) ∧ gI Ω 1 0 1 + a ≤ 100000 then some (some (vi (gI Ω 1 0 1 + a)), sI (sI Ω 1 0 0 0) 1 0 1 (gI Ω 1 0 1 + a), 0, 0) else some (some (vi (-1)), sI Ω 1 0 0 0, 0, 0) := by
  unfold fn_X2_day fn_X2_day_27
  simp [lt, m_within, ci_mk, if_10, rI, gI_sI]
  grind
theorem m_end (N : Nat) (a : Int32) (Ω : zo_O) : fn_X2_end N a Ω = if 0 ≤ a ∧ a ≤ gI Ω 1 0 54 then some (some (vi a), sI (sI Ω 1 0 0 0) 1 0 54 a, 0, 0) else some (some (vi (-1)), sI Ω 1 0 0 0, 0, 0) := by
  unfold fn_X2_end
  simp [lt, m_within, ci_mk, if_10, rI, gI_sI]
  grind
theorem m_place (N : Nat) (Ω : zo_O) : fn_X2_place N Ω = some (some (vi (gI Ω 1 0 56)), sI Ω 1 0 0 0, 0, 0) := by
  unfold fn_X2_place
  simp [lt, rI, gI_sI]
def m_againW (Ω : zo_O) (n : Nat) (a b : Int32) : zo_O := sI (sI (sI (sI (sI Ω 1 0 0 0) 32 28 n a) 32 29 n b) 32 30 n (gI Ω 1 0 1)) 1 0 37 (nI (n + 1))
theorem m_again (N n c : Nat) (a b : Int32) (Ω : zo_O) (hn : gI Ω 1 0 37 = nI n) (h14 : n ≤ 30) (hc : gI Ω 1 0 8 = nI c) (hc2 : c ≤ 120) : fn_X2_again N a b Ω = if ((0 ≤ a ∧ a ≤ nI c - 1) ∧ (0 ≤ b ∧ b ≤ nI c - 1) ∧ gI Ω 32 5 a.toNatClampNeg = gI Ω 32 5 b.toNatClampNeg ∧ gI Ω 32 6 a.toNatClampNeg = gI Ω 32 6 b.toNatClampNeg ∧ gI Ω 32 10 a.toNatClampNeg < gI Ω 32 10 b.toNatClampNeg) ∧ n < 30 then some (some (vi (nI n)), m_againW Ω n a b, 0, 0) else some (some (vi (-1)), sI Ω 1 0 0 0, 0, 0) := by
  unfold fn_X2_again fn_X2_again_75
  simp only [lt, m_isCircle, ci_mk, if_10, rI, gI_sI, hc]
  by_cases h1 : 0 ≤ a ∧ a ≤ nI c - 1
  · by_cases h2 : 0 ≤ b ∧ b ≤ nI c - 1
    · have hc1 : 0 < c := by
        rcases Nat.eq_zero_or_pos c with rfl | h
        · have : nI 0 = 0 := rfl
          grind
        · exact h
      have hcp : nI c - 1 = nI (c - 1) := by
        have := nI_pred (c - 1)
        rw [show c - 1 + 1 = c by omega] at this
        exact this
      obtain ⟨j, hj, rfl⟩ := nI_of2 (x := a) (M := nI (c - 1)) (n := c - 1) (nI_toInt (by omega)) (by grind) (by rw [← hcp]; exact h1.2)
      obtain ⟨k, hk, rfl⟩ := nI_of2 (x := b) (M := nI (c - 1)) (n := c - 1) (nI_toInt (by omega)) (by grind) (by rw [← hcp]; exact h2.2)
      by_cases h : n < 30
      · have hne : ¬ nI n = 30 := show ¬ nI n = nI 30 from fun q => by rw [nI_eq (by omega) (by omega)] at q; omega
        simp [h1, h2, gI_sI, hn, ix_n (show j < 120 by omega), ix_n (show k < 120 by omega), ix_n h, nI_clamp (show j < 2 ^ 31 by omega), nI_clamp (show k < 2 ^ 31 by omega), nI_1, nI_pred, hne, h, m_againW]
        grind
      · have e : n = 30 := by omega
        subst e
        have hne : nI 30 = 30 := rfl
        simp [h1, h2, gI_sI, hn, ix_n (show j < 120 by omega), ix_n (show k < 120 by omega), hne]
    · simp [h1, h2, gI_sI, hc]
  · simp [h1, gI_sI, hc]
