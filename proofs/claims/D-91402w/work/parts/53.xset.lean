/-! ===== X: the simple calls ===== -/
def tks (k n : Nat) : List zo_T := (List.range n).map (fun i => (k, i))
theorem tks_len {k n : Nat} : (tks k n).length = n := by simp [tks]
theorem tks_succ {k n : Nat} : tks k n ++ [(k, n)] = tks k (n + 1) := by simp [tks, List.range_succ]
theorem tks_get {k n i : Nat} (h : i < n) : (tks k n)[i]? = some (k, i) := by simp [tks, h]
theorem tks_all {k n : Nat} (hk : k < 20) : (tks k n).all (fun t => decide (t.1 < 20)) = true := by simp [tks, hk]
theorem ad_mk {v : Option zo_V} {Ω : zo_O} {c s a b : Nat} : ad a b (some (v, Ω, c, s)) = some (v, Ω, c + a, s + b) := rfl
theorem ci_mk2 {x : Int32} {Ω : zo_O} {c s : Nat} {F : Int32 → zo_O → Option zo_R} : ci (some (some (vi x), Ω, c, s)) F = ad c s (F x Ω) := rfl
theorem cr_mk {o : Option zo_T} {Ω : zo_O} {F : Option zo_T → zo_O → Option zo_R} : cr (some (some (vo o), Ω, 0, 0)) F = F o Ω := ad_0 _
theorem bk_mk {k n : Nat} {F : Nat → Option zo_R} : bk (some (k, n)) k F = F n := if_pos rfl
theorem x_in (N : Nat) (v lo hi : Int32) (Ω : zo_O) : fn_X1_in N v lo hi Ω = some (some (vi (if lo ≤ v ∧ v ≤ hi then 1 else 0)), Ω, 0, 0) := by
  unfold fn_X1_in fn_X1_in_14 fn_X1_in_15
  by_cases h1 : v < lo
  · rw [if_pos h1, if_neg (by grind)]; rfl
  · by_cases h2 : hi < v
    · rw [if_neg h1, if_pos h2, if_neg (by grind)]; rfl
    · rw [if_neg h1, if_neg h2, if_pos (by grind)]; rfl
theorem x_size (N l : Nat) (Ω : zo_O) : fn_J2_size N l Ω = some (some (vi (nI (gS Ω l).length)), Ω, 0, 0) := rfl
theorem x_get {N l i : Nat} {Ω : zo_O} (h : i < (gS Ω l).length) (h2 : (gS Ω l).length < 2147483648) : fn_J2_get N l (nI i) Ω = some (some (vo ((gS Ω l)[i]?)), Ω, 0, 0) := by
  unfold fn_J2_get fn_J6_checkIndex fn_J7_checkIndex fn_J2_elementData
  rw [if_neg (nI_pos (by omega)), if_pos (nI_lt h h2)]
  simp only [rI, ci_mk, ix_n h h2, rR, cr_mk]
theorem x_add {N l k n : Nat} {Ω : zo_O} (h : gS Ω l = tks k n) (hk : k < 20) (hn : n ≤ 30000) : fn_J2_add N l (some (k, n)) Ω = some (some (vi 1), sS Ω l (tks k (n + 1)), zo_kc n, zo_ks n) := by
  unfold fn_J2_add
  simp only [h, tks_succ, tks_len, tks_all hk, gd]
  rw [if_pos ⟨trivial, hn⟩]
theorem x_isYear (N : Nat) (v : Int32) (Ω : zo_O) : fn_X1_isYear N v Ω = some (some (vi (if 1000 ≤ v ∧ v ≤ 2100 then 1 else 0)), Ω, 0, 0) := by
  simp only [fn_X1_isYear, x_in, ci_mk, rZ_b]
theorem x_isSite (N : Nat) (v : Int32) (Ω : zo_O) : fn_X1_isSite N v Ω = some (some (vi (if 0 ≤ v ∧ v ≤ nI (gS Ω 0).length - 1 then 1 else 0)), Ω, 0, 0) := by
  simp only [fn_X1_isSite, x_in, x_size, ci_mk, rZ_b]
theorem x_isKnown (N : Nat) (v : Int32) (Ω : zo_O) : fn_X1_isKnown N v Ω = some (some (vi (if 0 ≤ v ∧ v ≤ gI Ω 0 0 8 then 1 else 0)), Ω, 0, 0) := by
  simp only [fn_X1_isKnown, x_in, ci_mk, rZ_b]
theorem x_isKind (N : Nat) (v : Int32) (Ω : zo_O) : fn_X1_isKind N v Ω = some (some (vi (if 0 ≤ v ∧ v ≤ 2 then 1 else 0)), Ω, 0, 0) := by
  simp only [fn_X1_isKind, x_in, ci_mk, rZ_b]
theorem x_isMeasurer (N : Nat) (v : Int32) (Ω : zo_O) : fn_X1_isMeasurer N v Ω = some (some (vi (if 0 ≤ v ∧ v ≤ 4 then 1 else 0)), Ω, 0, 0) := by
  simp only [fn_X1_isMeasurer, x_in, ci_mk, rZ_b]
theorem nI_ne {n m : Nat} (h : n < m) (hm : m < 2147483648) : ¬ nI n = nI m := fun q => by rw [nI_eq (by omega) (by omega)] at q; omega
def x_siteW (Ω : zo_O) (n : Nat) (a b p y : Int32) : zo_O := sS (sI (sI (sI (sI (sI (sI (nw Ω 2 0) 2 n 0 (gI Ω 0 0 8)) 2 n 1 (nI n)) 2 n 2 a) 2 n 3 b) 2 n 4 p) 2 n 5 y) 0 (tks 2 (n + 1))
theorem x_site (N n : Nat) (a b p y : Int32) (Ω : zo_O) (hS : gS Ω 0 = tks 2 n) (hC : gC Ω 2 = n) (h14 : n ≤ 14) : fn_X1_site N a b p y Ω = if ((0 ≤ a ∧ a ≤ 1) ∧ (0 ≤ b ∧ b ≤ 2) ∧ (0 ≤ p ∧ p ≤ 999) ∧ (y = -1 ∨ (1000 ≤ y ∧ y ≤ 2100))) ∧ n < 14 then some (some (vi (nI n)), x_siteW Ω n a b p y, zo_kc n + 1, zo_ks n + 6) else some (some (vi (-1)), Ω, 0, 0) := by
  have k1 : fn_X1_site_48 N a b p y 1 Ω = if n < 14 then some (some (vi (nI n)), x_siteW Ω n a b p y, zo_kc n + 1, zo_ks n + 6) else some (some (vi (-1)), Ω, 0, 0) := by
    unfold fn_X1_site_48 fn_X1_site_67
    simp only [x_size, hS, tks_len, ci_mk]
    by_cases h : n < 14
    · have hne : ¬ nI n = 14 := nI_ne h (by decide)
      have hl : gS (nw Ω 2 0) 0 = tks 2 n := by simp [gS_nw, hS]
      simp [hne, h, lt, fn_X4_init, fn_X3_init_2, cv_mk, rV, hl, tks_len, gI_nw, hC]
      rw [x_add (k := 2) (n := n) (by simp [gS_sI, hl]) (by decide) (by omega)]
      simp [ci_mk2, gS_sS, tks_len, rI, nI_pred, ad_mk, x_siteW]
    · have e : n = 14 := by omega
      subst e
      have hne : nI 14 = 14 := rfl
      simp [hne, rI]
  have k0 : fn_X1_site_48 N a b p y 0 Ω = some (some (vi (-1)), Ω, 0, 0) := rfl
  unfold fn_X1_site fn_X1_site_43 fn_X1_site_47
  simp only [x_in, x_isYear, ci_mk, if_10, k1, k0]
  grind
def x_obj4 (Ω : zo_O) (l k n : Nat) (a b p : Int32) : zo_O := sS (sI (sI (sI (sI (nw Ω k 0) k n 0 (gI Ω 0 0 8)) k n 1 a) k n 2 b) k n 3 p) l (tks k (n + 1))
theorem x_looked (N n m : Nat) (a b p : Int32) (Ω : zo_O) (hm : gS Ω 0 = tks 2 m) (hS : gS Ω 2 = tks 4 n) (hC : gC Ω 4 = n) (h14 : n ≤ 100) : fn_X1_looked N a b p Ω = if ((0 ≤ a ∧ a ≤ nI m - 1) ∧ (0 ≤ b ∧ b ≤ 2) ∧ (0 ≤ p ∧ p ≤ 999)) ∧ n < 100 then some (some (vi 1), x_obj4 Ω 2 4 n a b p, zo_kc n + 1, zo_ks n + 4) else some (some (vi 0), Ω, 0, 0) := by
  unfold fn_X1_looked fn_X1_looked_38
  simp only [x_size, x_in, x_isSite, x_isKind, hS, hm, tks_len, ci_mk, if_10]
  by_cases h : n < 100
  · have hne : ¬ nI n = 100 := nI_ne h (by decide)
    have hl : gS (nw Ω 4 0) 2 = tks 4 n := by simp [gS_nw, hS]
    simp [hne, h, lt, fn_X6_init, fn_X3_init_4, cv_mk, rV, gI_nw, hC]
    rw [x_add (k := 4) (n := n) (by simp [gS_sI, hl]) (by decide) (by omega)]
    simp [ci_mk2, rZ_0, rZ_1, ad_mk, x_obj4]
    grind
  · have e : n = 100 := by omega
    subst e
    have hne : nI 100 = 100 := rfl
    simp [hne, rZ_0]
theorem x_twice (N n m : Nat) (a sa b sb : Int32) (Ω : zo_O) (hm : gS Ω 0 = tks 2 m) (hS : gS Ω 3 = tks 5 n) (hC : gC Ω 5 = n) (h14 : n ≤ 40) : fn_X1_twice N a sa b sb Ω = if ((0 ≤ a ∧ a ≤ 4) ∧ (0 ≤ b ∧ b ≤ 4) ∧ a ≠ b ∧ (1 ≤ sa ∧ sa ≤ 2000) ∧ (1 ≤ sb ∧ sb ≤ 2000)) ∧ n < 40 then some (some (vi 1), x_obj4 Ω 3 5 n a b (sa - sb), zo_kc n + 1, zo_ks n + 4) else some (some (vi 0), Ω, 0, 0) := by
  unfold fn_X1_twice fn_X1_twice_54
  simp only [x_size, x_in, x_isSite, x_isKind, x_isYear, x_isMeasurer, hS, hm, tks_len, ci_mk, if_10]
  by_cases h : n < 40
  · have hne : ¬ nI n = 40 := nI_ne h (by decide)
    have hl : gS (nw Ω 5 0) 3 = tks 5 n := by simp [gS_nw, hS]
    simp [hne, h, lt, fn_X7_init, fn_X3_init_5, cv_mk, rV, gI_nw, hC]
    rw [x_add (k := 5) (n := n) (by simp [gS_sI, hl]) (by decide) (by omega)]
    simp [ci_mk2, rZ_0, rZ_1, ad_mk, x_obj4]
    grind
  · have e : n = 40 := by omega
    subst e
    have hne : nI 40 = 40 := rfl
    simp [hne, rZ_0]
theorem x_witness (N n m : Nat) (a b p : Int32) (Ω : zo_O) (hm : gS Ω 0 = tks 2 m) (hS : gS Ω 4 = tks 6 n) (hC : gC Ω 6 = n) (h14 : n ≤ 20) : fn_X1_witness N a b p Ω = if ((0 ≤ a ∧ a ≤ nI m - 1) ∧ (1000 ≤ b ∧ b ≤ 2100) ∧ (1000 ≤ p ∧ p ≤ 2100) ∧ b ≤ p) ∧ n < 20 then some (some (vi 1), x_obj4 Ω 4 6 n a b p, zo_kc n + 1, zo_ks n + 4) else some (some (vi 0), Ω, 0, 0) := by
  unfold fn_X1_witness fn_X1_witness_39
  simp only [x_size, x_in, x_isSite, x_isKind, x_isYear, x_isMeasurer, hS, hm, tks_len, ci_mk, if_10]
  by_cases h : n < 20
  · have hne : ¬ nI n = 20 := nI_ne h (by decide)
    have hl : gS (nw Ω 6 0) 4 = tks 6 n := by simp [gS_nw, hS]
    simp [hne, h, lt, fn_X8_init, fn_X3_init_6, cv_mk, rV, gI_nw, hC]
    rw [x_add (k := 6) (n := n) (by simp [gS_sI, hl]) (by decide) (by omega)]
    simp [ci_mk2, rZ_0, rZ_1, ad_mk, x_obj4]
    grind
  · have e : n = 20 := by omega
    subst e
    have hne : nI 20 = 20 := rfl
    simp [hne, rZ_0]
theorem x_order (N n m : Nat) (a b p : Int32) (Ω : zo_O) (hm : gS Ω 0 = tks 2 m) (hS : gS Ω 5 = tks 7 n) (hC : gC Ω 7 = n) (h14 : n ≤ 40) : fn_X1_order N a b p Ω = if ((0 ≤ a ∧ a ≤ nI m - 1) ∧ (0 ≤ b ∧ b ≤ nI m - 1) ∧ a ≠ b ∧ (0 ≤ p ∧ p ≤ 500)) ∧ n < 40 then some (some (vi 1), x_obj4 Ω 5 7 n a b p, zo_kc n + 1, zo_ks n + 4) else some (some (vi 0), Ω, 0, 0) := by
  unfold fn_X1_order fn_X1_order_44
  simp only [x_size, x_in, x_isSite, x_isKind, x_isYear, x_isMeasurer, hS, hm, tks_len, ci_mk, if_10]
  by_cases h : n < 40
  · have hne : ¬ nI n = 40 := nI_ne h (by decide)
    have hl : gS (nw Ω 7 0) 5 = tks 7 n := by simp [gS_nw, hS]
    simp [hne, h, lt, fn_X9_init, fn_X3_init_7, cv_mk, rV, gI_nw, hC]
    rw [x_add (k := 7) (n := n) (by simp [gS_sI, hl]) (by decide) (by omega)]
    simp [ci_mk2, rZ_0, rZ_1, ad_mk, x_obj4]
    grind
  · have e : n = 40 := by omega
    subst e
    have hne : nI 40 = 40 := rfl
    simp [hne, rZ_0]
theorem x_house (N : Nat) (a b p : Int32) (Ω : zo_O) : fn_X1_house N a b p Ω = if (0 ≤ a ∧ a ≤ 30) ∧ (1 ≤ b ∧ b ≤ 40) ∧ (1 ≤ p ∧ p ≤ 999) then some (some (vi 1), sI (sI (sI Ω 0 0 9 a) 0 0 10 b) 0 0 11 p, 0, 0) else some (some (vi 0), Ω, 0, 0) := by
  unfold fn_X1_house fn_X1_house_31
  simp [lt, x_in, ci_mk, if_10, rZ_0, rZ_1]
  grind
theorem x_delay (N : Nat) (a b : Int32) (Ω : zo_O) : fn_X1_delay N a b Ω = if (0 ≤ a ∧ a ≤ 2) ∧ (0 ≤ b ∧ b ≤ 60) then some (some (vi 1), sI Ω 43 0 a.toNatClampNeg b, 0, 0) else some (some (vi 0), Ω, 0, 0) := by
  unfold fn_X1_delay fn_X1_delay_17
  simp only [lt, x_in, x_isKind, ci_mk, if_10, rZ_0, rZ_1]
  by_cases h : 0 ≤ a ∧ a ≤ 2
  · obtain ⟨j, hj, rfl⟩ := nI_of2 (x := a) (M := 2) (n := 2) rfl (by grind) h.2
    simp only [h, ix_n (show j < 3 by omega) (by decide), nI_clamp (show j < 2 ^ 31 by omega)]
    grind
  · simp [h]
theorem x_day (N : Nat) (a : Int32) (Ω : zo_O) : fn_X1_day N a Ω = if (0 ≤ a ∧ a ≤ 1000) ∧ gI Ω 0 0 8 + a ≤ 100000 then some (some (vi (gI Ω 0 0 8 + a)), sI Ω 0 0 8 (gI Ω 0 0 8 + a), 0, 0) else some (some (vi (-1)), Ω, 0, 0) := by
  unfold fn_X1_day fn_X1_day_22
  simp [lt, x_in, ci_mk, if_10, rI, gI_sI]
  grind
theorem x_end (N : Nat) (a : Int32) (Ω : zo_O) : fn_X1_end N a Ω = if 0 ≤ a ∧ a ≤ gI Ω 0 0 13 then some (some (vi a), sI Ω 0 0 13 a, 0, 0) else some (some (vi (-1)), Ω, 0, 0) := by
  unfold fn_X1_end
  simp [lt, x_in, ci_mk, if_10, rI, gI_sI]
  grind
theorem x_place (N : Nat) (Ω : zo_O) : fn_X1_place N Ω = some (some (vi (gI Ω 0 0 14)), Ω, 0, 0) := rfl
theorem nI_between {x : Int32} {n : Nat} (hn : n < 2147483648) (h : 0 ≤ x ∧ x ≤ nI n - 1) : ∃ j, j < n ∧ x = nI j := by
  rcases Nat.eq_zero_or_pos n with rfl | hp
  · have : nI 0 = 0 := rfl
    grind
  · have hcp : nI n - 1 = nI (n - 1) := by
      have := nI_pred (n - 1)
      rw [show n - 1 + 1 = n by omega] at this
      exact this
    obtain ⟨j, hj, rfl⟩ := nI_of2 (x := x) (M := nI (n - 1)) (n := n - 1) (nI_toInt (by omega)) (by grind) (by rw [← hcp]; exact h.2)
    exact ⟨j, by omega, rfl⟩
def x_circleW (Ω : zo_O) (n s : Nat) (b p q r y g : Int32) : zo_O := sS (sI (sI (sI (sI (sI (sI (sR (sI (nw Ω 3 0) 3 n 0 (gI Ω 0 0 8)) 3 n 6 (some (2, s))) 3 n 1 b) 3 n 2 p) 3 n 3 q) 3 n 4 r) 3 n 5 y) 3 n 7 g) 1 (tks 3 (n + 1))
theorem x_circle (N n m : Nat) (a b p q r y g : Int32) (Ω : zo_O) (hm : gS Ω 0 = tks 2 m) (hm2 : m ≤ 14) (hS : gS Ω 1 = tks 3 n) (hC : gC Ω 3 = n) (h14 : n ≤ 120) (hg : g = 0 ∨ g = 1) : fn_X1_circle N a b p q r y g Ω = if ((0 ≤ a ∧ a ≤ nI m - 1) ∧ (0 ≤ b ∧ b ≤ 2) ∧ (0 ≤ p ∧ p ≤ 4) ∧ (1 ≤ q ∧ q ≤ 2000) ∧ (1 ≤ r ∧ r ≤ q) ∧ (1000 ≤ y ∧ y ≤ 2100)) ∧ n < 120 then some (some (vi (nI n)), x_circleW Ω n a.toNatClampNeg b p q r y g, zo_kc n + 1, zo_ks n + 8) else some (some (vi (-1)), Ω, 0, 0) := by
  have k1 : ∀ j, j < m → a = nI j → fn_X1_circle_58 N a b p q r y g 1 Ω = if n < 120 then some (some (vi (nI n)), x_circleW Ω n a.toNatClampNeg b p q r y g, zo_kc n + 1, zo_ks n + 8) else some (some (vi (-1)), Ω, 0, 0) := by
    rintro j hj rfl
    unfold fn_X1_circle_58 fn_X1_circle_77
    simp only [x_size, hS, tks_len, ci_mk]
    by_cases h : n < 120
    · have hne : ¬ nI n = 120 := nI_ne h (by decide)
      have hl : gS (nw Ω 3 0) 1 = tks 3 n := by simp [gS_nw, hS]
      have hl0 : gS (nw Ω 3 0) 0 = tks 2 m := by simp [gS_nw, hm]
      simp [hne, h, lt]
      rw [x_get (by rw [hl0, tks_len]; exact hj) (by rw [hl0, tks_len]; omega)]
      simp [cr_mk, hl0, tks_get hj, bk_mk, fn_X5_init, fn_X3_init_3, cv_mk, rV, lt, gd, hg, gI_nw, hC]
      rw [x_add (k := 3) (n := n) (by simp [gS_sI, gS_sR, hl]) (by decide) (by omega)]
      simp [ci_mk2, gS_sS, tks_len, rI, nI_pred, ad_mk, x_circleW, nI_clamp (show j < 2 ^ 31 by omega)]
    · have e : n = 120 := by omega
      subst e
      have hne : nI 120 = 120 := rfl
      simp [hne, rI]
  have k0 : fn_X1_circle_58 N a b p q r y g 0 Ω = some (some (vi (-1)), Ω, 0, 0) := rfl
  unfold fn_X1_circle fn_X1_circle_57
  simp only [x_in, x_isYear, x_isSite, x_isKind, x_isMeasurer, hm, tks_len, ci_mk, if_10, k0]
  by_cases ha : 0 ≤ a ∧ a ≤ nI m - 1
  · obtain ⟨j, hj, e⟩ := nI_between (by omega) ha
    rw [k1 j hj e]
    grind
  · simp [ha]
def x_againW (Ω : zo_O) (n : Nat) (a b : Int32) : zo_O := sS (sI (sI (sI (nw Ω 8 0) 8 n 0 (gI Ω 0 0 8)) 8 n 1 a) 8 n 2 b) 6 (tks 8 (n + 1))
theorem x_again (N n c : Nat) (sc : Nat → Nat) (a b : Int32) (Ω : zo_O) (hc : gS Ω 1 = tks 3 c) (hc2 : c ≤ 120) (hS : gS Ω 6 = tks 8 n) (hC : gC Ω 8 = n) (h14 : n ≤ 30) (hsc : ∀ i, i < c → gR Ω 3 i 6 = some (2, sc i)) : fn_X1_again N a b Ω = if ((0 ≤ a ∧ a ≤ nI c - 1) ∧ (0 ≤ b ∧ b ≤ nI c - 1) ∧ sc a.toNatClampNeg = sc b.toNatClampNeg ∧ gI Ω 3 a.toNatClampNeg 1 = gI Ω 3 b.toNatClampNeg 1 ∧ gI Ω 3 a.toNatClampNeg 5 < gI Ω 3 b.toNatClampNeg 5) ∧ n < 30 then some (some (vi (nI n)), x_againW Ω n a b, zo_kc n + 1, zo_ks n + 3) else some (some (vi (-1)), Ω, 0, 0) := by
  unfold fn_X1_again fn_X1_again_46 fn_X1_again_109
  simp only [x_size, x_in, hc, hS, tks_len, ci_mk, if_10, rI]
  by_cases h1 : 0 ≤ a ∧ a ≤ nI c - 1
  · by_cases h2 : 0 ≤ b ∧ b ≤ nI c - 1
    · obtain ⟨j, hj, rfl⟩ := nI_between (by omega) h1
      obtain ⟨k, hk, rfl⟩ := nI_between (by omega) h2
      by_cases h : n < 30
      · have hne : ¬ nI n = 30 := nI_ne h (by decide)
        have hl : gS (nw Ω 8 0) 6 = tks 8 n := by simp [gS_nw, hS]
        rw [x_get (by rw [hc, tks_len]; exact hj) (by rw [hc, tks_len]; omega)]
        simp only [cr_mk, hc, tks_get hj, bk_mk]
        rw [x_get (by rw [hc, tks_len]; exact hk) (by rw [hc, tks_len]; omega)]
        simp only [cr_mk, hc, tks_get hk, bk_mk, hsc j hj, hsc k hk]
        simp only [nI_clamp (show j < 2 ^ 31 by omega), nI_clamp (show k < 2 ^ 31 by omega)]
        simp [h1, h2, hne, h, lt, fn_X10_init, fn_X3_init_8, cv_mk, rV, gI_nw, hC]
        rw [x_add (k := 8) (n := n) (by simp [gS_sI, hl]) (by decide) (by omega)]
        simp [ci_mk2, gS_sS, tks_len, rI, nI_pred, ad_mk, x_againW]
        grind
      · have e : n = 30 := by omega
        subst e
        have hne : nI 30 = 30 := rfl
        simp [h1, h2, hne]
    · simp [h1, h2]
  · simp [h1]
