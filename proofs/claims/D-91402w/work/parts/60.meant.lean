/-! ===== a statement and the rule asked of a circle ===== -/
theorem nI_lit4 (s : Nat) : (4 : Int32) * nI s = nI (4 * s) := nI_mul 4 s
def xfin (N c : Nat) (kn a : Int32) (Ω : zo_O) : Option zo_R := if a = 0 then rZ 0 Ω else ci (fn_X3_isBy_3 N c kn Ω) fun r7 Ω6 => if r7 = 0 then rZ 0 Ω6 else ci (fn_X1_isLed N (gI Ω6 3 c 2) Ω6) fun r10 Ω9 => if r10 = 0 then rZ 0 Ω9 else rZ 1 Ω9
section U
variable {B Ω : zo_O} (hB : Bse B) (hw : Wx sS0 B Ω)
include hB
theorem rl_m : stn B ≤ 12 ∧ gI B 1 0 45 = nI (stn B) ∧ ∀ s, s < stn B → tc B s ≤ 4 ∧ gI B 32 32 s = nI (tc B s) ∧ (gI B 33 1 s = 0 ∨ gI B 33 1 s = 1) ∧ ∀ i, i < tc B s → (0 ≤ gI B 32 33 (4 * s + i) ∧ gI B 32 33 (4 * s + i) ≤ 9) ∧ (gI B 32 34 (4 * s + i) = 0 ∨ gI B 32 34 (4 * s + i) = 1 ∨ gI B 32 34 (4 * s + i) = 2) ∧ (gI B 33 2 (4 * s + i) = 0 ∨ gI B 33 2 (4 * s + i) = 1) := by
  obtain ⟨r, _, _, _, h12, h45, hs⟩ := hB.2.2.2.2.2.2.1
  have e : stn B = (gS B r).length := by unfold stn; rw [h45, nI_clamp (by omega)]
  rw [e]
  refine ⟨h12, h45, fun s q => ?_⟩
  obtain ⟨t, _, t1, _, l, _, _, _, t2, t3, t4⟩ := hs s q
  have e2 : tc B s = (gS B l).length := by unfold tc; rw [t2, nI_clamp (by omega)]
  rw [e2]
  refine ⟨t3, t2, by rcases t1 with t1 | t1 <;> simp [t1.2], fun i hi => ?_⟩
  obtain ⟨e, _, _, _, e1, e3, _, _, e4⟩ := t4 i hi
  exact ⟨e1, by rcases e3 with e3 | e3 | e3 <;> simp [e3.1], e4⟩
theorem rl_x : ∃ r, gR B 0 0 15 = some (20, r) ∧ r < gC B 20 ∧ (gS B r).length = stn B ∧ ∀ s, s < stn B → ∃ t : zo_T, (gS B r)[s]? = some t ∧ ((t.1 = 11 ∧ gI B 33 1 s = 1) ∨ (t.1 = 12 ∧ gI B 33 1 s = 0)) ∧ t.2 < gC B t.1 ∧ ∃ q, gR B t.1 t.2 0 = some (20, q) ∧ q < gC B 20 ∧ (gS B q).length = tc B s ∧ ∀ i, i < tc B s → ∃ e, (gS B q)[i]? = some (13, e) ∧ rlT B (4 * s + i) e := by
  obtain ⟨r, h1, _, h2, h12, h45, hs⟩ := hB.2.2.2.2.2.2.1
  have e : stn B = (gS B r).length := by unfold stn; rw [h45, nI_clamp (by omega)]
  refine ⟨r, h1, h2, e.symm, fun s q => ?_⟩
  obtain ⟨t, t0, t1, t5, l, l1, _, l2, t2, t3, t4⟩ := hs s (by omega)
  have e2 : tc B s = (gS B l).length := by unfold tc; rw [t2, nI_clamp (by omega)]
  exact ⟨t, t0, t1, t5, l, l1, l2, e2.symm, fun i hi => t4 i (by omega)⟩
include hw
theorem m_term {N n s c i : Nat} {K : Int32 → Int32 → Int32 → zo_O → Option zo_R} (hc : c < gC B 3) (hs : s < stn B) (hi : i < tc B s) : bd_X2_isMeant_4 N K (nI s) (nI c) (nI (4 * s + i)) Ω = if sT B c (4 * s + i) = true then K (nI s) (nI c) (nI (4 * s + i + 1)) Ω else some (some (vi 0), Ω, 0, 0) := by
  obtain ⟨h12, _, hr⟩ := rl_m hB
  obtain ⟨t4, t32, _, hr⟩ := hr s hs
  obtain ⟨f1, f2, f3⟩ := hr i hi
  have hj : 4 * s + i < 96 := by omega
  unfold bd_X2_isMeant_4 fn_X2_isMeant_104
  have e32 : gI Ω 32 32 s = nI (tc B s) := by rw [w_c hw (by decide)]; exact t32
  have hle : ¬ nI (4 * s) + nI (tc B s) ≤ nI (4 * s + i) := by rw [nI_add, nI_leI (by omega) (by omega)]; omega
  simp only [ix_n (show s < 24 by omega) (by decide), ix_n hj (by decide), e32, nI_lit4, if_neg hle, w_c hw (show 33 ≤ 35 by decide), w_c hw (show 34 ≤ 35 by decide), w_c hw (show 35 ≤ 35 by decide), w_b hw (show 2 ≤ 2 by decide), m_factOf hB hw hc, ci_mk, rZ_0, nI_1]
  unfold sT
  generalize sF B c (gI B 32 33 (4 * s + i)) = v
  generalize gI B 32 35 (4 * s + i) = w
  rcases f2 with f2 | f2 | f2
  · rw [f2]
    rcases f3 with f3 | f3
    · rw [f3]
      by_cases h : v < w
      · have : ¬ w ≤ v := by grind
        simp [h, this]
      · have : w ≤ v := by grind
        simp [h, this]
    · rw [f3]
      by_cases h : v < w
      · have : ¬ w ≤ v := by grind
        simp [h, this]
      · have : w ≤ v := by grind
        simp [h, this]
  · rw [f2]
    rcases f3 with f3 | f3
    · rw [f3]
      by_cases h : v = w <;> simp [h]
    · rw [f3]
      by_cases h : v = w <;> simp [h]
  · rw [f2]
    rcases f3 with f3 | f3
    · rw [f3]
      by_cases h : w < v
      · have : ¬ v ≤ w := by grind
        simp [h, this]
      · have : v ≤ w := by grind
        simp [h, this]
    · rw [f3]
      by_cases h : w < v
      · have : ¬ v ≤ w := by grind
        simp [h, this]
      · have : v ≤ w := by grind
        simp [h, this]
theorem m_meantL {N s c : Nat} (hc : c < gC B 3) (hs : s < stn B) : ∀ m i n, i + m = tc B s → m < n → sMn B c s i = true → fn_X2_isMeant_4 N n (nI s) (nI c) (nI (4 * s + i)) Ω = some (some (vi (if sMt B c s = true then 1 else 0)), Ω, 0, 0) := by
  obtain ⟨h12, _, hr⟩ := rl_m hB
  obtain ⟨t4, t32, _, hr⟩ := hr s hs
  intro m
  induction m with
  | zero =>
    intro i n hi hn ht
    obtain ⟨n, rfl⟩ : ∃ k, n = k + 1 := ⟨n - 1, by omega⟩
    have : i = tc B s := by omega
    subst this
    unfold fn_X2_isMeant_4 bd_X2_isMeant_4
    have e32 : gI Ω 32 32 s = nI (tc B s) := by rw [w_c hw (by decide)]; exact t32
    have hle : nI (4 * s) + nI (tc B s) ≤ nI (4 * s + tc B s) := by rw [nI_add, nI_leI (by omega) (by omega)]; omega
    simp only [ix_n (show s < 24 by omega) (by decide), e32, nI_lit4, if_pos hle, rZ_1]
    unfold sMt
    rw [ht]; rfl
  | succ m ih =>
    intro i n hi hn ht
    obtain ⟨n, rfl⟩ : ∃ k, n = k + 1 := ⟨n - 1, by omega⟩
    unfold fn_X2_isMeant_4
    rw [m_term (N := N) (n := n) hB hw hc hs (show i < tc B s by omega)]
    by_cases h : sT B c (4 * s + i) = true
    · rw [if_pos h]
      exact ih (i + 1) n (by omega) (by omega) (by simp [sMn, ht, h])
    · rw [if_neg h, if_neg]
      unfold sMt
      have : ∀ k, i < k → sMn B c s k = false := by
        intro k
        induction k with
        | zero => intro q; omega
        | succ k ik =>
          intro q
          by_cases e : i = k
          · subst e; simp [sMn, h]
          · simp [sMn, ik (by omega)]
      simp [this (tc B s) (by omega)]
theorem m_isMeant {N s c : Nat} (hN : 5 ≤ N) (hc : c < gC B 3) (hs : s < stn B) : fn_X2_isMeant N (nI s) (nI c) Ω = some (some (vi (if sMt B c s = true then 1 else 0)), Ω, 0, 0) := by
  have h4 : tc B s ≤ 4 := ((rl_m hB).2.2 s hs).1
  unfold fn_X2_isMeant li
  rw [nI_lit4]
  exact m_meantL hB hw hc hs (tc B s) 0 N (by omega) (by omega) rfl
theorem m_ruL {N c : Nat} (hN : 5 ≤ N) (hc : c < gC B 3) : ∀ m s n (a : Int32), s + m = stn B → m < n → (a = 0 ∨ a = 1) → fn_X2_isUsed_38 N n (nI c) a (nI s) Ω = some (some (vi (ru B c m s a)), Ω, 0, 0) ∧ (ru B c m s a = 0 ∨ ru B c m s a = 1) := by
  obtain ⟨h12, h45, hr⟩ := rl_m hB
  have e45 : gI Ω 1 0 45 = nI (stn B) := by rw [w_m hw (by decide)]; exact h45
  intro m
  induction m with
  | zero =>
    intro s n a hs hn ha
    obtain ⟨n, rfl⟩ : ∃ k, n = k + 1 := ⟨n - 1, by omega⟩
    unfold fn_X2_isUsed_38 bd_X2_isUsed_38
    rw [e45, if_pos (by rw [nI_leI (by omega) (by omega)]; omega)]
    refine ⟨?_, ha⟩
    rcases ha with rfl | rfl <;> rfl
  | succ m ih =>
    intro s n a hs hn ha
    obtain ⟨n, rfl⟩ : ∃ k, n = k + 1 := ⟨n - 1, by omega⟩
    unfold fn_X2_isUsed_38 bd_X2_isUsed_38 fn_X2_isUsed_65
    rw [e45, if_neg (by rw [nI_leI (by omega) (by omega)]; omega), m_isMeant hB hw hN hc (by omega)]
    simp only [ci_mk, if_10, ix_n (show s < 24 by omega) (by decide), li, nI_1, w_b hw (show 1 ≤ 2 by decide)]
    unfold ru
    by_cases h : sMt B c s = true
    · rw [if_pos h, if_pos h]
      exact ih (s + 1) n _ (by omega) (by omega) (hr s (by omega)).2.2.1
    · rw [if_neg h, if_neg h]
      exact ih (s + 1) n a (by omega) (by omega) ha
theorem x_term {N c j e : Nat} (hc : c < gC B 3) (hr : rlT B j e) : fn_X16_holds N e c Ω = some (some (vi (if sT B c j = true then 1 else 0)), Ω, 0, 0) := by
  obtain ⟨h1, h2, _, h3, h4, h5, h6⟩ := hr
  unfold fn_X16_holds fn_X16_holds_72 fn_X16_holds_86
  simp only [w_o hw (show 2 ≤ 13 ∧ 13 ≤ 31 by decide) h1, h2, h4, h5, x_value hB hw hc, ci_mk, rZ_0, rZ_1]
  unfold sT
  generalize sF B c (gI B 32 33 j) = v
  generalize gI B 32 35 j = w
  rcases h3 with ⟨a, b⟩ | ⟨a, b⟩ | ⟨a, b⟩
  · rw [a, b]
    by_cases h : v < w
    · have : ¬ w ≤ v := by grind
      rcases h6 with h6 | h6 <;> simp [h, this, h6]
    · have : w ≤ v := by grind
      rcases h6 with h6 | h6 <;> simp [h, this, h6]
  · rw [a, b]
    by_cases h : v = w
    · rcases h6 with h6 | h6 <;> simp [h, h6]
    · rcases h6 with h6 | h6 <;> simp [h, h6]
  · rw [a, b]
    by_cases h : w < v
    · have : ¬ v ≤ w := by grind
      rcases h6 with h6 | h6 <;> simp [h, this, h6]
    · have : v ≤ w := by grind
      rcases h6 with h6 | h6 <;> simp [h, this, h6]
theorem x_holdsL {N s c q : Nat} {t : zo_T} (hc : c < gC B 3) (h4 : tc B s ≤ 4) (ht : t.1 = 11 ∨ t.1 = 12) (h2 : t.2 < gC B t.1) (hq : gR B t.1 t.2 0 = some (20, q)) (hq2 : q < gC B 20) (hl : (gS B q).length = tc B s) (hh : ∀ i, i < tc B s → ∃ e, (gS B q)[i]? = some (13, e) ∧ rlT B (4 * s + i) e) : ∀ m i n, i + m = tc B s → m < n → fn_X13_holds_4 N n (some t) c (if sMn B c s i = true then 1 else 0) (nI i) Ω = some (some (vi (if sMt B c s = true then 1 else 0)), Ω, 0, 0) := by
  have eR : gR Ω t.1 t.2 0 = some (20, q) := by rw [w_r hw (by omega) h2]; exact hq
  have eS : gS Ω q = gS B q := hw.S (by simp [sS0, sQ]) hq2
  intro m
  induction m with
  | zero =>
    intro i n hi hn
    obtain ⟨n, rfl⟩ : ∃ k, n = k + 1 := ⟨n - 1, by omega⟩
    have : i = tc B s := by omega
    subst this
    unfold fn_X13_holds_4 bd_X13_holds_4 gT
    simp only [ht, if_true, eR, bk_mk, x_size, eS, hl, ci_mk, rZ_b]
    rw [if_pos (by rw [nI_leI (by omega) (by omega)]; omega)]
    rfl
  | succ m ih =>
    intro i n hi hn
    obtain ⟨n, rfl⟩ : ∃ k, n = k + 1 := ⟨n - 1, by omega⟩
    obtain ⟨e, e1, e2⟩ := hh i (by omega)
    have hg := x_get (N := N) (l := q) (i := i) (Ω := Ω) (by rw [eS, hl]; omega) (by rw [eS, hl]; omega)
    rw [eS, e1] at hg
    unfold fn_X13_holds_4 bd_X13_holds_4 gT fn_X13_holds_41 fn_X13_holds_42
    simp only [ht, if_true, eR, bk_mk, x_size, eS, hl, ci_mk, hg, cr_mk, x_term hB hw hc e2, nI_1, if_10]
    rw [if_neg (by rw [nI_leI (by omega) (by omega)]; omega)]
    have k := ih (i + 1) n (by omega) (by omega)
    by_cases h : sMn B c s i = true
    · rw [if_pos h]
      by_cases h' : sT B c (4 * s + i) = true
      · rw [if_pos h']
        rw [if_pos (by simp [sMn, h, h'])] at k; exact k
      · rw [if_neg h']
        rw [if_neg (by simp [sMn, h, h'])] at k; exact k
    · rw [if_neg h]
      rw [if_neg (by simp [sMn, h])] at k; exact k
theorem x_ruL {N c : Nat} {kn : Int32} (hN : 5 ≤ N) (hc : c < gC B 3) : ∀ m s n (a : Int32), s + m = stn B → m < n → (a = 0 ∨ a = 1) → fn_X1_isUsed_5 N n c kn a (nI s) Ω = xfin N c kn (ru B c m s a) Ω := by
  obtain ⟨h12, h45, hm⟩ := rl_m hB
  obtain ⟨r, r1, r2, r3, hr⟩ := rl_x hB
  have eR : gR Ω 0 0 15 = some (20, r) := by rw [hw.R (by simp [ky, sS0, sQ]) (Or.inl fx_0)]; exact r1
  have eS : gS Ω r = gS B r := hw.S (by simp [sS0, sQ]) r2
  intro m
  induction m with
  | zero =>
    intro s n a hs hn ha
    obtain ⟨n, rfl⟩ : ∃ k, n = k + 1 := ⟨n - 1, by omega⟩
    have : s = stn B := by omega
    subst this
    unfold fn_X1_isUsed_5 bd_X1_isUsed_5 fn_X1_isUsed_85 fn_X1_isUsed_86 xfin
    simp only [eR, bk_mk, x_size, eS, r3, ci_mk]
    rw [if_pos (by rw [nI_leI (by omega) (by omega)]; omega)]
    rfl
  | succ m ih =>
    intro s n a hs hn ha
    obtain ⟨n, rfl⟩ : ∃ k, n = k + 1 := ⟨n - 1, by omega⟩
    obtain ⟨t, t0, t1, t2, q, q1, q2, q3, q4⟩ := hr s (by omega)
    have h4 := (hm s (by omega)).1
    have hg := x_get (N := N) (l := r) (i := s) (Ω := Ω) (by rw [eS, r3]; omega) (by rw [eS, r3]; omega)
    rw [eS, t0] at hg
    have hh : fn_X13_holds N (some t) c Ω = some (some (vi (if sMt B c s = true then 1 else 0)), Ω, 0, 0) :=
      x_holdsL (N := N) hB hw hc h4 (by rcases t1 with t1 | t1 <;> simp [t1.1]) t2 q1 q2 q3 q4 (tc B s) 0 N (by omega) (by omega)
    have his : zo_isS (some t) = true := by rcases t1 with t1 | t1 <;> simp [zo_isS, t1.1]
    have hus : zo_us (some t) = gI B 33 1 s := by rcases t1 with t1 | t1 <;> simp [zo_us, t1.1, t1.2]
    rw [fn_X1_isUsed_5]
    unfold bd_X1_isUsed_5 fn_X1_isUsed_52
    simp only [eR, bk_mk, x_size, eS, r3, ci_mk, hg, cr_mk, his, gd, if_true, hh, if_10, li, hus, nI_1]
    rw [if_neg (by rw [nI_leI (by omega) (by omega)]; omega)]
    unfold ru
    by_cases h : sMt B c s = true
    · rw [if_pos h, if_pos h]
      exact ih (s + 1) n (gI B 33 1 s) (by omega) (by omega) (hm s (by omega)).2.2.1
    · rw [if_neg h, if_neg h]
      exact ih (s + 1) n a (by omega) (by omega) ha
theorem ruA_01 (c : Nat) (hc : c < gC B 3) : ruA B c = 0 ∨ ruA B c = 1 := by
  have h12 := (rl_m hB).1
  exact (m_ruL (N := 100) hB hw (by decide) hc (stn B) 0 100 1 (by omega) (by omega) (Or.inr rfl)).2
end U
