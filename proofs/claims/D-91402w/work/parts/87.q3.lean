/-! ===== X: least and greatest; questions struck, size ===== -/
theorem nI_nm1 {s : Nat} (h : s < 2147483648) : ¬ nI s = -1 := by
  intro e
  have := congrArg Int32.toInt e
  rw [fi_n h] at this
  have h2 : (-1 : Int32).toInt = -1 := rfl
  omega
theorem if_n2 {a b : Prop} [Decidable a] [Decidable b] {A Z : Option zo_R} (h : ¬ (a ∧ b)) : (if a then if b then A else Z else Z) = Z := by
  by_cases ha : a
  · rw [if_pos ha, if_neg (fun w => h ⟨ha, w⟩)]
  · rw [if_neg ha]
theorem if_n3 {a b c : Prop} [Decidable a] [Decidable b] [Decidable c] {A Z : Option zo_R} (h : ¬ (a ∧ b ∧ c)) : (if a then if b then if c then A else Z else Z else Z) = Z := by
  by_cases ha : a
  · rw [if_pos ha, if_n2 (fun w => h ⟨ha, w⟩)]
  · rw [if_neg ha]
theorem if_n4 {a b c d : Prop} [Decidable a] [Decidable b] [Decidable c] [Decidable d] {A Z : Option zo_R} (h : ¬ (a ∧ b ∧ c ∧ d)) : (if a then if b then if c then if d then A else Z else Z else Z else Z) = Z := by
  by_cases ha : a
  · rw [if_pos ha, if_n3 (fun w => h ⟨ha, w⟩)]
  · rw [if_neg ha]
theorem if_n5 {a b c d e : Prop} [Decidable a] [Decidable b] [Decidable c] [Decidable d] [Decidable e] {A Z : Option zo_R} (h : ¬ (a ∧ b ∧ c ∧ d ∧ e)) : (if a then if b then if c then if d then if e then A else Z else Z else Z else Z else Z) = Z := by
  by_cases ha : a
  · rw [if_pos ha, if_n4 (fun w => h ⟨ha, w⟩)]
  · rw [if_neg ha]
theorem ck_mk {K n : Nat} {Ω : zo_O} {c s : Nat} {F : Nat → zo_O → Option zo_R} : ck (some (some (vr K n), Ω, c, s)) K F = ad c s (F n Ω) := by
  show ad c s (bk (some (K, n)) K fun n => F n Ω) = _
  rw [bk_mk]
section S
variable {N j la lb a0 b0 R : Nat} {lw up : bLs} {r : Int32} {Ω : zo_O} (hC : CvE Ω j la lb a0 b0 lw up) (hR : gI Ω 14 j 2 = nI R) (hRl : R < 16384) (hr : gI Ω 0 0 10 = r)
include hC hR hRl hr
theorem x_lstL {age : Int32} (hs : ∀ t ∈ lw, t.1 < 14) (hll : lw.length ≤ 30000) : ∀ m i n v, i + m = lw.length → m < n → fn_X17_least_4 N n j age v (nI i) Ω = some (some (vi ((lw.drop i).foldl (fun m t => if R.testBit t.1 = true then m else mx m (lowAt r t.2.1 t.2.2 age)) v)), Ω, 0, 0) := by
  intro m
  induction m with
  | zero =>
    intro i n v hi hn
    obtain ⟨n, rfl⟩ : ∃ k, n = k + 1 := ⟨n - 1, by omega⟩
    have : i = lw.length := by omega
    subst this
    unfold fn_X17_least_4 bd_X17_least_4
    rw [hC.1.1, bk_mk, x_size, ci_mk, hC.2.1.1, tkf_len, if_pos (by grind), List.drop_length]
    rfl
  | succ m ih =>
    intro i n v hi hn
    obtain ⟨n, rfl⟩ : ∃ k, n = k + 1 := ⟨n - 1, by omega⟩
    have hil : i < lw.length := by omega
    have hd : lw.drop i = lw[i] :: lw.drop (i + 1) := List.drop_eq_getElem_cons hil
    have h14 := hs lw[i] (List.getElem_mem hil)
    obtain ⟨l0, l1, l2⟩ := hC.2.2.1 i lw[i] (List.getElem?_eq_getElem hil)
    have hgt := x_get (N := N) (l := la) (i := i) (Ω := Ω) (by rw [hC.2.1.1, tkf_len]; omega) (by rw [hC.2.1.1, tkf_len]; omega)
    rw [hC.2.1.1, tkf_get hil] at hgt
    unfold fn_X17_least_4 bd_X17_least_4 fn_X17_least_60 fn_X17_stands_16 fn_X17_stands_16_22 fn_X17_stands_16_27
    rw [hC.1.1, bk_mk, x_size, ci_mk, hC.2.1.1, tkf_len, if_neg (by rw [nI_leI (by omega) (by omega)]; omega), hC.1.1, bk_mk, hgt, cr_mk, bk_mk, l0, if_neg (nI_nm1 (by omega)), hR, b_tst (by omega) (by omega), hd, List.foldl_cons, nI_1]
    by_cases h : R.testBit lw[i].1 = true
    · rw [if_pos h, if_pos h, if_neg (by decide), rZ_0, ci_mk, if_pos rfl]
      exact ih (i + 1) n v (by omega) (by omega)
    · rw [if_neg h, if_neg h, if_pos rfl, rZ_1, ci_mk, if_neg (by decide), hC.1.1, bk_mk, hgt, cr_mk, bk_mk, hC.1.2.2]
      unfold gd
      rw [if_pos rfl, hr, x_at l1 l2, ci_mk]
      exact ih (i + 1) n _ (by omega) (by omega)
theorem x_lst {age : Int32} (hs : ∀ t ∈ lw, t.1 < 14) (hN : lw.length < N) (hll : lw.length ≤ 30000) : fn_X17_least N j age Ω = some (some (vi (lsV r R lw age)), Ω, 0, 0) := by
  have := x_lstL (N := N) hC hR hRl hr (age := age) hs hll lw.length 0 N 0 (by omega) hN
  exact this
theorem x_grtL {age : Int32} (hs : ∀ t ∈ up, t.1 < 14) (hll : up.length ≤ 30000) : ∀ m i n v, i + m = up.length → m < n → fn_X17_greatest_12 N n j age v (nI i) Ω = some (some (vi ((up.drop i).foldl (fun m t => if R.testBit t.1 = true then m else mn m (hiAt r t.2.1 t.2.2 age)) v)), Ω, 0, 0) := by
  intro m
  induction m with
  | zero =>
    intro i n v hi hn
    obtain ⟨n, rfl⟩ : ∃ k, n = k + 1 := ⟨n - 1, by omega⟩
    have : i = up.length := by omega
    subst this
    unfold fn_X17_greatest_12 bd_X17_greatest_12
    rw [hC.1.2.1, bk_mk, x_size, ci_mk, hC.2.1.2, tkf_len, if_pos (by grind), List.drop_length]
    rfl
  | succ m ih =>
    intro i n v hi hn
    obtain ⟨n, rfl⟩ : ∃ k, n = k + 1 := ⟨n - 1, by omega⟩
    have hil : i < up.length := by omega
    have hd : up.drop i = up[i] :: up.drop (i + 1) := List.drop_eq_getElem_cons hil
    have h14 := hs up[i] (List.getElem_mem hil)
    obtain ⟨l0, l1, l2⟩ := hC.2.2.2.1 i up[i] (List.getElem?_eq_getElem hil)
    have hgt := x_get (N := N) (l := lb) (i := i) (Ω := Ω) (by rw [hC.2.1.2, tkf_len]; omega) (by rw [hC.2.1.2, tkf_len]; omega)
    rw [hC.2.1.2, tkf_get hil] at hgt
    unfold fn_X17_greatest_12 bd_X17_greatest_12 fn_X17_greatest_68 fn_X17_stands_17 fn_X17_stands_17_22 fn_X17_stands_17_27
    rw [hC.1.2.1, bk_mk, x_size, ci_mk, hC.2.1.2, tkf_len, if_neg (by rw [nI_leI (by omega) (by omega)]; omega), hC.1.2.1, bk_mk, hgt, cr_mk, bk_mk, l0, if_neg (nI_nm1 (by omega)), hR, b_tst (by omega) (by omega), hd, List.foldl_cons, nI_1]
    by_cases h : R.testBit up[i].1 = true
    · rw [if_pos h, if_pos h, if_neg (by decide), rZ_0, ci_mk, if_pos rfl]
      exact ih (i + 1) n v (by omega) (by omega)
    · rw [if_neg h, if_neg h, if_pos rfl, rZ_1, ci_mk, if_neg (by decide), hC.1.2.1, bk_mk, hgt, cr_mk, bk_mk, hC.1.2.2]
      unfold gd
      rw [if_pos rfl, hr, x_atU l1 l2, ci_mk]
      exact ih (i + 1) n _ (by omega) (by omega)
theorem x_grt {age : Int32} (hs : ∀ t ∈ up, t.1 < 14) (hN : up.length < N) (hll : up.length ≤ 30000) : fn_X17_greatest N j age Ω = some (some (vi (gsV r R up age)), Ω, 0, 0) := by
  have := x_grtL (N := N) hC hR hRl hr (age := age) hs hll up.length 0 N (r * age) (by omega) hN
  unfold fn_X17_greatest gd li
  rw [if_pos hC.1.2.2, hr]
  exact this
end S
theorem cvN_none {Ω : zo_O} : ∀ n, cvN Ω n ≤ n := cvN_le Ω
theorem x_beginsL {N : Nat} : ∀ m i n Ω, i + m = 18 → m < n → (∀ x, x < i → gR Ω 39 0 x = none) → ∃ Ω', fn_X1_begins_7 N n (nI i) Ω = some (none, Ω', 0, 0) ∧ Wx [(39, 0)] Ω Ω' ∧ ∀ x, x < 18 → gR Ω' 39 0 x = none := by
  intro m
  induction m with
  | zero =>
    intro i n Ω hi hn hz
    obtain ⟨n, rfl⟩ : ∃ k, n = k + 1 := ⟨n - 1, by omega⟩
    have : i = 18 := by omega
    subst this
    unfold fn_X1_begins_7 bd_X1_begins_7
    rw [if_pos (by decide)]
    exact ⟨Ω, rfl, Wx.refl, hz⟩
  | succ m ih =>
    intro i n Ω hi hn hz
    obtain ⟨n, rfl⟩ : ∃ k, n = k + 1 := ⟨n - 1, by omega⟩
    unfold fn_X1_begins_7 bd_X1_begins_7
    rw [if_neg (by rw [nI_leI (by decide) (by omega)]; omega), ix_n (show i < 18 by omega) (by decide)]
    unfold lt
    have W1 : Wx [(39, 0)] Ω (sR Ω 39 0 i none) := Wx.refl.sR (Or.inl (by simp [ky]))
    obtain ⟨Ω', k1, k2, k3⟩ := ih (i + 1) n (sR Ω 39 0 i none) (by omega) (by omega) (fun s hs => by
      rw [gR_sR]
      by_cases e : s = i
      · rw [if_pos ⟨rfl, rfl, e⟩]
      · rw [if_neg (fun w => e w.2.2)]; exact hz s (by omega))
    rw [nI_1]
    exact ⟨Ω', k1, W1.trans k2, k3⟩
/-- how a curve's sets are told apart: there is one least -/
theorem R_one {cf : Nat → Nat → Prop} {al : Nat → Prop} {n R R' : Nat} (h1 : R < 2 ^ n) (h2 : cvE cf al R) (h3 : ∀ S, S < 2 ^ n → cvE cf al S → bet R S) (h1' : R' < 2 ^ n) (h2' : cvE cf al R') (h3' : ∀ S, S < 2 ^ n → cvE cf al S → bet R' S) : R = R' :=
  bet_anti (h3 R' h1' h2') (h3' R h1 h2)
section U
variable {B : zo_O} (hB : Bse B) {kn : Int32}
include hB
theorem x_begins : ∃ q D, (q = false → DBd D) ∧ (∀ N Ω but, 50 ≤ N → Wx sS0 B Ω → ∃ Ω', fn_X1_begins N kn Ω = some (none, Ω', 0, 0) ∧ Wx ((39, 0) :: sLx) Ω Ω' ∧ EX B q D Ω' ∧ CvA B q D kn but Ω') ∧ (∀ N Ω, 50 ≤ N → Wx sS0 B Ω → ∃ Ω', fn_X2_habits N kn Ω = some (none, Ω', 0, 0) ∧ Wx sLm Ω Ω' ∧ EM B q D Ω') := by
  obtain ⟨q, D, hD, hX, hM⟩ := habits_both hB (kn := kn)
  refine ⟨q, D, hD, fun N Ω but hN hw => ?_, fun N Ω hN hw => ?_⟩
  · obtain ⟨Ω1, a1, a2, a3⟩ := hX N Ω hN hw
    have hE1 : EX B q D Ω1 := ⟨hw.step a2 (by decide), a3⟩
    obtain ⟨Ω2, b1, b2, b3⟩ := x_beginsL (N := N) 18 0 N Ω1 (by omega) (by omega) (fun x h => by omega)
    refine ⟨Ω2, ?_, (a2.mono (by decide)).step b2 (by decide), hE1.step b2 (by decide) (by decide), fun kk s b h1 h2 h3 => Or.inl (b3 _ (cIx_lt h1 h2 h3))⟩
    unfold fn_X1_begins
    rw [a1, cv_mk]
    exact b1
  · obtain ⟨Ω', a1, a2, a3⟩ := hM N Ω hN hw
    exact ⟨Ω', a1, a2, hw.step a2 (by decide), a3⟩
theorem x_isClass {N : Nat} {k s b : Int32} : fn_X1_isClass N k s b kn B = some (some (vi (if (0 ≤ k ∧ k ≤ 2) ∧ (0 ≤ s ∧ s ≤ 1) ∧ (0 ≤ b ∧ b ≤ 2) ∧ (0 ≤ kn ∧ kn ≤ gI B 1 0 1) then 1 else 0)), B, 0, 0) := by
  unfold fn_X1_isClass fn_X1_isClass_38 fn_X1_isClass_39
  simp only [x_isKind, x_in, x_isKnown, ci_mk, if_10, b_now hB, rZ_0, rZ_1]
  grind
omit hB in
theorem m_isCurve {N : Nat} {k s b : Int32} {Ω : zo_O} : fn_X2_isCurve N k s b kn Ω = some (some (vi (if (0 ≤ k ∧ k ≤ 2) ∧ (0 ≤ s ∧ s ≤ 1) ∧ (0 ≤ b ∧ b ≤ 2) ∧ (0 ≤ kn ∧ kn ≤ gI Ω 1 0 1) then 1 else 0)), Ω, 0, 0) := by
  unfold fn_X2_isCurve fn_X2_isCurve_38 fn_X2_isCurve_39
  simp only [m_isKind, m_within, m_isKnown, ci_mk, if_10, rZ_0, rZ_1]
  grind
theorem lws_len {q : Bool} {D : Nat → Nat → Int32} {kk : Nat} {sd bt but : Int32} : (lws B q D kn kk sd bt but).length ≤ 120 ∧ (ups B q D kn kk sd bt but).length ≤ 120 := by
  have h120 := n_3 hB
  have hgl := gAll_len (B := B) (q := q) (D := D) (kn := kn) (sd := sd) (bt := bt) (but := but) (k := nI kk) (gC B 2)
  have hcl := cLt_le (B := B) (n := gC B 2) (gC B 3)
  have l1 : (lws B q D kn kk sd bt but).length ≤ (gAll B q D kn (nI kk) sd bt but (gC B 2)).length := List.length_filterMap_le _ _
  have l2 : (ups B q D kn kk sd bt but).length ≤ (gAll B q D kn (nI kk) sd bt but (gC B 2)).length := List.length_filterMap_le _ _
  omega
theorem q_struck (hI : gI B 0 0 19 = -1) (hn : gC B 3 ≤ 63) {N : Nat} (hN : 40000 ≤ N) {k s b : Int32} : Qy (fn_X1_struck N k s b kn) (fn_X2_struck N k s b kn) B := by
  have hw0 : Wx sS0 B B := Wx.refl
  have hw1 : Wx sS0 B (sI B 1 0 0 0) := W_thrown hw0
  by_cases g : (0 ≤ k ∧ k ≤ 2) ∧ (0 ≤ s ∧ s ≤ 1) ∧ (0 ≤ b ∧ b ≤ 2) ∧ (0 ≤ kn ∧ kn ≤ gI B 1 0 1)
  · obtain ⟨kk, k1, rfl⟩ := nI_between (n := 3) (by decide) (show 0 ≤ k ∧ k ≤ nI 3 - 1 from g.1)
    obtain ⟨ss, s1, rfl⟩ := nI_between (n := 2) (by decide) (show 0 ≤ s ∧ s ≤ nI 2 - 1 from g.2.1)
    obtain ⟨bb, b1, rfl⟩ := nI_between (n := 3) (by decide) (show 0 ≤ b ∧ b ≤ nI 3 - 1 from g.2.2.1)
    obtain ⟨q, D, hD, hX, hM⟩ := x_begins hB (kn := kn)
    obtain ⟨Ω1, x1, x2, x3, x4⟩ := hX N B (-1) (by omega) hw0
    obtain ⟨Ω2, j, cc, sl, y1, y2, y3, y4, y5, y6⟩ := x_curve hB hD (but := -1) (N := N) hN k1 s1 b1 hn x3 (by rw [x2.I (by decide) (Or.inl fx_0)]; exact hI) x4
    have hw2 : Wx sS0 B Ω2 := (hw0.step x2 (by decide)).step y2 (by decide)
    have hw3 : Wx sS0 B (sI Ω2 1 0 0 0) := W_thrown hw2
    obtain ⟨Ω3, m1, m2, m3⟩ := hM N (sI Ω2 1 0 0 0) (by omega) hw3
    obtain ⟨Ω4, R, n1, n2, n3, n4, n5, n6, n7⟩ := m_curve hB hD (kn := kn) (sd := nI ss) (bt := nI bb) (but := -1) (N := N) hN k1 m3
    obtain ⟨la, lb, a0, b0, R', z1, z2, z3, z4, z5⟩ := y4
    have hRR := R_one z3 z4 z5 n4 n5 n6
    have hcv := cvN_le Ω1 18
    refine Qy_mk (r := nI R) (Ω1 := Ω2) (Ω2 := Ω4) (c1 := cc) (s1 := sl) ?_ ?_ (((Q_t2 ((Wx.refl.step x2 (by decide)).step y2 (by decide))).step m2 (by decide)).step n2 (by decide)) (by omega) (by omega)
    · unfold fn_X1_struck
      rw [x_isClass hB, ci_mk, if_10, if_pos g, x1, cv_mk, y1, ck_mk, z2, hRR]
      show some _ = some _
      simp
    · unfold fn_X2_struck lt
      simp only [m_isCurve, w_m hw3 (show (1, 1) ∉ sS0 by decide), ci_mk, if_10]
      rw [if_pos g, m1, cv_mk, n1, cv_mk, n3]; rfl
  · refine Qy_mk (r := -1) (Ω1 := B) (Ω2 := sI B 1 0 0 0) (c1 := 0) (s1 := 0) ?_ ?_ Q_t (by decide) (by decide)
    · unfold fn_X1_struck
      rw [x_isClass hB, ci_mk, if_10, if_neg g]; rfl
    · unfold fn_X2_struck lt
      simp only [m_isCurve, w_m hw1 (show (1, 1) ∉ sS0 by decide), ci_mk, if_10]
      rw [if_neg g]; rfl
theorem q_size (hI : gI B 0 0 19 = -1) (hn : gC B 3 ≤ 63) {N : Nat} (hN : 40000 ≤ N) {k s b age wh : Int32} : Qy (fn_X1_size N k s b kn age wh) (fn_X2_size N k s b kn age wh) B := by
  have hw0 : Wx sS0 B B := Wx.refl
  have hw1 : Wx sS0 B (sI B 1 0 0 0) := W_thrown hw0
  have h14 := n_2 hB
  have hpw : 2 ^ gC B 2 ≤ 2 ^ 14 := Nat.pow_le_pow_right (by decide) h14
  by_cases g : ((0 ≤ k ∧ k ≤ 2) ∧ (0 ≤ s ∧ s ≤ 1) ∧ (0 ≤ b ∧ b ≤ 2) ∧ (0 ≤ kn ∧ kn ≤ gI B 1 0 1)) ∧ (0 ≤ age ∧ age ≤ 800) ∧ (0 ≤ wh ∧ wh ≤ 1)
  · obtain ⟨g, ga, gw⟩ := g
    obtain ⟨kk, k1, rfl⟩ := nI_between (n := 3) (by decide) (show 0 ≤ k ∧ k ≤ nI 3 - 1 from g.1)
    obtain ⟨ss, s1, rfl⟩ := nI_between (n := 2) (by decide) (show 0 ≤ s ∧ s ≤ nI 2 - 1 from g.2.1)
    obtain ⟨bb, b1, rfl⟩ := nI_between (n := 3) (by decide) (show 0 ≤ b ∧ b ≤ nI 3 - 1 from g.2.2.1)
    obtain ⟨aa, a1, rfl⟩ := nI_between (n := 801) (by decide) (show 0 ≤ age ∧ age ≤ nI 801 - 1 from ga)
    obtain ⟨q, D, hD, hX, hM⟩ := x_begins hB (kn := kn)
    obtain ⟨Ω1, x1, x2, x3, x4⟩ := hX N B (-1) (by omega) hw0
    obtain ⟨Ω2, j, cc, sl, y1, y2, y3, y4, y5, y6⟩ := x_curve hB hD (but := -1) (N := N) hN k1 s1 b1 hn x3 (by rw [x2.I (by decide) (Or.inl fx_0)]; exact hI) x4
    have hw2 : Wx sS0 B Ω2 := (hw0.step x2 (by decide)).step y2 (by decide)
    have hw3 : Wx sS0 B (sI Ω2 1 0 0 0) := W_thrown hw2
    obtain ⟨Ω3, m1, m2, m3⟩ := hM N (sI Ω2 1 0 0 0) (by omega) hw3
    obtain ⟨Ω4, R, n1, n2, n3, n4, n5, n6, n7⟩ := m_curve hB hD (kn := kn) (sd := nI ss) (bt := nI bb) (but := -1) (N := N) hN k1 m3
    obtain ⟨la, lb, a0, b0, R', z1, z2, z3, z4, z5⟩ := y4
    have hRR := R_one z3 z4 z5 n4 n5 n6
    subst hRR
    have hcv := cvN_le Ω1 18
    obtain ⟨p1, p2⟩ := n7 aa a1
    have hr : gI Ω2 0 0 10 = gI B 1 0 42 := by rw [w_x hw2 (by decide)]; exact rate_x hB
    obtain ⟨ll1, ll2⟩ := lws_len hB (kn := kn) (q := q) (D := D) (kk := kk) (sd := nI ss) (bt := nI bb) (but := -1)
    have XL := x_lst (N := N) z1 z2 (by omega) hr (age := nI aa) (fun t ht => Nat.lt_of_lt_of_le (lws_ok hB hD ht).1 h14) (by omega) (by omega)
    have XG := x_grt (N := N) z1 z2 (by omega) hr (age := nI aa) (fun t ht => Nat.lt_of_lt_of_le (ups_ok hB hD ht).1 h14) (by omega) (by omega)
    refine Qy_mk (r := if wh = 0 then lsV (gI B 1 0 42) R' (lws B q D kn kk (nI ss) (nI bb) (-1)) (nI aa) else gsV (gI B 1 0 42) R' (ups B q D kn kk (nI ss) (nI bb) (-1)) (nI aa)) (Ω1 := Ω2) (Ω2 := Ω4) (c1 := cc) (s1 := sl) ?_ ?_ (((Q_t2 ((Wx.refl.step x2 (by decide)).step y2 (by decide))).step m2 (by decide)).step n2 (by decide)) (by omega) (by omega)
    · unfold fn_X1_size fn_X1_size_75
      rw [x_isClass hB, ci_mk, if_10, if_pos g, x_in, ci_mk, if_10, if_pos ga, x_in, ci_mk, if_10, if_pos gw, x1, cv_mk, y1, ck_mk, XL, XG, ci_mk, ci_mk]
      split <;> simp [rI, ad]
    · unfold fn_X2_size fn_X2_size_79 lt
      simp only [m_isCurve, m_within, w_m hw3 (show (1, 1) ∉ sS0 by decide), ci_mk, if_10]
      rw [if_pos g, if_pos ga, if_pos gw, m1, cv_mk, n1, cv_mk, ix_n a1 (by decide), ix_n a1 (by decide), p1, p2]
      split <;> rfl
  · refine Qy_mk (r := -1) (Ω1 := B) (Ω2 := sI B 1 0 0 0) (c1 := 0) (s1 := 0) ?_ ?_ Q_t (by decide) (by decide)
    · unfold fn_X1_size fn_X1_size_34
      simp only [x_isClass hB, x_in, ci_mk, if_10, rI]
      exact if_n3 g
    · unfold fn_X2_size fn_X2_size_39 lt
      simp only [m_isCurve, m_within, w_m hw1 (show (1, 1) ∉ sS0 by decide), ci_mk, if_10, rI]
      exact if_n3 g
end U
