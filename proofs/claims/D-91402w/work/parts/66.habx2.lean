/-! ===== X's habits: whole; both together ===== -/
theorem x_hI9 {N i : Nat} {kn : Int32} {K2 : Int32 → Int32 → zo_O → Option zo_R} (hi : i < 5) : ∀ m b n Ω, b + m = 5 → m < n → (∀ j, j < 5 → gL Ω 36 j = 5) → (∀ x y, x < 5 → y < 5 → (x < i ∨ (x = i ∧ y < b)) → (gI Ω 36 x y).toInt = hI x y) → ∃ Ω', fn_X1_findHabits_9 N K2 n kn (nI i) (nI b) Ω = K2 kn (nI (i + 1)) Ω' ∧ Wx sL36 Ω Ω' ∧ (∀ x y, x < 5 → y < 5 → x < i + 1 → (gI Ω' 36 x y).toInt = hI x y) := by
  intro m
  induction m with
  | zero =>
    intro b n Ω hb hn h5 hx
    obtain ⟨n, rfl⟩ : ∃ k, n = k + 1 := ⟨n - 1, by omega⟩
    have : b = 5 := by omega
    subst this
    unfold fn_X1_findHabits_9 bd_X1_findHabits_9
    rw [if_pos (by decide), nI_1]
    exact ⟨Ω, rfl, Wx.refl, fun x y h1 h2 h3 => hx x y h1 h2 (by omega)⟩
  | succ m ih =>
    intro b n Ω hb hn h5 hx
    obtain ⟨n, rfl⟩ : ∃ k, n = k + 1 := ⟨n - 1, by omega⟩
    have l5 : ¬ (5 : Int32) ≤ nI b := by rw [show (5 : Int32) = nI 5 from rfl, nI_leI (by decide) (by omega)]; omega
    have key : ∀ v : Int32, v.toInt = hI i b → ∃ Ω', fn_X1_findHabits_9 N K2 n kn (nI i) (nI (b + 1)) (sI Ω 36 i b v) = K2 kn (nI (i + 1)) Ω' ∧ Wx sL36 Ω Ω' ∧ (∀ x y, x < 5 → y < 5 → x < i + 1 → (gI Ω' 36 x y).toInt = hI x y) := by
      intro v hv
      have hW : Wx sL36 Ω (sI Ω 36 i b v) := Wx.refl.sI (Or.inl (in36 hi))
      obtain ⟨Ω', k1, k2, k3⟩ := ih (b + 1) n (sI Ω 36 i b v) (by omega) (by omega) (L36_W h5 hW) (fun x y h1 h2 h3 => by
        rw [gI_sI]
        by_cases e : x = i ∧ y = b
        · rw [if_pos ⟨rfl, e⟩, e.1, e.2]; exact hv
        · rw [if_neg (fun w => e w.2)]; exact hx x y h1 h2 (by omega))
      exact ⟨Ω', k1, hW.trans k2, k3⟩
    unfold fn_X1_findHabits_9 bd_X1_findHabits_9 fn_X1_findHabits_32
    simp only [if_neg l5, ix_n hi (show 5 < 2147483648 by decide), ix_n (show b < 5 by omega) (show 5 < 2147483648 by decide), h5 i hi, lt, nI_1, nI_eq (show i < 2 ^ 31 by omega) (show b < 2 ^ 31 by omega)]
    by_cases h : i = b
    · rw [if_pos h]; exact key 0 (by unfold hI; rw [if_pos h]; rfl)
    · rw [if_neg h]; exact key 1000000 (by unfold hI; rw [if_neg h]; rfl)
theorem x_hI2 {N : Nat} {kn : Int32} (hN : 6 ≤ N) : ∀ m i n Ω, i + m = 5 → m < n → (∀ j, j < 5 → gL Ω 36 j = 5) → (∀ x y, x < 5 → y < 5 → x < i → (gI Ω 36 x y).toInt = hI x y) → ∃ Ω', fn_X1_findHabits_2 N n kn (nI i) Ω = fn_X1_findHabits_47 N N kn 0 Ω' ∧ Wx sL36 Ω Ω' ∧ mtX Ω' hI := by
  intro m
  induction m with
  | zero =>
    intro i n Ω hb hn h5 hx
    obtain ⟨n, rfl⟩ : ∃ k, n = k + 1 := ⟨n - 1, by omega⟩
    have : i = 5 := by omega
    subst this
    unfold fn_X1_findHabits_2 bd_X1_findHabits_2
    rw [if_pos (by decide)]
    exact ⟨Ω, rfl, Wx.refl, fun x y h1 h2 => hx x y h1 h2 h1⟩
  | succ m ih =>
    intro i n Ω hb hn h5 hx
    obtain ⟨n, rfl⟩ : ∃ k, n = k + 1 := ⟨n - 1, by omega⟩
    unfold fn_X1_findHabits_2 bd_X1_findHabits_2
    rw [if_neg (by rw [show (5 : Int32) = nI 5 from rfl, nI_leI (by decide) (by omega)]; omega)]
    obtain ⟨Ω1, e1, w1, m1⟩ := x_hI9 (N := N) (kn := kn) (K2 := fn_X1_findHabits_2 N n) (show i < 5 by omega) 5 0 N Ω (by omega) (by omega) h5 (fun x y h1 h2 h3 => hx x y h1 h2 (by omega))
    obtain ⟨Ω2, e2, w2, m2⟩ := ih (i + 1) n Ω1 (by omega) (by omega) (L36_W h5 w1) m1
    exact ⟨Ω2, e1.trans e2, w1.trans w2, m2⟩
section U
variable {B : zo_O} (hB : Bse B) {kn : Int32}
include hB
theorem h0_app (d : Nat) : h0 (uE B kn (d + 1)) = if gI B 32 19 d ≤ kn then hU (hU (h0 (uE B kn d)) (dA B d) (dB B d) (min (h0 (uE B kn d) (dA B d) (dB B d)) (dW B d + er B))) (dB B d) (dA B d) (min ((hU (h0 (uE B kn d)) (dA B d) (dB B d) (min (h0 (uE B kn d) (dA B d) (dB B d)) (dW B d + er B))) (dB B d) (dA B d)) (er B - dW B d)) else h0 (uE B kn d) := by
  unfold h0
  rw [uE, List.foldl_append]
  unfold uE1
  split
  · rfl
  · rfl
theorem x_dbl {N : Nat} : ∀ m d n Ω, d + m = gC B 5 → m < n → Wx sS0 B Ω → mtX Ω (h0 (uE B kn d)) → ∃ Ω', fn_X1_findHabits_47 N n kn (nI d) Ω = fn_X1_findHabits_169 N N 0 Ω' ∧ Wx sL36 Ω Ω' ∧ mtX Ω' (h0 (uE B kn (gC B 5))) := by
  obtain ⟨hS3, _, h40⟩ := hB.1 5 (by decide) (by decide)
  have h40 : gC B 5 ≤ 40 := h40
  have hS3 : gS B 3 = tks 5 (gC B 5) := hS3
  have h7 : 7 ≤ gC B 20 := hB.2.2.2.2.2.2.2.1
  intro m
  induction m with
  | zero =>
    intro d n Ω hd hn hw hx
    obtain ⟨n, rfl⟩ : ∃ k, n = k + 1 := ⟨n - 1, by omega⟩
    have : d = gC B 5 := by omega
    subst this
    unfold fn_X1_findHabits_47 bd_X1_findHabits_47
    rw [x_size, ci_mk, hw.S (by simp [sS0, sQ]) (by omega), hS3, tks_len, if_pos (by rw [nI_leI (by omega) (by omega)]; omega)]
    exact ⟨Ω, rfl, Wx.refl, hx⟩
  | succ m ih =>
    intro d n Ω hd hn hw hx
    obtain ⟨n, rfl⟩ : ∃ k, n = k + 1 := ⟨n - 1, by omega⟩
    have hdl : d < gC B 5 := by omega
    obtain ⟨a1, a2, b1, b2, w1, w2⟩ := dbl hB hdl
    have hee := er_b hB
    have hSO : gS Ω 3 = tks 5 (gC B 5) := by rw [hw.S (by simp [sS0, sQ]) (by omega)]; exact hS3
    have hg := x_get (N := N) (l := 3) (i := d) (Ω := Ω) (by rw [hSO, tks_len]; omega) (by rw [hSO, tks_len]; omega)
    rw [hSO, tks_get hdl] at hg
    have k : ∀ Ω', Wx sS0 B Ω' → ∀ f c, (5, f, c) ∈ iv_cols → gI Ω' 5 d f = gI B 32 c d := fun Ω' hw' f c h => by
      rw [w_o hw' (by decide) hdl]; exact hB.2.1 _ h d hdl
    have h9 : gI B 0 0 9 = gI B 1 0 41 := hB.2.2.2.2.2.1.2.1
    have h5 : ∀ j, j < 5 → gL Ω 36 j = 5 := fun j hj => L36 hB hw hj
    unfold fn_X1_findHabits_47 bd_X1_findHabits_47 fn_X1_findHabits_161 fn_X3_isBy_5 fn_X3_isBy_5_13
    rw [x_size, ci_mk, hSO, tks_len, if_neg (by rw [nI_leI (by omega) (by omega)]; omega)]
    simp only [hg, cr_mk, bk_mk, k Ω hw 0 19 (by decide), rZ_0, rZ_1]
    have hap := h0_app hB (kn := kn) d
    by_cases hk : gI B 32 19 d ≤ kn
    · rw [if_neg (show ¬ kn < gI B 32 19 d by grind), ci_mk, if_neg (by decide)]
      have s1 : (gI B 32 18 d + gI B 1 0 41).toInt = dW B d + er B := by rw [fi_add (by unfold dW er at *; omega) (by unfold dW er at *; omega)]; rfl
      have s2 : (gI B 1 0 41 - gI B 32 18 d).toInt = er B - dW B d := by rw [fi_sub (by unfold dW er at *; omega) (by unfold dW er at *; omega)]; rfl
      have x9 : gI Ω 0 0 9 = gI B 1 0 41 := by rw [w_x hw (by decide)]; exact h9
      have t1 : (mn (gI Ω 36 (dA B d) (dB B d)) (gI B 32 18 d + gI B 1 0 41)).toInt = min (h0 (uE B kn d) (dA B d) (dB B d)) (dW B d + er B) := by rw [fi_mn, hx _ _ a1 b1, s1]
      have m1 := mtX_U (a := dA B d) (b := dB B d) hx t1
      have W1 : Wx sL36 Ω (sI Ω 36 (dA B d) (dB B d) (mn (gI Ω 36 (dA B d) (dB B d)) (gI B 32 18 d + gI B 1 0 41))) := Wx.refl.sI (Or.inl (in36 a1))
      have hw1 := hw.step W1 (by decide)
      simp only [k Ω hw 1 16 (by decide), k Ω hw 2 17 (by decide), k Ω hw 3 18 (by decide), a2, b2, ix_n a1 (show 5 < 2147483648 by decide), ix_n b1 (show 5 < 2147483648 by decide), h5 _ a1, h5 _ b1, x9, lt]
      have h51 : ∀ j, j < 5 → gL (sI Ω 36 (dA B d) (dB B d) (mn (gI Ω 36 (dA B d) (dB B d)) (gI B 32 18 d + gI B 1 0 41))) 36 j = 5 := h5
      generalize sI Ω 36 (dA B d) (dB B d) (mn (gI Ω 36 (dA B d) (dB B d)) (gI B 32 18 d + gI B 1 0 41)) = Ω1 at *
      have y9 : gI Ω1 0 0 9 = gI B 1 0 41 := by rw [w_x hw1 (by decide)]; exact h9
      simp only [k Ω1 hw1 1 16 (by decide), k Ω1 hw1 2 17 (by decide), k Ω1 hw1 3 18 (by decide), a2, b2, ix_n a1 (show 5 < 2147483648 by decide), ix_n b1 (show 5 < 2147483648 by decide), h51 _ a1, h51 _ b1, y9, nI_1]
      have t2 : (mn (gI Ω1 36 (dB B d) (dA B d)) (gI B 1 0 41 - gI B 32 18 d)).toInt = min (hU (h0 (uE B kn d)) (dA B d) (dB B d) (min (h0 (uE B kn d) (dA B d) (dB B d)) (dW B d + er B)) (dB B d) (dA B d)) (er B - dW B d) := by rw [fi_mn, m1 _ _ b1 a1, s2]
      have m2 := mtX_U (a := dB B d) (b := dA B d) m1 t2
      have W2 : Wx sL36 Ω1 (sI Ω1 36 (dB B d) (dA B d) (mn (gI Ω1 36 (dB B d) (dA B d)) (gI B 1 0 41 - gI B 32 18 d))) := Wx.refl.sI (Or.inl (in36 b1))
      obtain ⟨Ω3, e3, w3, m3⟩ := ih (d + 1) n _ (by omega) (by omega) (hw1.step W2 (by decide)) (by rw [hap, if_pos hk]; exact m2)
      exact ⟨Ω3, e3, (W1.trans W2).trans w3, m3⟩
    · rw [if_pos (show kn < gI B 32 19 d by grind), ci_mk, if_pos rfl, nI_1]
      exact ih (d + 1) n Ω (by omega) (by omega) hw (by rw [hap, if_neg hk]; exact hx)
theorem x_habits {N : Nat} (hN : 50 ≤ N) {Ω : zo_O} (hw : Wx sS0 B Ω) : ∃ Ω' fl, fn_X1_findHabits N kn Ω = some (none, Ω', 0, 0) ∧ Wx sLx Ω Ω' ∧ mtX Ω' (hfw (h0 (uE B kn (gC B 5))) 5) ∧ gI Ω' 0 0 17 = fl ∧ (fl = 0 ∨ fl = 1) ∧ (fl = 1 ↔ ∃ x, x < 5 ∧ hfw (h0 (uE B kn (gC B 5))) 5 x x < 0) := by
  have h40 : gC B 5 ≤ 40 := (hB.1 5 (by decide) (by decide)).2.2
  have hok := uE_ok hB (kn := kn) (gC B 5) (Nat.le_refl _)
  have h5 : ∀ j, j < 5 → gL Ω 36 j = 5 := fun j hj => L36 hB hw hj
  obtain ⟨Ω1, a1, a2, a3⟩ := x_hI2 (N := N) (kn := kn) (by omega) 5 0 N Ω (by omega) (by omega) h5 (fun x y h1 h2 h3 => by omega)
  obtain ⟨Ω2, b1, b2, b3⟩ := x_dbl hB (kn := kn) (N := N) (gC B 5) 0 N Ω1 (by omega) (by omega) (hw.step a2 (by decide)) a3
  have hbd := h0_bd hok
  have hlb : LB (h0 (uE B kn (gC B 5))) mu0 := by
    refine ⟨rfl, fun x y hx hy => ?_⟩
    have hr : mu0.getD (5 * x + y) 0 = 1 := by
      unfold mu0
      rw [List.getD_eq_getElem?_getD, List.getElem?_replicate, if_pos (by omega)]; rfl
    rw [hr]
    by_cases h : h0 (uE B kn (gC B 5)) x y < 1000000
    · have := hbd x y hx hy h; omega
    · omega
  have hu : rgU (h0 (uE B kn (gC B 5))) := fun x y _ _ => Int.le_trans (h0_mono _ _ x y) (by unfold hI; split <;> decide)
  obtain ⟨Ω3, c1, c2, c3⟩ := x_fwF (N := N) hlb hu (by omega) 5 0 N Ω2 (by omega) (by omega) (L36_W (L36_W h5 a2) b2) b3
  have hW : Wx [(0, 17)] Ω3 (sI Ω3 0 0 17 0) := Wx.refl.sI (Or.inl (by simp [ky]))
  obtain ⟨Ω4, fl, d1, d2, d3, d4, d5⟩ := x_hq (N := N) (D := hfw (h0 (uE B kn (gC B 5))) 5) 5 0 N (sI Ω3 0 0 17 0) 0 (by omega) (by omega) (Or.inl rfl) (by rw [gI_sI, if_pos ⟨rfl, rfl, rfl⟩]) (fun x y hx hy => by rw [gI_sI, if_neg (by omega)]; exact c3 x y hx hy) (L36_W (L36_W (L36_W (L36_W h5 a2) b2) c2) hW)
  refine ⟨Ω4, fl, ?_, ?_, ?_, d3, d4, ?_⟩
  · unfold fn_X1_findHabits
    rw [show (0 : Int32) = nI 0 from rfl, a1, show (0 : Int32) = nI 0 from rfl, b1, show (0 : Int32) = nI 0 from rfl, c1]
    exact d1
  · exact ((((a2.mono (by decide)).step b2 (by decide)).step c2 (by decide)).step hW (by decide)).step d2 (by decide)
  · intro x y hx hy
    rw [d2.I (by rw [show ky 36 x y = (36, x) from if_neg (by decide)]; simp) (Or.inl (fx_m (by decide))), gI_sI, if_neg (by omega)]
    exact c3 x y hx hy
  · rw [d5]
    constructor
    · rintro (h | ⟨x, _, h2, h3⟩)
      · exact absurd h (by decide)
      · exact ⟨x, h2, h3⟩
    · rintro ⟨x, h2, h3⟩
      exact Or.inr ⟨x, by omega, h2, h3⟩
/-- habits as known: the same for both -/
def DBd (D : Nat → Nat → Int32) : Prop := ∀ a b, a < 5 → b < 5 → -64928 ≤ (D a b).toInt ∧ (D a b).toInt ≤ 1000000
theorem habits_both : ∃ q D, (q = false → DBd D) ∧ (∀ N Ω, 50 ≤ N → Wx sS0 B Ω → ∃ Ω', fn_X1_findHabits N kn Ω = some (none, Ω', 0, 0) ∧ Wx sLx Ω Ω' ∧ HbX Ω' q D) ∧ (∀ N Ω, 50 ≤ N → Wx sS0 B Ω → ∃ Ω', fn_X2_habits N kn Ω = some (none, Ω', 0, 0) ∧ Wx sLm Ω Ω' ∧ HbM Ω' q D) := by
  have hok := uE_ok hB (kn := kn) (gC B 5) (Nat.le_refl _)
  obtain ⟨Ωx, fl, x1, x2, x3, x4, x5, x6⟩ := x_habits hB (kn := kn) (N := 50) (by decide) (Wx.refl (L := sS0) (Ω := B))
  obtain ⟨Ωm, D, m1, m2, m3, m4, m5⟩ := m_habits hB (kn := kn) (N := 50) (by decide) (Wx.refl (L := sS0) (Ω := B))
  have hu : rgU (h0 (uE B kn (gC B 5))) := fun x y _ _ => Int.le_trans (h0_mono _ _ x y) (by unfold hI; split <;> decide)
  have hF : rgU (hfw (h0 (uE B kn (gC B 5))) 5) := fun x y hx hy => Int.le_trans (by have := hfw_le (h0 (uE B kn (gC B 5))) x y 0 5; rw [Nat.zero_add] at this; exact this) (hu x y hx hy)
  have hmM : ∀ D', rgM D' → hG (uE B kn (gC B 5)) D' → ∀ x y, x < 5 → y < 5 → D' x y = hfw (h0 (uE B kn (gC B 5))) 5 x y := by
    intro D' hr hg x y hx hy
    obtain ⟨_, k⟩ := (h_law (D := D') hok).1 hg
    obtain ⟨k1, k2⟩ := k x y hx hy
    have := hF x y hx hy
    have := hr x y hx hy
    by_cases h : D' x y < 1000000
    · exact (k2 h).symm
    · have : ¬ hfw (h0 (uE B kn (gC B 5))) 5 x y < 1000000 := fun w => h (k1.1 w)
      omega
  rcases m4 with ⟨g, g0⟩ | ⟨g, gs, g1⟩
  · obtain ⟨pos, _⟩ := (h_law (D := D) hok).1 g
    have nq : ∀ fl : Int32, (fl = 0 ∨ fl = 1) → (fl = 1 ↔ ∃ x, x < 5 ∧ hfw (h0 (uE B kn (gC B 5))) 5 x x < 0) → fl = 0 := by
      intro fl h1 h2
      rcases h1 with h1 | h1
      · exact h1
      · obtain ⟨x, q1, q2⟩ := h2.1 h1
        have := pos x q1
        omega
    refine ⟨false, fun a b => gI Ωx 36 a b, ?_, ?_, ?_⟩
    · intro _ a b ha hb
      rw [x3 a b ha hb, ← hmM D m3 g a b ha hb]
      have h2 := m3 a b ha hb
      by_cases h : D a b < 1000000
      · have := g.2.2.1 a b ha hb h; omega
      · omega
    · intro N Ω hN hw
      obtain ⟨Ω', f', y1, y2, y3, y4, y5, y6⟩ := x_habits hB (kn := kn) hN hw
      refine ⟨Ω', y1, y2, by rw [y4, nq f' y5 y6]; rfl, fun _ a b ha hb => ?_⟩
      show gI Ω' 36 a b = gI Ωx 36 a b
      rw [fa_eq, y3 a b ha hb, x3 a b ha hb]
    · intro N Ω hN hw
      obtain ⟨Ω', D', y1, y2, y3, y4, y5⟩ := m_habits hB (kn := kn) hN hw
      rcases y4 with ⟨y4, y6⟩ | ⟨y4, y7, y6⟩
      · refine ⟨Ω', y1, y2, by rw [y6]; rfl, fun _ m hm => ?_⟩
        obtain ⟨u, v, u1, v1, k1, k2, k3⟩ := y5 m hm
        have e1 : u = gI Ωx 36 m 0 := by rw [fa_eq, u1, x3 m 0 hm (by decide), hmM D' y3 y4 m 0 hm (by decide)]
        have e2 : v = gI Ωx 36 0 m := by rw [fa_eq, v1, x3 0 m (by decide) hm, hmM D' y3 y4 0 m (by decide) hm]
        show gI Ω' 33 3 m = (if gI Ωx 36 m 0 < 1000000 then 1 else 0) ∧ gI Ω' 32 37 m = gI Ωx 36 m 0 ∧ gI Ω' 32 36 m = - gI Ωx 36 0 m
        rw [← e1, ← e2]
        exact ⟨k1, k2, k3⟩
      · obtain ⟨x, q1, q2⟩ := (h_law (D := D') hok).2 y7 y4
        have := pos x q1
        omega
  · have neg := (h_law (D := D) hok).2 gs g
    refine ⟨true, fun a b => 0, fun h => by simp at h, ?_, ?_⟩
    · intro N Ω hN hw
      obtain ⟨Ω', f', y1, y2, y3, y4, y5, y6⟩ := x_habits hB (kn := kn) hN hw
      exact ⟨Ω', y1, y2, by rw [y4, y6.2 neg]; rfl, fun h => by simp at h⟩
    · intro N Ω hN hw
      obtain ⟨Ω', D', y1, y2, y3, y4, y5⟩ := m_habits hB (kn := kn) hN hw
      rcases y4 with ⟨y4, y6⟩ | ⟨y4, y7, y6⟩
      · obtain ⟨pos, _⟩ := (h_law (D := D') hok).1 y4
        obtain ⟨x, q1, q2⟩ := neg
        have := pos x q1
        omega
      · exact ⟨Ω', y1, y2, by rw [y6]; rfl, fun h => by simp at h⟩
end U
