/-! ===== M's curve: the sets ===== -/
def enM (n : Nat) (g : Nat → Nat) (S : Nat) : Prop := ∀ s, s < n → S.testBit s ≠ true → sub (g s) S
section S
variable {B : zo_O} (hB : Bse B) {N : Nat} {g : Nat → Nat} (hgl : ∀ s, g s < 16384)
include hB hgl
theorem m_enL {S : Nat} {Ω : zo_O} (hS : S < 16384) (hw : Wx sS0 B Ω) (hg : agM Ω g) : ∀ m i n, i + m = gC B 2 → m < n → (∀ s, s < i → S.testBit s ≠ true → sub (g s) S) → ∃ b : Int32, fn_X2_isEnough_2 N n (nI S) (nI i) Ω = some (some (vi b), Ω, 0, 0) ∧ (b = 0 ∨ b = 1) ∧ (b = 1 ↔ enM (gC B 2) g S) := by
  have h14 := n_2 hB
  have h2 := (b_s hB).2
  intro m
  induction m with
  | zero =>
    intro i n hi hn hp
    obtain ⟨n, rfl⟩ : ∃ k, n = k + 1 := ⟨n - 1, by omega⟩
    have : i = gC B 2 := by omega
    subst this
    unfold fn_X2_isEnough_2 bd_X2_isEnough_2
    rw [w_m hw (by decide), h2, if_pos (by grind)]
    exact ⟨1, rfl, Or.inr rfl, ⟨fun _ => hp, fun _ => rfl⟩⟩
  | succ m ih =>
    intro i n hi hn hp
    obtain ⟨n, rfl⟩ : ∃ k, n = k + 1 := ⟨n - 1, by omega⟩
    unfold fn_X2_isEnough_2 bd_X2_isEnough_2 fn_X2_isEnough_33
    rw [w_m hw (by decide), h2, if_neg (by rw [nI_leI (by omega) (by omega)]; omega)]
    simp only [b_tst (show S < 2147483648 by omega) (show i < 32 by omega), ix_n (show i < 14 by omega) (show 14 < 2147483648 by decide), hg i (by omega), nI_1, if_10]
    have go : (S.testBit i ≠ true → sub (g i) S) → ∃ b : Int32, fn_X2_isEnough_2 N n (nI S) (nI (i + 1)) Ω = some (some (vi b), Ω, 0, 0) ∧ (b = 0 ∨ b = 1) ∧ (b = 1 ↔ enM (gC B 2) g S) := fun h =>
      ih (i + 1) n (by omega) (by omega) (fun s hs => by
        by_cases e : s = i
        · subst e; exact h
        · exact hp s (by omega))
    by_cases h1 : S.testBit i = true
    · rw [if_pos h1]; exact go (fun w => absurd h1 w)
    · rw [if_neg h1]
      have hb := b_sub (a := g i) (s := S) (by have := hgl i; omega) (by omega)
      by_cases h3 : nI (g i) &&& (nI S ^^^ (-1)) = 0
      · rw [if_pos h3]; exact go (fun _ => hb.1 h3)
      · rw [if_neg h3, rZ_0]
        exact ⟨0, rfl, Or.inl rfl, ⟨fun q => absurd q (by decide), fun q => absurd (hb.2 (q i (by omega) h1)) h3⟩⟩
theorem m_isEnough {S : Nat} {Ω : zo_O} (hN : 20 ≤ N) (hS : S < 16384) (hw : Wx sS0 B Ω) (hg : agM Ω g) : ∃ b : Int32, fn_X2_isEnough N (nI S) Ω = some (some (vi b), Ω, 0, 0) ∧ (b = 0 ∨ b = 1) ∧ (b = 1 ↔ enM (gC B 2) g S) := by
  have h14 := n_2 hB
  exact m_enL hB hgl hS hw hg (gC B 2) 0 N (by omega) (by omega) (fun s h => by omega)
theorem m_sets (hN : 20 ≤ N) : ∀ m S n Ω (f : Int32) r, S + m = 2 ^ gC B 2 → m < n → Wx sS0 B Ω → agM Ω g → gI Ω 1 0 73 = nI r → ((f = 15 ∧ ∀ T, T < S → ¬ enM (gC B 2) g T) ∨ (f = nI (bc r) ∧ r < S ∧ enM (gC B 2) g r ∧ ∀ T, T < S → enM (gC B 2) g T → bet r T)) → ∃ Ω' r', fn_X2_curve_373 N n f (nI S) Ω = cv (fn_X2_sizes N Ω') (fun Ω2 => rV Ω2) ∧ Wx [(1, 73)] Ω Ω' ∧ gI Ω' 1 0 73 = nI r' ∧ r' < 2 ^ gC B 2 ∧ enM (gC B 2) g r' ∧ ∀ T, T < 2 ^ gC B 2 → enM (gC B 2) g T → bet r' T := by
  have h14 := n_2 hB
  have h2 := (b_s hB).2
  have hpw : 2 ^ gC B 2 ≤ 2 ^ 14 := Nat.pow_le_pow_right (by decide) h14
  have hpos : 0 < 2 ^ gC B 2 := Nat.pow_pos (by decide)
  intro m
  induction m with
  | zero =>
    intro S n Ω f r hS hn hw hg hr hI
    obtain ⟨n, rfl⟩ : ∃ k, n = k + 1 := ⟨n - 1, by omega⟩
    have : S = 2 ^ gC B 2 := by omega
    subst this
    unfold fn_X2_curve_373 bd_X2_curve_373
    rw [w_m hw (by decide), h2, b_shl _ h14, if_pos (by grind)]
    rcases hI with ⟨_, h⟩ | ⟨h1, h2, h3, h4⟩
    · exact absurd (fun s hs hn => absurd (by rw [Nat.testBit_two_pow_sub_one]; exact decide_eq_true hs) hn) (h (2 ^ gC B 2 - 1) (by omega))
    · exact ⟨Ω, r, rfl, Wx.refl, hr, h2, h3, h4⟩
  | succ m ih =>
    intro S n Ω f r hS hn hw hg hr hI
    obtain ⟨n, rfl⟩ : ∃ k, n = k + 1 := ⟨n - 1, by omega⟩
    have hSl : S < 16384 := by omega
    have hbS := bc_le S
    have hbr := bc_le r
    unfold fn_X2_curve_373 bd_X2_curve_373 fn_X2_curve_419
    rw [w_m hw (by decide), h2, b_shl _ h14, if_neg (by rw [nI_leI (by omega) (by omega)]; omega)]
    simp only [j_bitCount hSl, ci_mk, nI_1]
    obtain ⟨b, e1, e2, e3⟩ := m_isEnough hB (N := N) hgl hN hSl hw hg
    have skip : (enM (gC B 2) g S → (f = nI (bc r) ∧ r < S ∧ bet r S)) → ∃ Ω' r', fn_X2_curve_373 N n f (nI (S + 1)) Ω = cv (fn_X2_sizes N Ω') (fun Ω2 => rV Ω2) ∧ Wx [(1, 73)] Ω Ω' ∧ gI Ω' 1 0 73 = nI r' ∧ r' < 2 ^ gC B 2 ∧ enM (gC B 2) g r' ∧ ∀ T, T < 2 ^ gC B 2 → enM (gC B 2) g T → bet r' T := by
      intro h
      refine ih (S + 1) n Ω f r (by omega) (by omega) hw hg hr ?_
      rcases hI with ⟨h1, h2⟩ | ⟨h1, h2, h3, h4⟩
      · left
        refine ⟨h1, fun T hT => ?_⟩
        by_cases e : T = S
        · subst e
          intro w
          obtain ⟨k1, k2, _⟩ := h w
          rw [h1] at k1
          have : (15 : Int32) = nI 15 := rfl
          rw [this, nI_eq (by decide) (by omega)] at k1
          omega
        · exact h2 T (by omega)
      · right
        refine ⟨h1, by omega, h3, fun T hT w => ?_⟩
        by_cases e : T = S
        · subst e; exact (h w).2.2
        · exact h4 T (by omega) w
    by_cases hf : f ≤ nI (bc S)
    · rw [if_pos hf]
      refine skip (fun w => ?_)
      rcases hI with ⟨h1, h2⟩ | ⟨h1, h2, h3, h4⟩
      · rw [h1, show (15 : Int32) = nI 15 from rfl, nI_leI (by decide) (by omega)] at hf
        omega
      · rw [h1, nI_leI (by omega) (by omega)] at hf
        refine ⟨h1, h2, ?_⟩
        unfold bet; omega
    · rw [if_neg hf, e1, ci_mk]
      rcases e2 with rfl | rfl
      · rw [if_pos rfl]
        exact skip (fun w => absurd (e3.2 w) (by decide))
      · rw [if_neg (by decide)]
        unfold lt
        have W1 : Wx [(1, 73)] Ω (sI Ω 1 0 73 (nI S)) := Wx.refl.sI (Or.inl (by simp [ky]))
        obtain ⟨Ω', r', k1, k2, k3⟩ := ih (S + 1) n (sI Ω 1 0 73 (nI S)) (nI (bc S)) S (by omega) (by omega) (hw.step W1 (by decide)) (fun s hs => by rw [gI_sI, if_neg (by omega)]; exact hg s hs) (by rw [gI_sI, if_pos ⟨rfl, rfl, rfl⟩]) (Or.inr ⟨rfl, by omega, e3.1 rfl, fun T hT w => by
          by_cases e : T = S
          · subst e; exact bet_refl
          · rcases hI with ⟨h1, h2⟩ | ⟨h1, h2, h3, h4⟩
            · exact absurd w (h2 T (by omega))
            · have hb := h4 T (by omega) w
              rw [h1, nI_leI (by omega) (by omega)] at hf
              unfold bet at hb ⊢
              omega⟩)
        exact ⟨Ω', r', k1, W1.trans k2, k3⟩
omit hB hgl in
theorem m_cv200 : ∀ m i n Ω, i + m = 14 → m < n → (∀ s, s < i → gI Ω 32 44 s = 0) → ∃ Ω', fn_X2_curve_200 N n (nI i) Ω = fn_X2_curve_224 N N 0 Ω' ∧ Wx [(32, 44)] Ω Ω' ∧ agM Ω' (fun _ => 0) := by
  intro m
  induction m with
  | zero =>
    intro i n Ω hi hn hz
    obtain ⟨n, rfl⟩ : ∃ k, n = k + 1 := ⟨n - 1, by omega⟩
    have : i = 14 := by omega
    subst this
    unfold fn_X2_curve_200 bd_X2_curve_200
    rw [if_pos (by decide)]
    exact ⟨Ω, rfl, Wx.refl, fun s hs => hz s hs⟩
  | succ m ih =>
    intro i n Ω hi hn hz
    obtain ⟨n, rfl⟩ : ∃ k, n = k + 1 := ⟨n - 1, by omega⟩
    unfold fn_X2_curve_200 bd_X2_curve_200
    rw [if_neg (by rw [show (14 : Int32) = nI 14 from rfl, nI_leI (by decide) (by omega)]; omega), ix_n (show i < 14 by omega) (by decide)]
    unfold lt
    have W1 : Wx [(32, 44)] Ω (sI Ω 32 44 i 0) := Wx.refl.sI (Or.inl (by simp [ky]))
    obtain ⟨Ω', k1, k2, k3⟩ := ih (i + 1) n (sI Ω 32 44 i 0) (by omega) (by omega) (fun s hs => by
      rw [gI_sI]
      by_cases e : s = i
      · rw [if_pos ⟨rfl, rfl, e⟩]
      · rw [if_neg (fun w => e w.2.2)]; exact hz s (by omega))
    rw [nI_1]
    exact ⟨Ω', k1, W1.trans k2, k3⟩
end S
section U
variable {B : zo_O} (hB : Bse B) {q : Bool} {D : Nat → Nat → Int32} (hD : q = false → DBd D) {kn : Int32} {kk : Nat} {sd bt but : Int32}
include hB hD
theorem enM_iff {S : Nat} : enM (gC B 2) (stMM (gI B 1 0 42) (bM B q D kn kk sd bt but (gC B 3)) (bM B q D kn kk sd bt but (gC B 3)) (fun _ => 0)) S ↔ cvE (cfl (gI B 1 0 42) (lws B q D kn kk sd bt but) (ups B q D kn kk sd bt but)) (alo (gI B 1 0 42) (lws B q D kn kk sd bt but)) S := by
  have hg : ∀ x y, ((stMM (gI B 1 0 42) (bM B q D kn kk sd bt but (gC B 3)) (bM B q D kn kk sd bt but (gC B 3)) (fun _ => 0)) x).testBit y = true ↔ (x = y ∧ alo (gI B 1 0 42) (lws B q D kn kk sd bt but) x) ∨ cfl (gI B 1 0 42) (lws B q D kn kk sd bt but) (ups B q D kn kk sd bt but) x y := by
    intro x y
    rw [stM_g]
    simp only [Nat.zero_testBit, Bool.false_eq_true, false_or]
    constructor
    · rintro ⟨⟨s, a, v, u⟩, h1, h2, h3, h4⟩
      simp only at h2 h3 h4
      subst h2; subst h3
      have hl := (bM_low hB hD).1 h1
      rcases h4 with ⟨h4, h5⟩ | ⟨⟨t, b, w, u⟩, h4, h5, h6, h7⟩
      · exact Or.inl ⟨h4.symm, a, v, hl, h5⟩
      · simp only at h5 h6 h7
        subst h5; subst h6
        exact Or.inr ⟨a, v, b, w, hl, (bM_up hB hD).1 h4, h7⟩
    · rintro (⟨rfl, a, v, h1, h2⟩ | ⟨a, v, b, w, h1, h2, h3⟩)
      · exact ⟨(x, a, v, false), (bM_low hB hD).2 h1, rfl, rfl, Or.inl ⟨rfl, h2⟩⟩
      · exact ⟨(x, a, v, false), (bM_low hB hD).2 h1, rfl, rfl, Or.inr ⟨(y, b, w, true), (bM_up hB hD).2 h2, rfl, rfl, h3⟩⟩
  unfold enM cvE sub
  constructor
  · intro h
    refine ⟨fun s t hc => ?_, fun s ha => ?_⟩
    · by_cases e : S.testBit s = true
      · exact Or.inl e
      · have hs : s < gC B 2 := by obtain ⟨a, v, b, w, h1, _⟩ := hc; exact (lws_ok hB hD h1).1
        exact Or.inr (h s hs e t ((hg s t).2 (Or.inr hc)))
    · by_cases e : S.testBit s = true
      · exact e
      · have hs : s < gC B 2 := by obtain ⟨a, v, h1, _⟩ := ha; exact (lws_ok hB hD h1).1
        exact h s hs e s ((hg s s).2 (Or.inl ⟨rfl, ha⟩))
  · rintro ⟨h1, h2⟩ s hs hn t ht
    rcases (hg s t).1 ht with ⟨rfl, h⟩ | h
    · exact h2 s h
    · rcases h1 s t h with h | h
      · exact absurd h hn
      · exact h
end U
