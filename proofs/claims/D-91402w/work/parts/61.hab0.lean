/-! ===== circles used, habits being worked out ===== -/
def HbX (Ω : zo_O) (q : Bool) (D : Nat → Nat → Int32) : Prop := gI Ω 0 0 17 = (if q = true then 1 else 0) ∧ (q = false → ∀ a b, a < 5 → b < 5 → gI Ω 36 a b = D a b)
def HbM (Ω : zo_O) (q : Bool) (D : Nat → Nat → Int32) : Prop := gI Ω 1 0 65 = (if q = true then 1 else 0) ∧ (q = false → ∀ m, m < 5 → gI Ω 33 3 m = (if D m 0 < 1000000 then 1 else 0) ∧ gI Ω 32 37 m = D m 0 ∧ gI Ω 32 36 m = - D 0 m)
def mea (B : zo_O) (c : Nat) : Nat := (gI B 32 7 c).toNatClampNeg
def sU (B : zo_O) (q : Bool) (D : Nat → Nat → Int32) (kn : Int32) (c : Nat) : Bool := decide (ruA B c = 1) && decide (gI B 32 11 c ≤ kn) && !q && decide (D (mea B c) 0 < 1000000)
def sLo (B : zo_O) (D : Nat → Nat → Int32) (c : Nat) : Int32 := mx 0 (gI B 32 8 c - D (mea B c) 0)
def sHi (B : zo_O) (D : Nat → Nat → Int32) (c : Nat) : Int32 := mx 0 (gI B 32 8 c + D 0 (mea B c))
theorem sU_q {B : zo_O} {q : Bool} {D : Nat → Nat → Int32} {kn : Int32} {c : Nat} (h : sU B q D kn c = true) : q = false := by
  cases q
  · rfl
  · simp [sU] at h
section U
variable {B Ω : zo_O} {q : Bool} {D : Nat → Nat → Int32} (hB : Bse B) (hw : Wx sS0 B Ω)
include hB
theorem mea_n {c : Nat} (hc : c < gC B 3) : mea B c < 5 ∧ gI B 32 7 c = nI (mea B c) := by
  obtain ⟨s, _, _, _, _, _, _, _, _, hm, _⟩ := hB.2.2.2.1 c hc
  obtain ⟨j, h1, h2⟩ := nI_between (n := 5) (by decide) (show 0 ≤ gI B 32 7 c ∧ gI B 32 7 c ≤ nI 5 - 1 from hm)
  have : mea B c = j := by unfold mea; rw [h2, nI_clamp (by omega)]
  rw [this]; exact ⟨h1, h2⟩
include hw
theorem L36 {j : Nat} (h : j < 5) : gL Ω 36 j = 5 := by
  rw [hw.L (Or.inl (fx_m (by decide)))]; exact hB.2.2.2.2.2.2.2.2 j h
theorem x_isLed {N m : Nat} (hx : HbX Ω q D) (hm : m < 5) : fn_X1_isLed N (nI m) Ω = some (some (vi (if (!q && decide (D m 0 < 1000000)) = true then 1 else 0)), Ω, 0, 0) := by
  unfold fn_X1_isLed fn_X1_isLed_24 fn_X1_isLed_25
  rw [hx.1]
  cases hq : q with
  | true => rfl
  | false =>
    have hd := hx.2 hq m 0 hm (by decide)
    have h0 : (0 : Int32) = nI 0 := rfl
    have e : ix (0 : Int32) 5 = ix (nI 0) 5 := rfl
    simp only [ix_n hm (by decide), L36 hB hw hm, e, ix_n (show 0 < 5 by decide) (by decide), hd]
    by_cases h : D m 0 < 1000000
    · have : ¬ 1000000 ≤ D m 0 := by grind
      simp [h, this, rZ_1]
    · have : 1000000 ≤ D m 0 := by grind
      simp [h, this, rZ_0]
theorem x_isUsed {N c : Nat} {kn : Int32} (hN : 15 ≤ N) (hx : HbX Ω q D) (hc : c < gC B 3) : fn_X1_isUsed N c kn Ω = some (some (vi (if sU B q D kn c = true then 1 else 0)), Ω, 0, 0) := by
  obtain ⟨m1, m2⟩ := mea_n hB hc
  obtain ⟨x0, x1, x2, _⟩ := cirX hB hw hc
  have h12 := (rl_m hB).1
  unfold fn_X1_isUsed
  rw [show (0 : Int32) = nI 0 from rfl, x_ruL hB hw (by omega) hc (stn B) 0 N 1 (by omega) (by omega) (Or.inr rfl)]
  show xfin N c kn (ruA B c) Ω = _
  have h01 := ruA_01 hB hw c hc
  unfold xfin fn_X3_isBy_3 fn_X3_isBy_3_13
  simp only [x0, x2, m2, rZ_0, rZ_1]
  unfold sU
  rcases h01 with h | h
  · simp [h, nI_0]
  · rw [if_neg (by rw [h]; decide)]
    by_cases hd : kn < gI B 32 11 c
    · have : ¬ gI B 32 11 c ≤ kn := by grind
      simp [hd, this, ci_mk, nI_0]
    · have : gI B 32 11 c ≤ kn := by grind
      simp only [hd, if_false, ci_mk, x_isLed hB hw hx m1, m2, x2, if_10, this, h, decide_true, Bool.true_and]
      rw [if_neg (by decide)]
      cases (!q && decide (D (mea B c) 0 < 1000000)) <;> rfl
theorem m_isUsed {N c : Nat} {kn : Int32} (hN : 15 ≤ N) (hx : HbM Ω q D) (hc : c < gC B 3) : fn_X2_isUsed N (nI c) kn Ω = some (some (vi (if sU B q D kn c = true then 1 else 0)), Ω, 0, 0) := by
  obtain ⟨m1, m2⟩ := mea_n hB hc
  have h120 := n_3 hB
  have h12 := (rl_m hB).1
  have e7 : gI Ω 32 7 c = nI (mea B c) := by rw [w_c hw (by decide)]; exact m2
  unfold fn_X2_isUsed fn_X2_isUsed_31
  have hr := (m_ruL (N := N) hB hw (by omega) hc (stn B) 0 N 1 (by omega) (by omega) (Or.inr rfl)).1
  rw [show nI 0 = (0 : Int32) from rfl] at hr
  simp only [ix_n (show c < 120 by omega) (by decide), e7, ix_n m1 (by decide), w_c hw (show 11 ≤ 35 by decide), rZ_0, hr, hx.1]
  unfold sU
  by_cases hd : kn < gI B 32 11 c
  · have : ¬ gI B 32 11 c ≤ kn := by grind
    simp [hd, this]
  · have : gI B 32 11 c ≤ kn := by grind
    rw [if_neg hd]
    cases hq : q with
    | true => simp
    | false =>
      have hd := (hx.2 hq _ m1).1
      rw [hd]
      by_cases h : D (mea B c) 0 < 1000000
      · rcases ruA_01 hB hw c hc with h' | h' <;> simp [h, this, h'] <;> exact h'
      · simp [h, this]
theorem x_least {N c : Nat} (hx : HbX Ω q D) (hq : q = false) (hc : c < gC B 3) : fn_X1_least N c Ω = some (some (vi (sLo B D c)), Ω, 0, 0) := by
  obtain ⟨m1, m2⟩ := mea_n hB hc
  obtain ⟨x0, x1, x2, x3, _⟩ := cirX hB hw hc
  have e : ix (0 : Int32) 5 = ix (nI 0) 5 := rfl
  unfold fn_X1_least
  simp only [x2, x3, m2, ix_n m1 (by decide), L36 hB hw m1, e, ix_n (show 0 < 5 by decide) (by decide), hx.2 hq _ 0 m1 (by decide), rI]
  rfl
theorem x_most {N c : Nat} (hx : HbX Ω q D) (hq : q = false) (hc : c < gC B 3) : fn_X1_most N c Ω = some (some (vi (sHi B D c)), Ω, 0, 0) := by
  obtain ⟨m1, m2⟩ := mea_n hB hc
  obtain ⟨x0, x1, x2, x3, _⟩ := cirX hB hw hc
  have e : ix (0 : Int32) 5 = ix (nI 0) 5 := rfl
  unfold fn_X1_most
  simp only [e, ix_n (show 0 < 5 by decide) (by decide), L36 hB hw (show 0 < 5 by decide), x2, x3, m2, ix_n m1 (by decide), hx.2 hq 0 _ (by decide) m1, rI]
  rfl
theorem m_lowOf {N c : Nat} (hx : HbM Ω q D) (hq : q = false) (hc : c < gC B 3) : fn_X2_lowOf N (nI c) Ω = some (some (vi (sLo B D c)), Ω, 0, 0) := by
  obtain ⟨m1, m2⟩ := mea_n hB hc
  have h120 := n_3 hB
  have e7 : gI Ω 32 7 c = nI (mea B c) := by rw [w_c hw (by decide)]; exact m2
  unfold fn_X2_lowOf
  simp only [ix_n (show c < 120 by omega) (by decide), e7, ix_n m1 (by decide), w_c hw (show 8 ≤ 35 by decide), (hx.2 hq _ m1).2.1, rI]
  rfl
theorem m_highOf {N c : Nat} (hx : HbM Ω q D) (hq : q = false) (hc : c < gC B 3) : fn_X2_highOf N (nI c) Ω = some (some (vi (sHi B D c)), Ω, 0, 0) := by
  obtain ⟨m1, m2⟩ := mea_n hB hc
  have h120 := n_3 hB
  have e7 : gI Ω 32 7 c = nI (mea B c) := by rw [w_c hw (by decide)]; exact m2
  unfold fn_X2_highOf
  simp only [ix_n (show c < 120 by omega) (by decide), e7, ix_n m1 (by decide), w_c hw (show 8 ≤ 35 by decide), (hx.2 hq _ m1).2.2, rI]
  unfold sHi
  rw [show gI B 32 8 c - -D 0 (mea B c) = gI B 32 8 c + D 0 (mea B c) by grind]
end U
