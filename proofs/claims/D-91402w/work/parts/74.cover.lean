/-! ===== plain law: the least cover, from above and from below ===== -/
def sub (S T : Nat) : Prop := ∀ i, S.testBit i = true → T.testBit i = true
theorem sub_and {S T : Nat} : sub S T ↔ S &&& T = S := by
  constructor
  · intro h
    apply Nat.eq_of_testBit_eq
    intro i
    rw [Nat.testBit_and]
    cases e : S.testBit i
    · rfl
    · rw [h i e]; rfl
  · intro h i hi
    rw [← h, Nat.testBit_and] at hi
    simp at hi
    exact hi.2
theorem sub_le {S T : Nat} (h : sub S T) : S ≤ T := by
  rw [sub_and] at h
  rw [← h]
  exact Nat.and_le_right
theorem bcN_mono {S T : Nat} (h : sub S T) : ∀ n, bcN S n ≤ bcN T n
  | 0 => Nat.le_refl _
  | n + 1 => by
    have := bcN_mono h n
    have h2 := h n
    rw [bcN, bcN]
    cases e : S.testBit n
    · simp; omega
    · rw [h2 e]; omega
theorem bc_le (S : Nat) : bc S ≤ 14 := by
  have : ∀ n, bcN S n ≤ n := by
    intro n
    induction n with
    | zero => exact Nat.le_refl _
    | succ n ih => rw [bcN]; cases S.testBit n <;> simp <;> omega
  exact this 14
def bet (S T : Nat) : Prop := bc S < bc T ∨ (bc S = bc T ∧ S ≤ T)
theorem bet_trans {S T U : Nat} (h1 : bet S T) (h2 : bet T U) : bet S U := by unfold bet at *; omega
theorem bet_anti {S T : Nat} (h1 : bet S T) (h2 : bet T S) : S = T := by unfold bet at *; omega
theorem bet_refl {S : Nat} : bet S S := Or.inr ⟨rfl, Nat.le_refl _⟩
theorem bet_tot {S T : Nat} (h : ¬ bet S T) : bet T S := by unfold bet at *; omega
theorem bet_sub {S T : Nat} (h : sub S T) : bet S T := by
  have h1 := bcN_mono h 14
  have h2 := sub_le h
  unfold bet bc
  omega
theorem bet_0 {S : Nat} : bet 0 S := bet_sub (fun i h => by simp at h)
/-- the next lower set of some -/
theorem sub_step : ∀ n sm S T, T < 2 ^ n → T &&& sm = T → S &&& sm = S → S < T → S ≤ (T - 1) &&& sm := by
  intro n
  induction n with
  | zero => intro sm S T h1 _ _ h4; simp at h1; omega
  | succ n ih =>
    intro sm S T h1 h2 h3 h4
    have a2 : (T / 2) &&& (sm / 2) = T / 2 := by rw [← Nat.and_div_two, h2]
    have a3 : (S / 2) &&& (sm / 2) = S / 2 := by rw [← Nat.and_div_two, h3]
    have b3 : S % 2 ≤ sm % 2 := by
      have h := congrArg (· % 2) h3
      simp only [Nat.and_mod_two_pow (n := 1), Nat.pow_one] at h
      have : S % 2 &&& sm % 2 ≤ sm % 2 := Nat.and_le_right
      omega
    have dv : ((T - 1) &&& sm) / 2 = ((T - 1) / 2) &&& (sm / 2) := Nat.and_div_two
    have md : ((T - 1) &&& sm) % 2 = ((T - 1) % 2) &&& (sm % 2) := by
      have h' := Nat.and_mod_two_pow (a := T - 1) (b := sm) (n := 1)
      rw [Nat.pow_one] at h'; exact h'
    by_cases e : T % 2 = 1
    · have e1 : (T - 1) / 2 = T / 2 := by omega
      have e2 : (T - 1) % 2 = 0 := by omega
      rw [e1, a2] at dv
      rw [e2, Nat.zero_and] at md
      omega
    · have e1 : (T - 1) / 2 = T / 2 - 1 := by omega
      have e2 : (T - 1) % 2 = 1 := by omega
      have hlt : S / 2 < T / 2 := by omega
      have hp : T / 2 < 2 ^ n := by rw [Nat.pow_succ] at h1; omega
      have := ih (sm / 2) (S / 2) (T / 2) hp a2 a3 hlt
      rw [e1] at dv
      rw [← dv] at this
      rw [e2] at md
      have hs : sm % 2 = 0 ∨ sm % 2 = 1 := by omega
      have m1 : 1 &&& (sm % 2) = sm % 2 := by rcases hs with h | h <;> rw [h] <;> decide
      rw [m1] at md
      omega
def cvE (cf : Nat → Nat → Prop) (al : Nat → Prop) (S : Nat) : Prop := (∀ s t, cf s t → S.testBit s = true ∨ S.testBit t = true) ∧ ∀ s, al s → S.testBit s = true
theorem st_uniq {cf : Nat → Nat → Prop} {al : Nat → Prop} {r r' sm n : Nat} (h1 : cvE cf al r) (h2 : ∀ S, S < 2 ^ n → cvE cf al S → bet r S) (h4 : cvE cf al r') (h5 : sub r' sm) (h6 : ∀ S, sub S sm → cvE cf al S → bet r' S) (hs : sm < 2 ^ n) (hc : ∀ s t, cf s t → sm.testBit s = true ∧ sm.testBit t = true) (ha : ∀ s, al s → sm.testBit s = true) : r = r' := by
  have k1 : bet r r' := h2 r' (Nat.lt_of_le_of_lt (sub_le h5) hs) h4
  have k2 : cvE cf al (r &&& sm) := by
    refine ⟨fun s t q => ?_, fun s q => ?_⟩
    · rw [Nat.testBit_and, Nat.testBit_and, (hc s t q).1, (hc s t q).2, Bool.and_true, Bool.and_true]
      exact h1.1 s t q
    · rw [Nat.testBit_and, ha s q, Bool.and_true]; exact h1.2 s q
  have k3 : bet r' (r &&& sm) := h6 _ (fun i hi => by rw [Nat.testBit_and] at hi; simp at hi; exact hi.2) k2
  have k4 : bet (r &&& sm) r := bet_sub (fun i hi => by rw [Nat.testBit_and] at hi; simp at hi; exact hi.1)
  exact bet_anti k1 (bet_trans k3 k4)
