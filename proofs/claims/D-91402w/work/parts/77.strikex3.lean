/-! ===== X's strikes: the sets ===== -/
theorem x_isBetter {N j S T : Nat} {Ω : zo_O} (hS : S < 16384) (hT : T < 16384) : ∃ b : Int32, fn_X17_isBetter N j (nI S) (nI T) Ω = some (some (vi b), Ω, 0, 0) ∧ (b = 0 ∨ b = 1) ∧ (b = 1 ↔ bet S T) := by
  have h1 := bc_le S
  have h2 := bc_le T
  unfold fn_X17_isBetter fn_X17_isBetter_28 fn_X17_isBetter_32 fn_X17_isBetter_33
  simp only [j_bitCount hS, j_bitCount hT, ci_mk, nI_ltI (show bc S < 2 ^ 31 by omega) (show bc T < 2 ^ 31 by omega), nI_eq (show bc S < 2 ^ 31 by omega) (show bc T < 2 ^ 31 by omega), nI_ltI (show T < 2 ^ 31 by omega) (show S < 2 ^ 31 by omega), rZ_0, rZ_1]
  unfold bet
  by_cases e1 : bc S < bc T
  · rw [if_pos e1]; exact ⟨1, rfl, Or.inr rfl, by simp [e1]⟩
  · rw [if_neg e1]
    by_cases e2 : bc S = bc T
    · rw [if_pos e2]
      by_cases e3 : T < S
      · rw [if_pos e3]; exact ⟨0, rfl, Or.inl rfl, by simp; omega⟩
      · rw [if_neg e3]; exact ⟨1, rfl, Or.inr rfl, by simp; omega⟩
    · rw [if_neg e2]; exact ⟨0, rfl, Or.inl rfl, by simp; omega⟩
def prt (g : Nat → Nat) (sm S : Nat) : Prop := ∀ s, s < 14 → sm.testBit s = true → S.testBit s ≠ true → sub (g s) S
theorem x_partsL {N x1 S sm : Nat} {Ω : zo_O} {g : Nat → Nat} (hS : S < 16384) (hsm : sm < 16384) (hg : agX Ω x1 g) (hgl : ∀ s, g s < 16384) : ∀ m i n (f : Int32), i + m = 14 → m < n → (f = 0 ∨ f = 1) → (f = 1 ↔ ∀ s, s < i → sm.testBit s = true → S.testBit s ≠ true → sub (g s) S) → ∃ b : Int32, fn_X17_parts_6 N n (nI S) (nI sm) x1 f (nI i) Ω = some (some (vi b), Ω, 0, 0) ∧ (b = 0 ∨ b = 1) ∧ (b = 1 ↔ prt g sm S) := by
  intro m
  induction m with
  | zero =>
    intro i n f hi hn hf hp
    obtain ⟨n, rfl⟩ : ∃ k, n = k + 1 := ⟨n - 1, by omega⟩
    have : i = 14 := by omega
    subst this
    unfold fn_X17_parts_6 bd_X17_parts_6 fn_X17_parts_61
    rw [if_pos (by decide)]
    refine ⟨f, ?_, hf, hp⟩
    rcases hf with rfl | rfl <;> rfl
  | succ m ih =>
    intro i n f hi hn hf hp
    obtain ⟨n, rfl⟩ : ∃ k, n = k + 1 := ⟨n - 1, by omega⟩
    unfold fn_X17_parts_6 bd_X17_parts_6 fn_X17_parts_61 fn_X17_parts_53 fn_X17_parts_55
    rw [if_neg (by rw [show (14 : Int32) = nI 14 from rfl, nI_leI (by decide) (by omega)]; omega)]
    rcases hf with rfl | rfl
    · rw [if_pos rfl]
      refine ⟨0, rfl, Or.inl rfl, ?_⟩
      constructor
      · intro h; exact absurd h (by decide)
      · intro h; exact hp.2 (fun s hs => h s (by omega))
    · rw [if_neg (by decide)]
      have hp1 := hp.1 rfl
      simp only [b_tst (show sm < 2147483648 by omega) (show i < 32 by omega), b_tst (show S < 2147483648 by omega) (show i < 32 by omega), hg.1, ix_n (show i < 14 by omega) (show 14 < 2147483648 by decide), hg.2 i (by omega), nI_1]
      have fin : ∀ f' : Int32, (f' = 0 ∨ f' = 1) → (f' = 1 ↔ (sm.testBit i = true → S.testBit i ≠ true → sub (g i) S)) → ∃ b : Int32, fn_X17_parts_6 N n (nI S) (nI sm) x1 f' (nI (i + 1)) Ω = some (some (vi b), Ω, 0, 0) ∧ (b = 0 ∨ b = 1) ∧ (b = 1 ↔ prt g sm S) := by
        intro f' h1 h2
        refine ih (i + 1) n f' (by omega) (by omega) h1 (h2.trans ?_)
        constructor
        · intro h s hs
          by_cases e : s = i
          · subst e; exact h
          · exact hp1 s (by omega)
        · intro h; exact h i (by omega)
      by_cases h1 : sm.testBit i = true
      · rw [if_pos h1, if_pos rfl]
        by_cases h2 : S.testBit i = true
        · rw [if_pos h2, if_neg (by decide)]
          exact fin 1 (Or.inr rfl) ⟨fun _ _ q => absurd h2 q, fun _ => rfl⟩
        · rw [if_neg h2, if_pos rfl]
          have hb := b_sub (a := g i) (s := S) (by have := hgl i; omega) (by omega)
          by_cases h3 : nI (g i) &&& (nI S ^^^ (-1)) = 0
          · rw [if_pos h3]
            exact fin 1 (Or.inr rfl) ⟨fun _ _ _ => hb.1 h3, fun _ => rfl⟩
          · rw [if_neg h3]
            exact fin 0 (Or.inl rfl) ⟨fun q => absurd q (by decide), fun q => absurd (hb.2 (q h1 h2)) h3⟩
      · rw [if_neg h1, if_neg (by decide)]
        exact fin 1 (Or.inr rfl) ⟨fun _ q => absurd q h1, fun _ => rfl⟩
theorem x_parts {N j x1 S sm : Nat} {Ω : zo_O} {g : Nat → Nat} (hN : 15 ≤ N) (hS : S < 16384) (hsm : sm < 16384) (hg : agX Ω x1 g) (hgl : ∀ s, g s < 16384) : ∃ b : Int32, fn_X17_parts N j (nI S) (nI sm) x1 Ω = some (some (vi b), Ω, 0, 0) ∧ (b = 0 ∨ b = 1) ∧ (b = 1 ↔ prt g sm S) :=
  x_partsL hS hsm hg hgl 14 0 N 1 (by omega) (by omega) (Or.inr rfl) ⟨fun _ s h => by omega, fun _ => rfl⟩
def cvX (A sm : Nat) (g : Nat → Nat) (S : Nat) : Prop := sub A S ∧ prt g sm S
theorem x_st218 {N j x1 A sm : Nat} {Ω : zo_O} {g : Nat → Nat} (hN : 15 ≤ N) (hA : sub A sm) (hsm : sm < 16384) (hg : agX Ω x1 g) (hgl : ∀ s, g s < 16384) : ∀ n S b, S < n → sub S sm → sub b sm → cvX A sm g b → (∀ T, sub T sm → cvX A sm g T → S < T → bet b T) → ∃ R, fn_X17_strikes_218 N n j x1 (nI A) (nI sm) (nI b) (nI S) Ω = some (none, sI Ω 14 j 2 (nI R), 0, 0) ∧ sub R sm ∧ cvX A sm g R ∧ ∀ T, sub T sm → cvX A sm g T → bet R T := by
  have hAl := sub_le hA
  intro n
  induction n with
  | zero => intro S b h; omega
  | succ n ih =>
    intro S b hn hS hb hc hall
    have hSl := sub_le hS
    have hbl := sub_le hb
    unfold fn_X17_strikes_218 bd_X17_strikes_218 fn_X17_strikes_287 fn_X17_strikes_291 fn_X17_strikes_293 fn_X17_strikes_257
    have hle : nI S ≤ 0 ↔ S = 0 := by
      rw [show (0 : Int32) = nI 0 from rfl, nI_leI (by omega) (by decide)]; omega
    by_cases e0 : S = 0
    · rw [if_pos (hle.2 e0)]
      subst e0
      have hz : ∀ X, nI X = 0 ↔ X = 0 ∨ ¬ X < 2147483648 ∧ nI X = 0 := fun X => by
        by_cases h : X < 2147483648
        · rw [show (0 : Int32) = nI 0 from rfl, nI_eq (by omega) (by decide)]; simp [h]
        · simp [h]; intro e; omega
      have hsz : nI sm = 0 ↔ sm = 0 := by rw [show (0 : Int32) = nI 0 from rfl, nI_eq (by omega) (by decide)]
      have haz : nI A = 0 ↔ A = 0 := by rw [show (0 : Int32) = nI 0 from rfl, nI_eq (by omega) (by decide)]
      have z0 : cvX A sm g 0 → ∃ R, some (none, sI Ω 14 j 2 (nI 0), 0, 0) = (some (none, sI Ω 14 j 2 (nI R), 0, 0) : Option zo_R) ∧ sub R sm ∧ cvX A sm g R ∧ ∀ T, sub T sm → cvX A sm g T → bet R T := fun h =>
        ⟨0, rfl, fun i q => by simp at q, h, fun T _ _ => bet_0⟩
      have zb : ¬ cvX A sm g 0 → ∃ R, some (none, sI Ω 14 j 2 (nI b), 0, 0) = (some (none, sI Ω 14 j 2 (nI R), 0, 0) : Option zo_R) ∧ sub R sm ∧ cvX A sm g R ∧ ∀ T, sub T sm → cvX A sm g T → bet R T := fun h =>
        ⟨b, rfl, hb, hc, fun T h1 h2 => hall T h1 h2 (Nat.pos_of_ne_zero (fun e => h (e ▸ h2)))⟩
      by_cases s0 : sm = 0
      · rw [if_pos (hsz.2 s0)]
        subst s0
        have hA0 : A = 0 := by omega
        subst hA0
        exact z0 ⟨fun i q => by simp at q, fun s _ q => by simp at q⟩
      · rw [if_neg (fun w => s0 (hsz.1 w))]
        by_cases a0 : A = 0
        · rw [if_pos (haz.2 a0)]
          obtain ⟨bb, p1, p2, p3⟩ := x_parts (N := N) (j := j) (S := 0) hN (by decide) hsm hg hgl
          rw [show nI 0 = (0 : Int32) from rfl] at p1
          rw [p1, ci_mk]
          rcases p2 with rfl | rfl
          · rw [if_pos rfl]
            exact zb (fun h => absurd (p3.2 h.2) (by decide))
          · rw [if_neg (by decide)]
            exact z0 ⟨fun i q => by rw [a0] at q; simp at q, p3.1 rfl⟩
        · rw [if_neg (fun w => a0 (haz.1 w))]
          exact zb (fun h => a0 (by have := sub_le h.1; omega))
    · rw [if_neg (fun w => e0 (hle.1 w))]
      have hand : nI S &&& nI A = nI A ↔ sub A S := by
        rw [b_and, nI_eq (by have : S &&& A ≤ A := Nat.and_le_right; omega) (by omega), sub_and, Nat.and_comm]
      have hnx : (nI S - 1) &&& nI sm = nI ((S - 1) &&& sm) := by
        obtain ⟨S', rfl⟩ : ∃ k, S = k + 1 := ⟨S - 1, by omega⟩
        rw [nI_pred, b_and]; rfl
      have hnl : (S - 1) &&& sm ≤ S - 1 := Nat.and_le_left
      have hns : sub ((S - 1) &&& sm) sm := fun i q => by rw [Nat.testBit_and] at q; simp at q; exact q.2
      have hstep : ∀ T, sub T sm → (S - 1) &&& sm < T → T < S → False := fun T h1 h2 h3 => by
        have := sub_step 14 sm T S (by omega) (sub_and.1 hS) (sub_and.1 h1) h3
        omega
      have next : ∀ b', sub b' sm → cvX A sm g b' → bet b' b → (cvX A sm g S → bet b' S) → ∃ R, fn_X17_strikes_218 N n j x1 (nI A) (nI sm) (nI b') (nI ((S - 1) &&& sm)) Ω = some (none, sI Ω 14 j 2 (nI R), 0, 0) ∧ sub R sm ∧ cvX A sm g R ∧ ∀ T, sub T sm → cvX A sm g T → bet R T := by
        intro b' k1 k2 k3 k4
        refine ih _ b' (by omega) hns k1 k2 (fun T t1 t2 t3 => ?_)
        rcases Nat.lt_trichotomy T S with h | h | h
        · exact absurd (hstep T t1 t3 h) (fun w => w)
        · subst h; exact k4 t2
        · exact bet_trans k3 (hall T t1 t2 h)
      simp only [li, hnx]
      by_cases ha : sub A S
      · rw [if_pos (hand.2 ha)]
        obtain ⟨b1, q1, q2, q3⟩ := x_isBetter (N := N) (j := j) (Ω := Ω) (show S < 16384 by omega) (show b < 16384 by omega)
        rw [q1, ci_mk]
        rcases q2 with rfl | rfl
        · rw [if_pos rfl]
          exact next b hb hc bet_refl (fun _ => bet_tot (fun w => absurd (q3.2 w) (by decide)))
        · rw [if_neg (by decide)]
          obtain ⟨b2, p1, p2, p3⟩ := x_parts (N := N) (j := j) (S := S) hN (by omega) hsm hg hgl
          rw [p1, ci_mk]
          rcases p2 with rfl | rfl
          · rw [if_pos rfl]
            exact next b hb hc bet_refl (fun w => absurd (p3.2 w.2) (by decide))
          · rw [if_neg (by decide)]
            exact next S hS ⟨ha, p3.1 rfl⟩ (q3.1 rfl) (fun _ => bet_refl)
      · rw [if_neg (fun w => ha (hand.1 w))]
        exact next b hb hc bet_refl (fun w => absurd w.1 ha)
/-- what the sets mean -/
theorem cvX_iff {r : Int32} {lw up : bLs} {S : Nat} (hlw : ∀ t ∈ lw, t.1 < 14) (hup : ∀ t ∈ up, t.1 < 14) : cvX (stL r lw up (0, 0, fun _ => 0)).1 ((stL r lw up (0, 0, fun _ => 0)).2.1 ||| (stL r lw up (0, 0, fun _ => 0)).1) (stL r lw up (0, 0, fun _ => 0)).2.2 S ↔ cvE (cfl r lw up) (alo r lw) S := by
  have hA := fun x => stL_A (r := r) (us := up) lw (0, 0, fun _ => 0) x
  have hS := fun x => stL_S (r := r) (us := up) lw (0, 0, fun _ => 0) x
  have hG := fun x y => stL_g (r := r) (us := up) lw (0, 0, fun _ => 0) x y
  simp only [Nat.zero_testBit, Bool.false_eq_true, false_or] at hA hS hG
  have c14 : ∀ s t, cfl r lw up s t → s < 14 ∧ t < 14 := fun s t ⟨a, v, b, w, h1, h2, _⟩ => ⟨hlw _ h1, hup _ h2⟩
  unfold cvX prt cvE sub
  constructor
  · rintro ⟨h1, h2⟩
    refine ⟨fun s t h => ?_, fun s h => h1 s ((hA s).2 (Or.inl h))⟩
    by_cases e : S.testBit s = true
    · exact Or.inl e
    · right
      refine h2 s (c14 s t h).1 ?_ e t ((hG s t).2 (Or.inl h))
      rw [Nat.testBit_or, Bool.or_eq_true]
      exact Or.inl ((hS s).2 ⟨t, Or.inl h⟩)
  · rintro ⟨h1, h2⟩
    refine ⟨fun s h => ?_, fun s _ _ hn t h => ?_⟩
    · rcases (hA s).1 h with h | h
      · exact h2 s h
      · rcases h1 s s h with h | h <;> exact h
    · rcases (hG s t).1 h with h | h
      · rcases h1 s t h with h | h
        · exact absurd h hn
        · exact h
      · rcases h1 t s h with h | h
        · exact h
        · exact absurd h hn
theorem x_strikes {N j la lb a0 b0 n : Nat} {lw up : bLs} {r : Int32} {Ω : zo_O} (hn : n ≤ 14) (hlw : ∀ t ∈ lw, t.1 < n) (hup : ∀ t ∈ up, t.1 < n) (hul : up.length ≤ 30000) (hll : lw.length ≤ 30000) (hN : 40000 ≤ N) (hC : CvE Ω j la lb a0 b0 lw up) (hr : gI Ω 0 0 10 = r) : ∃ Ω' R, fn_X17_strikes N j Ω = some (none, sI Ω' 14 j 2 (nI R), 1, 14) ∧ Wx [] Ω Ω' ∧ R < 2 ^ n ∧ cvE (cfl r lw up) (alo r lw) R ∧ (∀ S, S < 2 ^ n → cvE (cfl r lw up) (alo r lw) S → bet R S) := by
  have hlw' : ∀ t ∈ lw, t.1 < 14 := fun t h => Nat.lt_of_lt_of_le (hlw t h) hn
  have hup' : ∀ t ∈ up, t.1 < 14 := fun t h => Nat.lt_of_lt_of_le (hup t h) hn
  have W0' : Wx [] Ω (nw Ω 35 14) := Wx.refl.nw (by decide)
  have hg0 : agX (nw Ω 35 14) (gC Ω 35) (fun _ => 0) := ⟨by rw [gL_nw, if_pos ⟨rfl, rfl⟩], fun s _ => by rw [gI_nw, if_pos ⟨rfl, rfl⟩]; rfl⟩
  obtain ⟨Ω1, p1, p2, p3, p4⟩ := x_st12 (N := N) (j := j) (la := la) (lb := lb) (a0 := a0) (b0 := b0) (x1 := gC Ω 35) (r := r) hlw' hup' hul hll (by omega) lw.length 0 N (0, 0, fun _ => 0) (nw Ω 35 14) (by omega) (by omega) ⟨by decide, by decide, fun _ => by show 0 < 16384; decide⟩ hg0 (CvE_W hC W0' (by simp)) (by rw [gI_nw, if_neg (by omega)]; exact hr) (by rw [gC_nw, if_pos rfl]; omega)
  rw [List.drop_zero] at p1 p2 p3
  have hA := fun x => stL_A (r := r) (us := up) lw (0, 0, fun _ => 0) x
  have hS := fun x => stL_S (r := r) (us := up) lw (0, 0, fun _ => 0) x
  simp only [Nat.zero_testBit, Bool.false_eq_true, false_or] at hA hS
  have cn : ∀ s t, cfl r lw up s t → s < n ∧ t < n := fun s t ⟨a, v, b, w, h1, h2, _⟩ => ⟨hlw _ h1, hup _ h2⟩
  have an : ∀ s, alo r lw s → s < n := fun s ⟨a, v, h1, _⟩ => hlw _ h1
  obtain ⟨z1, z2, z3⟩ := p3
  have smn : (stL r lw up (0, 0, fun _ => 0)).2.1 ||| (stL r lw up (0, 0, fun _ => 0)).1 < 2 ^ n := by
    apply Nat.lt_pow_two_of_testBit
    intro i hi
    cases e : ((stL r lw up (0, 0, fun _ => 0)).2.1 ||| (stL r lw up (0, 0, fun _ => 0)).1).testBit i
    · rfl
    · rw [Nat.testBit_or, Bool.or_eq_true] at e
      rcases e with e | e
      · obtain ⟨t, h | h⟩ := (hS i).1 e
        · have := (cn _ _ h).1; omega
        · have := (cn _ _ h).2; omega
      · rcases (hA i).1 e with h | h
        · have := an _ h; omega
        · have := (cn _ _ h).1; omega
  have hpw : 2 ^ n ≤ 2 ^ 14 := Nat.pow_le_pow_right (by decide) hn
  have hcsm : cvX (stL r lw up (0, 0, fun _ => 0)).1 ((stL r lw up (0, 0, fun _ => 0)).2.1 ||| (stL r lw up (0, 0, fun _ => 0)).1) (stL r lw up (0, 0, fun _ => 0)).2.2 ((stL r lw up (0, 0, fun _ => 0)).2.1 ||| (stL r lw up (0, 0, fun _ => 0)).1) :=
    ⟨fun i h => by rw [Nat.testBit_or, Bool.or_eq_true]; exact Or.inr h, fun s _ h1 h2 => absurd h1 h2⟩
  obtain ⟨R, q1, q2, q3, q4⟩ := x_st218 (N := N) (j := j) (x1 := gC Ω 35) (Ω := Ω1) (g := (stL r lw up (0, 0, fun _ => 0)).2.2) (A := (stL r lw up (0, 0, fun _ => 0)).1) (sm := (stL r lw up (0, 0, fun _ => 0)).2.1 ||| (stL r lw up (0, 0, fun _ => 0)).1) (by omega) (fun i h => by rw [Nat.testBit_or, Bool.or_eq_true]; exact Or.inr h) (by omega) p2 z3 N ((stL r lw up (0, 0, fun _ => 0)).2.1 ||| (stL r lw up (0, 0, fun _ => 0)).1) ((stL r lw up (0, 0, fun _ => 0)).2.1 ||| (stL r lw up (0, 0, fun _ => 0)).1) (by omega) (fun i h => h) (fun i h => h) hcsm (fun T h1 _ h3 => absurd (sub_le h1) (by omega))
  have W1 : Wx [] Ω Ω1 := by
    have p5 := p4
    obtain ⟨a1, a2, a3, a4, a5, a6, a7⟩ := p4
    have hk : ∀ k n f, (fx k ∨ n < gC Ω k) → ky k n f ∉ [(35, gC Ω 35)] := by
      intro k n f h m
      simp only [List.mem_cons, List.not_mem_nil, or_false] at m
      unfold ky at m
      split at m
      · simp at m; omega
      · simp at m
        obtain ⟨rfl, rfl⟩ := m
        rcases h with h | h
        · unfold fx at h; omega
        · omega
    refine ⟨fun k n f _ h => ?_, fun k n f _ h => ?_, fun n _ h => ?_, fun k => ?_, fun k h => ?_, fun k n h => ?_, fun _ f => ?_⟩
    · rw [a1 k n f (hk k n f h) (by rcases h with h | h; exact Or.inl h; exact Or.inr (Nat.lt_of_lt_of_le h (W0'.C k)))]
      exact W0'.I (by simp) h
    · rw [a2 k n f (hk k n f h) (by rcases h with h | h; exact Or.inl h; exact Or.inr (Nat.lt_of_lt_of_le h (W0'.C k)))]
      exact W0'.R (by simp) h
    · rw [a3 n (by simp) (Nat.lt_of_lt_of_le h (W0'.C 20))]; exact W0'.S (by simp) h
    · exact Nat.le_trans (W0'.C k) (a4 k)
    · rw [a5 k h]; exact W0'.C8 h
    · rw [a6 k n (by rcases h with h | h; exact Or.inl h; exact Or.inr (Nat.lt_of_lt_of_le h (W0'.C k)))]; exact W0'.L h
    · rw [a7 (by simp) f]; exact W0'.J (by simp) f
  refine ⟨Ω1, R, ?_, W1, Nat.lt_of_le_of_lt (sub_le q2) smn, (cvX_iff hlw' hup').1 q3, ?_⟩
  · unfold fn_X17_strikes gd lt
    rw [if_pos (by decide), show ((14 : Int32)).toNatClampNeg = 14 from rfl]
    have p1' := p1.trans q1
    have p2' : fn_X17_strikes_12 N N j (gC Ω 35) 0 0 0 (nw Ω 35 14) = some (none, sI Ω1 14 j 2 (nI R), 0, 0) := p1'
    show ad 1 14 (fn_X17_strikes_12 N N j (gC Ω 35) 0 0 0 (nw Ω 35 14)) = _
    rw [p2']
    rfl
  · intro S h1 h2
    have k3 := q4 (S &&& ((stL r lw up (0, 0, fun _ => 0)).2.1 ||| (stL r lw up (0, 0, fun _ => 0)).1)) (fun i hi => by rw [Nat.testBit_and] at hi; simp at hi; rw [Nat.testBit_or, Bool.or_eq_true]; exact hi.2) ((cvX_iff hlw' hup').2 (by
      refine ⟨fun s t q => ?_, fun s q => ?_⟩
      · have s1 : ((stL r lw up (0, 0, fun _ => 0)).2.1 ||| (stL r lw up (0, 0, fun _ => 0)).1).testBit s = true := by rw [Nat.testBit_or, Bool.or_eq_true]; exact Or.inl ((hS s).2 ⟨t, Or.inl q⟩)
        have s2 : ((stL r lw up (0, 0, fun _ => 0)).2.1 ||| (stL r lw up (0, 0, fun _ => 0)).1).testBit t = true := by rw [Nat.testBit_or, Bool.or_eq_true]; exact Or.inl ((hS t).2 ⟨s, Or.inr q⟩)
        rw [Nat.testBit_and, Nat.testBit_and, s1, s2, Bool.and_true, Bool.and_true]
        exact h2.1 s t q
      · have s1 : ((stL r lw up (0, 0, fun _ => 0)).2.1 ||| (stL r lw up (0, 0, fun _ => 0)).1).testBit s = true := by rw [Nat.testBit_or, Bool.or_eq_true]; exact Or.inr ((hA s).2 (Or.inl q))
        rw [Nat.testBit_and, s1, Bool.and_true]; exact h2.2 s q))
    exact bet_trans k3 (bet_sub (fun i hi => by rw [Nat.testBit_and] at hi; simp at hi; exact hi.1))
