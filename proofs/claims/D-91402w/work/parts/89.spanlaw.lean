/-! ===== plain law of spans ===== -/
def isR (B : zo_O) (lw up : bLs) (R : Nat) : Prop := R < 2 ^ gC B 2 ∧ cvE (cfl (gI B 1 0 42) lw up) (alo (gI B 1 0 42) lw) R ∧ ∀ S, S < 2 ^ gC B 2 → cvE (cfl (gI B 1 0 42) lw up) (alo (gI B 1 0 42) lw) S → bet R S
theorem isR_one {B : zo_O} {lw up : bLs} {R R' : Nat} (h : isR B lw up R) (h' : isR B lw up R') : R = R' := R_one h.1 h.2.1 h.2.2 h'.1 h'.2.1 h'.2.2
theorem R_ex {B : zo_O} {lw up : bLs} (hB : Bse B) (hl : ∀ t ∈ lw, t.1 < gC B 2) : ∃ R, isR B lw up R := by
  have h14 := n_2 hB
  have hpw : 2 ^ gC B 2 ≤ 2 ^ 14 := Nat.pow_le_pow_right (by decide) h14
  have hpos : 0 < 2 ^ gC B 2 := Nat.pow_pos (by decide)
  have full : cvE (cfl (gI B 1 0 42) lw up) (alo (gI B 1 0 42) lw) (2 ^ gC B 2 - 1) := by
    refine ⟨fun s t ⟨a, v, b, w, h1, _⟩ => Or.inl ?_, fun s ⟨a, v, h1, _⟩ => ?_⟩
    · rw [Nat.testBit_two_pow_sub_one]; exact decide_eq_true (hl _ h1)
    · rw [Nat.testBit_two_pow_sub_one]; exact decide_eq_true (hl _ h1)
  obtain ⟨m, _, ⟨S, s1, s2, s3⟩, m3⟩ := least_ex (P := fun m => ∃ S, S < 2 ^ gC B 2 ∧ cvE (cfl (gI B 1 0 42) lw up) (alo (gI B 1 0 42) lw) S ∧ m = bc S * 16384 + S) (bc (2 ^ gC B 2 - 1) * 16384 + (2 ^ gC B 2 - 1)) ⟨_, by omega, full, rfl⟩
  refine ⟨S, s1, s2, fun T t1 t2 => ?_⟩
  have : ¬ (bc T * 16384 + T < m) := fun h => m3 _ h ⟨T, t1, t2, rfl⟩
  unfold bet
  omega
noncomputable def Rf (B : zo_O) (lw up : bLs) : Nat := @dite Nat (∃ R, isR B lw up R) (Classical.propDecidable _) (fun h => Classical.choose h) (fun _ => 0)
theorem Rf_ok {B : zo_O} {lw up : bLs} (h : ∃ R, isR B lw up R) : isR B lw up (Rf B lw up) := by
  unfold Rf
  rw [dif_pos h]
  exact Classical.choose_spec h
theorem Rf_eq {B : zo_O} {lw up : bLs} {R : Nat} (h : isR B lw up R) : Rf B lw up = R := isR_one (Rf_ok ⟨R, h⟩) h
def fAx (G : Nat → Int) (v : Int) : Nat → Nat → Nat
  | 0, i => i
  | m + 1, i => if v ≤ G i then i else fAx G v m (i + 1)
theorem fAx_ok {G : Nat → Int} {v : Int} : ∀ m i, i + m = 801 → (∀ x, x < i → G x < v) → fsA G v (fAx G v m i)
  | 0, i, h, hz => by
    have : i = 801 := by omega
    subst this
    exact ⟨Nat.le_refl _, hz, fun h => absurd h (Nat.lt_irrefl _)⟩
  | m + 1, i, h, hz => by
    rw [fAx]
    split
    · rename_i g; exact ⟨by omega, hz, fun _ => g⟩
    · rename_i g
      exact fAx_ok m (i + 1) (by omega) (fun x hx => by
        by_cases e : x = i
        · subst e; omega
        · exact hz x (by omega))
def fA (G : Nat → Int) (v : Int) : Nat := fAx G v 801 0
theorem fA_ok {G : Nat → Int} {v : Int} : fsA G v (fA G v) := fAx_ok 801 0 rfl (fun x h => by omega)
def lA (L : Nat → Int) (v : Int) : Nat → Nat
  | 0 => 0
  | i + 1 => if L (i + 1) ≤ v then i + 1 else lA L v i
theorem lAx_ok {L : Nat → Int} {v : Int} (h0 : L 0 ≤ v) : ∀ i, i ≤ 800 → (∀ x, i < x → x ≤ 800 → v < L x) → lsA L v (lA L v i)
  | 0, h, hz => ⟨by show 0 ≤ 800; omega, h0, hz⟩
  | i + 1, h, hz => by
    rw [lA]
    split
    · rename_i g; exact ⟨h, g, hz⟩
    · rename_i g
      exact lAx_ok h0 i (by omega) (fun x hx hx2 => by
        by_cases e : x = i + 1
        · subst e; omega
        · exact hz x (by omega) hx2)
theorem lA_ok {L : Nat → Int} {v : Int} (h0 : L 0 ≤ v) : lsA L v (lA L v 800) := lAx_ok h0 800 (Nat.le_refl _) (fun x h1 h2 => by omega)
/-- ages and years that a group leaves its site -/
noncomputable def pfA (B : zo_O) (q : Bool) (D : Nat → Nat → Int32) (kn but : Int32) (s kk : Nat) (v : Int32) : Nat := fA (fun x => (gsV (gI B 1 0 42) (Rf B (lws B q D kn kk (gI B 32 0 s) (gI B 32 1 s) but) (ups B q D kn kk (gI B 32 0 s) (gI B 32 1 s) but)) (ups B q D kn kk (gI B 32 0 s) (gI B 32 1 s) but) (nI x)).toInt) v.toInt
noncomputable def plA (B : zo_O) (q : Bool) (D : Nat → Nat → Int32) (kn but : Int32) (s kk : Nat) (v : Int32) : Nat := lA (fun x => (lsV (gI B 1 0 42) (Rf B (lws B q D kn kk (gI B 32 0 s) (gI B 32 1 s) but) (ups B q D kn kk (gI B 32 0 s) (gI B 32 1 s) but)) (lws B q D kn kk (gI B 32 0 s) (gI B 32 1 s) but) (nI x)).toInt) v.toInt 800
noncomputable def toC (z : Int32) (B : zo_O) (q : Bool) (D : Nat → Nat → Int32) (kn but : Int32) (s kk : Nat) (y : Int32) : Int32 := if pfA B q D kn but s kk (gLo B q D kn s (nI kk) y (gC B 3)) ≤ 800 then y - nI (pfA B q D kn but s kk (gLo B q D kn s (nI kk) y (gC B 3))) else z
noncomputable def frC (B : zo_O) (q : Bool) (D : Nat → Nat → Int32) (kn but : Int32) (s kk : Nat) (y : Int32) : Int32 := y - nI (plA B q D kn but s kk (gHi B q D kn s (nI kk) y (gC B 3))) - gI B 32 31 kk
def lkd (B : zo_O) (kn : Int32) (s kk : Nat) : Prop := gI B 1 0 43 ≤ lk B (nI s) (nI kk) kn
def FT (z : Int32) (B : zo_O) (q : Bool) (D : Nat → Nat → Int32) (kn but : Int32) (s : Nat) (S : Nat → Int32 → Prop) (W : Nat → Prop) (F T : Int32) : Prop :=
  (∀ X : Int, F.toInt ≤ X ↔ 1000 ≤ X ∧ (∀ kk y, S kk y → lkd B kn s kk → (frC B q D kn but s kk y).toInt ≤ X) ∧ ∀ w, W w → (gI B 32 21 w).toInt ≤ X) ∧
  (∀ X : Int, X ≤ T.toInt ↔ X ≤ 2100 ∧ (∀ kk y, S kk y → X ≤ (toC z B q D kn but s kk y).toInt) ∧ ∀ w, W w → X ≤ (gI B 32 22 w).toInt)
section F
variable {z : Int32} {B : zo_O} {q : Bool} {D : Nat → Nat → Int32} {kn but : Int32} {s : Nat} {S S' : Nat → Int32 → Prop} {W W' : Nat → Prop} {F T F' T' : Int32}
theorem FT_1000 (h : FT z B q D kn but s S W F T) : 1000 ≤ F.toInt := ((h.1 F.toInt).1 (Int.le_refl _)).1
theorem FT_2100 (h : FT z B q D kn but s S W F T) : T.toInt ≤ 2100 := ((h.2 T.toInt).1 (Int.le_refl _)).1
theorem FT_0 : FT z B q D kn but s (fun _ _ => False) (fun _ => False) 1000 2100 := by
  have e1 : (1000 : Int32).toInt = 1000 := rfl
  have e2 : (2100 : Int32).toInt = 2100 := rfl
  refine ⟨fun X => ?_, fun X => ?_⟩
  · rw [e1]; simp
  · rw [e2]; simp
theorem FT_cong (h : FT z B q D kn but s S W F T) (hS : ∀ kk y, S kk y ↔ S' kk y) (hW : ∀ w, W w ↔ W' w) : FT z B q D kn but s S' W' F T := by
  have e1 : S = S' := funext fun kk => funext fun y => propext (hS kk y)
  have e2 : W = W' := funext fun w => propext (hW w)
  rw [← e1, ← e2]; exact h
theorem FT_one (h : FT z B q D kn but s S W F T) (h' : FT z B q D kn but s S W F' T') : F = F' ∧ T = T' :=
  ⟨eq_le (fun X => (h.1 X).trans (h'.1 X).symm), eq_ge (fun X => (h.2 X).trans (h'.2 X).symm)⟩
theorem FT_add {kk : Nat} {y : Int32} (h : FT z B q D kn but s S W F T) (hF : ¬ lkd B kn s kk → F' = F) (hF2 : lkd B kn s kk → F' = mx F (frC B q D kn but s kk y)) (hT : T' = mn T (toC z B q D kn but s kk y)) : FT z B q D kn but s (fun k' y' => S k' y' ∨ (k' = kk ∧ y' = y)) W F' T' := by
  obtain ⟨h1, h2⟩ := h
  refine ⟨fun X => ?_, fun X => ?_⟩
  · by_cases g : lkd B kn s kk
    · rw [hF2 g, fi_mx]
      have : max F.toInt (frC B q D kn but s kk y).toInt ≤ X ↔ F.toInt ≤ X ∧ (frC B q D kn but s kk y).toInt ≤ X := by omega
      rw [this, h1]
      constructor
      · rintro ⟨⟨a, b, c⟩, d⟩
        refine ⟨a, fun k' y' hs hl => ?_, c⟩
        rcases hs with hs | ⟨rfl, rfl⟩
        · exact b k' y' hs hl
        · exact d
      · rintro ⟨a, b, c⟩
        exact ⟨⟨a, fun k' y' hs hl => b k' y' (Or.inl hs) hl, c⟩, b kk y (Or.inr ⟨rfl, rfl⟩) g⟩
    · rw [hF g, h1]
      constructor
      · rintro ⟨a, b, c⟩
        refine ⟨a, fun k' y' hs hl => ?_, c⟩
        rcases hs with hs | ⟨rfl, rfl⟩
        · exact b k' y' hs hl
        · exact absurd hl g
      · rintro ⟨a, b, c⟩
        exact ⟨a, fun k' y' hs hl => b k' y' (Or.inl hs) hl, c⟩
  · rw [hT, fi_mn]
    have : X ≤ min T.toInt (toC z B q D kn but s kk y).toInt ↔ X ≤ T.toInt ∧ X ≤ (toC z B q D kn but s kk y).toInt := by omega
    rw [this, h2]
    constructor
    · rintro ⟨⟨a, b, c⟩, d⟩
      refine ⟨a, fun k' y' hs => ?_, c⟩
      rcases hs with hs | ⟨rfl, rfl⟩
      · exact b k' y' hs
      · exact d
    · rintro ⟨a, b, c⟩
      exact ⟨⟨a, fun k' y' hs => b k' y' (Or.inl hs), c⟩, b kk y (Or.inr ⟨rfl, rfl⟩)⟩
theorem FT_wit {w : Nat} (h : FT z B q D kn but s S W F T) : FT z B q D kn but s S (fun w' => W w' ∨ w' = w) (mx F (gI B 32 21 w)) (mn T (gI B 32 22 w)) := by
  obtain ⟨h1, h2⟩ := h
  refine ⟨fun X => ?_, fun X => ?_⟩
  · rw [fi_mx]
    have : max F.toInt (gI B 32 21 w).toInt ≤ X ↔ F.toInt ≤ X ∧ (gI B 32 21 w).toInt ≤ X := by omega
    rw [this, h1]
    constructor
    · rintro ⟨⟨a, b, c⟩, d⟩
      refine ⟨a, b, fun w' hw => ?_⟩
      rcases hw with hw | rfl
      · exact c w' hw
      · exact d
    · rintro ⟨a, b, c⟩
      exact ⟨⟨a, b, fun w' hw => c w' (Or.inl hw)⟩, c w (Or.inr rfl)⟩
  · rw [fi_mn]
    have : X ≤ min T.toInt (gI B 32 22 w).toInt ↔ X ≤ T.toInt ∧ X ≤ (gI B 32 22 w).toInt := by omega
    rw [this, h2]
    constructor
    · rintro ⟨⟨a, b, c⟩, d⟩
      refine ⟨a, b, fun w' hw => ?_⟩
      rcases hw with hw | rfl
      · exact c w' hw
      · exact d
    · rintro ⟨a, b, c⟩
      exact ⟨⟨a, b, fun w' hw => c w' (Or.inl hw)⟩, c w (Or.inr rfl)⟩
/-- X has 999 and M has 0 where there is no age: both are none -/
theorem FT_XM {Fx Tx Fm Tm : Int32} (h : FT 999 B q D kn but s S W Fx Tx) (h' : FT 0 B q D kn but s S W Fm Tm) : Fx = Fm ∧ (Tx = Tm ∨ (Tx.toInt < 1000 ∧ Tm.toInt < 1000)) := by
  refine ⟨eq_le (fun X => (h.1 X).trans (h'.1 X).symm), ?_⟩
  by_cases g : ∃ kk y, S kk y ∧ ¬ pfA B q D kn but s kk (gLo B q D kn s (nI kk) y (gC B 3)) ≤ 800
  · obtain ⟨kk, y, g1, g2⟩ := g
    right
    have a := ((h.2 Tx.toInt).1 (Int.le_refl _)).2.1 kk y g1
    have b := ((h'.2 Tm.toInt).1 (Int.le_refl _)).2.1 kk y g1
    unfold toC at a b
    rw [if_neg g2] at a b
    have e1 : (999 : Int32).toInt = 999 := rfl
    have e2 : (0 : Int32).toInt = 0 := rfl
    omega
  · left
    have key : ∀ kk y, S kk y → toC 999 B q D kn but s kk y = toC 0 B q D kn but s kk y := by
      intro kk y hs
      unfold toC
      have : pfA B q D kn but s kk (gLo B q D kn s (nI kk) y (gC B 3)) ≤ 800 := by
        cases Classical.em (pfA B q D kn but s kk (gLo B q D kn s (nI kk) y (gC B 3)) ≤ 800) with
        | inl w => exact w
        | inr w => exact absurd ⟨kk, y, hs, w⟩ g
      rw [if_pos this, if_pos this]
    refine eq_ge (fun X => (h.2 X).trans (Iff.trans ?_ (h'.2 X).symm))
    constructor
    · rintro ⟨a, b, c⟩; exact ⟨a, fun kk y hs => by rw [← key kk y hs]; exact b kk y hs, c⟩
    · rintro ⟨a, b, c⟩; exact ⟨a, fun kk y hs => by rw [key kk y hs]; exact b kk y hs, c⟩
end F
