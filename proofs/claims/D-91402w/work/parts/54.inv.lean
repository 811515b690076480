/-! ===== what ties X to M ===== -/
/-- columns: kind, X's field, M's array -/
def iv_cols : List (Nat × Nat × Nat) := [(2, 0, 4), (2, 2, 0), (2, 3, 1), (2, 4, 2), (2, 5, 3), (3, 0, 11), (3, 1, 6), (3, 2, 7), (3, 3, 8), (3, 4, 9), (3, 5, 10), (4, 0, 15), (4, 1, 12), (4, 2, 13), (4, 3, 14), (5, 0, 19), (5, 1, 16), (5, 2, 17), (5, 3, 18), (6, 0, 23), (6, 1, 20), (6, 2, 21), (6, 3, 22), (7, 0, 27), (7, 1, 24), (7, 2, 25), (7, 3, 26), (8, 0, 30), (8, 1, 28), (8, 2, 29)]
/-- lists: number, M's count, how many at most -/
def iv_cap (k : Nat) : Nat := match k with
  | 2 => 14
  | 3 => 120
  | 4 => 100
  | 5 => 40
  | 6 => 20
  | 7 => 40
  | _ => 30
def iv_cf (k : Nat) : Nat := match k with
  | 2 => 2
  | 3 => 8
  | 4 => 17
  | 5 => 22
  | 6 => 27
  | 7 => 32
  | _ => 37
def IvL (Ω : zo_O) : Prop := ∀ k, 2 ≤ k → k ≤ 8 → gS Ω (k - 2) = tks k (gC Ω k) ∧ gI Ω 1 0 (iv_cf k) = nI (gC Ω k) ∧ gC Ω k ≤ iv_cap k
def IvF (Ω : zo_O) : Prop := ∀ q ∈ iv_cols, ∀ i, i < gC Ω q.1 → gI Ω q.1 i q.2.1 = gI Ω 32 q.2.2 i
/-- sites -/
def IvS (Ω : zo_O) : Prop := ∀ i, i < gC Ω 2 → gI Ω 2 i 1 = nI i ∧ (0 ≤ gI Ω 32 0 i ∧ gI Ω 32 0 i ≤ 1) ∧ (0 ≤ gI Ω 32 1 i ∧ gI Ω 32 1 i ≤ 2) ∧ (0 ≤ gI Ω 32 2 i ∧ gI Ω 32 2 i ≤ 999) ∧ (gI Ω 32 3 i = -1 ∨ (1000 ≤ gI Ω 32 3 i ∧ gI Ω 32 3 i ≤ 2100)) ∧ (0 ≤ gI Ω 32 4 i ∧ gI Ω 32 4 i ≤ gI Ω 1 0 1)
/-- circles -/
def IvC (Ω : zo_O) : Prop := ∀ i, i < gC Ω 3 → ∃ s, s < gC Ω 2 ∧ gI Ω 32 5 i = nI s ∧ gR Ω 3 i 6 = some (2, s) ∧ gI Ω 32 4 s ≤ gI Ω 32 11 i ∧ gI Ω 32 11 i ≤ gI Ω 1 0 1 ∧ gI Ω 3 i 7 = gI Ω 33 0 i ∧ (gI Ω 33 0 i = 0 ∨ gI Ω 33 0 i = 1) ∧ (0 ≤ gI Ω 32 6 i ∧ gI Ω 32 6 i ≤ 2) ∧ (0 ≤ gI Ω 32 7 i ∧ gI Ω 32 7 i ≤ 4) ∧ (1 ≤ gI Ω 32 8 i ∧ gI Ω 32 8 i ≤ 2000) ∧ (1 ≤ gI Ω 32 9 i ∧ gI Ω 32 9 i ≤ gI Ω 32 8 i) ∧ (1000 ≤ gI Ω 32 10 i ∧ gI Ω 32 10 i ≤ 2100)
/-- looks, doubles, witnesses, orders, agains -/
def IvO (Ω : zo_O) : Prop := (∀ i, i < gC Ω 4 → 0 ≤ gI Ω 32 14 i ∧ gI Ω 32 14 i ≤ 999) ∧
  (∀ i, i < gC Ω 5 → (0 ≤ gI Ω 32 16 i ∧ gI Ω 32 16 i ≤ 4) ∧ (0 ≤ gI Ω 32 17 i ∧ gI Ω 32 17 i ≤ 4) ∧ (-1999 ≤ gI Ω 32 18 i ∧ gI Ω 32 18 i ≤ 1999)) ∧
  (∀ i, i < gC Ω 6 → (1000 ≤ gI Ω 32 21 i ∧ gI Ω 32 21 i ≤ 2100) ∧ (1000 ≤ gI Ω 32 22 i ∧ gI Ω 32 22 i ≤ 2100)) ∧
  (∀ i, i < gC Ω 7 → ∃ a b, a < gC Ω 2 ∧ b < gC Ω 2 ∧ gI Ω 32 24 i = nI a ∧ gI Ω 32 25 i = nI b ∧ gI Ω 32 4 a ≤ gI Ω 32 27 i ∧ gI Ω 32 4 b ≤ gI Ω 32 27 i ∧ (0 ≤ gI Ω 32 26 i ∧ gI Ω 32 26 i ≤ 500)) ∧
  (∀ i, i < gC Ω 8 → ∃ a b, a < gC Ω 3 ∧ b < gC Ω 3 ∧ gI Ω 32 28 i = nI a ∧ gI Ω 32 29 i = nI b)
/-- single ints, delays, tape -/
def IvZ (Ω : zo_O) : Prop := gI Ω 0 0 8 = gI Ω 1 0 1 ∧ gI Ω 0 0 9 = gI Ω 1 0 41 ∧ gI Ω 0 0 10 = gI Ω 1 0 42 ∧ gI Ω 0 0 11 = gI Ω 1 0 43 ∧ gI Ω 0 0 13 = gI Ω 1 0 54 ∧ gI Ω 0 0 14 = gI Ω 1 0 56 ∧ gI Ω 0 0 19 = -1 ∧ (0 ≤ gI Ω 1 0 1 ∧ gI Ω 1 0 1 ≤ 100000) ∧ (0 ≤ gI Ω 1 0 41 ∧ gI Ω 1 0 41 ≤ 30) ∧ (1 ≤ gI Ω 1 0 42 ∧ gI Ω 1 0 42 ≤ 40) ∧ (1 ≤ gI Ω 1 0 43 ∧ gI Ω 1 0 43 ≤ 999) ∧ (0 ≤ gI Ω 1 0 54 ∧ gI Ω 1 0 54 ≤ 300) ∧
  (∀ i, i < 3 → gI Ω 43 0 i = gI Ω 32 31 i ∧ 0 ≤ gI Ω 32 31 i ∧ gI Ω 32 31 i ≤ 60) ∧ ∀ i, i < 300 → gI Ω 38 0 i = gI Ω 34 0 i
