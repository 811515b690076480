/-! ===== X's strikes ===== -/
abbrev bLs : Type := List (Nat × Int32 × Int32)
def lowAt (r a v b : Int32) : Int32 := if b < a then v - r * (a - b) else v
def hiAt (r a v b : Int32) : Int32 := if a < b then v + r * (b - a) else v
abbrev sSt : Type := Nat × Nat × (Nat → Nat)
def upd (g : Nat → Nat) (s v : Nat) : Nat → Nat := fun x => if x = s then v else g x
def stI (r : Int32) (l u : Nat × Int32 × Int32) (z : sSt) : sSt := if u.2.2 < lowAt r l.2.1 l.2.2 u.2.1 then ((if l.1 = u.1 then z.1 ||| 2 ^ l.1 else z.1), z.2.1 ||| (2 ^ l.1 ||| 2 ^ u.1), upd (upd z.2.2 l.1 (z.2.2 l.1 ||| 2 ^ u.1)) u.1 (upd z.2.2 l.1 (z.2.2 l.1 ||| 2 ^ u.1) u.1 ||| 2 ^ l.1)) else z
def stJ (r : Int32) (l : Nat × Int32 × Int32) (us : bLs) (z : sSt) : sSt := us.foldl (fun z u => stI r l u z) z
def stK (r : Int32) (l : Nat × Int32 × Int32) (z : sSt) : sSt := if 0 < lowAt r l.2.1 l.2.2 0 then (z.1 ||| 2 ^ l.1, z.2) else z
def stL (r : Int32) (ls us : bLs) (z : sSt) : sSt := ls.foldl (fun z l => stJ r l us (stK r l z)) z
def cfl (r : Int32) (lw up : bLs) (s t : Nat) : Prop := ∃ a v b w, (s, a, v) ∈ lw ∧ (t, b, w) ∈ up ∧ w < lowAt r a v b
def alo (r : Int32) (lw : bLs) (s : Nat) : Prop := ∃ a v, (s, a, v) ∈ lw ∧ 0 < lowAt r a v 0
theorem tb_or {A s x : Nat} : (A ||| 2 ^ s).testBit x = true ↔ A.testBit x = true ∨ x = s := by
  rw [Nat.testBit_or, Bool.or_eq_true, Nat.testBit_two_pow, decide_eq_true_eq]
  constructor
  · rintro (h | h); exact Or.inl h; exact Or.inr h.symm
  · rintro (h | h); exact Or.inl h; exact Or.inr h.symm
theorem stJ_A {r : Int32} {l : Nat × Int32 × Int32} : ∀ (us : bLs) (z : sSt) (x : Nat), (stJ r l us z).1.testBit x = true ↔ z.1.testBit x = true ∨ (x = l.1 ∧ ∃ u ∈ us, u.1 = l.1 ∧ u.2.2 < lowAt r l.2.1 l.2.2 u.2.1)
  | [], z, x => by simp [stJ]
  | u :: us, z, x => by
    have ih := stJ_A (r := r) (l := l) us (stI r l u z) x
    show (stJ r l us (stI r l u z)).1.testBit x = true ↔ _
    rw [ih]
    unfold stI
    by_cases h : u.2.2 < lowAt r l.2.1 l.2.2 u.2.1
    · rw [if_pos h]
      by_cases e : l.1 = u.1
      · simp only [if_pos e, tb_or, List.mem_cons, exists_eq_or_imp]
        constructor
        · rintro ((q | q) | q)
          · exact Or.inl q
          · exact Or.inr ⟨q, Or.inl ⟨e.symm, h⟩⟩
          · exact Or.inr ⟨q.1, Or.inr q.2⟩
        · rintro (q | ⟨q, q2 | q2⟩)
          · exact Or.inl (Or.inl q)
          · exact Or.inl (Or.inr q)
          · exact Or.inr ⟨q, q2⟩
      · simp only [if_neg e, List.mem_cons, exists_eq_or_imp]
        constructor
        · rintro (q | q)
          · exact Or.inl q
          · exact Or.inr ⟨q.1, Or.inr q.2⟩
        · rintro (q | ⟨q, q2 | q2⟩)
          · exact Or.inl q
          · exact absurd q2.1.symm e
          · exact Or.inr ⟨q, q2⟩
    · rw [if_neg h]
      simp only [List.mem_cons, exists_eq_or_imp]
      constructor
      · rintro (q | q)
        · exact Or.inl q
        · exact Or.inr ⟨q.1, Or.inr q.2⟩
      · rintro (q | ⟨q, q2 | q2⟩)
        · exact Or.inl q
        · exact absurd q2.2 h
        · exact Or.inr ⟨q, q2⟩
theorem stJ_S {r : Int32} {l : Nat × Int32 × Int32} : ∀ (us : bLs) (z : sSt) (x : Nat), (stJ r l us z).2.1.testBit x = true ↔ z.2.1.testBit x = true ∨ ∃ u ∈ us, (x = l.1 ∨ x = u.1) ∧ u.2.2 < lowAt r l.2.1 l.2.2 u.2.1
  | [], z, x => by simp [stJ]
  | u :: us, z, x => by
    have ih := stJ_S (r := r) (l := l) us (stI r l u z) x
    show (stJ r l us (stI r l u z)).2.1.testBit x = true ↔ _
    rw [ih]
    unfold stI
    by_cases h : u.2.2 < lowAt r l.2.1 l.2.2 u.2.1
    · rw [if_pos h]
      simp only [← Nat.or_assoc, tb_or, List.mem_cons, exists_eq_or_imp, h, and_true]
      rw [or_assoc, or_assoc, or_assoc]
    · rw [if_neg h]
      simp only [List.mem_cons, exists_eq_or_imp, h, and_false, false_or]
theorem stJ_g {r : Int32} {l : Nat × Int32 × Int32} : ∀ (us : bLs) (z : sSt) (x y : Nat), ((stJ r l us z).2.2 x).testBit y = true ↔ (z.2.2 x).testBit y = true ∨ ∃ u ∈ us, ((x = l.1 ∧ y = u.1) ∨ (x = u.1 ∧ y = l.1)) ∧ u.2.2 < lowAt r l.2.1 l.2.2 u.2.1
  | [], z, x, y => by simp [stJ]
  | u :: us, z, x, y => by
    have ih := stJ_g (r := r) (l := l) us (stI r l u z) x y
    show ((stJ r l us (stI r l u z)).2.2 x).testBit y = true ↔ _
    rw [ih]
    have key : u.2.2 < lowAt r l.2.1 l.2.2 u.2.1 → (((stI r l u z).2.2 x).testBit y = true ↔ (z.2.2 x).testBit y = true ∨ ((x = l.1 ∧ y = u.1) ∨ (x = u.1 ∧ y = l.1))) := by
      intro h
      unfold stI
      rw [if_pos h]
      show ((upd (upd z.2.2 l.1 (z.2.2 l.1 ||| 2 ^ u.1)) u.1 (upd z.2.2 l.1 (z.2.2 l.1 ||| 2 ^ u.1) u.1 ||| 2 ^ l.1)) x).testBit y = true ↔ _
      unfold upd
      by_cases e1 : x = u.1
      · subst e1
        by_cases e2 : u.1 = l.1
        · rw [if_pos rfl, if_pos e2]
          rw [tb_or, tb_or, ← e2]
          simp
        · rw [if_pos rfl, if_neg e2, tb_or]
          simp [e2]
      · rw [if_neg e1]
        by_cases e2 : x = l.1
        · rw [if_pos e2, tb_or, ← e2]
          simp [e1]
        · rw [if_neg e2]
          simp [e1, e2]
    by_cases h : u.2.2 < lowAt r l.2.1 l.2.2 u.2.1
    · rw [key h]
      simp only [List.mem_cons, exists_eq_or_imp, h, and_true]
      rw [or_assoc]
    · unfold stI
      rw [if_neg h]
      simp only [List.mem_cons, exists_eq_or_imp, h, and_false, false_or]
theorem stK_A {r : Int32} {l : Nat × Int32 × Int32} {z : sSt} {x : Nat} : (stK r l z).1.testBit x = true ↔ z.1.testBit x = true ∨ (x = l.1 ∧ 0 < lowAt r l.2.1 l.2.2 0) := by
  unfold stK
  by_cases h : 0 < lowAt r l.2.1 l.2.2 0
  · rw [if_pos h]; simp only [tb_or, h, and_true]
  · rw [if_neg h]; simp [h]
theorem stK_2 {r : Int32} {l : Nat × Int32 × Int32} {z : sSt} : (stK r l z).2 = z.2 := by unfold stK; split <;> rfl
theorem stL_A {r : Int32} {us : bLs} : ∀ (ls : bLs) (z : sSt) (x : Nat), (stL r ls us z).1.testBit x = true ↔ z.1.testBit x = true ∨ alo r ls x ∨ cfl r ls us x x
  | [], z, x => by simp [stL, alo, cfl]
  | l :: ls, z, x => by
    have ih := stL_A (r := r) (us := us) ls (stJ r l us (stK r l z)) x
    show (stL r ls us (stJ r l us (stK r l z))).1.testBit x = true ↔ _
    rw [ih, stJ_A, stK_A]
    unfold alo cfl
    constructor
    · rintro (((q | ⟨q, q2⟩) | ⟨q, u, q2, q3, q4⟩) | ⟨a, v, q, q2⟩ | ⟨a, v, b, w, q, q2, q3⟩)
      · exact Or.inl q
      · exact Or.inr (Or.inl ⟨l.2.1, l.2.2, by rw [q]; simp, q2⟩)
      · exact Or.inr (Or.inr ⟨l.2.1, l.2.2, u.2.1, u.2.2, by rw [q]; simp, by rw [q, ← q3]; exact q2, q4⟩)
      · exact Or.inr (Or.inl ⟨a, v, List.mem_cons_of_mem _ q, q2⟩)
      · exact Or.inr (Or.inr ⟨a, v, b, w, List.mem_cons_of_mem _ q, q2, q3⟩)
    · rintro (q | ⟨a, v, q, q2⟩ | ⟨a, v, b, w, q, q2, q3⟩)
      · exact Or.inl (Or.inl (Or.inl q))
      · rw [List.mem_cons] at q
        rcases q with q | q
        · subst q; exact Or.inl (Or.inl (Or.inr ⟨rfl, q2⟩))
        · exact Or.inr (Or.inl ⟨a, v, q, q2⟩)
      · rw [List.mem_cons] at q
        rcases q with q | q
        · subst q; exact Or.inl (Or.inr ⟨rfl, _, q2, rfl, q3⟩)
        · exact Or.inr (Or.inr ⟨a, v, b, w, q, q2, q3⟩)
theorem stL_S {r : Int32} {us : bLs} : ∀ (ls : bLs) (z : sSt) (x : Nat), (stL r ls us z).2.1.testBit x = true ↔ z.2.1.testBit x = true ∨ ∃ t, cfl r ls us x t ∨ cfl r ls us t x
  | [], z, x => by simp [stL, cfl]
  | l :: ls, z, x => by
    have ih := stL_S (r := r) (us := us) ls (stJ r l us (stK r l z)) x
    show (stL r ls us (stJ r l us (stK r l z))).2.1.testBit x = true ↔ _
    rw [ih, stJ_S, stK_2]
    unfold cfl
    constructor
    · rintro ((q | ⟨u, q2, q3 | q3, q4⟩) | ⟨t, ⟨a, v, b, w, q, q2, q3⟩ | ⟨a, v, b, w, q, q2, q3⟩⟩)
      · exact Or.inl q
      · exact Or.inr ⟨u.1, Or.inl ⟨l.2.1, l.2.2, u.2.1, u.2.2, by rw [q3]; simp, q2, q4⟩⟩
      · exact Or.inr ⟨l.1, Or.inr ⟨l.2.1, l.2.2, u.2.1, u.2.2, by simp, by rw [q3]; exact q2, q4⟩⟩
      · exact Or.inr ⟨t, Or.inl ⟨a, v, b, w, List.mem_cons_of_mem _ q, q2, q3⟩⟩
      · exact Or.inr ⟨t, Or.inr ⟨a, v, b, w, List.mem_cons_of_mem _ q, q2, q3⟩⟩
    · rintro (q | ⟨t, ⟨a, v, b, w, q, q2, q3⟩ | ⟨a, v, b, w, q, q2, q3⟩⟩)
      · exact Or.inl (Or.inl q)
      · rw [List.mem_cons] at q
        rcases q with q | q
        · subst q; exact Or.inl (Or.inr ⟨_, q2, Or.inl rfl, q3⟩)
        · exact Or.inr ⟨t, Or.inl ⟨a, v, b, w, q, q2, q3⟩⟩
      · rw [List.mem_cons] at q
        rcases q with q | q
        · subst q; exact Or.inl (Or.inr ⟨_, q2, Or.inr rfl, q3⟩)
        · exact Or.inr ⟨t, Or.inr ⟨a, v, b, w, q, q2, q3⟩⟩
theorem stL_g {r : Int32} {us : bLs} : ∀ (ls : bLs) (z : sSt) (x y : Nat), ((stL r ls us z).2.2 x).testBit y = true ↔ (z.2.2 x).testBit y = true ∨ cfl r ls us x y ∨ cfl r ls us y x
  | [], z, x, y => by simp [stL, cfl]
  | l :: ls, z, x, y => by
    have ih := stL_g (r := r) (us := us) ls (stJ r l us (stK r l z)) x y
    show ((stL r ls us (stJ r l us (stK r l z))).2.2 x).testBit y = true ↔ _
    rw [ih, stJ_g, stK_2]
    unfold cfl
    constructor
    · rintro ((q | ⟨u, q2, q3 | q3, q4⟩) | ⟨a, v, b, w, q, q2, q3⟩ | ⟨a, v, b, w, q, q2, q3⟩)
      · exact Or.inl q
      · exact Or.inr (Or.inl ⟨l.2.1, l.2.2, u.2.1, u.2.2, by rw [q3.1]; simp, by rw [q3.2]; exact q2, q4⟩)
      · exact Or.inr (Or.inr ⟨l.2.1, l.2.2, u.2.1, u.2.2, by rw [q3.2]; simp, by rw [q3.1]; exact q2, q4⟩)
      · exact Or.inr (Or.inl ⟨a, v, b, w, List.mem_cons_of_mem _ q, q2, q3⟩)
      · exact Or.inr (Or.inr ⟨a, v, b, w, List.mem_cons_of_mem _ q, q2, q3⟩)
    · rintro (q | ⟨a, v, b, w, q, q2, q3⟩ | ⟨a, v, b, w, q, q2, q3⟩)
      · exact Or.inl (Or.inl q)
      · rw [List.mem_cons] at q
        rcases q with q | q
        · subst q; exact Or.inl (Or.inr ⟨_, q2, Or.inl ⟨rfl, rfl⟩, q3⟩)
        · exact Or.inr (Or.inl ⟨a, v, b, w, q, q2, q3⟩)
      · rw [List.mem_cons] at q
        rcases q with q | q
        · subst q; exact Or.inl (Or.inr ⟨_, q2, Or.inr ⟨rfl, rfl⟩, q3⟩)
        · exact Or.inr (Or.inr ⟨a, v, b, w, q, q2, q3⟩)
