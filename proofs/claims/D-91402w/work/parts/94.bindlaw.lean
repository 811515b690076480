/-! ===== plain law of binds: both narrow to the same ===== -/
abbrev bSt : Type := (Nat → Int) × (Nat → Int)
abbrev bCs : Type := List (Nat × Nat × Int)
def upI (f : Nat → Int) (s : Nat) (v : Int) : Nat → Int := fun x => if x = s then v else f x
def cutS (st : bSt) (c : Nat × Nat × Int) : bSt := (upI st.1 c.2.1 (max (st.1 c.2.1) (st.1 c.1 + c.2.2)), upI st.2 c.1 (min (st.2 c.1) (st.2 c.2.1 - c.2.2)))
def bLe (st st' : bSt) : Prop := ∀ s, st.1 s ≤ st'.1 s ∧ st'.2 s ≤ st.2 s
def bCl (C : bCs) (st : bSt) : Prop := ∀ c ∈ C, st.1 c.1 + c.2.2 ≤ st.1 c.2.1 ∧ st.2 c.1 ≤ st.2 c.2.1 - c.2.2
def cutA (C : bCs) (st : bSt) : bSt := C.foldl cutS st
theorem bLe_refl {st : bSt} : bLe st st := fun _ => ⟨Int.le_refl _, Int.le_refl _⟩
theorem bLe_trans {a b c : bSt} (h : bLe a b) (h' : bLe b c) : bLe a c := fun s => ⟨Int.le_trans (h s).1 (h' s).1, Int.le_trans (h' s).2 (h s).2⟩
theorem bLe_anti {a b : bSt} (h : bLe a b) (h' : bLe b a) : a = b := by
  refine Prod.ext (funext fun s => ?_) (funext fun s => ?_)
  · have := (h s).1; have := (h' s).1; omega
  · have := (h s).2; have := (h' s).2; omega
theorem cutS_le {st : bSt} {c : Nat × Nat × Int} : bLe st (cutS st c) := by
  intro s
  unfold cutS upI
  refine ⟨?_, ?_⟩
  · show st.1 s ≤ if s = c.2.1 then max (st.1 c.2.1) (st.1 c.1 + c.2.2) else st.1 s
    split
    · rename_i h; subst h; omega
    · exact Int.le_refl _
  · show (if s = c.1 then min (st.2 c.1) (st.2 c.2.1 - c.2.2) else st.2 s) ≤ st.2 s
    split
    · rename_i h; subst h; omega
    · exact Int.le_refl _
theorem cutA_le : ∀ (C : bCs) {st : bSt}, bLe st (cutA C st)
  | [], _ => bLe_refl
  | c :: C, st => bLe_trans cutS_le (cutA_le C (st := cutS st c))
theorem cutS_cl {C : bCs} {st st' : bSt} {c : Nat × Nat × Int} (hc : c ∈ C) (h : bCl C st') (hl : bLe st st') : bLe (cutS st c) st' := by
  intro s
  have h1 := h c hc
  have h2 := hl c.1
  have h3 := hl c.2.1
  have h4 := hl s
  unfold cutS upI
  refine ⟨?_, ?_⟩
  · show (if s = c.2.1 then max (st.1 c.2.1) (st.1 c.1 + c.2.2) else st.1 s) ≤ st'.1 s
    split
    · rename_i e; subst e; omega
    · exact h4.1
  · show st'.2 s ≤ if s = c.1 then min (st.2 c.1) (st.2 c.2.1 - c.2.2) else st.2 s
    split
    · rename_i e; subst e; omega
    · exact h4.2
theorem cutA_cl {C : bCs} {st' : bSt} (h : bCl C st') : ∀ (L : bCs) {st : bSt}, (∀ c ∈ L, c ∈ C) → bLe st st' → bLe (cutA L st) st'
  | [], _, _, hl => hl
  | c :: L, _, hL, hl => cutA_cl h L (fun x hx => hL x (List.mem_cons_of_mem _ hx)) (cutS_cl (hL c (List.mem_cons_self ..)) h hl)
/-- nothing changed: closed -/
theorem cutS_same {st : bSt} {c : Nat × Nat × Int} (h : cutS st c = st) : st.1 c.1 + c.2.2 ≤ st.1 c.2.1 ∧ st.2 c.1 ≤ st.2 c.2.1 - c.2.2 := by
  have h1 := congrFun (congrArg Prod.fst h) c.2.1
  have h2 := congrFun (congrArg Prod.snd h) c.1
  unfold cutS upI at h1 h2
  simp at h1 h2
  omega
theorem cutA_same : ∀ (C : bCs) {st : bSt}, cutA C st = st → bCl C st
  | [], _, _ => fun c hc => by simp at hc
  | c :: C, st, h => by
    have h1 : bLe st (cutS st c) := cutS_le
    have h2 : bLe (cutS st c) (cutA C (cutS st c)) := cutA_le C
    have h3 : cutA C (cutS st c) = st := h
    have e : cutS st c = st := (bLe_anti h1 (by rw [h3] at h2; exact h2)).symm
    intro x hx
    rw [List.mem_cons] at hx
    rcases hx with rfl | hx
    · exact cutS_same e
    · rw [e] at h3
      exact cutA_same C h3 x hx
theorem bCl_same : ∀ (C : bCs) {st : bSt}, bCl C st → cutA C st = st
  | [], _, _ => rfl
  | c :: C, st, h => by
    have e : cutS st c = st := bLe_anti (cutS_cl (C := c :: C) (List.mem_cons_self ..) h bLe_refl) cutS_le
    show cutA C (cutS st c) = st
    rw [e]
    exact bCl_same C (fun x hx => h x (List.mem_cons_of_mem _ hx))
def nf (P : Nat → Prop) (st : bSt) : Prop := ∀ s, P s → st.1 s ≤ st.2 s
/-- what a run of binds gives: the narrowest closed one, or there is none -/
def bRes (P : Nat → Prop) (C : bCs) (st : bSt) (b : Bool) (st' : bSt) : Prop := (b = true → bCl C st' ∧ bLe st st' ∧ nf P st' ∧ ∀ z, bCl C z → bLe st z → bLe st' z) ∧ (b = false → ¬ ∃ z, bCl C z ∧ bLe st z ∧ nf P z)
theorem bRes_same {P : Nat → Prop} {C C' : bCs} {st st1 st2 : bSt} {b b' : Bool} (hC : ∀ c, c ∈ C ↔ c ∈ C') (h : bRes P C st b st1) (h' : bRes P C' st b' st2) : b = b' ∧ (b = true → st1 = st2) := by
  have k : ∀ z, bCl C z ↔ bCl C' z := fun z => ⟨fun w c hc => w c ((hC c).2 hc), fun w c hc => w c ((hC c).1 hc)⟩
  cases b with
  | true =>
    obtain ⟨a1, a2, a3, a4⟩ := h.1 rfl
    cases b' with
    | true =>
      obtain ⟨c1, c2, c3, c4⟩ := h'.1 rfl
      exact ⟨rfl, fun _ => bLe_anti (a4 st2 ((k st2).2 c1) c2) (c4 st1 ((k st1).1 a1) a2)⟩
    | false => exact absurd ⟨st1, (k st1).1 a1, a2, a3⟩ (h'.2 rfl)
  | false =>
    cases b' with
    | true =>
      obtain ⟨c1, c2, c3, c4⟩ := h'.1 rfl
      exact absurd ⟨st2, (k st2).2 c1, c2, c3⟩ (h.2 rfl)
    | false => exact ⟨rfl, fun w => by simp at w⟩
/-- one more round in front -/
theorem bRes_step {P : Nat → Prop} {C L : bCs} {st st' : bSt} {b : Bool} (hL : ∀ c ∈ L, c ∈ C) (h : bRes P C (cutA L st) b st') : bRes P C st b st' := by
  refine ⟨fun hb => ?_, fun hb => ?_⟩
  · obtain ⟨a1, a2, a3, a4⟩ := h.1 hb
    exact ⟨a1, bLe_trans (cutA_le L) a2, a3, fun z z1 z2 => a4 z z1 (cutA_cl z1 L hL z2)⟩
  · rintro ⟨z, z1, z2, z3⟩
    exact h.2 hb ⟨z, z1, cutA_cl z1 L hL z2, z3⟩
theorem bRes_none {P : Nat → Prop} {C : bCs} {st st' : bSt} {s : Nat} (hs : P s) (h : st.2 s < st.1 s) : bRes P C st false st' := by
  refine ⟨fun w => by simp at w, fun _ => ?_⟩
  rintro ⟨z, z1, z2, z3⟩
  have h1 := z2 s
  have h2 := z3 s hs
  omega
theorem bRes_done {P : Nat → Prop} {C : bCs} {st : bSt} (h : bCl C st) (hn : nf P st) : bRes P C st true st :=
  ⟨fun _ => ⟨h, bLe_refl, hn, fun _ _ w => w⟩, fun w => by simp at w⟩
/-! how many years are left -/
def ms (P : Nat → Bool) (st : bSt) : Nat → Int
  | 0 => 0
  | s + 1 => ms P st s + (if P s = true then st.2 s - st.1 s else 0)
theorem ms_le {P : Nat → Bool} {st st' : bSt} (h : bLe st st') : ∀ n, ms P st' n ≤ ms P st n
  | 0 => Int.le_refl _
  | n + 1 => by
    have := ms_le (P := P) h n
    have h1 := h n
    rw [ms, ms]
    split <;> omega
theorem ms_lt {P : Nat → Bool} {st st' : bSt} (h : bLe st st') {s : Nat} (hs : P s = true) (hc : st.1 s < st'.1 s ∨ st'.2 s < st.2 s) : ∀ n, s < n → ms P st' n < ms P st n
  | 0, q => by omega
  | n + 1, q => by
    have h1 := h n
    have h2 := ms_le (P := P) h n
    rw [ms, ms]
    by_cases e : s = n
    · subst e
      rw [if_pos hs, if_pos hs]
      omega
    · have := ms_lt h hs hc n (by omega)
      split <;> omega
theorem ms_nn {P : Nat → Bool} {st : bSt} (h : nf (fun s => P s = true) st) : ∀ n, 0 ≤ ms P st n
  | 0 => Int.le_refl _
  | n + 1 => by
    have := ms_nn h n
    rw [ms]
    split
    · rename_i q; have := h n q; omega
    · omega
theorem ms_b {P : Nat → Bool} {st : bSt} (h : ∀ s, P s = true → st.2 s - st.1 s ≤ 1100) : ∀ n, ms P st n ≤ 1100 * n
  | 0 => by simp [ms]
  | n + 1 => by
    have := ms_b h n
    rw [ms]
    split
    · rename_i q; have := h n q; omega
    · omega
/-- values after some cuts stay within reach -/
theorem cutS_b {st : bSt} {c : Nat × Nat × Int} {lo hi : Int} (h : ∀ s, lo ≤ st.1 s ∧ st.1 s ≤ hi ∧ lo ≤ st.2 s ∧ st.2 s ≤ hi) (hc : 0 ≤ c.2.2 ∧ c.2.2 ≤ 500) : ∀ s, lo - 500 ≤ (cutS st c).1 s ∧ (cutS st c).1 s ≤ hi + 500 ∧ lo - 500 ≤ (cutS st c).2 s ∧ (cutS st c).2 s ≤ hi + 500 := by
  intro s
  have h1 := h s
  have h2 := h c.1
  have h3 := h c.2.1
  unfold cutS upI
  refine ⟨?_, ?_, ?_, ?_⟩
  · show lo - 500 ≤ if s = c.2.1 then max (st.1 c.2.1) (st.1 c.1 + c.2.2) else st.1 s
    split <;> omega
  · show (if s = c.2.1 then max (st.1 c.2.1) (st.1 c.1 + c.2.2) else st.1 s) ≤ hi + 500
    split <;> omega
  · show lo - 500 ≤ if s = c.1 then min (st.2 c.1) (st.2 c.2.1 - c.2.2) else st.2 s
    split <;> omega
  · show (if s = c.1 then min (st.2 c.1) (st.2 c.2.1 - c.2.2) else st.2 s) ≤ hi + 500
    split <;> omega
theorem cutS_chg {st : bSt} {c : Nat × Nat × Int} (h : cutS st c ≠ st) : st.1 c.2.1 < (cutS st c).1 c.2.1 ∨ (cutS st c).2 c.1 < st.2 c.1 := by
  have h1 : (cutS st c).1 c.2.1 = max (st.1 c.2.1) (st.1 c.1 + c.2.2) := by unfold cutS upI; simp
  have h2 : (cutS st c).2 c.1 = min (st.2 c.1) (st.2 c.2.1 - c.2.2) := by unfold cutS upI; simp
  rw [h1, h2]
  by_cases g : st.1 c.1 + c.2.2 ≤ st.1 c.2.1 ∧ st.2 c.1 ≤ st.2 c.2.1 - c.2.2
  · exact absurd (bLe_anti (cutS_cl (C := [c]) (by simp) (fun x hx => by simp at hx; subst hx; exact g) bLe_refl) cutS_le) h
  · omega
