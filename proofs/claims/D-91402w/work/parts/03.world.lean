/-! ===== the token world ===== -/
abbrev zo_T : Type := Nat × Nat
abbrev zo_V : Type := Int32 ⊕ (Option zo_T ⊕ Int64)
/-- I ints, R references, Ln lengths of arrays, Ls contents of lists, cnt how many of a kind, J longs -/
abbrev zo_O : Type := (Nat → Nat → Nat → Int32) × (Nat → Nat → Nat → Option zo_T) × (Nat → Nat → Nat) × (Nat → List zo_T) × (Nat → Nat) × (Nat → Nat → Nat → Int64)
/-- outcome, world, cells, slots -/
abbrev zo_R : Type := Option zo_V × zo_O × Nat × Nat
/-- dC, dI, dA, H0, fixed addresses, the empty default array, the law's start and its arguments, the script's length and ints -/
abbrev zo_G : Type := (Nat → ClassId) × (Nat → Nat → Nat) × (Nat → ClassId) × Heap × (Nat → Nat → Nat) × Nat × State × Array Value × Nat × (Nat → Int32)
def gI (Ω : zo_O) (k n f : Nat) : Int32 := Ω.1 k n f
def gR (Ω : zo_O) (k n f : Nat) : Option zo_T := Ω.2.1 k n f
def gL (Ω : zo_O) (k n : Nat) : Nat := Ω.2.2.1 k n
def gS (Ω : zo_O) (n : Nat) : List zo_T := Ω.2.2.2.1 n
def gC (Ω : zo_O) (k : Nat) : Nat := Ω.2.2.2.2.1 k
def gJ (Ω : zo_O) (k n f : Nat) : Int64 := Ω.2.2.2.2.2 k n f
def u3 {α : Type} (F : Nat → Nat → Nat → α) (k n i : Nat) (v : α) : Nat → Nat → Nat → α := fun k' n' i' => if k' = k ∧ n' = n ∧ i' = i then v else F k' n' i'
def sI (Ω : zo_O) (k n f : Nat) (v : Int32) : zo_O := (u3 Ω.1 k n f v, Ω.2)
def sR (Ω : zo_O) (k n f : Nat) (v : Option zo_T) : zo_O := (Ω.1, u3 Ω.2.1 k n f v, Ω.2.2)
def sJ (Ω : zo_O) (k n f : Nat) (v : Int64) : zo_O := (Ω.1, Ω.2.1, Ω.2.2.1, Ω.2.2.2.1, Ω.2.2.2.2.1, u3 Ω.2.2.2.2.2 k n f v)
def sS (Ω : zo_O) (n : Nat) (l : List zo_T) : zo_O := (Ω.1, Ω.2.1, Ω.2.2.1, fun n' => if n' = n then l else Ω.2.2.2.1 n', Ω.2.2.2.2)
/-- one more of a kind: its number is the count so far; len: its length if it is an array -/
def nw (Ω : zo_O) (k len : Nat) : zo_O := (fun k' n' i' => if k' = k ∧ n' = gC Ω k then 0 else Ω.1 k' n' i', fun k' n' i' => if k' = k ∧ n' = gC Ω k then none else Ω.2.1 k' n' i', fun k' n' => if k' = k ∧ n' = gC Ω k then len else Ω.2.2.1 k' n', fun n' => if k = 20 ∧ n' = gC Ω k then [] else Ω.2.2.2.1 n', fun k' => if k' = k then gC Ω k + 1 else Ω.2.2.2.2.1 k', fun k' n' i' => if k' = k ∧ n' = gC Ω k then 0 else Ω.2.2.2.2.2 k' n' i')
/-- classes by kind -/
def zo_cl (k : Nat) : vw_C := match k with
  | 0 => (RX1, TX1, 23)
  | 1 => (RX2, TX2, 80)
  | 2 => (RX4, TX4, 6)
  | 3 => (RX5, TX5, 8)
  | 4 => (RX6, TX6, 4)
  | 5 => (RX7, TX7, 4)
  | 6 => (RX8, TX8, 4)
  | 7 => (RX9, TX9, 4)
  | 8 => (RX10, TX10, 3)
  | 9 => (RX11, TX11, 6)
  | 10 => (RX12, TX12, 7)
  | 11 => (RX14, TX14, 1)
  | 12 => (RX15, TX15, 1)
  | 13 => (RX16, TX16, 4)
  | 14 => (RX17, TX17, 4)
  | 15 => (RX18, TX18, 4)
  | 16 => (RX20, TX20, 3)
  | 17 => (RX21, TX21, 3)
  | 18 => (RX22, TX22, 2)
  | 19 => (RJ14, TJ14, 6)
  | _ => (RJ2, TJ2, 3)
def zo_ty (k : Nat) : Nat → FieldType := match k with
  | 0 => tyX1
  | 1 => tyX2
  | 2 => tyX4
  | 3 => tyX5
  | 4 => tyX6
  | 5 => tyX7
  | 6 => tyX8
  | 7 => tyX9
  | 8 => tyX10
  | 9 => tyX11
  | 10 => tyX12
  | 11 => tyX14
  | 12 => tyX15
  | 13 => tyX16
  | 14 => tyX17
  | 15 => tyX18
  | 16 => tyX20
  | 17 => tyX21
  | 18 => tyX22
  | 19 => tyJ14
  | _ => tyJ2
/-- a field of references -/
def zo_rf (k f : Nat) : Bool := (zo_ty k f).isReference
/-- kinds of arrays: 32 M's ints, 33 M's booleans, 34 M's bytes, 35 X's ints, 36 rows of above, 37 above, 38 X's tape, 39 curves, 40 what lists hold, 41 spans, 42 longs, 43 delays -/
def zo_at (k : Nat) : FieldType := match k with
  | 33 => .boolean
  | 34 => .byte
  | 37 => .array .int
  | 38 => .byte
  | 39 => .object "LichenTable$Curve"
  | 40 => .object "java/lang/Object"
  | 41 => .object "LichenTable$Span"
  | 42 => .long
  | _ => .int
/-- capacity of a list of n that grew one by one -/
def zo_cap : Nat → Nat
  | 0 => 0
  | n + 1 => if n < zo_cap n then zo_cap n else if zo_cap n = 0 then 10 else zo_cap n + zo_cap n / 2
def zo_mp (ρ : Nat → Nat → Nat) (o : Option zo_T) : Value := va_rf (o.map (fun t => ρ t.1 t.2))
def zo_c (ρ : Nat → Nat → Nat) (v : zo_V) : Value := match v with
  | .inl x => .int x
  | .inr (.inl o) => zo_mp ρ o
  | .inr (.inr y) => .long y
def zo_fv (G : zo_G) (ρ : Nat → Nat → Nat) (Ω : zo_O) (k n f : Nat) : Value :=
  if k = 20 then (if f = 1 then (if gS Ω n = [] then .ref G.2.2.2.2.2.1 else .ref (ρ 40 n)) else .int (nI (gS Ω n).length))
  else if zo_rf k f = true then zo_mp ρ (gR Ω k n f) else .int (gI Ω k n f)
def zo_ln (Ω : zo_O) (k n : Nat) : Nat := if k = 40 then zo_cap (gS Ω n).length else gL Ω k n
def zo_av (ρ : Nat → Nat → Nat) (Ω : zo_O) (k n i : Nat) : Value :=
  if k = 40 then zo_mp ρ ((gS Ω n)[i]?) else if (zo_at k).isReference = true then zo_mp ρ (gR Ω k n i) else if k = 42 then .long (gJ Ω k n i) else .int (gI Ω k n i)
def zo_cell (G : zo_G) (ρ : Nat → Nat → Nat) (Ω : zo_O) (k n : Nat) (H : Heap) : Prop :=
  if k < 21 then t_OB (ρ k n) (G.1 k) (zo_cl k).2.2 (G.2.1 k) H (zo_fv G ρ Ω k n) else H[ρ k n]? = some (arrV (G.2.2.1 k) (zo_ln Ω k n) (zo_av ρ Ω k n))
def zo_lv (Ω : zo_O) (k n : Nat) : Prop := if k = 40 then n < gC Ω 20 ∧ gS Ω n ≠ [] else n < gC Ω k
def zo_ok (Ω : zo_O) (t : zo_T) : Prop := t.1 = 21 ∨ t.1 = 22 ∨ (t.1 ≠ 40 ∧ t.2 < gC Ω t.1)
def zo_Rep (G : zo_G) (ρ : Nat → Nat → Nat) (Ω : zo_O) (H : Heap) : Prop :=
  G.2.2.2.1.size ≤ H.size ∧ (∀ q : Nat, q < G.2.2.2.1.size → H[q]? = G.2.2.2.1[q]?) ∧ (∀ n, ρ 21 n = G.2.2.2.2.1 21 n ∧ ρ 22 n = G.2.2.2.2.1 22 n) ∧
  (∃ own : Nat → Nat × Nat, ∀ k n, zo_lv Ω k n → own (ρ k n) = (k, n) ∧ G.2.2.2.1.size ≤ ρ k n ∧ zo_cell G ρ Ω k n H) ∧
  (∀ k n f t, n < gC Ω k → gR Ω k n f = some t → zo_ok Ω t) ∧ (∀ n t, n < gC Ω 20 → t ∈ gS Ω n → zo_ok Ω t) ∧ gC Ω 21 = 0 ∧ gC Ω 22 = 0 ∧ gC Ω 40 = 0
def zo_ext (Ω : zo_O) (ρ ρ' : Nat → Nat → Nat) : Prop := ∀ t, zo_ok Ω t → ρ' t.1 t.2 = ρ t.1 t.2
def zo_le (Ω Ω' : zo_O) : Prop := ∀ k, gC Ω k ≤ gC Ω' k
def zo_vk (Ω : zo_O) (v : zo_V) : Prop := match v with
  | .inr (.inl (some t)) => zo_ok Ω t
  | _ => True
def zo_vs (Ω : zo_O) : List zo_V → Prop
  | [] => True
  | v :: r => zo_vk Ω v ∧ zo_vs Ω r
def zo_vl (Ω : zo_O) (ls : List (Nat × zo_V)) : Prop := ∀ q ∈ ls, zo_vk Ω q.2
def zo_cs (ρ : Nat → Nat → Nat) (ls : List (Nat × zo_V)) : List (Nat × Value) := ls.map (fun q => (q.1, zo_c ρ q.2))
theorem zo_ok.le {Ω Ω' : zo_O} {t : zo_T} (h : zo_ok Ω t) (hl : zo_le Ω Ω') : zo_ok Ω' t := by
  rcases h with h | h | h
  · exact Or.inl h
  · exact Or.inr (Or.inl h)
  · exact Or.inr (Or.inr ⟨h.1, Nat.lt_of_lt_of_le h.2 (hl _)⟩)
theorem zo_vk.le {Ω Ω' : zo_O} {v : zo_V} (h : zo_vk Ω v) (hl : zo_le Ω Ω') : zo_vk Ω' v := by
  rcases v with x | (_ | t) | y
  · trivial
  · trivial
  · exact zo_ok.le h hl
  · trivial
theorem zo_vs.le {Ω Ω' : zo_O} (hl : zo_le Ω Ω') : ∀ {st : List zo_V}, zo_vs Ω st → zo_vs Ω' st
  | [], _ => trivial
  | _ :: _, h => ⟨zo_vk.le h.1 hl, zo_vs.le hl h.2⟩
theorem zo_vl.le {Ω Ω' : zo_O} {ls : List (Nat × zo_V)} (h : zo_vl Ω ls) (hl : zo_le Ω Ω') : zo_vl Ω' ls := fun q hq => zo_vk.le (h q hq) hl
theorem zo_le.rf {Ω : zo_O} : zo_le Ω Ω := fun _ => Nat.le_refl _
theorem zo_le.tr {A B C : zo_O} (h : zo_le A B) (h2 : zo_le B C) : zo_le A C := fun k => Nat.le_trans (h k) (h2 k)
theorem zo_ext.rf {Ω : zo_O} {ρ : Nat → Nat → Nat} : zo_ext Ω ρ ρ := fun _ _ => rfl
theorem zo_ext.tr {A B : zo_O} {ρ ρ1 ρ2 : Nat → Nat → Nat} (h : zo_ext A ρ ρ1) (hl : zo_le A B) (h2 : zo_ext B ρ1 ρ2) : zo_ext A ρ ρ2 := fun t ht => (h2 t (ht.le hl)).trans (h t ht)
theorem zo_c.ext {Ω : zo_O} {ρ ρ' : Nat → Nat → Nat} (h : zo_ext Ω ρ ρ') {v : zo_V} (hv : zo_vk Ω v) : zo_c ρ' v = zo_c ρ v := by
  rcases v with x | (_ | t) | y
  · rfl
  · rfl
  · show va_rf (some (ρ' t.1 t.2)) = va_rf (some (ρ t.1 t.2))
    rw [h t hv]
  · rfl
theorem zo_st.ext {Ω : zo_O} {ρ ρ' : Nat → Nat → Nat} (h : zo_ext Ω ρ ρ') : ∀ {st : List zo_V}, zo_vs Ω st → st.map (zo_c ρ') = st.map (zo_c ρ)
  | [], _ => rfl
  | v :: r, hv => by
    rw [List.map_cons, List.map_cons, zo_c.ext h hv.1, zo_st.ext h hv.2]
theorem zo_cs.ext {Ω : zo_O} {ρ ρ' : Nat → Nat → Nat} (h : zo_ext Ω ρ ρ') {ls : List (Nat × zo_V)} (hv : zo_vl Ω ls) : zo_cs ρ' ls = zo_cs ρ ls := by
  unfold zo_cs
  apply List.map_congr_left
  intro q hq
  rw [zo_c.ext h (hv q hq)]
theorem zo_mp.ext {Ω : zo_O} {ρ ρ' : Nat → Nat → Nat} (h : zo_ext Ω ρ ρ') {o : Option zo_T} (hv : ∀ t, o = some t → zo_ok Ω t) : zo_mp ρ' o = zo_mp ρ o := by
  cases o with
  | none => rfl
  | some t =>
    show va_rf (some (ρ' t.1 t.2)) = va_rf (some (ρ t.1 t.2))
    rw [h t (hv t rfl)]
theorem zo_cell.cong {G : zo_G} {ρ ρ' : Nat → Nat → Nat} {Ω Ω' : zo_O} {k n : Nat} {H H' : Heap} (h : zo_cell G ρ Ω k n H) (hr : ρ' k n = ρ k n) (hH : H'[ρ k n]? = H[ρ k n]?)
    (hf : k < 21 → ∀ f, f < (zo_cl k).2.2 → zo_fv G ρ' Ω' k n f = zo_fv G ρ Ω k n f) (hn : 21 ≤ k → zo_ln Ω' k n = zo_ln Ω k n) (ha : 21 ≤ k → ∀ i, i < zo_ln Ω k n → zo_av ρ' Ω' k n i = zo_av ρ Ω k n i) : zo_cell G ρ' Ω' k n H' := by
  unfold zo_cell at h ⊢
  by_cases hk : k < 21
  · rw [if_pos hk] at h ⊢
    rw [hr]
    exact (h.kept hH).to (fun f hf2 => (hf hk f hf2).symm)
  · rw [if_neg hk] at h ⊢
    rw [hr, hH, h, hn (by omega)]
    congr 1
    show arrV _ _ _ = arrV _ _ _
    unfold arrV
    congr 1
    apply Array.ext
    · simp
    · intro j h1 h2
      simp only [Array.getElem_ofFn]
      exact (ha (by omega) j (by simpa using h1)).symm
