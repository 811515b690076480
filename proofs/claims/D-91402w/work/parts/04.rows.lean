/-! ===== TW: from here the method ends with res ===== -/
/-- p l e R s m args below meth c G J ρ0 Ω0 nL Q -/
abbrev zo_Y := Program × Launch × Env × Room × State × MethodId × Array Value × List Frame × Method × Code × zo_G × (zo_O → Prop) × (Nat → Nat → Nat) × zo_O × Nat × (Option zo_V → zo_O → State → Prop)
/-- words that don't ride in the lists, but hold all through a run -/
def zo_nw (w : Cond) : Bool := match w with
  | .fieldLinkNest _ _ _ _ _ _ => true
  | .methodLinkNest _ _ _ _ => true
  | .castable _ _ => true
  | _ => false
/-- String constants: class, entry, text, number -/
def zo_strs : List (String × Nat × String × Nat) := [("LichenTableModel", 307, "use", 0), ("LichenTableModel", 309, "skip", 1), ("LichenTableModel", 291, "not", 2), ("LichenTableModel", 267, "site", 3), ("LichenTableModel", 269, "kind", 4), ("LichenTableModel", 270, "measurer", 5), ("LichenTableModel", 271, "long", 6), ("LichenTableModel", 273, "short", 7), ("LichenTableModel", 275, "year", 8), ("LichenTableModel", 277, "merged", 9), ("LichenTableModel", 279, "round", 10), ("LichenTableModel", 281, "side", 11), ("LichenTableModel", 282, "belt", 12), ("LichenTableModel", 305, "and", 13), ("LichenTable$Reader", 124, "use", 0), ("LichenTable$Reader", 126, "skip", 1), ("LichenTable$Reader", 92, "not", 2), ("LichenTable$Reader", 68, "site", 3), ("LichenTable$Reader", 74, "kind", 4), ("LichenTable$Reader", 76, "measurer", 5), ("LichenTable$Reader", 78, "long", 6), ("LichenTable$Reader", 80, "short", 7), ("LichenTable$Reader", 82, "year", 8), ("LichenTable$Reader", 84, "merged", 9), ("LichenTable$Reader", 86, "round", 10), ("LichenTable$Reader", 88, "side", 11), ("LichenTable$Reader", 90, "belt", 12), ("LichenTable$Reader", 138, "and", 13)]
/-- the constants' bytes -/
def zo_tx : List (List Nat) := [[117, 115, 101], [115, 107, 105, 112], [110, 111, 116], [115, 105, 116, 101], [107, 105, 110, 100], [109, 101, 97, 115, 117, 114, 101, 114], [108, 111, 110, 103], [115, 104, 111, 114, 116], [121, 101, 97, 114], [109, 101, 114, 103, 101, 100], [114, 111, 117, 110, 100], [115, 105, 100, 101], [98, 101, 108, 116], [97, 110, 100]]
def zo_sl (j : Nat) : Nat := (zo_tx.getD j []).length
def zo_sb (j i : Nat) : Int32 := nI ((zo_tx.getD j []).getD i 0)
/-- what stands in old cells: String constants (21, j) with their bytes (22, j + 1), the script (22, 0), the lists' empty array -/
def zo_old (G : zo_G) : Prop := (∀ j, j < 14 → va_O "java/lang/String" (G.2.2.2.2.1 21 j) (fun q => G.2.2.2.1.size ≤ q) G.2.2.2.2.2.2.1 G.2.2.2.1 ∧ va_OF "java/lang/String" "coder" "B" (.int 0) (G.2.2.2.2.1 21 j) (fun q => G.2.2.2.1.size ≤ q) G.2.2.2.2.2.2.1 G.2.2.2.1 ∧ va_OF "java/lang/String" "value" "[B" (.ref (G.2.2.2.2.1 22 (j + 1))) (G.2.2.2.2.1 21 j) (fun q => G.2.2.2.1.size ≤ q) G.2.2.2.2.2.2.1 G.2.2.2.1 ∧ va_T .byte (G.2.2.2.2.1 22 (j + 1)) (zo_sl j) (fun i => .int (zo_sb j i)) (fun q => G.2.2.2.1.size ≤ q) G.2.2.2.2.2.2.1 G.2.2.2.1) ∧
  (G.2.2.2.2.1 22 0 < G.2.2.2.1.size ∧ va_X (G.2.2.2.2.1 22 0) G.2.2.2.2.2.2.2.2.1 G.2.2.2.2.2.2.2.2.2 G.2.2.2.2.2.2.1 G.2.2.2.1) ∧
  (va_Z "java/util/ArrayList" "DEFAULTCAPACITY_EMPTY_ELEMENTDATA" "[Ljava/lang/Object;" (.ref G.2.2.2.2.2.1) (fun q => G.2.2.2.1.size ≤ q) G.2.2.2.2.2.2.1 G.2.2.2.1 ∧ ∃ cell : Cell, G.2.2.2.1[G.2.2.2.2.2.1]? = some cell ∧ G.2.2.2.2.2.2.1.isArrayOf cell (.object "java/lang/Object") ∧ cell.slots.size.toInt32 = 0)
/-- what the law's start gives -/
def zo_S0 (G : zo_G) (U : State) : Prop := G.2.2.2.2.2.2.1.heap = G.2.2.2.1 ∧ (∀ w ∈ lw_tbl, w.before G.2.2.2.2.2.2.2.1 G.2.2.2.2.2.2.1 = true) ∧ (Jvm.Cond.and given_1 narrow_1).before G.2.2.2.2.2.2.2.1 G.2.2.2.2.2.2.1 = true ∧ (∀ q ∈ zo_strs, vk_R q.1 q.2.1 q.2.2.1 (G.2.2.2.2.1 21 q.2.2.2) G.2.2.2.2.2.2.1) ∧ zo_old G ∧ G.2.2.2.2.2.2.1.WarmedH U.vm
def zo_K (G : zo_G) (U : State) : Prop := (∀ k, k < 21 → u_Kn U (zo_cl k).1 (zo_cl k).2.1 (zo_cl k).2.2 (G.1 k) (G.2.1 k)) ∧ (∀ k, 32 ≤ k → k < 44 → ArrOfT U (G.2.2.1 k) (zo_at k) ∧ va_RA U (G.2.2.1 k) (zo_at k)) ∧ (∀ w ∈ lw_tbl, zo_nw w = true → va_Nw w U) ∧ zo_S0 G U
theorem zo_K.moved {G : zo_G} {s U : State} (hW : s.WarmedH U.vm) (h : zo_K G s) : zo_K G U := by
  refine ⟨fun k hk => u_Kn_moved hW.alike (h.1 k hk), fun k h1 h2 => ⟨arrOfT_moved hW.alike (h.2.1 k h1 h2).1, (h.2.1 k h1 h2).2.moved hW.alike⟩, fun w hw hn => ?_, h.2.2.2.1, h.2.2.2.2.1, h.2.2.2.2.2.1, h.2.2.2.2.2.2.1, h.2.2.2.2.2.2.2.1, State.WarmedH.trans h.2.2.2.2.2.2.2.2 hW⟩
  have h3 := h.2.2.1 w hw hn
  cases w with
  | fieldLinkNest a i b n d hh => exact h3.warmF hW
  | methodLinkNest a i x hh => exact h3.warmM hW
  | castable C T => exact h3.warmC hW
  | _ => cases hn
theorem zo_K.same {G : zo_G} {s U : State} (hv : s.vm = U.vm) (h : zo_K G s) : zo_K G U := by
  have ha : s.vm.Alike U.vm := by rw [hv]; exact Vm.Alike.refl _
  refine ⟨fun k hk => u_Kn_moved ha (h.1 k hk), fun k h1 h2 => ⟨arrOfT_moved ha (h.2.1 k h1 h2).1, (h.2.1 k h1 h2).2.moved ha⟩, fun w hw hn => ?_, h.2.2.2.1, h.2.2.2.2.1, h.2.2.2.2.2.1, h.2.2.2.2.2.2.1, h.2.2.2.2.2.2.2.1, by rw [← hv]; exact h.2.2.2.2.2.2.2.2⟩
  have h3 := h.2.2.1 w hw hn
  cases w with
  | fieldLinkNest a i b n d hh => exact h3.same rfl hv
  | methodLinkNest a i x hh => exact h3.same rfl hv
  | castable C T => exact h3.same rfl hv
  | _ => cases hn
def zo_J : zo_Y → zo_O → Prop
  | (_, _, _, _, _, _, _, _, _, _, _, J, _, _, _, _) => J
def TW : zo_Y → zo_R → zo_O → Nat → List (Nat × zo_V) → List zo_V → Prop
  | (p, l, e, R, s, m, args, below, meth, c, G, J, ρ0, Ω0, nL, Q), res, Ω, pc, ls, st => ∀ (ρ : Nat → Nat → Nat) (H : Heap) (locs : List Loc) (LS : Array Slot) (x y : Nat), zo_Rep G ρ Ω H → J Ω → zo_ext Ω0 ρ0 ρ → zo_le Ω0 Ω → (∀ q ∈ locs, G.2.2.2.1.size ≤ q.base) → lv_has LS nL (zo_cs ρ ls) → zo_vl Ω ls → zo_vs Ω st → x + res.2.2.1 = R.cells → y + res.2.2.2 = R.slots →
    W p l e R s m args below meth c H locs x y (Q res.1 res.2.1) (F0 m pc LS (st.map (zo_c ρ)))
def zo_Gd : zo_Y → ByteArray → Nat → String → Nat → Prop
  | (p, _, _, R, s, m, args, _, meth, c, G, _, _, _, nL, _), cc, nL', own, d => p.tables.exec = Jvm.exec ∧ c.code = cc ∧ c.maxLocals = nL' ∧ nL = nL' ∧ s.vm.findClass own = some m.cls ∧ (∀ w ∈ lw_all, w.before args s = true) ∧ meth.locks = false ∧ zo_K G s ∧ d ≤ R.frames ∧ 64 * d ≤ R.locals
abbrev vi (x : Int32) : zo_V := .inl x
abbrev vr (k n : Nat) : zo_V := .inr (.inl (some (k, n)))
abbrev vo (o : Option zo_T) : zo_V := .inr (.inl o)
abbrev vl (x : Int64) : zo_V := .inr (.inr x)
/-- a check -/
def gd (c : Prop) [Decidable c] (X : Option zo_R) : Option zo_R := if c then X else none
/-- a reference of a kind -/
def bk (o : Option zo_T) (k : Nat) (F : Nat → Option zo_R) : Option zo_R := match o with
  | some t => if t.1 = k then F t.2 else none
  | none => none
/-- null or a reference of a kind -/
def cn (o : Option zo_T) (k : Nat) (X : Option zo_R) (F : Nat → Option zo_R) : Option zo_R := match o with
  | some t => if t.1 = k then F t.2 else none
  | none => X
/-- a name for a world -/
def lt (Ω : zo_O) (F : zo_O → Option zo_R) : Option zo_R := F Ω
/-- cells and slots that were made before -/
def ad (c s : Nat) (X : Option zo_R) : Option zo_R := X.map (fun r => (r.1, r.2.1, r.2.2.1 + c, r.2.2.2 + s))
/-- a call -/
def cl (X : Option zo_R) (F : Option zo_V → zo_O → Option zo_R) : Option zo_R := match X with
  | some r => ad r.2.2.1 r.2.2.2 (F r.1 r.2.1)
  | none => none
/-- an answer that is an int -/
def iF (F : Int32 → zo_O → Option zo_R) : Option zo_V → zo_O → Option zo_R := fun v Ω => match v with
  | some (.inl x) => F x Ω
  | _ => none
def ci (X : Option zo_R) (F : Int32 → zo_O → Option zo_R) : Option zo_R := cl X (iF F)
/-- no answer -/
def vF (F : zo_O → Option zo_R) : Option zo_V → zo_O → Option zo_R := fun v Ω => match v with
  | none => F Ω
  | _ => none
def cv (X : Option zo_R) (F : zo_O → Option zo_R) : Option zo_R := cl X (vF F)
/-- an answer that is a reference -/
def rF (F : Option zo_T → zo_O → Option zo_R) : Option zo_V → zo_O → Option zo_R := fun v Ω => match v with
  | some (.inr (.inl o)) => F o Ω
  | _ => none
def cr (X : Option zo_R) (F : Option zo_T → zo_O → Option zo_R) : Option zo_R := cl X (rF F)
/-- an answer that is a reference of a kind -/
def ck (X : Option zo_R) (K : Nat) (F : Nat → zo_O → Option zo_R) : Option zo_R := cl X (rF (fun o Ω => bk o K (fun n => F n Ω)))
/-- a name for an int -/
def li (a : Int32) (F : Int32 → Option zo_R) : Option zo_R := F a
theorem gd_e {c : Prop} [Decidable c] {X : Option zo_R} {r : zo_R} (h : gd c X = some r) : c ∧ X = some r := by
  unfold gd at h
  by_cases hc : c
  · rw [if_pos hc] at h; exact ⟨hc, h⟩
  · rw [if_neg hc] at h; cases h
theorem bk_e {o : Option zo_T} {k : Nat} {F : Nat → Option zo_R} {r : zo_R} (h : bk o k F = some r) : ∃ n, o = some (k, n) ∧ F n = some r := by
  rcases o with _ | ⟨k', n⟩
  · cases h
  · have h : (if k' = k then F n else none) = some r := h
    by_cases hc : k' = k
    · subst hc; rw [if_pos rfl] at h; exact ⟨n, rfl, h⟩
    · rw [if_neg hc] at h; cases h
theorem cn_e {o : Option zo_T} {k : Nat} {X : Option zo_R} {F : Nat → Option zo_R} {r : zo_R} (h : cn o k X F = some r) : (o = none ∧ X = some r) ∨ ∃ n, o = some (k, n) ∧ F n = some r := by
  rcases o with _ | ⟨k', n⟩
  · exact Or.inl ⟨rfl, h⟩
  · have h : (if k' = k then F n else none) = some r := h
    by_cases hc : k' = k
    · subst hc; rw [if_pos rfl] at h; exact Or.inr ⟨n, rfl, h⟩
    · rw [if_neg hc] at h; cases h
theorem ad_e {c s : Nat} {X : Option zo_R} {r : zo_R} (h : ad c s X = some r) : ∃ r', X = some r' ∧ r = (r'.1, r'.2.1, r'.2.2.1 + c, r'.2.2.2 + s) := by
  cases X with
  | none => cases h
  | some r' => exact ⟨r', rfl, (Option.some.inj h).symm⟩
theorem cl_e {X : Option zo_R} {F : Option zo_V → zo_O → Option zo_R} {r : zo_R} (h : cl X F = some r) : ∃ q r', X = some q ∧ F q.1 q.2.1 = some r' ∧ r = (r'.1, r'.2.1, r'.2.2.1 + q.2.2.1, r'.2.2.2 + q.2.2.2) := by
  cases X with
  | none => cases h
  | some q =>
    obtain ⟨r', h1, h2⟩ := ad_e (c := q.2.2.1) (s := q.2.2.2) (X := F q.1 q.2.1) h
    exact ⟨q, r', rfl, h1, h2⟩
section TWR
variable {Y : zo_Y} {res : zo_R} {Ω : zo_O} {pc : Nat} {ls : List (Nat × zo_V)} {st : List zo_V} {cc : ByteArray} {nL : Nat} {own : String} {d : Nat} {A B : Option zo_R}
/-- fewer locals, in another order -/
theorem zo_sub {ls' : List (Nat × zo_V)} (ks : List Nat) (hl : ks.filterMap (fun i => ls[i]?) = ls') (k : TW Y res Ω pc ls' st) : TW Y res Ω pc ls st := by
  obtain ⟨p, l, e, R, s, m, args, below, meth, c, G, J, ρ0, Ω0, nL0, Q⟩ := Y
  intro ρ H locs LS x y hR hJ hE hL hq hv hvl hvs h1 h2
  have hin : ∀ q ∈ ls', q ∈ ls := fun q hq => by
    subst hl
    obtain ⟨i, -, hi⟩ := List.mem_filterMap.mp hq
    exact List.mem_of_getElem? hi
  refine k ρ H locs LS x y hR hJ hE hL hq ⟨hv.1, hv.2.1, fun q hq => ?_⟩ (fun q hq => hvl q (hin q hq)) hvs h1 h2
  obtain ⟨q', h3, h4⟩ := List.mem_map.mp hq
  exact hv.2.2 q (by rw [← h4]; exact List.mem_map_of_mem (hin q' h3))
theorem zo_nmi {a : Int32} {F : Int32 → Option zo_R} (h : li a F = some res) (kk : ∀ x, F x = some res → TW Y res Ω pc ls (vi x :: st)) : TW Y res Ω pc ls (vi a :: st) := kk a h
theorem ci_k {X : Option zo_R} {F : Int32 → zo_O → Option zo_R} (kk : ∀ x Ω1 r', F x Ω1 = some r' → TW Y r' Ω1 pc ls (vi x :: st)) : ∀ q r', X = some q → iF F q.1 q.2.1 = some r' → TW Y r' q.2.1 pc ls (q.1.toList ++ st) := by
  rintro ⟨_ | x | y, Ω1, c, s⟩ r' - h
  · cases h
  · exact kk x Ω1 r' h
  · cases h
theorem cv_k {X : Option zo_R} {F : zo_O → Option zo_R} (kk : ∀ Ω1 r', F Ω1 = some r' → TW Y r' Ω1 pc ls st) : ∀ q r', X = some q → vF F q.1 q.2.1 = some r' → TW Y r' q.2.1 pc ls (q.1.toList ++ st) := by
  rintro ⟨_ | x, Ω1, c, s⟩ r' - h
  · exact kk Ω1 r' h
  · cases h
theorem cr_k {X : Option zo_R} {F : Option zo_T → zo_O → Option zo_R} (kk : ∀ o Ω1 r', F o Ω1 = some r' → TW Y r' Ω1 pc ls (vo o :: st)) : ∀ q r', X = some q → rF F q.1 q.2.1 = some r' → TW Y r' q.2.1 pc ls (q.1.toList ++ st) := by
  rintro ⟨_ | x | o | y, Ω1, c, s⟩ r' - h
  · cases h
  · cases h
  · exact kk o Ω1 r' h
  · cases h
theorem ck_k {X : Option zo_R} {K : Nat} {F : Nat → zo_O → Option zo_R} (kk : ∀ n Ω1 r', F n Ω1 = some r' → TW Y r' Ω1 pc ls (vr K n :: st)) : ∀ q r', X = some q → rF (fun o Ω => bk o K (fun n => F n Ω)) q.1 q.2.1 = some r' → TW Y r' q.2.1 pc ls (q.1.toList ++ st) := by
  refine cr_k (fun o Ω1 r' h => ?_)
  obtain ⟨n, rfl, h'⟩ := bk_e h
  exact kk n Ω1 r' h'
theorem zo_lat {ρ : Nat → Nat → Nat} {LS : Array Slot} {nL : Nat} (h : lv_has LS nL (zo_cs ρ ls)) (k : Nat) {i : Nat} {v : zo_V} (hk : ls[k]? = some (i, v)) : LS[i]? = some (.val (zo_c ρ v)) := by
  refine lv_at h k ?_
  unfold zo_cs
  rw [List.getElem?_map, hk]
  rfl
theorem zo_c1 (ρ : Nat → Nat → Nat) {v : zo_V} (h : v.isLeft = true ∨ ∃ o, v = vo o) : (zo_c ρ v).category = 1 := by
  rcases v with x | (_ | t) | y
  · rfl
  · rfl
  · rfl
  · rcases h with h | ⟨o, h⟩
    · cases h
    · cases h
theorem zo_flt {ρ : Nat → Nat → Nat} {LS : Array Slot} {nL i : Nat} {v : zo_V} (hb : ls.all (fun q => q.2.isLeft || (match q.2 with | .inr (.inl _) => true | _ => false)) = true) (h2 : lv_has LS nL ((i, zo_c ρ v) :: (zo_cs ρ ls).filter (fun q => !(q.1 == i) && !(q.1 + 1 == i && q.2.category == 2)))) : lv_has LS nL (zo_cs ρ ((i, v) :: ls.filter (fun q => !(q.1 == i)))) := by
  refine ⟨h2.1, h2.2.1, fun q hq => h2.2.2 q ?_⟩
  obtain ⟨q', h3, rfl⟩ := List.mem_map.mp hq
  rcases List.mem_cons.mp h3 with h4 | h4
  · rw [h4]; exact List.mem_cons_self
  · obtain ⟨h5, h6⟩ := List.mem_filter.mp h4
    refine List.mem_cons_of_mem _ (List.mem_filter.mpr ⟨List.mem_map_of_mem h5, ?_⟩)
    have h7 := List.all_eq_true.mp hb q' h5
    have h8 : (zo_c ρ q'.2).category = 1 := zo_c1 ρ (by
      rcases q' with ⟨j, x | (_ | t) | y⟩
      · exact Or.inl rfl
      · exact Or.inr ⟨_, rfl⟩
      · exact Or.inr ⟨_, rfl⟩
      · cases h7)
    show (!(q'.1 == i) && !(q'.1 + 1 == i && (zo_c ρ q'.2).category == 2)) = true
    rw [h8]
    simp only [Bool.not_eq_true', Bool.and_eq_true] at h6 ⊢
    exact ⟨h6, by simp⟩
theorem zo_fl {i : Nat} {v : zo_V} (hv : zo_vk Ω v) (h : zo_vl Ω ls) : zo_vl Ω ((i, v) :: ls.filter (fun q => !(q.1 == i))) := by
  intro q hq
  rcases List.mem_cons.mp hq with h4 | h4
  · rw [h4]; exact hv
  · exact h q (List.mem_filter.mp h4).1
theorem zo_iadd (hY : zo_Gd Y cc nL own d) {a b : Int32} (hd : decode cc pc = .ok (.iadd, 1)) (k : TW Y res Ω (pc + 1) ls (vi (a + b) :: st)) : TW Y res Ω pc ls (vi b :: vi a :: st) := by
  obtain ⟨p, l, e, R, s, m, args, below, meth, c, G, J, ρ0, Ω0, nL0, Q⟩ := Y
  obtain ⟨hx, hb, hml, rfl, hown, hts, hlk, hK, hfr, hlo⟩ := hY
  intro ρ H locs LS x y hR hJ hE hL hq hv hvl hvs h1 h2
  exact lv_iadd hx hb hd (k ρ H locs LS x y hR hJ hE hL hq hv hvl ⟨trivial, hvs.2.2⟩ h1 h2)
theorem zo_isub (hY : zo_Gd Y cc nL own d) {a b : Int32} (hd : decode cc pc = .ok (.isub, 1)) (k : TW Y res Ω (pc + 1) ls (vi (a - b) :: st)) : TW Y res Ω pc ls (vi b :: vi a :: st) := by
  obtain ⟨p, l, e, R, s, m, args, below, meth, c, G, J, ρ0, Ω0, nL0, Q⟩ := Y
  obtain ⟨hx, hb, hml, rfl, hown, hts, hlk, hK, hfr, hlo⟩ := hY
  intro ρ H locs LS x y hR hJ hE hL hq hv hvl hvs h1 h2
  exact lv_isub hx hb hd (k ρ H locs LS x y hR hJ hE hL hq hv hvl ⟨trivial, hvs.2.2⟩ h1 h2)
theorem zo_imul (hY : zo_Gd Y cc nL own d) {a b : Int32} (hd : decode cc pc = .ok (.imul, 1)) (k : TW Y res Ω (pc + 1) ls (vi (a * b) :: st)) : TW Y res Ω pc ls (vi b :: vi a :: st) := by
  obtain ⟨p, l, e, R, s, m, args, below, meth, c, G, J, ρ0, Ω0, nL0, Q⟩ := Y
  obtain ⟨hx, hb, hml, rfl, hown, hts, hlk, hK, hfr, hlo⟩ := hY
  intro ρ H locs LS x y hR hJ hE hL hq hv hvl hvs h1 h2
  exact lv_imul hx hb hd (k ρ H locs LS x y hR hJ hE hL hq hv hvl ⟨trivial, hvs.2.2⟩ h1 h2)
theorem zo_iand (hY : zo_Gd Y cc nL own d) {a b : Int32} (hd : decode cc pc = .ok (.iand, 1)) (k : TW Y res Ω (pc + 1) ls (vi (a &&& b) :: st)) : TW Y res Ω pc ls (vi b :: vi a :: st) := by
  obtain ⟨p, l, e, R, s, m, args, below, meth, c, G, J, ρ0, Ω0, nL0, Q⟩ := Y
  obtain ⟨hx, hb, hml, rfl, hown, hts, hlk, hK, hfr, hlo⟩ := hY
  intro ρ H locs LS x y hR hJ hE hL hq hv hvl hvs h1 h2
  exact lv_iand hx hb hd (k ρ H locs LS x y hR hJ hE hL hq hv hvl ⟨trivial, hvs.2.2⟩ h1 h2)
theorem zo_ior (hY : zo_Gd Y cc nL own d) {a b : Int32} (hd : decode cc pc = .ok (.ior, 1)) (k : TW Y res Ω (pc + 1) ls (vi (a ||| b) :: st)) : TW Y res Ω pc ls (vi b :: vi a :: st) := by
  obtain ⟨p, l, e, R, s, m, args, below, meth, c, G, J, ρ0, Ω0, nL0, Q⟩ := Y
  obtain ⟨hx, hb, hml, rfl, hown, hts, hlk, hK, hfr, hlo⟩ := hY
  intro ρ H locs LS x y hR hJ hE hL hq hv hvl hvs h1 h2
  exact lv_ior hx hb hd (k ρ H locs LS x y hR hJ hE hL hq hv hvl ⟨trivial, hvs.2.2⟩ h1 h2)
theorem zo_ixor (hY : zo_Gd Y cc nL own d) {a b : Int32} (hd : decode cc pc = .ok (.ixor, 1)) (k : TW Y res Ω (pc + 1) ls (vi (a ^^^ b) :: st)) : TW Y res Ω pc ls (vi b :: vi a :: st) := by
  obtain ⟨p, l, e, R, s, m, args, below, meth, c, G, J, ρ0, Ω0, nL0, Q⟩ := Y
  obtain ⟨hx, hb, hml, rfl, hown, hts, hlk, hK, hfr, hlo⟩ := hY
  intro ρ H locs LS x y hR hJ hE hL hq hv hvl hvs h1 h2
  exact lv_ixor hx hb hd (k ρ H locs LS x y hR hJ hE hL hq hv hvl ⟨trivial, hvs.2.2⟩ h1 h2)
theorem zo_ishl (hY : zo_Gd Y cc nL own d) {a b : Int32} (hd : decode cc pc = .ok (.ishl, 1)) (k : TW Y res Ω (pc + 1) ls (vi (a <<< (b &&& 31)) :: st)) : TW Y res Ω pc ls (vi b :: vi a :: st) := by
  obtain ⟨p, l, e, R, s, m, args, below, meth, c, G, J, ρ0, Ω0, nL0, Q⟩ := Y
  obtain ⟨hx, hb, hml, rfl, hown, hts, hlk, hK, hfr, hlo⟩ := hY
  intro ρ H locs LS x y hR hJ hE hL hq hv hvl hvs h1 h2
  exact lv_ishl hx hb hd (k ρ H locs LS x y hR hJ hE hL hq hv hvl ⟨trivial, hvs.2.2⟩ h1 h2)
theorem zo_ishr (hY : zo_Gd Y cc nL own d) {a b : Int32} (hd : decode cc pc = .ok (.ishr, 1)) (k : TW Y res Ω (pc + 1) ls (vi (a >>> (b &&& 31)) :: st)) : TW Y res Ω pc ls (vi b :: vi a :: st) := by
  obtain ⟨p, l, e, R, s, m, args, below, meth, c, G, J, ρ0, Ω0, nL0, Q⟩ := Y
  obtain ⟨hx, hb, hml, rfl, hown, hts, hlk, hK, hfr, hlo⟩ := hY
  intro ρ H locs LS x y hR hJ hE hL hq hv hvl hvs h1 h2
  exact lv_ishr hx hb hd (k ρ H locs LS x y hR hJ hE hL hq hv hvl ⟨trivial, hvs.2.2⟩ h1 h2)
theorem zo_iushr (hY : zo_Gd Y cc nL own d) {a b : Int32} (hd : decode cc pc = .ok (.iushr, 1)) (k : TW Y res Ω (pc + 1) ls (vi ((a.toUInt32 >>> (b.toUInt32 &&& Int32.toUInt32 31)).toInt32) :: st)) : TW Y res Ω pc ls (vi b :: vi a :: st) := by
  obtain ⟨p, l, e, R, s, m, args, below, meth, c, G, J, ρ0, Ω0, nL0, Q⟩ := Y
  obtain ⟨hx, hb, hml, rfl, hown, hts, hlk, hK, hfr, hlo⟩ := hY
  intro ρ H locs LS x y hR hJ hE hL hq hv hvl hvs h1 h2
  exact lv_iushr hx hb hd rfl (k ρ H locs LS x y hR hJ hE hL hq hv hvl ⟨trivial, hvs.2.2⟩ h1 h2)
theorem zo_ineg (hY : zo_Gd Y cc nL own d) {a : Int32} (hd : decode cc pc = .ok (.ineg, 1)) (k : TW Y res Ω (pc + 1) ls (vi (-a) :: st)) : TW Y res Ω pc ls (vi a :: st) := by
  obtain ⟨p, l, e, R, s, m, args, below, meth, c, G, J, ρ0, Ω0, nL0, Q⟩ := Y
  obtain ⟨hx, hb, hml, rfl, hown, hts, hlk, hK, hfr, hlo⟩ := hY
  intro ρ H locs LS x y hR hJ hE hL hq hv hvl hvs h1 h2
  exact lv_ineg hx hb hd (k ρ H locs LS x y hR hJ hE hL hq hv hvl ⟨trivial, hvs.2⟩ h1 h2)
theorem zo_i2b (hY : zo_Gd Y cc nL own d) {a : Int32} (hd : decode cc pc = .ok (.i2b, 1)) (k : TW Y res Ω (pc + 1) ls (vi (a.toInt8.toInt32) :: st)) : TW Y res Ω pc ls (vi a :: st) := by
  obtain ⟨p, l, e, R, s, m, args, below, meth, c, G, J, ρ0, Ω0, nL0, Q⟩ := Y
  obtain ⟨hx, hb, hml, rfl, hown, hts, hlk, hK, hfr, hlo⟩ := hY
  intro ρ H locs LS x y hR hJ hE hL hq hv hvl hvs h1 h2
  exact lv_i2b hx hb hd rfl (k ρ H locs LS x y hR hJ hE hL hq hv hvl ⟨trivial, hvs.2⟩ h1 h2)
theorem zo_i2c (hY : zo_Gd Y cc nL own d) {a : Int32} (hd : decode cc pc = .ok (.i2c, 1)) (k : TW Y res Ω (pc + 1) ls (vi ((a.toUInt32 % 65536).toInt32) :: st)) : TW Y res Ω pc ls (vi a :: st) := by
  obtain ⟨p, l, e, R, s, m, args, below, meth, c, G, J, ρ0, Ω0, nL0, Q⟩ := Y
  obtain ⟨hx, hb, hml, rfl, hown, hts, hlk, hK, hfr, hlo⟩ := hY
  intro ρ H locs LS x y hR hJ hE hL hq hv hvl hvs h1 h2
  exact lv_i2c hx hb hd rfl (k ρ H locs LS x y hR hJ hE hL hq hv hvl ⟨trivial, hvs.2⟩ h1 h2)
theorem zo_i2l (hY : zo_Gd Y cc nL own d) {a : Int32} (hd : decode cc pc = .ok (.i2l, 1)) (k : TW Y res Ω (pc + 1) ls (vl (a.toInt64) :: st)) : TW Y res Ω pc ls (vi a :: st) := by
  obtain ⟨p, l, e, R, s, m, args, below, meth, c, G, J, ρ0, Ω0, nL0, Q⟩ := Y
  obtain ⟨hx, hb, hml, rfl, hown, hts, hlk, hK, hfr, hlo⟩ := hY
  intro ρ H locs LS x y hR hJ hE hL hq hv hvl hvs h1 h2
  exact lv_i2l hx hb hd rfl (k ρ H locs LS x y hR hJ hE hL hq hv hvl ⟨trivial, hvs.2⟩ h1 h2)
theorem zo_idiv (hY : zo_Gd Y cc nL own d) {a b : Int32} (hd : decode cc pc = .ok (.idiv, 1)) (h : gd (¬ b = 0) A = some res) (k : A = some res → TW Y res Ω (pc + 1) ls (vi (a / b) :: st)) : TW Y res Ω pc ls (vi b :: vi a :: st) := by
  obtain ⟨hne, h⟩ := gd_e h
  have k := k h
  obtain ⟨p, l, e, R, s, m, args, below, meth, c, G, J, ρ0, Ω0, nL0, Q⟩ := Y
  obtain ⟨hx, hb, hml, rfl, hown, hts, hlk, hK, hfr, hlo⟩ := hY
  intro ρ H locs LS x y hR hJ hE hL hq hv hvl hvs h1 h2
  exact lv_idiv hx hb hd hne (k ρ H locs LS x y hR hJ hE hL hq hv hvl ⟨trivial, hvs.2.2⟩ h1 h2)
theorem zo_irem (hY : zo_Gd Y cc nL own d) {a b : Int32} (hd : decode cc pc = .ok (.irem, 1)) (h : gd (¬ b = 0) A = some res) (k : A = some res → TW Y res Ω (pc + 1) ls (vi (a - a / b * b) :: st)) : TW Y res Ω pc ls (vi b :: vi a :: st) := by
  obtain ⟨hne, h⟩ := gd_e h
  have k := k h
  obtain ⟨p, l, e, R, s, m, args, below, meth, c, G, J, ρ0, Ω0, nL0, Q⟩ := Y
  obtain ⟨hx, hb, hml, rfl, hown, hts, hlk, hK, hfr, hlo⟩ := hY
  intro ρ H locs LS x y hR hJ hE hL hq hv hvl hvs h1 h2
  exact lv_irem hx hb hd hne (k ρ H locs LS x y hR hJ hE hL hq hv hvl ⟨trivial, hvs.2.2⟩ h1 h2)
theorem zo_iconst (hY : zo_Gd Y cc nL own d) {n : Int} (v : Int32) (hn : Int32.ofInt n = v) (hd : decode cc pc = .ok (.iconst n, 1)) (k : TW Y res Ω (pc + 1) ls (vi v :: st)) : TW Y res Ω pc ls (st) := by
  obtain ⟨p, l, e, R, s, m, args, below, meth, c, G, J, ρ0, Ω0, nL0, Q⟩ := Y
  obtain ⟨hx, hb, hml, rfl, hown, hts, hlk, hK, hfr, hlo⟩ := hY
  intro ρ H locs LS x y hR hJ hE hL hq hv hvl hvs h1 h2
  exact lv_iconst hx hb hd hn (k ρ H locs LS x y hR hJ hE hL hq hv hvl ⟨trivial, hvs⟩ h1 h2)
theorem zo_bipush (hY : zo_Gd Y cc nL own d) {n : Int} (v : Int32) (hn : (Int8.ofInt n).toInt32 = v) (hd : decode cc pc = .ok (.bipush n, 2)) (k : TW Y res Ω (pc + 2) ls (vi v :: st)) : TW Y res Ω pc ls (st) := by
  obtain ⟨p, l, e, R, s, m, args, below, meth, c, G, J, ρ0, Ω0, nL0, Q⟩ := Y
  obtain ⟨hx, hb, hml, rfl, hown, hts, hlk, hK, hfr, hlo⟩ := hY
  intro ρ H locs LS x y hR hJ hE hL hq hv hvl hvs h1 h2
  exact lv_bipush hx hb hd hn (k ρ H locs LS x y hR hJ hE hL hq hv hvl ⟨trivial, hvs⟩ h1 h2)
theorem zo_sipush (hY : zo_Gd Y cc nL own d) {n : Int} (v : Int32) (hn : (Int16.ofInt n).toInt32 = v) (hd : decode cc pc = .ok (.sipush n, 3)) (k : TW Y res Ω (pc + 3) ls (vi v :: st)) : TW Y res Ω pc ls (st) := by
  obtain ⟨p, l, e, R, s, m, args, below, meth, c, G, J, ρ0, Ω0, nL0, Q⟩ := Y
  obtain ⟨hx, hb, hml, rfl, hown, hts, hlk, hK, hfr, hlo⟩ := hY
  intro ρ H locs LS x y hR hJ hE hL hq hv hvl hvs h1 h2
  exact lv_sipush hx hb hd hn (k ρ H locs LS x y hR hJ hE hL hq hv hvl ⟨trivial, hvs⟩ h1 h2)
theorem zo_ldc (hY : zo_Gd Y cc nL own d) {i : Nat} {v : Int32} (hc : Cond.constant own i v ∈ lw_all) (hd : decode cc pc = .ok (.ldc i, 2)) (k : TW Y res Ω (pc + 2) ls (vi v :: st)) : TW Y res Ω pc ls (st) := by
  obtain ⟨p, l, e, R, s, m, args, below, meth, c, G, J, ρ0, Ω0, nL0, Q⟩ := Y
  obtain ⟨hx, hb, hml, rfl, hown, hts, hlk, hK, hfr, hlo⟩ := hY
  intro ρ H locs LS x y hR hJ hE hL hq hv hvl hvs h1 h2
  exact lv_ldc hx hb hown (hts _ hc) hd (k ρ H locs LS x y hR hJ hE hL hq hv hvl ⟨trivial, hvs⟩ h1 h2)
theorem zo_ldcw (hY : zo_Gd Y cc nL own d) {i : Nat} {v : Int32} (hc : Cond.constant own i v ∈ lw_all) (hd : decode cc pc = .ok (.ldc_w i, 3)) (k : TW Y res Ω (pc + 3) ls (vi v :: st)) : TW Y res Ω pc ls (st) := by
  obtain ⟨p, l, e, R, s, m, args, below, meth, c, G, J, ρ0, Ω0, nL0, Q⟩ := Y
  obtain ⟨hx, hb, hml, rfl, hown, hts, hlk, hK, hfr, hlo⟩ := hY
  intro ρ H locs LS x y hR hJ hE hL hq hv hvl hvs h1 h2
  exact lv_ldcw hx hb hown (hts _ hc) hd (k ρ H locs LS x y hR hJ hE hL hq hv hvl ⟨trivial, hvs⟩ h1 h2)
theorem zo_null (hY : zo_Gd Y cc nL own d)  (hd : decode cc pc = .ok (.aconst_null, 1)) (k : TW Y res Ω (pc + 1) ls (vo none :: st)) : TW Y res Ω pc ls (st) := by
  obtain ⟨p, l, e, R, s, m, args, below, meth, c, G, J, ρ0, Ω0, nL0, Q⟩ := Y
  obtain ⟨hx, hb, hml, rfl, hown, hts, hlk, hK, hfr, hlo⟩ := hY
  intro ρ H locs LS x y hR hJ hE hL hq hv hvl hvs h1 h2
  exact lv_null hx hb hd (k ρ H locs LS x y hR hJ hE hL hq hv hvl ⟨trivial, hvs⟩ h1 h2)
theorem zo_iload_n (hY : zo_Gd Y cc nL own d) {j : Fin 4} {i : Nat} {a : Int32} (hd : decode cc pc = .ok (.iload_n j, 1)) (hj : (j : Nat) = i) (q : Nat) (hl : ls[q]? = some (i, vi a)) (k : TW Y res Ω (pc + 1) ls (vi a :: st)) : TW Y res Ω pc ls st := by
  obtain ⟨p, l, e, R, s, m, args, below, meth, c, G, J, ρ0, Ω0, nL0, Q⟩ := Y
  obtain ⟨hx, hb, hml, rfl, hown, hts, hlk, hK, hfr, hlo⟩ := hY
  intro ρ H locs LS x y hR hJ hE hL hq hv hvl hvs h1 h2
  exact lv_iload_n hx hb hd hj (zo_lat hv q hl) (k ρ H locs LS x y hR hJ hE hL hq hv hvl ⟨trivial, hvs⟩ h1 h2)
theorem zo_iload (hY : zo_Gd Y cc nL own d) {i : Nat} {a : Int32} (hd : decode cc pc = .ok (.iload i, 2)) (q : Nat) (hl : ls[q]? = some (i, vi a)) (k : TW Y res Ω (pc + 2) ls (vi a :: st)) : TW Y res Ω pc ls st := by
  obtain ⟨p, l, e, R, s, m, args, below, meth, c, G, J, ρ0, Ω0, nL0, Q⟩ := Y
  obtain ⟨hx, hb, hml, rfl, hown, hts, hlk, hK, hfr, hlo⟩ := hY
  intro ρ H locs LS x y hR hJ hE hL hq hv hvl hvs h1 h2
  exact lv_iload hx hb hd (zo_lat hv q hl) (k ρ H locs LS x y hR hJ hE hL hq hv hvl ⟨trivial, hvs⟩ h1 h2)
theorem zo_aload_n (hY : zo_Gd Y cc nL own d) {j : Fin 4} {i : Nat} {o : Option zo_T} (hd : decode cc pc = .ok (.aload_n j, 1)) (hj : (j : Nat) = i) (q : Nat) (hl : ls[q]? = some (i, vo o)) (k : TW Y res Ω (pc + 1) ls (vo o :: st)) : TW Y res Ω pc ls st := by
  obtain ⟨p, l, e, R, s, m, args, below, meth, c, G, J, ρ0, Ω0, nL0, Q⟩ := Y
  obtain ⟨hx, hb, hml, rfl, hown, hts, hlk, hK, hfr, hlo⟩ := hY
  intro ρ H locs LS x y hR hJ hE hL hq hv hvl hvs h1 h2
  have hok := hvl _ (List.mem_of_getElem? hl)
  have h3 := zo_lat hv q hl
  have k := k ρ H locs LS x y hR hJ hE hL hq hv hvl ⟨hok, hvs⟩ h1 h2
  cases o with
  | none => exact lv_aload_nN hx hb hd hj h3 k
  | some t => exact lv_aload_n (x := ρ t.1 t.2) hx hb hd hj h3 k
theorem zo_aload (hY : zo_Gd Y cc nL own d) {i : Nat} {o : Option zo_T} (hd : decode cc pc = .ok (.aload i, 2)) (q : Nat) (hl : ls[q]? = some (i, vo o)) (k : TW Y res Ω (pc + 2) ls (vo o :: st)) : TW Y res Ω pc ls st := by
  obtain ⟨p, l, e, R, s, m, args, below, meth, c, G, J, ρ0, Ω0, nL0, Q⟩ := Y
  obtain ⟨hx, hb, hml, rfl, hown, hts, hlk, hK, hfr, hlo⟩ := hY
  intro ρ H locs LS x y hR hJ hE hL hq hv hvl hvs h1 h2
  have hok := hvl _ (List.mem_of_getElem? hl)
  have h3 := zo_lat hv q hl
  have k := k ρ H locs LS x y hR hJ hE hL hq hv hvl ⟨hok, hvs⟩ h1 h2
  cases o with
  | none => exact lv_aloadN hx hb hd h3 k
  | some t => exact lv_aload (x := ρ t.1 t.2) hx hb hd h3 k
theorem zo_istore_n (hY : zo_Gd Y cc nL own d) {j : Fin 4} {i : Nat} {a : Int32} (hd : decode cc pc = .ok (.istore_n j, 1)) (hj : (j : Nat) = i) (hn : i < nL) (hb0 : ls.all (fun q => q.2.isLeft || (match q.2 with | .inr (.inl _) => true | _ => false)) = true) {ls' : List (Nat × zo_V)} (hl : (i, vi a) :: ls.filter (fun q => !(q.1 == i)) = ls') (k : TW Y res Ω (pc + 1) ls' st) : TW Y res Ω pc ls (vi a :: st) := by
  obtain ⟨p, l, e, R, s, m, args, below, meth, c, G, J, ρ0, Ω0, nL0, Q⟩ := Y
  obtain ⟨hx, hb, hml, rfl, hown, hts, hlk, hK, hfr, hlo⟩ := hY
  intro ρ H locs LS x y hR hJ hE hL hq hv hvl hvs h1 h2
  subst hl
  refine lv_istore_n hx hb hd hj hv hn rfl (fun LS' hv' => k ρ H locs LS' x y hR hJ hE hL hq ?_ (zo_fl trivial hvl) hvs.2 h1 h2)
  exact zo_flt hb0 hv' 
theorem zo_istore (hY : zo_Gd Y cc nL own d) {i : Nat} {a : Int32} (hd : decode cc pc = .ok (.istore i, 2)) (hn : i < nL) (hb0 : ls.all (fun q => q.2.isLeft || (match q.2 with | .inr (.inl _) => true | _ => false)) = true) {ls' : List (Nat × zo_V)} (hl : (i, vi a) :: ls.filter (fun q => !(q.1 == i)) = ls') (k : TW Y res Ω (pc + 2) ls' st) : TW Y res Ω pc ls (vi a :: st) := by
  obtain ⟨p, l, e, R, s, m, args, below, meth, c, G, J, ρ0, Ω0, nL0, Q⟩ := Y
  obtain ⟨hx, hb, hml, rfl, hown, hts, hlk, hK, hfr, hlo⟩ := hY
  intro ρ H locs LS x y hR hJ hE hL hq hv hvl hvs h1 h2
  subst hl
  refine lv_istore hx hb hd hv hn rfl (fun LS' hv' => k ρ H locs LS' x y hR hJ hE hL hq ?_ (zo_fl trivial hvl) hvs.2 h1 h2)
  exact zo_flt hb0 hv' 
theorem zo_astore_n (hY : zo_Gd Y cc nL own d) {j : Fin 4} {i : Nat} {o : Option zo_T} (hd : decode cc pc = .ok (.astore_n j, 1)) (hj : (j : Nat) = i) (hn : i < nL) (hb0 : ls.all (fun q => q.2.isLeft || (match q.2 with | .inr (.inl _) => true | _ => false)) = true) {ls' : List (Nat × zo_V)} (hl : (i, vo o) :: ls.filter (fun q => !(q.1 == i)) = ls') (k : TW Y res Ω (pc + 1) ls' st) : TW Y res Ω pc ls (vo o :: st) := by
  obtain ⟨p, l, e, R, s, m, args, below, meth, c, G, J, ρ0, Ω0, nL0, Q⟩ := Y
  obtain ⟨hx, hb, hml, rfl, hown, hts, hlk, hK, hfr, hlo⟩ := hY
  intro ρ H locs LS x y hR hJ hE hL hq hv hvl hvs h1 h2
  subst hl
  have hvl' := zo_fl (i := i) (v := vo o) hvs.1 hvl
  cases o with
  | none => exact lv_astore_nN hx hb hd hj hv hn rfl (fun LS' hv' => k ρ H locs LS' x y hR hJ hE hL hq (zo_flt (v := vo none) hb0 hv') hvl' hvs.2 h1 h2)
  | some t => exact lv_astore_n (x := ρ t.1 t.2) hx hb hd hj hv hn rfl (fun LS' hv' => k ρ H locs LS' x y hR hJ hE hL hq (zo_flt (v := vo (some t)) hb0 hv') hvl' hvs.2 h1 h2)
theorem zo_astore (hY : zo_Gd Y cc nL own d) {i : Nat} {o : Option zo_T} (hd : decode cc pc = .ok (.astore i, 2)) (hn : i < nL) (hb0 : ls.all (fun q => q.2.isLeft || (match q.2 with | .inr (.inl _) => true | _ => false)) = true) {ls' : List (Nat × zo_V)} (hl : (i, vo o) :: ls.filter (fun q => !(q.1 == i)) = ls') (k : TW Y res Ω (pc + 2) ls' st) : TW Y res Ω pc ls (vo o :: st) := by
  obtain ⟨p, l, e, R, s, m, args, below, meth, c, G, J, ρ0, Ω0, nL0, Q⟩ := Y
  obtain ⟨hx, hb, hml, rfl, hown, hts, hlk, hK, hfr, hlo⟩ := hY
  intro ρ H locs LS x y hR hJ hE hL hq hv hvl hvs h1 h2
  subst hl
  have hvl' := zo_fl (i := i) (v := vo o) hvs.1 hvl
  cases o with
  | none => exact lv_astoreN hx hb hd hv hn rfl (fun LS' hv' => k ρ H locs LS' x y hR hJ hE hL hq (zo_flt (v := vo none) hb0 hv') hvl' hvs.2 h1 h2)
  | some t => exact lv_astore (x := ρ t.1 t.2) hx hb hd hv hn rfl (fun LS' hv' => k ρ H locs LS' x y hR hJ hE hL hq (zo_flt (v := vo (some t)) hb0 hv') hvl' hvs.2 h1 h2)
theorem zo_iinc (hY : zo_Gd Y cc nL own d) {i : Nat} {n : Int} {a : Int32} (v : Int32) (hd : decode cc pc = .ok (.iinc i n, 3)) (hnv : Int32.ofInt n = v) (hn : i < nL) (q : Nat) (hl0 : ls[q]? = some (i, vi a)) (hb0 : ls.all (fun q => q.2.isLeft || (match q.2 with | .inr (.inl _) => true | _ => false)) = true) {ls' : List (Nat × zo_V)} (hl : (i, vi (a + v)) :: ls.filter (fun q => !(q.1 == i)) = ls') (k : TW Y res Ω (pc + 3) ls' st) : TW Y res Ω pc ls st := by
  obtain ⟨p, l, e, R, s, m, args, below, meth, c, G, J, ρ0, Ω0, nL0, Q⟩ := Y
  obtain ⟨hx, hb, hml, rfl, hown, hts, hlk, hK, hfr, hlo⟩ := hY
  intro ρ H locs LS x y hR hJ hE hL hq hv hvl hvs h1 h2
  subst hl
  subst hnv
  have hq0 : (zo_cs ρ ls)[q]? = some (i, .int a) := by
    unfold zo_cs
    rw [List.getElem?_map, hl0]
    rfl
  exact lv_iinc hx hb hd hv hq0 rfl hn rfl (fun LS' hv' => k ρ H locs LS' x y hR hJ hE hL hq (zo_flt (v := vi (a + Int32.ofInt n)) hb0 hv') (zo_fl trivial hvl) hvs h1 h2)
theorem zo_dup (hY : zo_Gd Y cc nL own d) {v : zo_V} (hd : decode cc pc = .ok (.dup, 1)) (hc : v.isLeft = true ∨ ∃ o, v = vo o) (k : TW Y res Ω (pc + 1) ls (v :: v :: st)) : TW Y res Ω pc ls (v :: st) := by
  obtain ⟨p, l, e, R, s, m, args, below, meth, c, G, J, ρ0, Ω0, nL0, Q⟩ := Y
  obtain ⟨hx, hb, hml, rfl, hown, hts, hlk, hK, hfr, hlo⟩ := hY
  intro ρ H locs LS x y hR hJ hE hL hq hv hvl hvs h1 h2
  exact lv_dup hx hb hd (zo_c1 ρ hc) (k ρ H locs LS x y hR hJ hE hL hq hv hvl ⟨hvs.1, hvs.1, hvs.2⟩ h1 h2)
theorem zo_pop (hY : zo_Gd Y cc nL own d) {v : zo_V} (hd : decode cc pc = .ok (.pop, 1)) (hc : v.isLeft = true ∨ ∃ o, v = vo o) (k : TW Y res Ω (pc + 1) ls st) : TW Y res Ω pc ls (v :: st) := by
  obtain ⟨p, l, e, R, s, m, args, below, meth, c, G, J, ρ0, Ω0, nL0, Q⟩ := Y
  obtain ⟨hx, hb, hml, rfl, hown, hts, hlk, hK, hfr, hlo⟩ := hY
  intro ρ H locs LS x y hR hJ hE hL hq hv hvl hvs h1 h2
  exact lv_pop hx hb hd (zo_c1 ρ hc) (k ρ H locs LS x y hR hJ hE hL hq hv hvl hvs.2 h1 h2)
theorem zo_dup2 (hY : zo_Gd Y cc nL own d) {v w : zo_V} (hd : decode cc pc = .ok (.dup2, 1)) (hc : v.isLeft = true ∨ ∃ o, v = vo o) (hc2 : w.isLeft = true ∨ ∃ o, w = vo o) (k : TW Y res Ω (pc + 1) ls (v :: w :: v :: w :: st)) : TW Y res Ω pc ls (v :: w :: st) := by
  obtain ⟨p, l, e, R, s, m, args, below, meth, c, G, J, ρ0, Ω0, nL0, Q⟩ := Y
  obtain ⟨hx, hb, hml, rfl, hown, hts, hlk, hK, hfr, hlo⟩ := hY
  intro ρ H locs LS x y hR hJ hE hL hq hv hvl hvs h1 h2
  exact lv_dup2_11 hx hb hd (zo_c1 ρ hc) (zo_c1 ρ hc2) (k ρ H locs LS x y hR hJ hE hL hq hv hvl ⟨hvs.1, hvs.2.1, hvs.1, hvs.2.1, hvs.2.2⟩ h1 h2)
theorem zo_dup_x1 (hY : zo_Gd Y cc nL own d) {v w : zo_V} (hd : decode cc pc = .ok (.dup_x1, 1)) (hc : v.isLeft = true ∨ ∃ o, v = vo o) (hc2 : w.isLeft = true ∨ ∃ o, w = vo o) (k : TW Y res Ω (pc + 1) ls (v :: w :: v :: st)) : TW Y res Ω pc ls (v :: w :: st) := by
  obtain ⟨p, l, e, R, s, m, args, below, meth, c, G, J, ρ0, Ω0, nL0, Q⟩ := Y
  obtain ⟨hx, hb, hml, rfl, hown, hts, hlk, hK, hfr, hlo⟩ := hY
  intro ρ H locs LS x y hR hJ hE hL hq hv hvl hvs h1 h2
  exact lv_dup_x1 hx hb hd (zo_c1 ρ hc) (zo_c1 ρ hc2) (k ρ H locs LS x y hR hJ hE hL hq hv hvl ⟨hvs.1, hvs.2.1, hvs.1, hvs.2.2⟩ h1 h2)
theorem zo_goto (hY : zo_Gd Y cc nL own d) {off : Int} (tgt : Nat) (hd : decode cc pc = .ok (.goto off, 3)) (ht : (pc : Int) + off = (tgt : Int)) (k : TW Y res Ω tgt ls st) : TW Y res Ω pc ls st := by
  obtain ⟨p, l, e, R, s, m, args, below, meth, c, G, J, ρ0, Ω0, nL0, Q⟩ := Y
  obtain ⟨hx, hb, hml, rfl, hown, hts, hlk, hK, hfr, hlo⟩ := hY
  intro ρ H locs LS x y hR hJ hE hL hq hv hvl hvs h1 h2
  exact lv_goto hx hb hd ht (k ρ H locs LS x y hR hJ hE hL hq hv hvl hvs h1 h2)
theorem zo_lcmp (hY : zo_Gd Y cc nL own d) {a b : Int64} (hd : decode cc pc = .ok (.lcmp, 1)) (k : TW Y res Ω (pc + 1) ls (vi (lg_cmp a b) :: st)) : TW Y res Ω pc ls (vl b :: vl a :: st) := by
  obtain ⟨p, l, e, R, s, m, args, below, meth, c, G, J, ρ0, Ω0, nL0, Q⟩ := Y
  obtain ⟨hx, hb, hml, rfl, hown, hts, hlk, hK, hfr, hlo⟩ := hY
  intro ρ H locs LS x y hR hJ hE hL hq hv hvl hvs h1 h2
  exact W.lcmp hx hb hd (k ρ H locs LS x y hR hJ hE hL hq hv hvl ⟨trivial, hvs.2.2⟩ h1 h2)
theorem zo_icmp_eq (hY : zo_Gd Y cc nL own d) {a b : Int32} {off : Int} (tgt : Nat) (hd : decode cc pc = .ok (.if_icmp .eq off, 3)) (ht : (pc : Int) + off = (tgt : Int)) (h : (if a = b then A else B) = some res) (kt : a = b → A = some res → TW Y res Ω tgt ls st) (kf : ¬ a = b → B = some res → TW Y res Ω (pc + 3) ls st) : TW Y res Ω pc ls (vi b :: vi a :: st) := by
  obtain ⟨p, l, e, R, s, m, args, below, meth, c, G, J, ρ0, Ω0, nL0, Q⟩ := Y
  obtain ⟨hx, hb, hml, rfl, hown, hts, hlk, hK, hfr, hlo⟩ := hY
  intro ρ H locs LS x y hR hJ hE hL hq hv hvl hvs h1 h2
  refine lv_icmp_eq hx hb hd ht (fun hc => ?_) (fun hc => ?_)
  · rw [if_pos hc] at h
    exact kt hc h ρ H locs LS x y hR hJ hE hL hq hv hvl hvs.2.2 h1 h2
  · rw [if_neg hc] at h
    exact kf hc h ρ H locs LS x y hR hJ hE hL hq hv hvl hvs.2.2 h1 h2
theorem zo_if_eq (hY : zo_Gd Y cc nL own d) {a : Int32} {off : Int} (tgt : Nat) (hd : decode cc pc = .ok (.ifCond .eq off, 3)) (ht : (pc : Int) + off = (tgt : Int)) (h : (if a = 0 then A else B) = some res) (kt : a = 0 → A = some res → TW Y res Ω tgt ls st) (kf : ¬ a = 0 → B = some res → TW Y res Ω (pc + 3) ls st) : TW Y res Ω pc ls (vi a :: st) := by
  obtain ⟨p, l, e, R, s, m, args, below, meth, c, G, J, ρ0, Ω0, nL0, Q⟩ := Y
  obtain ⟨hx, hb, hml, rfl, hown, hts, hlk, hK, hfr, hlo⟩ := hY
  intro ρ H locs LS x y hR hJ hE hL hq hv hvl hvs h1 h2
  refine lv_if_eq hx hb hd ht (fun hc => ?_) (fun hc => ?_)
  · rw [if_pos hc] at h
    exact kt hc h ρ H locs LS x y hR hJ hE hL hq hv hvl hvs.2 h1 h2
  · rw [if_neg hc] at h
    exact kf hc h ρ H locs LS x y hR hJ hE hL hq hv hvl hvs.2 h1 h2
theorem zo_icmp_ne (hY : zo_Gd Y cc nL own d) {a b : Int32} {off : Int} (tgt : Nat) (hd : decode cc pc = .ok (.if_icmp .ne off, 3)) (ht : (pc : Int) + off = (tgt : Int)) (h : (if a = b then A else B) = some res) (kf : a = b → A = some res → TW Y res Ω (pc + 3) ls st) (kt : ¬ a = b → B = some res → TW Y res Ω tgt ls st) : TW Y res Ω pc ls (vi b :: vi a :: st) := by
  obtain ⟨p, l, e, R, s, m, args, below, meth, c, G, J, ρ0, Ω0, nL0, Q⟩ := Y
  obtain ⟨hx, hb, hml, rfl, hown, hts, hlk, hK, hfr, hlo⟩ := hY
  intro ρ H locs LS x y hR hJ hE hL hq hv hvl hvs h1 h2
  refine lv_icmp_ne hx hb hd ht (fun hc => ?_) (fun hc => ?_)
  · rw [if_neg hc] at h
    exact kt hc h ρ H locs LS x y hR hJ hE hL hq hv hvl hvs.2.2 h1 h2
  · rw [if_pos hc] at h
    exact kf hc h ρ H locs LS x y hR hJ hE hL hq hv hvl hvs.2.2 h1 h2
theorem zo_if_ne (hY : zo_Gd Y cc nL own d) {a : Int32} {off : Int} (tgt : Nat) (hd : decode cc pc = .ok (.ifCond .ne off, 3)) (ht : (pc : Int) + off = (tgt : Int)) (h : (if a = 0 then A else B) = some res) (kf : a = 0 → A = some res → TW Y res Ω (pc + 3) ls st) (kt : ¬ a = 0 → B = some res → TW Y res Ω tgt ls st) : TW Y res Ω pc ls (vi a :: st) := by
  obtain ⟨p, l, e, R, s, m, args, below, meth, c, G, J, ρ0, Ω0, nL0, Q⟩ := Y
  obtain ⟨hx, hb, hml, rfl, hown, hts, hlk, hK, hfr, hlo⟩ := hY
  intro ρ H locs LS x y hR hJ hE hL hq hv hvl hvs h1 h2
  refine lv_if_ne hx hb hd ht (fun hc => ?_) (fun hc => ?_)
  · rw [if_neg hc] at h
    exact kt hc h ρ H locs LS x y hR hJ hE hL hq hv hvl hvs.2 h1 h2
  · rw [if_pos hc] at h
    exact kf hc h ρ H locs LS x y hR hJ hE hL hq hv hvl hvs.2 h1 h2
theorem zo_icmp_lt (hY : zo_Gd Y cc nL own d) {a b : Int32} {off : Int} (tgt : Nat) (hd : decode cc pc = .ok (.if_icmp .lt off, 3)) (ht : (pc : Int) + off = (tgt : Int)) (h : (if a < b then A else B) = some res) (kt : a < b → A = some res → TW Y res Ω tgt ls st) (kf : ¬ a < b → B = some res → TW Y res Ω (pc + 3) ls st) : TW Y res Ω pc ls (vi b :: vi a :: st) := by
  obtain ⟨p, l, e, R, s, m, args, below, meth, c, G, J, ρ0, Ω0, nL0, Q⟩ := Y
  obtain ⟨hx, hb, hml, rfl, hown, hts, hlk, hK, hfr, hlo⟩ := hY
  intro ρ H locs LS x y hR hJ hE hL hq hv hvl hvs h1 h2
  refine lv_icmp_lt hx hb hd ht (fun hc => ?_) (fun hc => ?_)
  · rw [if_pos hc] at h
    exact kt hc h ρ H locs LS x y hR hJ hE hL hq hv hvl hvs.2.2 h1 h2
  · rw [if_neg hc] at h
    exact kf hc h ρ H locs LS x y hR hJ hE hL hq hv hvl hvs.2.2 h1 h2
theorem zo_if_lt (hY : zo_Gd Y cc nL own d) {a : Int32} {off : Int} (tgt : Nat) (hd : decode cc pc = .ok (.ifCond .lt off, 3)) (ht : (pc : Int) + off = (tgt : Int)) (h : (if a < 0 then A else B) = some res) (kt : a < 0 → A = some res → TW Y res Ω tgt ls st) (kf : ¬ a < 0 → B = some res → TW Y res Ω (pc + 3) ls st) : TW Y res Ω pc ls (vi a :: st) := by
  obtain ⟨p, l, e, R, s, m, args, below, meth, c, G, J, ρ0, Ω0, nL0, Q⟩ := Y
  obtain ⟨hx, hb, hml, rfl, hown, hts, hlk, hK, hfr, hlo⟩ := hY
  intro ρ H locs LS x y hR hJ hE hL hq hv hvl hvs h1 h2
  refine lv_if_lt hx hb hd ht (fun hc => ?_) (fun hc => ?_)
  · rw [if_pos hc] at h
    exact kt hc h ρ H locs LS x y hR hJ hE hL hq hv hvl hvs.2 h1 h2
  · rw [if_neg hc] at h
    exact kf hc h ρ H locs LS x y hR hJ hE hL hq hv hvl hvs.2 h1 h2
theorem zo_icmp_ge (hY : zo_Gd Y cc nL own d) {a b : Int32} {off : Int} (tgt : Nat) (hd : decode cc pc = .ok (.if_icmp .ge off, 3)) (ht : (pc : Int) + off = (tgt : Int)) (h : (if b ≤ a then A else B) = some res) (kt : b ≤ a → A = some res → TW Y res Ω tgt ls st) (kf : ¬ b ≤ a → B = some res → TW Y res Ω (pc + 3) ls st) : TW Y res Ω pc ls (vi b :: vi a :: st) := by
  obtain ⟨p, l, e, R, s, m, args, below, meth, c, G, J, ρ0, Ω0, nL0, Q⟩ := Y
  obtain ⟨hx, hb, hml, rfl, hown, hts, hlk, hK, hfr, hlo⟩ := hY
  intro ρ H locs LS x y hR hJ hE hL hq hv hvl hvs h1 h2
  refine lv_icmp_ge hx hb hd ht (fun hc => ?_) (fun hc => ?_)
  · rw [if_pos hc] at h
    exact kt hc h ρ H locs LS x y hR hJ hE hL hq hv hvl hvs.2.2 h1 h2
  · rw [if_neg hc] at h
    exact kf hc h ρ H locs LS x y hR hJ hE hL hq hv hvl hvs.2.2 h1 h2
theorem zo_if_ge (hY : zo_Gd Y cc nL own d) {a : Int32} {off : Int} (tgt : Nat) (hd : decode cc pc = .ok (.ifCond .ge off, 3)) (ht : (pc : Int) + off = (tgt : Int)) (h : (if 0 ≤ a then A else B) = some res) (kt : 0 ≤ a → A = some res → TW Y res Ω tgt ls st) (kf : ¬ 0 ≤ a → B = some res → TW Y res Ω (pc + 3) ls st) : TW Y res Ω pc ls (vi a :: st) := by
  obtain ⟨p, l, e, R, s, m, args, below, meth, c, G, J, ρ0, Ω0, nL0, Q⟩ := Y
  obtain ⟨hx, hb, hml, rfl, hown, hts, hlk, hK, hfr, hlo⟩ := hY
  intro ρ H locs LS x y hR hJ hE hL hq hv hvl hvs h1 h2
  refine lv_if_ge hx hb hd ht (fun hc => ?_) (fun hc => ?_)
  · rw [if_pos hc] at h
    exact kt hc h ρ H locs LS x y hR hJ hE hL hq hv hvl hvs.2 h1 h2
  · rw [if_neg hc] at h
    exact kf hc h ρ H locs LS x y hR hJ hE hL hq hv hvl hvs.2 h1 h2
theorem zo_icmp_gt (hY : zo_Gd Y cc nL own d) {a b : Int32} {off : Int} (tgt : Nat) (hd : decode cc pc = .ok (.if_icmp .gt off, 3)) (ht : (pc : Int) + off = (tgt : Int)) (h : (if b < a then A else B) = some res) (kt : b < a → A = some res → TW Y res Ω tgt ls st) (kf : ¬ b < a → B = some res → TW Y res Ω (pc + 3) ls st) : TW Y res Ω pc ls (vi b :: vi a :: st) := by
  obtain ⟨p, l, e, R, s, m, args, below, meth, c, G, J, ρ0, Ω0, nL0, Q⟩ := Y
  obtain ⟨hx, hb, hml, rfl, hown, hts, hlk, hK, hfr, hlo⟩ := hY
  intro ρ H locs LS x y hR hJ hE hL hq hv hvl hvs h1 h2
  refine lv_icmp_gt hx hb hd ht (fun hc => ?_) (fun hc => ?_)
  · rw [if_pos hc] at h
    exact kt hc h ρ H locs LS x y hR hJ hE hL hq hv hvl hvs.2.2 h1 h2
  · rw [if_neg hc] at h
    exact kf hc h ρ H locs LS x y hR hJ hE hL hq hv hvl hvs.2.2 h1 h2
theorem zo_if_gt (hY : zo_Gd Y cc nL own d) {a : Int32} {off : Int} (tgt : Nat) (hd : decode cc pc = .ok (.ifCond .gt off, 3)) (ht : (pc : Int) + off = (tgt : Int)) (h : (if 0 < a then A else B) = some res) (kt : 0 < a → A = some res → TW Y res Ω tgt ls st) (kf : ¬ 0 < a → B = some res → TW Y res Ω (pc + 3) ls st) : TW Y res Ω pc ls (vi a :: st) := by
  obtain ⟨p, l, e, R, s, m, args, below, meth, c, G, J, ρ0, Ω0, nL0, Q⟩ := Y
  obtain ⟨hx, hb, hml, rfl, hown, hts, hlk, hK, hfr, hlo⟩ := hY
  intro ρ H locs LS x y hR hJ hE hL hq hv hvl hvs h1 h2
  refine lv_if_gt hx hb hd ht (fun hc => ?_) (fun hc => ?_)
  · rw [if_pos hc] at h
    exact kt hc h ρ H locs LS x y hR hJ hE hL hq hv hvl hvs.2 h1 h2
  · rw [if_neg hc] at h
    exact kf hc h ρ H locs LS x y hR hJ hE hL hq hv hvl hvs.2 h1 h2
theorem zo_icmp_le (hY : zo_Gd Y cc nL own d) {a b : Int32} {off : Int} (tgt : Nat) (hd : decode cc pc = .ok (.if_icmp .le off, 3)) (ht : (pc : Int) + off = (tgt : Int)) (h : (if a ≤ b then A else B) = some res) (kt : a ≤ b → A = some res → TW Y res Ω tgt ls st) (kf : ¬ a ≤ b → B = some res → TW Y res Ω (pc + 3) ls st) : TW Y res Ω pc ls (vi b :: vi a :: st) := by
  obtain ⟨p, l, e, R, s, m, args, below, meth, c, G, J, ρ0, Ω0, nL0, Q⟩ := Y
  obtain ⟨hx, hb, hml, rfl, hown, hts, hlk, hK, hfr, hlo⟩ := hY
  intro ρ H locs LS x y hR hJ hE hL hq hv hvl hvs h1 h2
  refine lv_icmp_le hx hb hd ht (fun hc => ?_) (fun hc => ?_)
  · rw [if_pos hc] at h
    exact kt hc h ρ H locs LS x y hR hJ hE hL hq hv hvl hvs.2.2 h1 h2
  · rw [if_neg hc] at h
    exact kf hc h ρ H locs LS x y hR hJ hE hL hq hv hvl hvs.2.2 h1 h2
theorem zo_if_le (hY : zo_Gd Y cc nL own d) {a : Int32} {off : Int} (tgt : Nat) (hd : decode cc pc = .ok (.ifCond .le off, 3)) (ht : (pc : Int) + off = (tgt : Int)) (h : (if a ≤ 0 then A else B) = some res) (kt : a ≤ 0 → A = some res → TW Y res Ω tgt ls st) (kf : ¬ a ≤ 0 → B = some res → TW Y res Ω (pc + 3) ls st) : TW Y res Ω pc ls (vi a :: st) := by
  obtain ⟨p, l, e, R, s, m, args, below, meth, c, G, J, ρ0, Ω0, nL0, Q⟩ := Y
  obtain ⟨hx, hb, hml, rfl, hown, hts, hlk, hK, hfr, hlo⟩ := hY
  intro ρ H locs LS x y hR hJ hE hL hq hv hvl hvs h1 h2
  refine lv_if_le hx hb hd ht (fun hc => ?_) (fun hc => ?_)
  · rw [if_pos hc] at h
    exact kt hc h ρ H locs LS x y hR hJ hE hL hq hv hvl hvs.2 h1 h2
  · rw [if_neg hc] at h
    exact kf hc h ρ H locs LS x y hR hJ hE hL hq hv hvl hvs.2 h1 h2
theorem zo_ifnull (hY : zo_Gd Y cc nL own d) {o : Option zo_T} {K : Nat} {F : Nat → Option zo_R} {off : Int} (tgt : Nat) (hd : decode cc pc = .ok (.ifnull off, 3)) (ht : (pc : Int) + off = (tgt : Int)) (h : cn o K A F = some res) (kt : o = none → A = some res → TW Y res Ω tgt ls st) (kf : ∀ n, o = some (K, n) → F n = some res → TW Y res Ω (pc + 3) ls st) : TW Y res Ω pc ls (vo o :: st) := by
  rcases cn_e h with ⟨rfl, h'⟩ | ⟨n, rfl, h'⟩
  · have k := kt rfl h'
    obtain ⟨p, l, e, R, s, m, args, below, meth, c, G, J, ρ0, Ω0, nL0, Q⟩ := Y
    obtain ⟨hx, hb, hml, rfl, hown, hts, hlk, hK, hfr, hlo⟩ := hY
    intro ρ H locs LS x y hR hJ hE hL hq hv hvl hvs h1 h2
    exact lv_ifnullN hx hb hd ht (k ρ H locs LS x y hR hJ hE hL hq hv hvl hvs.2 h1 h2)
  · have k := kf n rfl h'
    obtain ⟨p, l, e, R, s, m, args, below, meth, c, G, J, ρ0, Ω0, nL0, Q⟩ := Y
    obtain ⟨hx, hb, hml, rfl, hown, hts, hlk, hK, hfr, hlo⟩ := hY
    intro ρ H locs LS x y hR hJ hE hL hq hv hvl hvs h1 h2
    exact lv_ifnull (x := ρ K n) hx hb hd (k ρ H locs LS x y hR hJ hE hL hq hv hvl hvs.2 h1 h2)
theorem zo_ifnonnull (hY : zo_Gd Y cc nL own d) {o : Option zo_T} {K : Nat} {F : Nat → Option zo_R} {off : Int} (tgt : Nat) (hd : decode cc pc = .ok (.ifnonnull off, 3)) (ht : (pc : Int) + off = (tgt : Int)) (h : cn o K A F = some res) (kf : o = none → A = some res → TW Y res Ω (pc + 3) ls st) (kt : ∀ n, o = some (K, n) → F n = some res → TW Y res Ω tgt ls st) : TW Y res Ω pc ls (vo o :: st) := by
  rcases cn_e h with ⟨rfl, h'⟩ | ⟨n, rfl, h'⟩
  · have k := kf rfl h'
    obtain ⟨p, l, e, R, s, m, args, below, meth, c, G, J, ρ0, Ω0, nL0, Q⟩ := Y
    obtain ⟨hx, hb, hml, rfl, hown, hts, hlk, hK, hfr, hlo⟩ := hY
    intro ρ H locs LS x y hR hJ hE hL hq hv hvl hvs h1 h2
    exact lv_ifnonnullN hx hb hd (k ρ H locs LS x y hR hJ hE hL hq hv hvl hvs.2 h1 h2)
  · have k := kt n rfl h'
    obtain ⟨p, l, e, R, s, m, args, below, meth, c, G, J, ρ0, Ω0, nL0, Q⟩ := Y
    obtain ⟨hx, hb, hml, rfl, hown, hts, hlk, hK, hfr, hlo⟩ := hY
    intro ρ H locs LS x y hR hJ hE hL hq hv hvl hvs h1 h2
    exact lv_ifnonnull (x := ρ K n) hx hb hd ht (k ρ H locs LS x y hR hJ hE hL hq hv hvl hvs.2 h1 h2)
end TWR
