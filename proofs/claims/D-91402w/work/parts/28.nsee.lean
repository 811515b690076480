/-! ===== throw new NoSuchElementException() ===== -/
set_option maxRecDepth 100000
def ze_at (own : String) (ic : Nat) (X : String) (names : List String) : List Cond :=
  Jvm.Bundle.throwableAtoms ++ Jvm.Bundle.chain0Atoms X names ++
  [.methodLink own ic (Jvm.Bundle.init0 X), .instantiable X 6, .castable X X, .selects X Jvm.Bundle.tFill0 Jvm.Bundle.tFill0, .selects X Jvm.Bundle.tFill Jvm.Bundle.tFill,
   .lays X Jvm.Bundle.tN "cause" "Ljava/lang/Throwable;", .lays X Jvm.Bundle.tN "stackTrace" Jvm.Bundle.steD, .lays X Jvm.Bundle.tN "suppressedExceptions" Jvm.Bundle.listD, .lays X Jvm.Bundle.tN "detailMessage" "Ljava/lang/String;",
   .fieldLink Jvm.Bundle.tN 198 Jvm.Bundle.tN "backtrace" "Ljava/lang/Object;", .lays Jvm.Bundle.tN Jvm.Bundle.tN "backtrace" "Ljava/lang/Object;", .lays X Jvm.Bundle.tN "backtrace" "Ljava/lang/Object;"]
def ze_st (s : State) (W : Heap) (n ds : String) : Prop := ∃ (cf : ClassId) (kf : Class) (fi : Nat) (f : Field) (a : Nat) (cell : Cell) (v : Value), s.fieldFound? Jvm.Bundle.tN n ds = some (cf, kf, fi, f) ∧ kf.statics = some a ∧ W[a]? = some cell ∧ cell.vm.isStatics = true ∧ cell.slots[f.slot]? = some v ∧ (v = .null ∨ ∃ q, v = .ref q)
theorem ze_ref {v : Value} (h : v = .null ∨ ∃ q, v = .ref q) : v.isRef = true := by
  rcases h with rfl | ⟨q, rfl⟩ <;> rfl
section ZEX
variable {p : Program} {l : Launch} {e : Env} {R : Room} {s : State} {m₀ : MethodId} {args : Array Value} {below : List Frame} {meth : Method} {c : Code} {W : State} {locs : List Loc} {cells slots : Nat}
set_option maxHeartbeats 4000000 in
theorem ze_throw (X : Stand p l e R s m₀ args below meth c W locs cells slots) (hexec : p.tables.exec = Jvm.exec) (htr : e.platform.stackTraces = false) {own cls : String} {names : List String} {ic : Nat}
    (hown : s.vm.findClass own = some m₀.cls) (hcls : Jvm.Bundle.fit cls = true) (hnames : ∀ n ∈ names, Jvm.Bundle.fit n = true)
    (h : ∀ a ∈ ze_at own ic cls names, a.before args s = true)
    (hz1 : ze_st s W.heap "UNASSIGNED_STACK" Jvm.Bundle.steD) (hz2 : ze_st s W.heap "SUPPRESSED_SENTINEL" Jvm.Bundle.listD)
    {a : Addr} {cX : ClassId} {kX : Class} (hfoundX : s.vm.findClass cls = some cX) (hkX : s.vm.classes[cX]? = some kX) (hcell : W.heap[a]? = some (freshCell cX kX)) (hnew : s.heap.size ≤ a)
    {g : JFrame} (hg : g.method = m₀) (hsize : g.locals.size = c.maxLocals) (hlocked : g.locked = none) (hentered : g.entered = []) {rest : List Value} (hstack : g.stack = .ref a :: .ref a :: rest)
    (hd6 : decode c.code g.pc = .ok (.invokespecial ic, 3)) (hd9 : decode c.code (g.pc + 3) = .ok (.athrow, 1)) (hout : ∀ x ∈ c.exceptionTable.toList, covers x (g.pc + 3) = false)
    (hRframes : names.length + 3 < R.frames) (hRlocals : 2 * g.monitorRoom + ((Value.ref a :: rest).map fun v => v.category).sum + (13 * (names.length + 1) + 41) ≤ R.locals) (hlocks : meth.locks = false) :
    ∃ U : State, Steps p.tables e below (W.setTop g) U ∧ U.status = .running ∧ Ended U below (.threw a) ∧ s.WarmedH U.vm ∧ s.sameButNew ({ U with vm := s.vm } : State) locs cells slots ∧
      (∃ ce, U.heap[a]? = some ce ∧ ce.cls = cX ∧ ce.vm.isStatics = false) ∧ U.heap.size = W.heap.size ∧ ∀ q : Nat, q ≠ a → U.heap[q]? = W.heap[q]? := by
  have howns : e.platform.frameOwnsMonitors = true := by rw [X.admits.platform]
  have hfin : e.platform.finalization = false := by rw [X.admits.platform]
  have hpl : e.platform.magicAccessors = ({} : Platform).magicAccessors := by rw [X.admits.platform]
  have a' : ∀ x, x ∈ ze_at own ic cls names → x.holds args s none s [] = true := fun x hx => h x hx
  obtain ⟨T, Z, L, LZ, Y⟩ := ThrowableC.of_atoms (args := args) howns hfin hpl (fun x hx => h x (by simp [ze_at, hx]))
  obtain ⟨P1, Ps, hlen, L1, hL, hP1m, hlink1, hlink⟩ := Jvm.Bundle.chain0 (args := args) hpl Y.init0 names cls hcls hnames (fun x hx => h x (by simp [ze_at, hx]))
  have hfound : s.vm.findClass cls = some P1.m.cls := findClass_of_methodNamed hP1m
  cases Option.some.inj (hfoundX.symm.trans hfound)
  obtain ⟨c1, kX', hc1, hk, hord, -, -, hn6⟩ := Cond.instantiable_spec (a' (.instantiable cls 6) (by simp [ze_at]))
  cases Option.some.inj (hc1.symm.trans hfound)
  cases Option.some.inj (hkX.symm.trans hk)
  have hsel0 : selectMethod e.platform s.vm P1.m.cls T.fill0 = .method T.fill0 := by
    obtain ⟨c2, r2, m2, q1, q2, q3, q4, -⟩ := Cond.selects_spec (a' (.selects cls Jvm.Bundle.tFill0 Jvm.Bundle.tFill0) (by simp [ze_at]))
    cases Option.some.inj (q1.symm.trans hfound)
    cases Option.some.inj (q2.symm.trans (State.methodFound?_of_named Y.fill0 (by decide)))
    cases Option.some.inj (q3.symm.trans Y.fill0)
    rw [Launch.admits_selectMethod X.admits]; exact q4
  have hselF : selectMethod e.platform s.vm P1.m.cls T.fill = .method T.fill := by
    obtain ⟨c2, r2, m2, q1, q2, q3, q4, -⟩ := Cond.selects_spec (a' (.selects cls Jvm.Bundle.tFill Jvm.Bundle.tFill) (by simp [ze_at]))
    cases Option.some.inj (q1.symm.trans hfound)
    cases Option.some.inj (q2.symm.trans (State.methodFound?_of_named Y.fill (by decide)))
    cases Option.some.inj (q3.symm.trans Y.fill)
    rw [Launch.admits_selectMethod X.admits]; exact q4
  obtain ⟨cf1, kf1, fi1, f1, sa1, cellS, v1, z1, z2, z3, z4, z5, z6⟩ := hz1
  cases Option.some.inj (z1.symm.trans Y.unassigned)
  cases Option.some.inj (z2.symm.trans L.statics)
  obtain ⟨cf2, kf2, fi2, f2, sa2, cellS2, v2, y1, y2, y3, y4, y5, y6⟩ := hz2
  cases Option.some.inj (y1.symm.trans Y.sentinel)
  cases Option.some.inj (y2.symm.trans L.statics)
  cases Option.some.inj (z3.symm.trans y3)
  obtain ⟨u0, rfl⟩ : ∃ u : RefV, v1 = u.v := ⟨⟨v1, ze_ref z6⟩, rfl⟩
  obtain ⟨sen, rfl⟩ : ∃ u : RefV, v2 = u.v := ⟨⟨v2, ze_ref y6⟩, rfl⟩
  obtain ⟨ci198, i198, fB, hk198, hg198, ha198, hsB, -, hnB, htB, hffB⟩ := Cond.ownField (t := .object "java/lang/Object") Y.found L.cls (by decide +kernel) (a' (.fieldLink Jvm.Bundle.tN 198 Jvm.Bundle.tN "backtrace" "Ljava/lang/Object;") (by simp [ze_at])) (a' (.lays Jvm.Bundle.tN Jvm.Bundle.tN "backtrace" "Ljava/lang/Object;") (by simp [ze_at])) e.platform hpl
  have hknownS : cellS.vm ≠ .unknown := by
    intro hu
    rw [hu] at z4
    cases z4
  have hneS : T.aS ≠ a := fun q => by
    rw [q, hcell] at z3
    cases z3
    cases z4
  obtain ⟨tyC, dC, hdC, hdnC⟩ := Cond.laysAt hfound hk Y.cause (a' (.lays cls Jvm.Bundle.tN "cause" "Ljava/lang/Throwable;") (by simp [ze_at]))
  obtain ⟨tyS, dS, hdS, hdnS⟩ := Cond.laysAt hfound hk Y.stack (a' (.lays cls Jvm.Bundle.tN "stackTrace" Jvm.Bundle.steD) (by simp [ze_at]))
  obtain ⟨tyP, dP, hdP, hdnP⟩ := Cond.laysAt hfound hk Y.supp (a' (.lays cls Jvm.Bundle.tN "suppressedExceptions" Jvm.Bundle.listD) (by simp [ze_at]))
  obtain ⟨tyB, dB, hdB, hdnB⟩ := Cond.laysAt hfound hk hffB (a' (.lays cls Jvm.Bundle.tN "backtrace" "Ljava/lang/Object;") (by simp [ze_at]))
  have bC := Cond.laysApart hdB hdC hdnB hdnC (by rw [hnB, Y.causeName]; decide)
  have bS := Cond.laysApart hdB hdS hdnB hdnS (by rw [hnB, Y.stackName]; decide)
  have bP := Cond.laysApart hdB hdP hdnB hdnP (by rw [hnB, Y.suppName]; decide)
  have hskip : SkipFacts T e.platform s (fun u => u) u0 ((preparedCellV T.toThrowableT (freshCell P1.m.cls kX) a u0 sen).withEntry W.cur) :=
    ⟨{ ci198 := ci198, i198 := i198, fBack := fB }, ⟨hk198, hg198, ha198, hsB⟩, by
      have := fresh_default (c := P1.m.cls) tyB
      rw [htB] at this
      simpa [preparedCellV, Cell.setSlot, Cell.withEntry, Array.getElem?_setIfInBounds, bC, bS, bP, bC.symm, bS.symm, bP.symm, defaultValue] using this, fun _ _ => rfl⟩
  obtain ⟨tm, methC, cdC, kC, vm₁, hnC, -, -, -, -, -, -, -, hW₁, st1⟩ := Steps.initCold (tb := p.tables) (e := e) (below := below) (s := s) (U := W) X.here hexec X.warmed hpl hown (t := Jvm.Bundle.init0 cls) rfl rfl (Jvm.Bundle.fit_spec hcls).2
    (a' (.methodLink own ic (Jvm.Bundle.init0 cls)) (by simp [ze_at])) (h (.instanceMethod (Jvm.Bundle.init0 cls)) (by cases names <;> simp [ze_at, Jvm.Bundle.chain0Atoms, Jvm.Bundle.passAtoms])) (bytes := Jvm.Bundle.five) (maxL := 1) (h (.code (Jvm.Bundle.init0 cls) Jvm.Bundle.five 1 none) (by cases names <;> simp [ze_at, Jvm.Bundle.chain0Atoms, Jvm.Bundle.passAtoms]))
    (f := g) hg (a := a) (rest := .ref a :: rest) hstack hd6
  cases Option.some.inj (hnC.symm.trans hP1m)
  have X₁ := X.noted hW₁
  obtain ⟨vm₂, X₂, st2⟩ := X₁.ctorPlainOffV hexec (g := { g with stack := .ref a :: rest }) hg hsize T L Z LZ (P1 :: Ps)
    (fun P hP => by rcases List.mem_cons.mp hP with rfl | hP; exact L1; exact hL P hP) ⟨hlink1, hlink⟩ (u0 := u0) (sen := sen) (self := a) (cell := freshCell P1.m.cls kX) (cellS := cellS)
    hcell (fun _ => by simp) (by simp) rfl rfl hsel0 hselF z3 hneS hknownS z5 y5
    (Takes.of_laid hk hord tyC (by rw [Y.causeType]; rfl)) (Takes.of_laid hk hord tyS (by rw [Y.stackType]; exact fits_refV_array _ u0)) (Takes.of_laid hk hord tyP (by rw [Y.suppType]; exact fits_refV_object _ sen)) Y.objLocals hskip htr [] hd6
    (by simp only [List.length_cons, hlen]; omega) (by simp only [List.length_cons, hlen]; exact hRlocals)
  obtain ⟨hwalk, hrun, hended, hWU, hsame⟩ := X₂.athrowLeaves hexec (g := { g with stack := .ref a :: rest, pc := g.pc + 3 }) hg hlocked hentered hout (a := a) (rest := rest) rfl hd9 hlocks
  have hlt : a < ((W.setVm vm₁).setVm vm₂).heap.size := (Array.getElem?_eq_some_iff.mp hcell).1
  have hU := heapAt_setCell_self (s := (W.setVm vm₁).setVm vm₂) ((preparedCellV T.toThrowableT (freshCell P1.m.cls kX) a u0 sen).setSlot T.fStack.slot u0.v) hlt
  refine ⟨_, st1 _ (fun acts => ?_), hrun, hended, hWU, hsame.weaken (fun y hy hlt' => ?_) (Nat.le_refl _) (Nat.le_refl _), ⟨_, hU, rfl, rfl⟩, ?_, fun q hq => ?_⟩
  · rw [doInvoke_state]
    exact st2 _ hwalk
  · rcases List.mem_append.mp hy with h1 | h1
    · exact h1
    · exfalso
      have hb : y.base = a := by
        simp only [List.mem_cons, List.not_mem_nil, or_false] at h1
        rcases h1 with rfl | rfl | rfl | rfl <;> rfl
      rw [hb] at hlt'
      exact Nat.not_lt.mpr hnew hlt'
  · show (W.heap.setIfInBounds a _).size = W.heap.size
    simp
  · show (W.heap.setIfInBounds a _)[q]? = W.heap[q]?
    simp [Array.getElem?_setIfInBounds, Ne.symm hq]
end ZEX
theorem ze_sup {A A' : Array Value} {s U : State} {cls sup : String} (hv : s.vm.Alike U.vm) (h : (Cond.superclass cls sup).before A s = true) : (Cond.superclass cls sup).before A' U = true := by
  simp only [Cond.before, Cond.holds, Cond.value] at h ⊢
  rw [hv.findClass, hv.findClass]
  cases h1 : s.vm.findClass cls with
  | none => simp [h1] at h
  | some c =>
    cases h2 : s.vm.findClass sup with
    | none => simp [h1, h2] at h
    | some p =>
      cases h3 : s.vm.classes[c]? with
      | none => simp [h1, h2, h3] at h
      | some k =>
        cases h4 : s.vm.classes[p]? with
        | none => simp [h1, h2, h3, h4] at h
        | some kp =>
          obtain ⟨k', h5, h6⟩ := hv.2.2 _ _ h3
          obtain ⟨kp', h7, h8⟩ := hv.2.2 _ _ h4
          have e1 : k'.super = k.super := by rw [h6]
          have e2 : k'.kind = k.kind := by rw [h6]
          have e3 : k'.isInterface = k.isInterface := by rw [h6]; rfl
          have e4 : kp'.kind = kp.kind := by rw [h8]
          simp only [h1, h2, h3, h4, Option.bind_some, Option.map_some] at h
          simp only [h5, h7, Option.bind_some, Option.map_some, e1, e2, e3, e4]
          exact h
theorem ze_lay {A A' : Array Value} {s U : State} {C n d : String} (hv : s.vm.Alike U.vm) (ho : ∀ q : Nat, q < s.heap.size → U.heap[q]? = s.heap[q]?) (h : (Cond.laysStatic C n d).before A s = true) : (Cond.laysStatic C n d).before A' U = true := by
  obtain ⟨c, k, i, f, a, cell, hc, hi, hst, ha, hcell, hs, hcls, hlt, hty⟩ := Cond.laysStatic_spec h
  obtain ⟨k', hi', he⟩ := State.fieldFound?_setVm hv hi
  have hc' : U.vm.findClass C = some c := by rw [hv.findClass]; exact hc
  have ha' : k'.statics = some a := by rw [he]; exact ha
  have hty' : k'.staticTypes[f.slot]? = some f.type := by rw [he]; exact hty
  have hcell' : U.heap[a]? = some cell := by rw [ho a (Array.getElem?_eq_some_iff.mp hcell).1]; exact hcell
  simp only [Cond.before, Cond.holds, Cond.value]
  have hi2 : U.fieldFound? C n d = some (c, k', i, f) := hi'
  rw [hc', hi2]
  simp [ha', hcell', hst, hs, hcls, hlt, hty']
theorem ze_face {A A' : Array Value} {s U : State} {w : Cond} (hW : s.WarmedH U.vm) (h12 : (w.onTables && w.keepsFace) = true) (h : w.before A s = true) : w.before A' U = true := by
  simp only [Bool.and_eq_true] at h12
  have h3 := Cond.before_shiftedFace (State.Shifted.of_warmed hW) w h12.2 h
  rw [Cond.onTables_vm (A := A) (A' := A') (U := s) (U' := U) U.vm w h12.1, State.setVm_self] at h3
  exact h3
/-- how a word comes from the start to here -/
def ze_way (w : Cond) : Bool := match w with
  | .superclass _ _ => true
  | .laysStatic _ _ _ => true
  | w => w.onTables && w.keepsFace
theorem ze_in : ∀ a ∈ ze_at "LichenTable" 229 "java/util/NoSuchElementException" ["java/lang/RuntimeException", "java/lang/Exception"], a ∈ lw_tbl ∧ ze_way a = true := by decide +kernel
theorem ze_go {G : zo_G} {s : State} {args : Array Value} (hK : zo_K G s) (ho : ∀ q : Nat, q < G.2.2.2.1.size → s.heap[q]? = G.2.2.2.1[q]?) {w : Cond} (h1 : w ∈ lw_tbl) (h2 : ze_way w = true) : w.before args s = true := by
  have hw := zl_start hK h1
  have hW := zl_warm hK
  have e0 : G.2.2.2.2.2.2.1.heap = G.2.2.2.1 := hK.2.2.2.1
  have other : (w.onTables && w.keepsFace) = true → w.before args s = true := fun q => ze_face hW q hw
  cases w with
  | superclass a b => exact ze_sup hW.alike hw
  | laysStatic a b c => exact ze_lay hW.alike (by rw [e0]; exact ho) hw
  | _ => exact other h2
theorem zo_Rep.more {G : zo_G} {ρ : Nat → Nat → Nat} {Ω : zo_O} {H H' : Heap} (h : zo_Rep G ρ Ω H) (hz : H.size ≤ H'.size) (ho : ∀ q : Nat, q < H.size → H'[q]? = H[q]?) : zo_Rep G ρ Ω H' := by
  obtain ⟨h1, h2, h3, ⟨own, h4⟩, h5, h6, h7⟩ := h
  refine ⟨Nat.le_trans h1 hz, fun q hq => (ho q (by omega)).trans (h2 q hq), h3, ⟨own, fun k n hl => ?_⟩, h5, h6, h7⟩
  obtain ⟨g1, g2, g3⟩ := h4 k n hl
  exact ⟨g1, g2, g3.cong rfl (ho _ g3.lt) (fun _ _ _ => rfl) (fun _ => rfl) (fun _ _ _ => rfl)⟩
theorem ze_W {p : Program} {l : Launch} {e : Env} {R : Room} {s : State} {m : MethodId} {args : Array Value} {below : List Frame} {meth : Method} {c : Code} {H : Heap} {locs : List Loc} {cells slots : Nat} {Q : State → Prop} {g : JFrame} (h : s.heap.size ≤ H.size → W p l e R s m args below meth c H locs cells slots Q g) : W p l e R s m args below meth c H locs cells slots Q g := fun T hT X => h (by
  have h9 : s.heap.size ≤ T.heap.size := X.same.2.1
  rw [hT] at h9
  exact h9) T hT X
section TWE
variable {Y : zo_Y} {res : zo_R} {Ω : zo_O} {pc : Nat} {ls : List (Nat × zo_V)} {st : List zo_V} {cc : ByteArray} {nL : Nat} {d : Nat}
/-- throw new NoSuchElementException() -/
theorem zo_throwN (hY : zo_Gd Y cc nL "LichenTable" d) {rt : Option FieldType} (hr : zo_rtX Y rt) (hdp : 6 ≤ d) {idx : Nat} (hcl : Cond.classLink "LichenTable" idx "java/util/NoSuchElementException" ∈ lw_all) (hd1 : decode cc pc = .ok (.new idx, 3)) (hd2 : decode cc (pc + 3) = .ok (.dup, 1)) (hd3 : decode cc (pc + 3 + 1) = .ok (.invokespecial 229, 3)) (hd4 : decode cc (pc + 3 + 1 + 3) = .ok (.athrow, 1)) (h : rE Ω = some res) : TW Y res Ω pc ls [] := by
  cases h
  obtain ⟨p, l, e, R, s, m, args, below, meth, c, G, J, ρ0, Ω0, nL0, Q⟩ := Y
  obtain ⟨hx, hb, hml, rfl, hown, hts, hlk, hK, hfr, hlo⟩ := hY
  obtain ⟨hrt, hno, hLF, hsold, rfl⟩ := hr
  intro ρ H locs LS x y hR hJ hE hL hq hv hvl hvs h1 h2
  have h1 : x + 1 = R.cells := h1
  have h2 : y + 6 = R.slots := h2
  have hKn := hK.1 19 (by omega)
  refine ze_W fun hsH => ?_
  refine W.newcK (C := "java/util/NoSuchElementException") (n := 6) hx hb hown (hts _ hcl) (hts _ q1243) (hts _ q109) rfl hd1 (by omega) (by omega) hKn.2.1 rfl fun H1 kC hkC e1 z1 o1 => ?_
  refine lv_dup hx hb hd2 rfl ?_
  intro T hT X
  have hold1 : ∀ q : Nat, q < G.2.2.2.1.size → T.heap[q]? = G.2.2.2.1[q]? := fun q hq => by rw [hT, o1 q (by have := hR.1; omega)]; exact hR.2.1 q hq
  have hat : ∀ a ∈ ze_at "LichenTable" 229 "java/util/NoSuchElementException" ["java/lang/RuntimeException", "java/lang/Exception"], a.before args s = true := fun a ha => ze_go hK hsold.2 (ze_in a ha).1 (ze_in a ha).2
  have hst : ∀ {n ds : String} {v : Value}, (v = .null ∨ ∃ q, v = .ref q) → va_Z "java/lang/Throwable" n ds v (fun q => G.2.2.2.1.size ≤ q) s G.2.2.2.1 → ze_st s T.heap n ds := fun hv hz => by
    obtain ⟨cf, kf, fi, f, sa, cell, g1, g2, g3, g4, g5, g6, g7, g8⟩ := hz
    exact ⟨cf, kf, fi, f, sa, cell, _, g1, g4, by rw [hold1 _ (Array.getElem?_eq_some_iff.mp g5).1]; exact g5, g6, g7, hv⟩
  obtain ⟨v1, hv1, hz1⟩ := zw_stat hK q696 (lw_all_tbl q101) (by decide +kernel)
  obtain ⟨v2, hv2, hz2⟩ := zw_stat hK q698 (lw_all_tbl q101) (by decide +kernel)
  have hnil : c.exceptionTable.toList = [] := by
    have h0 : c.exceptionTable.size = 0 := by simpa [Array.isEmpty] using hno
    exact List.eq_nil_of_length_eq_zero (by simpa using h0)
  obtain ⟨U, st1, hrun, hend, hW, hsame, ⟨ce, hce, hcc, hcs⟩, hUz, hUo⟩ := ze_throw X hx (hLF.off X.admits) (own := "LichenTable") (cls := "java/util/NoSuchElementException") (names := ["java/lang/RuntimeException", "java/lang/Exception"]) (ic := 229) hown (by decide +kernel) (by decide +kernel) hat (hst hv1 hz1) (hst hv2 hz2) (a := H.size) (cX := G.1 19) (kX := kC) hKn.2.1 hkC (by rw [hT]; exact e1) hsH (g := F0 m (pc + 3 + 1) LS [.ref H.size, .ref H.size]) rfl (by rw [hml]; exact hv.1) rfl rfl (rest := []) rfl (by rw [hb]; exact hd3) (by rw [hb]; exact hd4) (fun z hz => by rw [hnil] at hz; cases hz) (by show 2 + 3 < R.frames; omega) (by show 2 * 0 + 1 + (13 * (2 + 1) + 41) ≤ R.locals; omega) hlk
  refine ⟨U, st1, .threw H.size, hrun, hend, ⟨ρ, zo_ocN.mpr ⟨H.size, ce, rfl, hce, hcc, hcs⟩, ?_, hJ, hE, hL⟩, locs, ⟨hW, ?_⟩, hq⟩
  · exact hR.more (by rw [hUz, hT]; omega) (fun q hq => by rw [hUo q (by omega), hT]; exact o1 q hq)
  · rw [h1, h2] at hsame
    exact hsame
end TWE
