/-! ===== throwing, handlers, inherited calls, Use and Skip, in the token world ===== -/
set_option maxRecDepth 10000
/-- thrown: a Wrong; a NoSuchElementException, which nobody looks into -/
def rT (n : Nat) (Ω : zo_O) : Option zo_R := some (some (vr 10 n), Ω, 0, 0)
def rE (Ω : zo_O) : Option zo_R := some (some (vr 19 0), Ω, 1, 6)
def zo_oc (G : zo_G) (ρ : Nat → Nat → Nat) (Ω : zo_O) (r : Option zo_V) (o : Outcome) (t : State) : Prop := match r with
  | none => o = .returned none
  | some (.inl x) => o = .returned (some (.int x))
  | some (.inr (.inl (some tk))) => if tk.1 = 10 then o = .threw (ρ 10 tk.2) ∧ zo_ok Ω (10, tk.2) else tk.1 = 19 ∧ ∃ a cell, o = .threw a ∧ t.heap[a]? = some cell ∧ cell.cls = G.1 19 ∧ cell.vm.isStatics = false
  | _ => False
theorem zo_ocT {G : zo_G} {ρ : Nat → Nat → Nat} {Ω : zo_O} {n : Nat} {o : Outcome} {t : State} : zo_oc G ρ Ω (some (vr 10 n)) o t ↔ (o = .threw (ρ 10 n) ∧ zo_ok Ω (10, n)) := by
  simp [zo_oc]
theorem zo_ocN {G : zo_G} {ρ : Nat → Nat → Nat} {Ω : zo_O} {n : Nat} {o : Outcome} {t : State} : zo_oc G ρ Ω (some (vr 19 n)) o t ↔ ∃ a cell, o = .threw a ∧ t.heap[a]? = some cell ∧ cell.cls = G.1 19 ∧ cell.vm.isStatics = false := by
  simp [zo_oc]
def zo_QX (G : zo_G) (J : zo_O → Prop) (ρ : Nat → Nat → Nat) (Ω : zo_O) (r : Option zo_V) (Ω' : zo_O) : Array Value → State → Outcome → State → Prop := fun _ _ o t => ∃ ρ', zo_oc G ρ' Ω' r o t ∧ zo_Rep G ρ' Ω' t.heap ∧ J Ω' ∧ zo_ext Ω ρ ρ' ∧ zo_le Ω Ω'
def zo_MX (G : zo_G) (J : zo_O → Prop) (y : MethodName) (cc : ByteArray) (nL : Nat) (ret : Option FieldType) (d : Nat) (as : List zo_V) (Ω : zo_O) (res : zo_R) : Prop :=
  ∀ (l : Launch) (ρ : Nat → Nat → Nat), zo_LF l → zo_Mx l y (ws_ y cc nL ret) { frames := d, cells := res.2.2.1, slots := res.2.2.2, locals := 64 * d } (zo_Pc G J ρ as Ω) (zo_QX G J ρ Ω res.1 res.2.1) res.2.2.1 res.2.2.2 (fun q => G.2.2.2.1.size ≤ q)
def zo_MW (G : zo_G) (J : zo_O → Prop) (y : MethodName) (cc : ByteArray) (nL : Nat) (ret : Option FieldType) (hh : List (Nat × Nat × Nat × Nat)) (d : Nat) (as : List zo_V) (Ω : zo_O) (res : zo_R) : Prop :=
  ∀ (l : Launch) (ρ : Nat → Nat → Nat), zo_LF l → Met l y (wsW_ y cc nL ret hh) { frames := d, cells := res.2.2.1, slots := res.2.2.2, locals := 64 * d } (zo_Pc G J ρ as Ω) (zo_Qc G J ρ Ω res.1 res.2.1) res.2.2.1 res.2.2.2 (fun q => G.2.2.2.1.size ≤ q)
def zo_rtX : zo_Y → Option FieldType → Prop
  | (_, l, _, R, s, _, args, below, meth, c, G, J, ρ0, Ω0, _, Q), rt => meth.sig.returnType = rt ∧ c.exceptionTable.isEmpty = true ∧ zo_LF l ∧ (G.2.2.2.1.size ≤ s.heap.size ∧ ∀ q : Nat, q < G.2.2.2.1.size → s.heap[q]? = G.2.2.2.1[q]?) ∧ Q = fun o Ω' => zo_Qx below (zo_QX G J ρ0 Ω0 o Ω') args s R.cells R.slots (fun q => G.2.2.2.1.size ≤ q)
def zo_hh : zo_Y → List (Nat × Nat × Nat × Nat) → Prop
  | (_, l, _, _, _, _, _, _, _, c, _, _, _, _, _, _), hh => zo_LF l ∧ c.exceptionTable.toList.map (fun h => (h.startPc, h.endPc, h.handlerPc, h.catchType)) = hh
theorem zo_enterX {G : zo_G} {J : zo_O → Prop} {y : MethodName} {cc : ByteArray} {nL : Nat} {ret : Option FieldType} {d : Nat} {as : List zo_V} {Ω : zo_O} {res : zo_R} (hy : plainName y.cls = true) (ha : as.all zo_a1 = true) (hn : as.length ≤ nL)
    (body : ∀ Y : zo_Y, zo_Gd Y cc nL y.cls d → zo_J Y = J → zo_rtX Y ret → (y.name = "<init>" → zo_mn Y) → TW Y res Ω 0 (zo_la 0 as) []) : zo_MX G J y cc nL ret d as Ω res := by
  intro l ρ hLF
  refine zo_Mx.ofW (cc := cc) (maxL := nL) (ret := ret) hy rfl ?_
  intro p e s m args below meth c s₁ B hml hno hv
  obtain ⟨rfl, hR, hJ, hK, hvs⟩ := hv
  have hts := atoms_spec (ws := ws_ y cc nL ret) B.pre
  have hts : ∀ w ∈ lw_all, w.before _ s = true := fun w h => hts w (List.mem_cons_of_mem _ h)
  have hl := lv_entry (as.map (zo_c ρ)) (n := nL) (by rw [zo_la_len ρ as ha]; exact hn)
  rw [zo_la_args ρ 0 as ha] at hl
  rw [lg_entry_eq]
  have hb := body (p, l, e, { frames := d, cells := res.2.2.1, slots := res.2.2.2, locals := 64 * d }, s, m, (as.map (zo_c ρ)).toArray, below, meth, c, G, J, ρ, Ω, nL, fun o Ω' => zo_Qx below (zo_QX G J ρ Ω o Ω') (as.map (zo_c ρ)).toArray s res.2.2.1 res.2.2.2 (fun q => G.2.2.2.1.size ≤ q))
    ⟨B.exec, B.bytes, hml, rfl, findClass_of_methodNamed B.named, hts, B.notSynchronized, hK, Nat.le_refl _, Nat.le_refl _⟩ rfl ⟨B.returns, hno, hLF, ⟨hR.1, hR.2.1⟩, rfl⟩ (fun h => (name_of_methodNamed B.named B.method).1.trans h)
  exact hb ρ s.heap [] _ 0 0 hR hJ zo_ext.rf zo_le.rf (fun q h => by cases h) hl (zo_la_vl 0 as hvs) trivial (Nat.zero_add _) (Nat.zero_add _)
theorem zo_enterW {G : zo_G} {J : zo_O → Prop} {y : MethodName} {cc : ByteArray} {nL : Nat} {ret : Option FieldType} {hh : List (Nat × Nat × Nat × Nat)} {d : Nat} {as : List zo_V} {Ω : zo_O} {res : zo_R} (hy : plainName y.cls = true) (ha : as.all zo_a1 = true) (hn : as.length ≤ nL)
    (body : ∀ Y : zo_Y, zo_Gd Y cc nL y.cls d → zo_J Y = J → zo_rt Y ret → zo_hh Y hh → TW Y res Ω 0 (zo_la 0 as) []) : zo_MW G J y cc nL ret hh d as Ω res := by
  intro l ρ hLF
  refine va_MetW (cc := cc) (maxL := nL) (ret := ret) (hh := hh) hy rfl ?_
  intro p e s m args below meth c s₁ B hml hv
  obtain ⟨rfl, hR, hJ, hK, hvs⟩ := hv
  have hts := atoms_spec (ws := wsW_ y cc nL ret hh) B.pre
  have htab : c.exceptionTable.toList.map (fun h => (h.startPc, h.endPc, h.handlerPc, h.catchType)) = hh := by
    obtain ⟨m9, meth', c', hn9, hm', hc', -, -, ht, -, -, -⟩ := Cond.codeWith_spec (hts _ List.mem_cons_self)
    cases B.named.symm.trans hn9
    cases B.method.symm.trans hm'
    cases (Stand.of_body B).code.symm.trans hc'
    exact ht
  have hts : ∀ w ∈ lw_all, w.before _ s = true := fun w h => hts w (List.mem_cons_of_mem _ h)
  have hl := lv_entry (as.map (zo_c ρ)) (n := nL) (by rw [zo_la_len ρ as ha]; exact hn)
  rw [zo_la_args ρ 0 as ha] at hl
  rw [lg_entry_eq]
  have hb := body (p, l, e, { frames := d, cells := res.2.2.1, slots := res.2.2.2, locals := 64 * d }, s, m, (as.map (zo_c ρ)).toArray, below, meth, c, G, J, ρ, Ω, nL, fun o Ω' => MQ below (zo_Qc G J ρ Ω o Ω') (as.map (zo_c ρ)).toArray s res.2.2.1 res.2.2.2 (fun q => G.2.2.2.1.size ≤ q))
    ⟨B.exec, B.bytes, hml, rfl, findClass_of_methodNamed B.named, hts, B.notSynchronized, hK, Nat.le_refl _, Nat.le_refl _⟩ rfl ⟨B.returns, rfl⟩ ⟨hLF, htab⟩
  exact hb ρ s.heap [] _ 0 0 hR hJ zo_ext.rf zo_le.rf (fun q h => by cases h) hl (zo_la_vl 0 as hvs) trivial (Nat.zero_add _) (Nat.zero_add _)
/-- a call that may throw, inside a method that throws it on -/
def cx (X : Option zo_R) (F : zo_O → Option zo_R) : Option zo_R := match X with
  | some (none, Ω1, c, s) => ad c s (F Ω1)
  | some (some (.inr (.inl (some t))), Ω1, c, s) => if t.1 = 10 then some (some (vr 10 t.2), Ω1, c, s) else none
  | _ => none
/-- ... with a handler -/
def chV (X : Option zo_R) (F : zo_O → Option zo_R) (K : Nat → zo_O → Option zo_R) : Option zo_R := match X with
  | some (none, Ω1, c, s) => ad c s (F Ω1)
  | some (some (.inr (.inl (some t))), Ω1, c, s) => if t.1 = 10 then ad c s (K t.2 Ω1) else none
  | _ => none
def chN (X : Option zo_R) (F : Int32 → zo_O → Option zo_R) (K : zo_O → Option zo_R) : Option zo_R := match X with
  | some (some (.inl x), Ω1, c, s) => ad c s (F x Ω1)
  | some (some (.inr (.inl (some t))), Ω1, c, s) => if t.1 = 19 then ad c s (K Ω1) else none
  | _ => none
theorem cx_e {X : Option zo_R} {F : zo_O → Option zo_R} {r : zo_R} (h : cx X F = some r) : (∃ Ω1 c s r', X = some (none, Ω1, c, s) ∧ F Ω1 = some r' ∧ r = (r'.1, r'.2.1, r'.2.2.1 + c, r'.2.2.2 + s)) ∨ ∃ n Ω1 c s, X = some (some (vr 10 n), Ω1, c, s) ∧ r = (some (vr 10 n), Ω1, c, s) := by
  rcases X with _ | ⟨_ | x | (_ | ⟨k, n⟩) | y, Ω1, c, s⟩
  · cases h
  · obtain ⟨r', h1, h2⟩ := ad_e (c := c) (s := s) (X := F Ω1) h
    exact Or.inl ⟨Ω1, c, s, r', rfl, h1, h2⟩
  · cases h
  · cases h
  · have h : (if k = 10 then some (some (vr 10 n), Ω1, c, s) else none) = some r := h
    by_cases hk : k = 10
    · subst hk; rw [if_pos rfl] at h; exact Or.inr ⟨n, Ω1, c, s, rfl, (Option.some.inj h).symm⟩
    · rw [if_neg hk] at h; cases h
  · cases h
theorem chV_e {X : Option zo_R} {F : zo_O → Option zo_R} {K : Nat → zo_O → Option zo_R} {r : zo_R} (h : chV X F K = some r) : (∃ Ω1 c s r', X = some (none, Ω1, c, s) ∧ F Ω1 = some r' ∧ r = (r'.1, r'.2.1, r'.2.2.1 + c, r'.2.2.2 + s)) ∨ ∃ n Ω1 c s r', X = some (some (vr 10 n), Ω1, c, s) ∧ K n Ω1 = some r' ∧ r = (r'.1, r'.2.1, r'.2.2.1 + c, r'.2.2.2 + s) := by
  rcases X with _ | ⟨_ | x | (_ | ⟨k, n⟩) | y, Ω1, c, s⟩
  · cases h
  · obtain ⟨r', h1, h2⟩ := ad_e (c := c) (s := s) (X := F Ω1) h
    exact Or.inl ⟨Ω1, c, s, r', rfl, h1, h2⟩
  · cases h
  · cases h
  · have h : (if k = 10 then ad c s (K n Ω1) else none) = some r := h
    by_cases hk : k = 10
    · subst hk; rw [if_pos rfl] at h
      obtain ⟨r', h1, h2⟩ := ad_e h
      exact Or.inr ⟨n, Ω1, c, s, r', rfl, h1, h2⟩
    · rw [if_neg hk] at h; cases h
  · cases h
theorem chN_e {X : Option zo_R} {F : Int32 → zo_O → Option zo_R} {K : zo_O → Option zo_R} {r : zo_R} (h : chN X F K = some r) : (∃ x Ω1 c s r', X = some (some (vi x), Ω1, c, s) ∧ F x Ω1 = some r' ∧ r = (r'.1, r'.2.1, r'.2.2.1 + c, r'.2.2.2 + s)) ∨ ∃ n Ω1 c s r', X = some (some (vr 19 n), Ω1, c, s) ∧ K Ω1 = some r' ∧ r = (r'.1, r'.2.1, r'.2.2.1 + c, r'.2.2.2 + s) := by
  rcases X with _ | ⟨_ | x | (_ | ⟨k, n⟩) | y, Ω1, c, s⟩
  · cases h
  · cases h
  · obtain ⟨r', h1, h2⟩ := ad_e (c := c) (s := s) (X := F x Ω1) h
    exact Or.inl ⟨x, Ω1, c, s, r', rfl, h1, h2⟩
  · cases h
  · have h : (if k = 19 then ad c s (K Ω1) else none) = some r := h
    by_cases hk : k = 19
    · subst hk; rw [if_pos rfl] at h
      obtain ⟨r', h1, h2⟩ := ad_e h
      exact Or.inr ⟨n, Ω1, c, s, r', rfl, h1, h2⟩
    · rw [if_neg hk] at h; cases h
  · cases h
section ZCA
variable {p : Program} {l : Launch} {e : Env} {R : Room} {s : State} {m : MethodId} {args : Array Value} {below : List Frame} {meth : Method} {c : Code} {T : State} {locs : List Loc} {cells slots : Nat}
/-- what was thrown is caught here: the handler's class entry cold or warm -/
theorem zo_catch (X : Stand p l e R s m args below meth c T locs cells slots) {own name : String} {index sp ep hp : Nat} (hown : s.vm.findClass own = some m.cls) (hlink : (Cond.classLink own index name).before args s = true)
    {a : Addr} {cell : Cell} {cT : ClassId} {ks : Class} (hcell : T.heap[a]? = some cell) (hobj : cell.vm.isStatics = false) (hks : s.vm.classes[cell.cls]? = some ks)
    (hcT : s.vm.findClass name = some cT) (hasg : s.vm.assignable cell.cls cT = true)
    {g : JFrame} (hg : g.method = m) (htab : c.exceptionTable.toList.map (fun h => (h.startPc, h.endPc, h.handlerPc, h.catchType)) = [(sp, ep, hp, index)]) (hcov : sp ≤ g.pc ∧ g.pc < ep) (h0 : index ≠ 0) :
    ∃ vm', Stand p l e R s m args below meth c (T.setVm vm') locs cells slots ∧
      ∀ target, Steps p.tables e below ((T.setVm vm').setTop { g with pc := hp, stack := [.ref a] }) target → Steps p.tables e below ((T.setTop g).pushFrame (.throwing a)) target := by
  have hpl : e.platform.magicAccessors = ({} : Platform).magicAccessors := by rw [X.admits.platform]
  obtain ⟨c', hc', hcl⟩ := Cond.classLink_spec hown hlink e.platform hpl
  cases hcT.symm.trans hc'
  obtain ⟨dk, _, _, kt, hd, _, _, _, _, hkt, _, hopen⟩ := hcl.here
  have hcl₀ := X.warmed.classLinks hcl
  have hW' : s.WarmedH (T.vm.noted m.cls index (.cls cT)) := X.warmed.noted hd hopen (State.rightAt_cls hcl)
  obtain ⟨ks', hks', -⟩ := hW'.alike.2.2 _ _ hks
  obtain ⟨kt', hkt', -⟩ := hW'.alike.2.2 _ _ hkt
  have X₁ := X.noted hW'
  refine ⟨_, X₁, fun target hrest => ?_⟩
  subst hg
  have hA : At T g.method c below := X.here
  have hne : ∀ k, cell.vm ≠ .statics k := VmData.ne_statics_of hobj
  obtain ⟨x, hxl, hxe⟩ : ∃ x : ExceptionTableEntry, c.exceptionTable.toList = [x] ∧ (x.startPc, x.endPc, x.handlerPc, x.catchType) = (sp, ep, hp, index) := by
    cases hl : c.exceptionTable.toList with
    | nil => rw [hl] at htab; cases htab
    | cons x r =>
      rw [hl] at htab
      cases r with
      | nil => exact ⟨x, rfl, by simpa using htab⟩
      | cons z r => simp at htab
  obtain ⟨ex1, ex2, ex3, ex4⟩ : x.startPc = sp ∧ x.endPc = ep ∧ x.handlerPc = hp ∧ x.catchType = index := by
    cases hxe; exact ⟨rfl, rfl, rfl, rfl⟩
  have hvm : ((T.setTop g).pushFrame (.throwing a)).vm = T.vm := Stand.throwing_vm T g a
  have hheap : ((T.setTop g).pushFrame (.throwing a)).heap = T.heap := Stand.throwing_heap T g a
  have hfind : ∀ (U : State), U.vm = T.vm → U.heap = T.heap → ∀ (Q : Handler → Pre) (E : CtlPost) (d : Bool) (acts : List Action), wp (findHandler g a) Q E e d acts U ↔ Q (.found hp) d acts (U.setVm (T.vm.noted g.method.cls index (.cls cT))) := by
    intro U hvm hheap Q E d acts
    have hgv : (Jvm.resolveClass g.method.cls x.catchType).Gives e.toSetting U.vm (.ok cT) (T.vm.noted g.method.cls index (.cls cT)) := by
      rw [hvm, ex4]
      exact resolveClass_links e.toSetting hcl₀
    obtain ⟨ha, ht⟩ := hgv.op (op := VmOp.resolveClass g.method.cls x.catchType) rfl
    have hsz : (T.vm.noted g.method.cls index (.cls cT)).classes.size ≤ U.vm.classes.size := by
      rw [hvm]; no_record
    rw [W.findHandler_eq (meth := meth) (code := c) (by rw [hvm]; exact X.method') X.code, hxl]
    have hcv : covers x g.pc = true := by simp [covers, ex1, ex2, hcov.1, hcov.2]
    simp only [covers] at hcv
    have hfit : (T.vm.noted g.method.cls index (.cls cT)).assignable cell.cls cT = true := by rw [hW'.alike.assignable]; exact hasg
    have hcell' : U.heap[a]? = some cell := by rw [hheap]; exact hcell
    have hland := VmOp.lands_eq (op := VmOp.resolveClass g.method.cls x.catchType) (e := e) ht hsz
    simp [findHandler.go, hcv, ex4 ▸ h0, ha, hland, hcell', hne, hks', hkt', hfit, ex3, VmOp.dirties, VmOp.acts]
  refine Steps.head (hA.throwing a).1 (hA.throwing a).2 ?_
  have hstep : (stepThrowing e ((T.setTop g).pushFrame (.throwing a)) a (.java g :: T.frames.tail)).Is ((((T.setTop g).pushFrame (.throwing a)).setVm (T.vm.noted g.method.cls index (.cls cT))).setFrames (.java { g with pc := hp, stack := [.ref a] } :: T.frames.tail)) [] := by
    simp only [stepThrowing, searchFrame, vmDo]
    generalize hr : Sem.go _ e false [] _ = res
    obtain ⟨as, rfl, ha⟩ := Sem.eq_ok_of hr (a := Handler.found hp) (s' := ((T.setTop g).pushFrame (.throwing a)).setVm (T.vm.noted g.method.cls index (.cls cT))) (acts' := []) (by simp [hfind _ hvm hheap])
    exact ⟨rfl, ha⟩
  rw [stepThread_throwing (frames_entered hA.top _), hstep.1]
  obtain ⟨g₀, hg0⟩ := Option.isSome_iff_exists.mp hA.top
  obtain ⟨r, hr⟩ := State.topJava?_eq_some.mp hg0
  have hr2 : (T.setVm (T.vm.noted g.method.cls index (.cls cT))).frames = .java g₀ :: r := hr
  rw [State.setTop_of_frames _ hr2] at hrest
  rw [State.pushFrame, State.setTop_of_frames _ hr, State.setFrames_setFrames, hr]
  have hcomm : ∀ (Z : State) (fs : List Frame) (v : Vm), (Z.setFrames fs).setVm v = (Z.setVm v).setFrames fs := fun _ _ _ => rfl
  rw [hcomm, State.setFrames_setFrames]
  exact hrest
end ZCA
