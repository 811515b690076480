/-! ===== rows for the two constructors ===== -/
set_option maxRecDepth 100000
def zo_in5 (comp : ClassId) : Cell := { cls := comp, slots := Array.replicate 5 (.int 0), vm := .none }
/-- the states of a 5 x 5 array's making -/
def zo_ms (T : State) (cA comp : ClassId) : Nat → State
  | 0 => T.pushCell { cls := cA, slots := Array.replicate 5 .null, vm := .none }
  | i + 1 => ((zo_ms T cA comp i).pushCell (zo_in5 comp)).setCell T.heap.size (((zo_ms T cA comp i).heap[T.heap.size]?.getD (zo_in5 comp)).setSlot i (.ref (zo_ms T cA comp i).heap.size))
/-- the worlds of it -/
def zo_mo (Ω : zo_O) : Nat → zo_O
  | 0 => nw Ω 37 5
  | i + 1 => sR (nw (zo_mo Ω i) 36 5) 37 (gC Ω 37) i (some (36, gC (zo_mo Ω i) 36))
theorem nw_Lne {Ω : zo_O} {k len k' n : Nat} (h : k' ≠ k) : gL (nw Ω k len) k' n = gL Ω k' n := by
  have he : ¬ (k' = k ∧ n = gC Ω k) := fun q => h q.1
  exact if_neg he
theorem zo_mo_le (Ω : zo_O) : ∀ i, zo_le Ω (zo_mo Ω i)
  | 0 => zo_le.nw
  | i + 1 => (zo_mo_le Ω i).tr (zo_le.tr zo_le.nw zo_leR)
theorem zo_mo_37 (Ω : zo_O) : ∀ i, gC (zo_mo Ω i) 37 = gC Ω 37 + 1 ∧ gL (zo_mo Ω i) 37 (gC Ω 37) = 5
  | 0 => ⟨rfl, if_pos ⟨rfl, rfl⟩⟩
  | i + 1 => by
    obtain ⟨a, b⟩ := zo_mo_37 Ω i
    exact ⟨a, (nw_Lne (Ω := zo_mo Ω i) (k := 36) (len := 5) (by decide)).trans b⟩
section
variable {p : Program} {l : Launch} {e : Env} {R : Room} {s : State} {m : MethodId} {args : Array Value} {below : List Frame} {meth : Method} {c : Code} {T : State} {locs : List Loc} {x y : Nat} {G : zo_G} {ρ : Nat → Nat → Nat} {Ω : zo_O}
theorem zo_mI (X : Stand p l e R s m args below meth c T locs x y) (hR : zo_Rep G ρ Ω T.heap) (hA : ∀ n z, s.isArrayOf (arrV (G.2.2.1 37) n z) (.array .int)) (hq : ∀ q ∈ locs, G.2.2.2.1.size ≤ q.base) :
    ∀ i, i ≤ 5 → ∃ locs' ρ', Stand p l e R s m args below meth c (zo_ms T (G.2.2.1 37) (G.2.2.1 36) i) locs' (x + 1 + i) (y + 5 + 5 * i) ∧ (∀ q ∈ locs', G.2.2.2.1.size ≤ q.base) ∧
      zo_Rep G ρ' (zo_mo Ω i) (zo_ms T (G.2.2.1 37) (G.2.2.1 36) i).heap ∧ zo_ext Ω ρ ρ' ∧ ρ' 37 (gC Ω 37) = T.heap.size ∧ (zo_ms T (G.2.2.1 37) (G.2.2.1 36) i).vm = T.vm ∧ (zo_ms T (G.2.2.1 37) (G.2.2.1 36) i).heap.size = T.heap.size + 1 + i ∧ (zo_ms T (G.2.2.1 37) (G.2.2.1 36) i).slotsUsed = T.slotsUsed + 5 + 5 * i
  | 0, _ => by
    have h := X.pushed { cls := G.2.2.1 37, slots := Array.replicate 5 .null, vm := .none }
    have hz : (zo_ms T (G.2.2.1 37) (G.2.2.1 36) 0).heap.size = T.heap.size + 1 := by simp [zo_ms]
    obtain ⟨hR', hE'⟩ := hR.new (k := 37) (len := 5) (by decide) hz (fun q hq => State.heap_pushCell_of_lt _ _ hq) (by
      unfold zo_cell
      rw [if_neg (by decide)]
      have hρ : zo_rn ρ 37 (gC Ω 37) T.heap.size 37 (gC Ω 37) = T.heap.size := if_pos ⟨rfl, rfl⟩
      rw [hρ]
      unfold zo_ln
      rw [if_neg (by decide), show gL (nw Ω 37 5) 37 (gC Ω 37) = 5 from if_pos ⟨rfl, rfl⟩]
      refine (State.heap_pushCell_size _ _).trans ?_
      congr 1
      unfold arrV
      congr 1
      apply Array.ext
      · simp
      · intro j h1 h2
        simp only [Array.getElem_ofFn, Array.getElem_replicate]
        unfold zo_av
        rw [if_neg (by decide), if_pos (show (zo_at 37).isReference = true from rfl), show gR (nw Ω 37 5) 37 (gC Ω 37) j = none from if_pos ⟨rfl, rfl⟩]
        rfl)
    refine ⟨locs, _, by simpa [zo_ms] using h, hq, hR', hE', if_pos ⟨rfl, rfl⟩, rfl, by simp [zo_ms], by simp [zo_ms]⟩
  | i + 1, hi => by
    obtain ⟨locs', ρ', X', hq', hR', hE', hρ', hvm', hz', hu'⟩ := zo_mI X hR hA hq i (by omega)
    generalize hU : zo_ms T (G.2.2.1 37) (G.2.2.1 36) i = U at *
    have hn : gC Ω 37 < gC (zo_mo Ω i) 37 := by rw [(zo_mo_37 Ω i).1]; omega
    have hlv : zo_lv (zo_mo Ω i) 37 (gC Ω 37) := by unfold zo_lv; rw [if_neg (by decide)]; exact hn
    obtain ⟨hc, hb⟩ := hR'.cell hlv
    unfold zo_cell at hc
    rw [if_neg (by decide), hρ'] at hc
    unfold zo_ln at hc
    rw [if_neg (by decide), (zo_mo_37 Ω i).2] at hc
    have hlt : T.heap.size < U.heap.size := by omega
    have hc2 : (U.pushCell (zo_in5 (G.2.2.1 36))).heap[T.heap.size]? = some (arrV (G.2.2.1 37) 5 (zo_av ρ' (zo_mo Ω i) 37 (gC Ω 37))) := by rw [State.heap_pushCell_of_lt (h := hlt)]; exact hc
    have X2 := (X'.pushed (zo_in5 (G.2.2.1 36))).stored hc2 i (.ref U.heap.size)
    have eS : zo_ms T (G.2.2.1 37) (G.2.2.1 36) (i + 1) = (U.pushCell (zo_in5 (G.2.2.1 36))).setCell T.heap.size ((arrV (G.2.2.1 37) 5 (zo_av ρ' (zo_mo Ω i) 37 (gC Ω 37))).setSlot i (.ref U.heap.size)) := by
      unfold zo_ms
      rw [hU, hc]
      rfl
    obtain ⟨hR2, hE2⟩ := hR'.new (H' := (U.pushCell (zo_in5 (G.2.2.1 36))).heap) (k := 36) (len := 5) (by decide) (by simp) (fun q hq => State.heap_pushCell_of_lt _ _ hq) (by
      unfold zo_cell
      rw [if_neg (by decide)]
      have hρ : zo_rn ρ' 36 (gC (zo_mo Ω i) 36) U.heap.size 36 (gC (zo_mo Ω i) 36) = U.heap.size := if_pos ⟨rfl, rfl⟩
      rw [hρ]
      unfold zo_ln
      rw [if_neg (by decide), show gL (nw (zo_mo Ω i) 36 5) 36 (gC (zo_mo Ω i) 36) = 5 from if_pos ⟨rfl, rfl⟩]
      refine (State.heap_pushCell_size _ _).trans ?_
      congr 1
      unfold arrV zo_in5
      congr 1
      apply Array.ext
      · simp
      · intro j h1 h2
        simp only [Array.getElem_ofFn, Array.getElem_replicate]
        unfold zo_av
        rw [if_neg (by decide), if_neg (by decide), if_neg (by decide), show gI (nw (zo_mo Ω i) 36 5) 36 (gC (zo_mo Ω i) 36) j = 0 from if_pos ⟨rfl, rfl⟩])
    generalize hρ2 : zo_rn ρ' 36 (gC (zo_mo Ω i) 36) U.heap.size = ρ2 at *
    have hr37 : ρ2 37 (gC Ω 37) = T.heap.size := by rw [← hρ2]; exact (if_neg (fun q => absurd q.1 (by decide))).trans hρ'
    have hr36 : ρ2 36 (gC (zo_mo Ω i) 36) = U.heap.size := by rw [← hρ2]; exact if_pos ⟨rfl, rfl⟩
    have hn2 : gC Ω 37 < gC (nw (zo_mo Ω i) 36 5) 37 := hn
    have hlv2 : zo_lv (nw (zo_mo Ω i) 36 5) 37 (gC Ω 37) := by unfold zo_lv; rw [if_neg (by decide)]; exact hn2
    obtain ⟨hc3, hb3⟩ := hR2.cell hlv2
    have hL5 : gL (nw (zo_mo Ω i) 36 5) 37 (gC Ω 37) = 5 := (nw_Lne (by decide)).trans (zo_mo_37 Ω i).2
    unfold zo_cell at hc3
    rw [if_neg (by decide), hr37] at hc3
    unfold zo_ln at hc3
    rw [if_neg (by decide), hL5, hc2] at hc3
    have hc3 := Option.some.inj hc3
    rw [hc3] at eS
    rw [hc3] at X2
    have hcell : zo_cell G ρ2 (zo_mo Ω (i + 1)) 37 (gC Ω 37) (zo_ms T (G.2.2.1 37) (G.2.2.1 36) (i + 1)).heap := by
      refine zo_cellA (Ω := nw (zo_mo Ω i) 36 5) (N := 5) (j := i) (v := .ref U.heap.size) (by decide) (by decide) hL5 ?_ (fun j => ?_)
      · rw [hr37, eS]
        have hsz : (U.pushCell (zo_in5 (G.2.2.1 36))).heap.size = U.heap.size + 1 := by simp
        exact heapAt_setCell_self _ (by rw [hsz]; exact Nat.lt_succ_of_lt hlt)
      · rw [zo_avR (k := 37) (by decide) rfl]
        unfold updV
        by_cases ej : j = i
        · subst ej
          rw [if_pos rfl]
          show _ = zo_mp ρ2 (u3 _ 37 (gC Ω 37) j _ 37 (gC Ω 37) j)
          unfold u3
          rw [if_pos ⟨rfl, rfl, rfl⟩]
          show _ = Value.ref (ρ2 36 (gC (zo_mo Ω j) 36))
          rw [hr36]
        · rw [if_neg ej, zo_avR (k := 37) (by decide) rfl]
          show _ = zo_mp ρ2 (u3 _ 37 (gC Ω 37) i _ 37 (gC Ω 37) j)
          rw [u3_nf ej]
          rfl
    have hR3 : zo_Rep G ρ2 (zo_mo Ω (i + 1)) (zo_ms T (G.2.2.1 37) (G.2.2.1 36) (i + 1)).heap := by
      refine hR2.put hlv2 (by decide) ?_ ?_ hcell (fun _ => rfl) (fun _ => rfl) (fun _ _ => rfl) (fun _ _ _ _ => rfl) (fun k' n' i h => u3_ne h) (fun _ _ _ _ => rfl) (fun f t ht => ?_)
      · rw [eS]; exact size_setCell _ _ _
      · intro q hq
        rw [eS]
        rw [hr37] at hq
        exact heapAt_setCell_ne _ (Ne.symm hq)
      · have ht : u3 (nw (zo_mo Ω i) 36 5).2.1 37 (gC Ω 37) i (some (36, gC (zo_mo Ω i) 36)) 37 (gC Ω 37) f = some t := ht
        by_cases ef : f = i
        · subst ef
          unfold u3 at ht
          rw [if_pos ⟨rfl, rfl, rfl⟩] at ht
          cases ht
          exact Or.inr (Or.inr ⟨(show (36 : Nat) ≠ 40 by decide), by show gC (zo_mo Ω f) 36 < if 36 = 36 then gC (zo_mo Ω f) 36 + 1 else gC (zo_mo Ω f) 36; rw [if_pos rfl]; omega⟩)
        · rw [u3_nf ef] at ht
          exact hR2.2.2.2.2.1 37 _ f t hn2 ht
    refine ⟨_, ρ2, by rw [eS]; exact X2, zo_lsz hq' ?_, hR3, ?_, hr37, ?_, ?_, ?_⟩
    · have := hR.1; omega
    · exact hE'.tr (zo_mo_le Ω i) hE2
    · rw [eS]; exact hvm'
    · rw [eS, size_setCell]; simp; omega
    · rw [eS]; simp [zo_in5]; omega
theorem zo_wpI {E : CtlPost} {d : Bool} {acts : List Action} {S : State} {cc comp : ClassId} {kc : Class} (hkc : S.vm.classes[comp]? = some kc) (hkindc : kc.kind = .array cc .int) (hl : ¬ 5 > e.platform.arrayLengthLimit) (hh : ¬ 5 * componentBytes .int > e.platform.maxHeapBytes) (h1 : S.heap.size < e.platform.maxCells) (h2 : S.slotsUsed + 5 ≤ e.platform.maxSlots)
    {Q : Addr → Pre} (hq : ∀ acts', Q S.heap.size d acts' (S.pushCell (zo_in5 comp))) : wp (multianewarray.make comp [5]) Q E e d acts S := by
  rw [multianewarray.make]
  simp only [wp_bind', W.ite, show ¬ ((5 : Int32) < 0) from by decide, if_false, wp_pure', W.theClass, hkc, hkindc, Option.some.injEq, exists_eq_left']
  exact W.newArray_of hkc hkindc hl hh h1 h2 rfl hq
theorem zo_wpM {E : CtlPost} {d : Bool} {acts : List Action} {g : JFrame} {cc cA comp : ClassId} {kA kc : Class} (hkA : T.vm.classes[cA]? = some kA) (hkindA : kA.kind = .array comp (.array .int)) (hkc : T.vm.classes[comp]? = some kc) (hkindc : kc.kind = .array cc .int) (hl : ¬ 5 > e.platform.arrayLengthLimit) (hh : 5 * 4 ≤ e.platform.maxHeapBytes) (h1 : T.heap.size + 6 ≤ e.platform.maxCells) (h2 : T.slotsUsed + 30 ≤ e.platform.maxSlots)
    (hI : ∀ i, i ≤ 5 → (zo_ms T cA comp i).vm = T.vm ∧ (zo_ms T cA comp i).heap.size = T.heap.size + 1 + i ∧ (zo_ms T cA comp i).slotsUsed = T.slotsUsed + 5 + 5 * i ∧ ∃ co, (zo_ms T cA comp i).heap[T.heap.size]? = some co ∧ co.cls = cA ∧ co.vm = .none ∧ co.slots.size = 5)
    {Q : Addr → Pre} (hq : ∀ d' acts', Q T.heap.size d' acts' ((zo_ms T cA comp 5).setTop g)) : wp (multianewarray.make cA [5, 5]) Q E e d acts (T.setTop g) := by
  rw [multianewarray.make]
  simp only [wp_bind', W.ite, show ¬ ((5 : Int32) < 0) from by decide, if_false, wp_pure', W.theClass, State.vm_setTop, hkA, hkindA, Option.some.injEq, exists_eq_left']
  refine W.newArray_of (s := T.setTop g) hkA hkindA hl (by show ¬ 5 * 4 > _; omega) (by show T.heap.size < _; omega) (by show T.slotsUsed + 5 ≤ _; omega) rfl (fun acts' => ?_)
  have hfind : (([5] : List Int32).find? (· < 0)) = none := by decide
  simp only [hfind]
  rw [ite_self, wp_bind', Std.Legacy.Range.forIn_eq_forIn_range']
  show wp (forIn (List.range' 0 5 1) PUnit.unit _) _ E e d acts' ((zo_ms T cA comp 0).setTop g)
  refine wp_forIn_inv (fun rest s' => ∃ i, i ≤ 5 ∧ rest = List.range' i (5 - i) ∧ s' = (zo_ms T cA comp i).setTop g) _ _ ⟨0, by omega, rfl, rfl⟩ ?_ ?_
  · rintro z rest s' d' acts'' Q' ⟨i, hi, hl', rfl⟩ hnext
    have hlt : i < 5 := by
      rcases Nat.lt_or_ge i 5 with h | h
      · exact h
      · rw [show 5 - i = 0 from by omega] at hl'; cases hl'
    have e5 : 5 - i = (5 - (i + 1)) + 1 := by omega
    rw [e5, List.range'_succ] at hl'
    obtain ⟨rfl, rfl⟩ := List.cons.inj hl'
    obtain ⟨i1, i2, i3, co, i4, i5, i6, i7⟩ := hI z hi
    simp only [wp_bind']
    refine zo_wpI (S := (zo_ms T cA comp z).setTop g) (by rw [State.vm_setTop, i1]; exact hkc) hkindc hl (by show ¬ 5 * 4 > _; omega) (by show (zo_ms T cA comp z).heap.size < _; omega) (by show (zo_ms T cA comp z).slotsUsed + 5 ≤ _; omega) (fun acts3 => ?_)
    simp only [wp_bind', W.writeLoc, wp_pure']
    have hlt0 : T.heap.size < (zo_ms T cA comp z).heap.size := by omega
    refine ⟨co, ?_, by rw [i6]; simp, by rw [i7]; exact hlt, ?_, hnext _ _ _ ⟨z + 1, hlt, rfl, ?_⟩⟩
    · show ((zo_ms T cA comp z).pushCell (zo_in5 comp)).heap[T.heap.size]? = some co
      rw [State.heap_pushCell_of_lt (h := hlt0)]; exact i4
    · rw [i5, i6]
      simp [State.fitsSlot, State.slotType?, i1, hkA, hkindA]
      rfl
    · show _ = ((((zo_ms T cA comp z).pushCell (zo_in5 comp)).setCell T.heap.size (((zo_ms T cA comp z).heap[T.heap.size]?.getD (zo_in5 comp)).setSlot z (.ref (zo_ms T cA comp z).heap.size)))).setTop g
      rw [i4]
      rfl
  · rintro s' d' acts'' ⟨i, hi, hl', rfl⟩
    have hi5 : i = 5 := by
      rcases Nat.lt_or_ge i 5 with h | h
      · rw [show 5 - i = (5 - (i + 1)) + 1 from by omega, List.range'_succ] at hl'; cases hl'
      · omega
    subst hi5
    simp only [wp_pure']
    exact hq _ _
end
section TWK
variable {Y : zo_Y} {res : zo_R} {Ω : zo_O} {pc : Nat} {ls : List (Nat × zo_V)} {st : List zo_V} {cc : ByteArray} {nL : Nat} {own : String} {d : Nat} {FO : zo_O → Option zo_R}
theorem zo_vkN {Ω : zo_O} {k len : Nat} (h : k ≠ 40) : zo_vk (nw Ω k len) (vr k (gC Ω k)) := Or.inr (Or.inr ⟨h, by show gC Ω k < if k = k then gC Ω k + 1 else gC Ω k; rw [if_pos rfl]; omega⟩)
/-- anewarray, of curves or spans -/
theorem zo_anew (hY : zo_Gd Y cc nL own d) (hJ0 : ∀ Ω, zo_J Y Ω) {k K idx : Nat} {a : Int32} (h32 : 32 ≤ k ∧ k < 44) (h40 : k ≠ 40) (hty : zo_at k = .object (zo_cl K).1) (hl : Cond.classLink own idx (zo_cl K).1 ∈ lw_all) (ho : Cond.arrayOver (.object (zo_cl K).1) ∈ lw_tbl) (hd : decode cc pc = .ok (.anewarray idx, 3)) (h : gd (¬ a < 0 ∧ a.toNatClampNeg ≤ 65536) (ad 1 a.toNatClampNeg (lt (nw Ω k a.toNatClampNeg) FO)) = some res) (kk : ∀ Ω' res', FO Ω' = some res' → TW Y res' Ω' (pc + 3) ls (vr k (gC Ω k) :: st)) : TW Y res Ω pc ls (vi a :: st) := by
  obtain ⟨⟨h0, hbig⟩, h⟩ := gd_e h
  obtain ⟨res', h', rfl⟩ := ad_e h
  have kk := kk _ res' h'
  clear h h'
  have hJ2 := hJ0 (nw Ω k a.toNatClampNeg)
  obtain ⟨p, l, e, R, s, m, args, below, meth, c, G, J, ρ0, Ω0, nL0, Q⟩ := Y
  obtain ⟨hx, hb, hml, rfl, hown, hts, hlk, hK, hfr, hlo⟩ := hY
  intro ρ H locs LS x y hR hJ hE hL hq hv hvl hvs h1 h2
  have h1 : x + (res'.2.2.1 + 1) = R.cells := h1
  have h2 : y + (res'.2.2.2 + a.toNatClampNeg) = R.slots := h2
  have hAO : va_AO (zo_cl K).1 s := va_AO.moved (zl_warm hK).alike (va_AO.of (zl_start hK ho))
  refine W.anew hx hb hown (hts _ hl) (va_AO.use hAO) rfl hd rfl h0 (by omega) (by omega) (by omega) fun cA kA comp f1 f2 f3 f4 => ?_
  have hRA := (hK.2.1 k h32.1 h32.2).2
  rw [hty] at hRA
  obtain ⟨kA', comp', g1, g2, g3, g4⟩ := hRA
  have hcA : cA = G.2.2.1 k := Option.some.inj (f1.symm.trans g4)
  subst hcA
  generalize hN : a.toNatClampNeg = N at *
  obtain ⟨hR', hE'⟩ := hR.new (H' := H.push { cls := G.2.2.1 k, slots := Array.replicate N .null, vm := .none }) (k := k) (len := N) (by omega) (by simp) (fun q hq => by rw [Array.getElem?_push, if_neg (by omega)]) (by
    unfold zo_cell
    rw [if_neg (by omega)]
    have hρ : zo_rn ρ k (gC Ω k) H.size k (gC Ω k) = H.size := if_pos ⟨rfl, rfl⟩
    rw [hρ]
    unfold zo_ln
    rw [if_neg h40, show gL (nw Ω k N) k (gC Ω k) = N from if_pos ⟨rfl, rfl⟩, Array.getElem?_push, if_pos rfl]
    congr 1
    unfold arrV
    congr 1
    apply Array.ext
    · simp
    · intro j h1 h2
      simp only [Array.getElem_ofFn, Array.getElem_replicate]
      rw [zo_avR h40 (by rw [hty]; rfl), show gR (nw Ω k N) k (gC Ω k) j = none from if_pos ⟨rfl, rfl⟩]
      rfl)
  have hst := zo_st.ext hE' hvs.2
  have hls := zo_cs.ext hE' hvl
  have kk := kk (zo_rn ρ k (gC Ω k) H.size) _ locs LS (x + 1) (y + N) hR' hJ2 (hE.tr hL hE') (hL.tr zo_le.nw) hq (by rw [hls]; exact hv) (hvl.le zo_le.nw) ⟨zo_vkN h40, zo_vs.le zo_le.nw hvs.2⟩ (by omega) (by omega)
  have hρ : zo_c (zo_rn ρ k (gC Ω k) H.size) (vr k (gC Ω k)) = .ref H.size := by
    show Value.ref (zo_rn ρ k (gC Ω k) H.size k (gC Ω k)) = _
    rw [show zo_rn ρ k (gC Ω k) H.size k (gC Ω k) = H.size from if_pos ⟨rfl, rfl⟩]
  rw [List.map_cons, hρ, hst] at kk
  exact kk
/-- multianewarray of 5 x 5 ints -/
theorem zo_multi (hY : zo_Gd Y cc nL own d) (hJ0 : ∀ Ω, zo_J Y Ω) {idx : Nat} (hl : Cond.classLink own idx "[[I" ∈ lw_all) (hd : decode cc pc = .ok (.multianewarray idx 2, 4)) (h : ad 6 30 (lt (zo_mo Ω 5) FO) = some res) (kk : ∀ Ω' res', FO Ω' = some res' → TW Y res' Ω' (pc + 4) ls (vr 37 (gC Ω 37) :: st)) : TW Y res Ω pc ls (vi 5 :: vi 5 :: st) := by
  obtain ⟨res', h', rfl⟩ := ad_e h
  have kk := kk _ res' h'
  clear h h'
  have hJ2 := hJ0 (zo_mo Ω 5)
  obtain ⟨p, l, e, R, s, m, args, below, meth, c, G, J, ρ0, Ω0, nL0, Q⟩ := Y
  obtain ⟨hx, hb, hml, rfl, hown, hts, hlk, hK, hfr, hlo⟩ := hY
  intro ρ H locs LS x y hR hJ hE hL hq hv hvl hvs h1 h2
  have h1 : x + (res'.2.2.1 + 6) = R.cells := h1
  have h2 : y + (res'.2.2.2 + 30) = R.slots := h2
  intro T hT X
  subst hT; subst hb
  have hA := (hK.2.1 37 (by decide) (by decide)).1
  have hRA37 : s.vm.findClass "[[I" = some (G.2.2.1 37) := (hK.2.1 37 (by decide) (by decide)).2
  have hRA36 : s.vm.findClass "[I" = some (G.2.2.1 36) := (hK.2.1 36 (by decide) (by decide)).2
  obtain ⟨comp, cA, kA, i1, i2, i3, i4, i5⟩ := arrayOverA_spec (zl_start hK q153)
  have hal0 := (zl_warm hK).alike
  have i1 : s.vm.findClass "[I" = some comp := by rw [hal0.findClass]; exact i1
  have i5 : s.vm.findClass "[[I" = some cA := by rw [hal0.findClass]; exact i5
  obtain ⟨kA0, hkA0, heA0⟩ := hal0.2.2 _ _ i3
  have hcA : cA = G.2.2.1 37 := Option.some.inj (i5.symm.trans hRA37)
  have hcomp : comp = G.2.2.1 36 := Option.some.inj (i1.symm.trans hRA36)
  subst hcA; subst hcomp
  obtain ⟨c0, kc0, cc0, j1, j2, j3⟩ := Cond.arrayClass_spec (hts _ q233)
  have hc0 : c0 = G.2.2.1 36 := Option.some.inj ((show s.vm.findClass "[I" = some c0 from j1).symm.trans hRA36)
  subst hc0
  have hpl : e.platform.magicAccessors = ({} : Platform).magicAccessors := by rw [X.admits.platform]
  obtain ⟨c1, hfc1, hcl⟩ := Cond.classLink_spec hown (hts _ hl) e.platform hpl
  cases hRA37.symm.trans hfc1
  obtain ⟨hg₁, hwarm₁, hready₁⟩ := State.classEntry (e := e) X.warmed hcl
  generalize T.vm.noted m.cls idx (.cls (G.2.2.1 37)) = vm₁ at hg₁ hwarm₁ hready₁
  have hal : s.vm.Alike vm₁ := hwarm₁.alike
  obtain ⟨kA₁, hkA₁, heA⟩ := hal.2.2 _ _ hkA0
  obtain ⟨kC₁, hkC₁, heC⟩ := hal.2.2 _ _ j2
  have hkindA₁ : kA₁.kind = .array (G.2.2.1 36) (.array .int) := by rw [heA]; show kA0.kind = _; rw [heA0]; exact i4
  have hkindC₁ : kC₁.kind = .array cc0 .int := by rw [heC]; exact j3
  have X₁ := X.noted hwarm₁
  obtain ⟨hr1, hr2⟩ := X.roomAbove (a := 6) (b := 30) (by omega) (by omega)
  have hI := zo_mI (T := T.setVm vm₁) X₁ hR (fun n z => hA n z) hq
  obtain ⟨locs', ρ', X5, hq5, hR5, hE5, hρ5, -, -, -⟩ := hI 5 (by omega)
  have hst := zo_st.ext hE5 hvs.2.2
  have hls := zo_cs.ext hE5 hvl
  have hle := zo_mo_le Ω 5
  have kk := kk ρ' _ locs' LS (x + 1 + 5) (y + 5 + 5 * 5) hR5 hJ2 (hE.tr hL hE5) (hL.tr hle) hq5 (by rw [hls]; exact hv) (hvl.le hle) ⟨Or.inr (Or.inr ⟨(show (37 : Nat) ≠ 40 by decide), by show gC Ω 37 < gC (zo_mo Ω 5) 37; rw [(zo_mo_37 Ω 5).1]; omega⟩), zo_vs.le hle hvs.2.2⟩ (by omega) (by omega)
  have hρ : zo_c ρ' (vr 37 (gC Ω 37)) = .ref T.heap.size := by
    show Value.ref (ρ' 37 (gC Ω 37)) = _
    rw [hρ5]
    rfl
  rw [List.map_cons, hρ, hst] at kk
  obtain ⟨t', a1, b1⟩ := kk _ rfl X5
  refine ⟨t', ?_, b1⟩
  generalize hg : F0 m pc LS (List.map (zo_c ρ) (vi 5 :: vi 5 :: st)) = g
  have hgm : g.method = m := by rw [← hg]
  have hgs : g.stack = .int 5 :: .int 5 :: st.map (zo_c ρ) := by rw [← hg]; rfl
  have hgd : decode c.code g.pc = .ok (.multianewarray idx 2, 4) := by rw [← hg]; exact hd
  have ha1 : ∀ g', g' = { g with pc := g.pc + 4, stack := .ref T.heap.size :: st.map (zo_c ρ) } → Steps p.tables e below ((zo_ms (T.setVm vm₁) (G.2.2.1 37) (G.2.2.1 36) 5).setTop g') t' := fun g' e' => by
    subst e'; rw [← hg]; exact a1
  rw [← hgm] at hg₁
  clear hg a1 b1 kk hd
  subst hgm
  jvm_step X.here [hx, hgd]
  simp only [multianewarray.sem, wp_bind', W.resolveClassAt_links (State.method?_setTop g X.here.top) hg₁]
  rw [W.popN, if_neg (by decide)]
  refine ⟨g, State.topJava?_setTop' (s := T.setVm vm₁) g X.here.top, [.int 5, .int 5], st.map (zo_c ρ), rfl, hgs, ?_⟩
  simp only [List.mapM_cons, List.mapM_nil, wp_bind', wp_pure']
  have eS : ((T.setTop g).setVm vm₁).setTop { g with stack := st.map (zo_c ρ) } = (T.setVm vm₁).setTop { g with stack := st.map (zo_c ρ) } := by
    show ((T.setVm vm₁).setTop g).setTop _ = _
    rw [State.setTop_setTop]
  rw [eS]
  refine zo_wpM (T := T.setVm vm₁) (kA := kA₁) (kc := kC₁) (cc := cc0) hkA₁ hkindA₁ hkC₁ hkindC₁ (by rw [Launch.admits_arrayLengthLimit X.admits]; omega) (by rw [Launch.admits_maxHeapBytes X.admits]; omega) hr1 hr2 (fun i hi => ?_) (fun d' acts' => ?_)
  · obtain ⟨locs', ρ', Xi, -, hRi, hEi, hρi, z1, z2, z3⟩ := hI i hi
    refine ⟨z1, z2, z3, ?_⟩
    obtain ⟨hc, -⟩ := hRi.cell (k := 37) (n := gC Ω 37) (by unfold zo_lv; rw [if_neg (by decide), (zo_mo_37 Ω i).1]; omega)
    unfold zo_cell at hc
    rw [if_neg (by decide), hρi] at hc
    unfold zo_ln at hc
    rw [if_neg (by decide), (zo_mo_37 Ω i).2] at hc
    exact ⟨_, hc, rfl, rfl, by simp [arrV]⟩
  simp only [wp_bind', W.mark, W.pushRef, State.topJava?_setTop' _ X5.here.top, Option.some.injEq, exists_eq_left', State.setTop_setTop, State.heap_setTop]
  intro acts
  simp [jvm, X5.here.top]
  exact ha1 _ rfl
end TWK
