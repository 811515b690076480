/-! ===== rows for the law ===== -/
set_option maxRecDepth 100000
def zo_lf : zo_Y → Prop
  | (_, l, _, _, _, _, _, _, _, _, _, _, _, _, _, _) => zo_LF l
/-- the law's own end -/
def zo_rtL : zo_Y → Prop
  | (_, l, _, R, s, _, args, below, meth, c, G, _, _, _, _, Q) => zo_LF l ∧ R = room_1 ∧ (∃ b, args = #[Value.ref b]) ∧ s.heap.size ≤ G.2.2.2.1.size ∧ meth.sig.returnType = ret ∧ c.code = code ∧ Q = fun o _ t => o = some (vi 1) → lw_Z below args s t
theorem zo_rtL.lf {Y : zo_Y} (h : zo_rtL Y) : zo_lf Y := by
  obtain ⟨p, l, e, R, s, m, args, below, meth, c, G, J, ρ0, Ω0, nL0, Q⟩ := Y
  exact h.1
section TWL
variable {Y : zo_Y} {res : zo_R} {Ω : zo_O} {pc : Nat} {ls : List (Nat × zo_V)} {st : List zo_V} {cc : ByteArray} {nL : Nat} {own : String} {d : Nat} {A X : Option zo_R} {F : Option zo_V → zo_O → Option zo_R} {FN : Nat → Option zo_R}
/-- a call through an object, of a method with handlers -/
theorem zo_callVW (hY : zo_Gd Y cc nL own d) (hLF : zo_lf Y) {idx n k j : Nat} {y : MethodName} {cc' : ByteArray} {nL' d' : Nat} {ret' : Option FieldType} {hh : List (Nat × Nat × Nat × Nat)} {as : List zo_V} (hM : ∀ q, X = some q → zo_MW (zo_Gof Y) (zo_J Y) y cc' nL' ret' hh d' (vr k j :: as) Ω q) (hd' : d' + 1 ≤ d) (hnL : nL' ≤ 45) (hk : k < 21) (hC : y.cls = (zo_cl k).1 ∧ zo_Cn y n) (hn : as.length = n) (hlink : Cond.methodLink own idx y ∈ lw_all) (hin : Cond.instanceMethod y ∈ lw_all) (hsel : Cond.selects (zo_cl k).1 y y ∈ lw_all) (hini : Cond.initialized (zo_cl k).1 ∈ lw_all) (hcode : Cond.codeWith y cc' nL' ret' hh ∈ lw_all) (h8 : st.length ≤ 4) (hd : decode cc pc = .ok (.invokevirtual idx, 3)) {st1 : List zo_V} (hs : as.reverse ++ vr k j :: st = st1) (h : cl X F = some res) (kk : ∀ q r', X = some q → F q.1 q.2.1 = some r' → TW Y r' q.2.1 (pc + 3) ls (q.1.toList ++ st)) : TW Y res Ω pc ls st1 := by
  obtain ⟨q, r', hX, hF, rfl⟩ := cl_e h
  have kk := kk q r' hX hF
  have hM := hM q hX
  subst hs
  obtain ⟨p, l, e, R, s, m, args, below, meth, c, G, J, ρ0, Ω0, nL0, Q⟩ := Y
  obtain ⟨hx, hb, hml, rfl, hown, hts, hlk, hK, hfr, hlo⟩ := hY
  intro ρ H locs LS x y' hR hJ hE hL hq hv hvl hvs h1 h2
  have h1 : x + (r'.2.2.1 + q.2.2.1) = R.cells := h1
  have h2 : y' + (r'.2.2.2 + q.2.2.2) = R.slots := h2
  obtain ⟨hva, hvo, hvr⟩ := zo_vs_app hvs
  obtain ⟨cellB, hcB, hoB, hclB⟩ := zo_recv hK hR hk hvo
  have h8' := zo_room8 (ρ := ρ) h8
  have hws := pay_in hts (lw_methW hcode)
  have hini2 : (Cond.initialized y.cls).before args s = true := by rw [hC.1]; exact hts _ hini
  have hK2 : Back l R p e below s args y 3 8 (PreOf R q.2.2.1 q.2.2.2 (zo_Pc G J ρ (vr k j :: as) Ω)) (PostOf (zo_Qc G J ρ Ω q.1 q.2.1) q.2.2.1 q.2.2.2 (fun z => G.2.2.2.1.size ≤ z)) :=
    va_backW (bytes := cc') (maxL := nL') (ret := ret') (hh := hh) (hM l ρ hLF) zo_blind rfl rfl (by show d' + 1 ≤ R.frames; omega) (by show 8 + (nL' + 11) + 64 * d' ≤ R.locals; omega) hws List.mem_cons_self (fun a' U hW => word_at hW (Or.inl (by first | rfl | simp [Cond.onTables, Cond.keeps, Cond.steady])) hini2)
  refine zo_after (q := q) (r' := r') (a := (zo_c ρ (vr k j) :: as.map (zo_c ρ)).toArray) (fun T hT X => ?_) hE hL hq hv hvl hvr h1 h2 kk
  obtain ⟨v, vm₁, ⟨U', l2, c2, s2⟩, hW₁, X', ⟨g', mk, t, L, e1, e2, hqq, g1, hL', g2, g3⟩, st1⟩ := zo_callVw X hx (C := (zo_cl k).1) (bytes := cc') (maxL := nL') (ret := ret') (hh := hh) hown (hts _ hlink) (hts _ hin) (hts _ hsel) (hts _ hcode) ⟨hC.2.1, hC.2.2.1⟩ hK2 (b := ρ k j) (by rw [hT]; exact hcB) hoB hclB (g := F0 m pc LS (((as.reverse ++ vr k j :: st).map (zo_c ρ)))) rfl (hv.1.trans hml.symm) (argsL := as.map (zo_c ρ)) (rest := st.map (zo_c ρ)) (fun sig h => by
      have h3 := hC.2.2.2
      rw [h] at h3
      rw [List.length_map, hn]
      exact (Option.some.inj h3).symm) (by show _ = _; rw [List.map_append, List.map_reverse]; rfl) (by show 2 * 0 + _ ≤ 8; omega) (by rw [hb]; exact hd)
    (fun vm₁ hW₁ => ⟨by show x + q.2.2.1 ≤ _; omega, by show y' + q.2.2.2 ≤ _; omega, rfl, by show zo_Rep G ρ Ω T.heap; rw [hT]; exact hR, hJ, hK.moved hW₁, hvo, hva⟩)
  dsimp only [Pt.U, Pt.locs, Pt.cells, Pt.slots] at X' e1 e2 g1 g2 g3 st1
  subst g1; subst g2; subst g3
  exact ⟨v, (T.setVm vm₁).calling g' mk _, t, U', L, hT, X', hL', e1, e2, hqq, st1⟩
/-- a static call, of a method with handlers -/
theorem zo_callSW (hY : zo_Gd Y cc nL own d) (hLF : zo_lf Y) {idx n : Nat} {y : MethodName} {cc' : ByteArray} {nL' d' : Nat} {ret' : Option FieldType} {hh : List (Nat × Nat × Nat × Nat)} {as : List zo_V} (hM : ∀ q, X = some q → zo_MW (zo_Gof Y) (zo_J Y) y cc' nL' ret' hh d' as Ω q) (hd' : d' + 1 ≤ d) (hnL : nL' ≤ 45) (hC : zo_Cn y n) (hn : as.length = n) (hlink : Cond.methodLink own idx y ∈ lw_all) (hst : Cond.static y ∈ lw_all) (hini : Cond.initialized y.cls ∈ lw_all) (hcode : Cond.codeWith y cc' nL' ret' hh ∈ lw_all) (h8 : st.length ≤ 4) (hd : decode cc pc = .ok (.invokestatic idx, 3)) {st1 : List zo_V} (hs : as.reverse ++ st = st1) (h : cl X F = some res) (kk : ∀ q r', X = some q → F q.1 q.2.1 = some r' → TW Y r' q.2.1 (pc + 3) ls (q.1.toList ++ st)) : TW Y res Ω pc ls st1 := by
  obtain ⟨q, r', hX, hF, rfl⟩ := cl_e h
  have kk := kk q r' hX hF
  have hM := hM q hX
  subst hs
  obtain ⟨p, l, e, R, s, m, args, below, meth, c, G, J, ρ0, Ω0, nL0, Q⟩ := Y
  obtain ⟨hx, hb, hml, rfl, hown, hts, hlk, hK, hfr, hlo⟩ := hY
  intro ρ H locs LS x y' hR hJ hE hL hq hv hvl hvs h1 h2
  have h1 : x + (r'.2.2.1 + q.2.2.1) = R.cells := h1
  have h2 : y' + (r'.2.2.2 + q.2.2.2) = R.slots := h2
  have hva : zo_vs Ω as ∧ zo_vs Ω st := zo_vs_app hvs
  have h8' := zo_room8 (ρ := ρ) h8
  have hws := pay_in hts (lw_methW hcode)
  have hini2 : (Cond.initialized y.cls).before args s = true := hts _ hini
  have hK2 : Back l R p e below s args y 3 8 (PreOf R q.2.2.1 q.2.2.2 (zo_Pc G J ρ as Ω)) (PostOf (zo_Qc G J ρ Ω q.1 q.2.1) q.2.2.1 q.2.2.2 (fun z => G.2.2.2.1.size ≤ z)) :=
    va_backW (bytes := cc') (maxL := nL') (ret := ret') (hh := hh) (hM l ρ hLF) zo_blind rfl rfl (by show d' + 1 ≤ R.frames; omega) (by show 8 + (nL' + 11) + 64 * d' ≤ R.locals; omega) hws List.mem_cons_self (fun a' U hW => word_at hW (Or.inl (by first | rfl | simp [Cond.onTables, Cond.keeps, Cond.steady])) hini2)
  refine zo_after (q := q) (r' := r') (a := (as.map (zo_c ρ)).toArray) (fun T hT X => ?_) hE hL hq hv hvl hva.2 h1 h2 kk
  obtain ⟨v, vm₁, ⟨U', l2, c2, s2⟩, hW₁, X', ⟨g', mk, t, L, e1, e2, hqq, g1, hL', g2, g3⟩, st1⟩ := zo_callSw X hx (bytes := cc') (maxL := nL') (ret := ret') (hh := hh) hown (hts _ hlink) (hts _ hst) hini2 (hts _ hcode) ⟨hC.1, hC.2.1⟩ hK2 (g := F0 m pc LS (((as.reverse ++ st).map (zo_c ρ)))) rfl (hv.1.trans hml.symm) (argsL := as.map (zo_c ρ)) (rest := st.map (zo_c ρ)) (fun sig h => by
      have h3 := hC.2.2
      rw [h] at h3
      rw [List.length_map, hn]
      exact (Option.some.inj h3).symm) (by show _ = _; rw [List.map_append, List.map_reverse]) (by show 2 * 0 + _ ≤ 8; omega) (by rw [hb]; exact hd)
    (fun vm₁ hW₁ => ⟨by show x + q.2.2.1 ≤ _; omega, by show y' + q.2.2.2 ≤ _; omega, rfl, by show zo_Rep G ρ Ω T.heap; rw [hT]; exact hR, hJ, hK.moved hW₁, hva.1⟩)
  dsimp only [Pt.U, Pt.locs, Pt.cells, Pt.slots] at X' e1 e2 g1 g2 g3 st1
  subst g1; subst g2; subst g3
  exact ⟨v, (T.setVm vm₁).calling g' mk _, t, U', L, hT, X', hL', e1, e2, hqq, st1⟩
/-- the script's length and ints, by name -/
def zo_scr (Y : zo_Y) (L : Nat) (xs : Nat → Int32) : Prop := (zo_Gof Y).2.2.2.2.2.2.2.2.1 = L ∧ (zo_Gof Y).2.2.2.2.2.2.2.2.2 = xs
theorem zo_sclL (hY : zo_Gd Y cc nL own d) {L : Nat} {xs : Nat → Int32} (hS : zo_scr Y L xs) (hd : decode cc pc = .ok (.arraylength, 1)) (k : TW Y res Ω (pc + 1) ls (vi (nI L) :: st)) : TW Y res Ω pc ls (vr 22 0 :: st) := zo_scl hY hd (by rw [hS.1]; exact k)
theorem zo_scdL (hY : zo_Gd Y cc nL own d) {L : Nat} {xs : Nat → Int32} (hS : zo_scr Y L xs) {i : Int32} (hd : decode cc pc = .ok (.iaload, 1)) (h : ix i L FN = some res) (k : ∀ z, FN z = some res → TW Y res Ω (pc + 1) ls (vi (xs z) :: st)) : TW Y res Ω pc ls (vi i :: vr 22 0 :: st) := zo_scd hY hS.1.symm hd h (fun z hz => by rw [hS.2]; exact k z hz)
theorem zo_lret (hY : zo_Gd Y cL_law nL own d) (hr : zo_rtL Y) {v : Int32} (hd : decode cL_law pc = .ok (.ireturn, 1)) (h : rI v Ω = some res) : TW Y res Ω pc ls [vi v] := by
  cases h
  obtain ⟨p, l, e, R, s, m, args, below, meth, c, G, J, ρ0, Ω0, nL0, Q⟩ := Y
  obtain ⟨hx, hb, hml, rfl, hown, hts, hlk, hK, hfr, hlo⟩ := hY
  obtain ⟨hLF, rfl, ⟨b, rfl⟩, hsz, hrt, hcd, rfl⟩ := hr
  intro ρ H locs LS x y hR hJ hE hL hq hv hvl hvs h1 h2
  have h1 : x + 0 = 1151135 := h1
  have h2 : y + 0 = 5642700 := h2
  by_cases hv1 : v = 1
  · subst hv1
    have e1 : x = 1151135 := h1
    have e2 : y = 5642700 := h2
    subst e1; subst e2
    refine va_forget (fun q hqq => Nat.le_trans hsz (hq q hqq)) ?_
    intro T hT X
    obtain ⟨t, a1, b1⟩ := lw_ret hx hcd hrt hlk hd T hT X
    exact ⟨t, a1, fun _ => b1⟩
  · intro T hT X
    exact ⟨_, Steps.refl _, fun q => absurd (Sum.inl.inj (Option.some.inj q)) hv1⟩
/-- once X and M stand -/
theorem zo_toCon {p : Program} {l : Launch} {e : Env} {R : Room} {s : State} {m : MethodId} {args : Array Value} {below : List Frame} {meth : Method} {c : Code} {G : zo_G} {J J' : zo_O → Prop} {ρ0 : Nat → Nat → Nat} {Ω0 : zo_O} {nL0 : Nat} {Q : Option zo_V → zo_O → State → Prop} (hC : J' Ω) (k : TW (p, l, e, R, s, m, args, below, meth, c, G, J', ρ0, Ω0, nL0, Q) res Ω pc ls st) : TW (p, l, e, R, s, m, args, below, meth, c, G, J, ρ0, Ω0, nL0, Q) res Ω pc ls st := fun ρ H locs LS x y hR _ hE hL hq hv hvl hvs h1 h2 => k ρ H locs LS x y hR hC hE hL hq hv hvl hvs h1 h2
end TWL
