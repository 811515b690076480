/-! ===== rows: calls that throw, inherited calls, Use and Skip ===== -/
set_option maxRecDepth 10000
/-- null, or a reference of a kind -/
def zo_kd (o : Option zo_T) (k : Nat) : Bool := match o with
  | none => true
  | some t => t.1 == k
theorem zo_kd_e {o : Option zo_T} {k : Nat} (h : zo_kd o k = true) : o = none ∨ ∃ q, o = some (k, q) := by
  rcases o with _ | ⟨k', n⟩
  · exact Or.inl rfl
  · have : k' = k := by simpa [zo_kd] using h
    subst this
    exact Or.inr ⟨n, rfl⟩
/-- a Use or a Skip -/
def zo_isS (o : Option zo_T) : Bool := match o with
  | none => false
  | some t => t.1 == 11 || t.1 == 12
theorem zo_isS_e {o : Option zo_T} (h : zo_isS o = true) : ∃ k n, (k = 11 ∨ k = 12) ∧ o = some (k, n) := by
  rcases o with _ | ⟨k, n⟩
  · cases h
  · exact ⟨k, n, by simpa [zo_isS] using h, rfl⟩
def zo_us (o : Option zo_T) : Int32 := match o with
  | none => 0
  | some t => if t.1 = 11 then 1 else 0
def gT (Ω : zo_O) (o : Option zo_T) (F : Nat → Option zo_R) : Option zo_R := match o with
  | none => none
  | some t => if t.1 = 11 ∨ t.1 = 12 then bk (gR Ω t.1 t.2 0) 20 F else none
theorem gT_e {Ω : zo_O} {o : Option zo_T} {F : Nat → Option zo_R} {r : zo_R} (h : gT Ω o F = some r) : ∃ k n j, (k = 11 ∨ k = 12) ∧ o = some (k, n) ∧ gR Ω k n 0 = some (20, j) ∧ F j = some r := by
  rcases o with _ | ⟨k, n⟩
  · cases h
  · have h : (if k = 11 ∨ k = 12 then bk (gR Ω k n 0) 20 F else none) = some r := h
    by_cases hk : k = 11 ∨ k = 12
    · rw [if_pos hk] at h
      obtain ⟨j, h1, h2⟩ := bk_e h
      exact ⟨k, n, j, hk, rfl, h1, h2⟩
    · rw [if_neg hk] at h; cases h
section TWX
variable {Y : zo_Y} {res : zo_R} {Ω : zo_O} {pc : Nat} {ls : List (Nat × zo_V)} {st : List zo_V} {cc : ByteArray} {nL : Nat} {own : String} {d : Nat} {A X : Option zo_R} {F : Nat → Option zo_R} {FV : Option zo_V → zo_O → Option zo_R} {FO : zo_O → Option zo_R}
theorem zo_ifnull0 (hY : zo_Gd Y cc nL own d) {off : Int} (tgt : Nat) (hd : decode cc pc = .ok (.ifnull off, 3)) (ht : (pc : Int) + off = (tgt : Int)) (k : TW Y res Ω tgt ls st) : TW Y res Ω pc ls (vo none :: st) := by
  obtain ⟨p, l, e, R, s, m, args, below, meth, c, G, J, ρ0, Ω0, nL0, Q⟩ := Y
  obtain ⟨hx, hb, hml, rfl, hown, hts, hlk, hK, hfr, hlo⟩ := hY
  intro ρ H locs LS x y hR hJ hE hL hq hv hvl hvs h1 h2
  exact lv_ifnullN hx hb hd ht (k ρ H locs LS x y hR hJ hE hL hq hv hvl hvs.2 h1 h2)
theorem zo_ifnonnull0 (hY : zo_Gd Y cc nL own d) {off : Int} (hd : decode cc pc = .ok (.ifnonnull off, 3)) (k : TW Y res Ω (pc + 3) ls st) : TW Y res Ω pc ls (vo none :: st) := by
  obtain ⟨p, l, e, R, s, m, args, below, meth, c, G, J, ρ0, Ω0, nL0, Q⟩ := Y
  obtain ⟨hx, hb, hml, rfl, hown, hts, hlk, hK, hfr, hlo⟩ := hY
  intro ρ H locs LS x y hR hJ hE hL hq hv hvl hvs h1 h2
  exact lv_ifnonnullN hx hb hd (k ρ H locs LS x y hR hJ hE hL hq hv hvl hvs.2 h1 h2)
/-- an inherited method -/
theorem zo_callU (hY : zo_Gd Y cc nL own d) {idx n k j : Nat} {xm y : MethodName} {owner : String} {cc' : ByteArray} {nL' d' : Nat} {ret' : Option FieldType} {as : List zo_V} (hM : ∀ q, X = some q → zo_MT (zo_Gof Y) (zo_J Y) y cc' nL' ret' d' (vr k j :: as) Ω q) (hd' : d' + 1 ≤ d) (hnL : nL' ≤ 45) (hk : k < 21) (hC : zo_Cn y n) (hyx : y = ⟨owner, xm.name, xm.desc⟩) (hn : as.length = n) (hlink : Cond.methodLink own idx xm ∈ lw_all) (hsame : Cond.sameMethod xm.cls owner xm.name xm.desc ∈ lw_all) (hsel : Cond.selects (zo_cl k).1 xm y ∈ lw_all) (hin : Cond.instanceMethod y ∈ lw_all) (hini : Cond.initialized y.cls ∈ lw_all) (hcode : Cond.code y cc' nL' ret' ∈ lw_all) (h8 : st.length ≤ 4) (hd : decode cc pc = .ok (.invokevirtual idx, 3)) {st1 : List zo_V} (hs : as.reverse ++ vr k j :: st = st1) (h : cl X FV = some res) (kk : ∀ q r', X = some q → FV q.1 q.2.1 = some r' → TW Y r' q.2.1 (pc + 3) ls (q.1.toList ++ st)) : TW Y res Ω pc ls st1 := by
  obtain ⟨q, r', hX, hF, rfl⟩ := cl_e h
  have kk := kk q r' hX hF
  have hM := hM q hX
  subst hs
  subst hyx
  obtain ⟨p, l, e, R, s, m, args, below, meth, c, G, J, ρ0, Ω0, nL0, Q⟩ := Y
  obtain ⟨hx, hb, hml, rfl, hown, hts, hlk, hK, hfr, hlo⟩ := hY
  intro ρ H locs LS x y' hR hJ hE hL hq hv hvl hvs h1 h2
  have h1 : x + (r'.2.2.1 + q.2.2.1) = R.cells := h1
  have h2 : y' + (r'.2.2.2 + q.2.2.2) = R.slots := h2
  obtain ⟨hva, hvo, hvr⟩ := zo_vs_app hvs
  have hG : GoodIn lw_all (va_wsU own idx (zo_cl k).1 owner xm ⟨owner, xm.name, xm.desc⟩ (ws_ ⟨owner, xm.name, xm.desc⟩ cc' nL' ret')) := by
    refine lw_app ?_ (lw_meth hcode)
    intro w hw
    simp only [List.mem_cons, List.not_mem_nil, or_false] at hw
    rcases hw with e | e | e | e | e
    · rw [e]; exact hlink
    · rw [e]; exact hsame
    · rw [e]; exact hsel
    · rw [e]; exact hin
    · rw [e]; exact hini
  have cw := va_cwU (rm := { frames := d', cells := q.2.2.1, slots := q.2.2.2, locals := 64 * d' }) (R := R) (mc := q.2.2.1) (ms := q.2.2.2) n hts hG rfl rfl rfl rfl ⟨hC.1, hC.2.1, hC.2.2⟩ ⟨by show d' + 1 ≤ R.frames; omega, by show 8 + (nL' + 11) + 64 * d' ≤ R.locals; omega⟩
  exact zo_after (q := q) (r' := r') (va_runU (As := as.map (zo_c ρ)) (rest := st.map (zo_c ρ)) ⟨hx, hb, hml, hown, hts⟩ (hM l ρ) cw ⟨zo_blind, zo_recv hK hR hk hvo, fun U hU hW => ⟨rfl, by rw [hU]; exact hR, hJ, hK.moved hW, hvo, hva⟩⟩ rfl (by rw [List.length_map]; exact hn) hv.1 (by rw [List.map_append, List.map_reverse]; rfl) (by have := zo_room8 (ρ := ρ) h8; show 2 * 0 + _ ≤ 8; omega) hd ⟨by omega, by omega⟩) hE hL hq hv hvl hvr h1 h2 kk
/-- a method of Statement's on a Use or a Skip -/
theorem zo_callVO (hY : zo_Gd Y cc nL own d) {idx n : Nat} {o : Option zo_T} {y : MethodName} {cc' : ByteArray} {nL' d' : Nat} {ret' : Option FieldType} {as : List zo_V} (hM : ∀ q, X = some q → zo_MT (zo_Gof Y) (zo_J Y) y cc' nL' ret' d' (vo o :: as) Ω q) (hd' : d' + 1 ≤ d) (hnL : nL' ≤ 45) (hC : zo_Cn y n) (hn : as.length = n) (hlink : Cond.methodLink own idx y ∈ lw_all) (hin : Cond.instanceMethod y ∈ lw_all) (hs1 : Cond.selects (zo_cl 11).1 y y ∈ lw_all) (hs2 : Cond.selects (zo_cl 12).1 y y ∈ lw_all) (hini : Cond.initialized y.cls ∈ lw_all) (hcode : Cond.code y cc' nL' ret' ∈ lw_all) (h8 : st.length ≤ 4) (hd : decode cc pc = .ok (.invokevirtual idx, 3)) {st1 : List zo_V} (hs : as.reverse ++ vo o :: st = st1) (h : gd (zo_isS o = true) (cl X FV) = some res) (kk : ∀ q r', X = some q → FV q.1 q.2.1 = some r' → TW Y r' q.2.1 (pc + 3) ls (q.1.toList ++ st)) : TW Y res Ω pc ls st1 := by
  obtain ⟨hS, h'⟩ := gd_e h
  clear h
  obtain ⟨k, j, hk, rfl⟩ := zo_isS_e hS
  obtain ⟨q, r', hX, hF, rfl⟩ := cl_e h'
  have kk := kk q r' hX hF
  have hM := hM q hX
  subst hs
  have hk21 : k < 21 := by omega
  have hsel : Cond.selects (zo_cl k).1 y y ∈ lw_all := by rcases hk with rfl | rfl; exact hs1; exact hs2
  obtain ⟨p, l, e, R, s, m, args, below, meth, c, G, J, ρ0, Ω0, nL0, Q⟩ := Y
  obtain ⟨hx, hb, hml, rfl, hown, hts, hlk, hK, hfr, hlo⟩ := hY
  intro ρ H locs LS x y' hR hJ hE hL hq hv hvl hvs h1 h2
  have h1 : x + (r'.2.2.1 + q.2.2.1) = R.cells := h1
  have h2 : y' + (r'.2.2.2 + q.2.2.2) = R.slots := h2
  obtain ⟨hva, hvo, hvr⟩ := zo_vs_app hvs
  have cb := callB_of (own := own) (index := idx) (rm := { frames := d', cells := q.2.2.1, slots := q.2.2.2, locals := 64 * d' }) (R := R) (mc := q.2.2.1) (ms := q.2.2.2) n hts (lw_meth hcode) rfl rfl rfl (hts _ hini) (hts _ hlink) hC ⟨by show d' + 1 ≤ R.frames; omega, by show 8 + (nL' + 11) + 64 * d' ≤ R.locals; omega⟩
  refine zo_after (q := q) (r' := r') (va_runV (b := ρ k j) (C := (zo_cl k).1) (As := as.map (zo_c ρ)) (rest := st.map (zo_c ρ)) ⟨hx, hb, hml, hown, hts⟩ (hM l ρ) ⟨cb, hts _ hin, hts _ hsel⟩ ⟨zo_blind, zo_recv hK hR hk21 hvo, fun U hU hW => ⟨rfl, by rw [hU]; exact hR, hJ, hK.moved hW, hvo, hva⟩⟩ rfl (by rw [List.length_map]; exact hn) hv.1 (by rw [List.map_append, List.map_reverse]; rfl) (by have := zo_room8 (ρ := ρ) h8; show 2 * 0 + _ ≤ 8; omega) hd ⟨by omega, by omega⟩) hE hL hq hv hvl hvr h1 h2 kk
/-- checkcast of a Use or a Skip to Statement -/
theorem zo_castS (hY : zo_Gd Y cc nL own d) {idx : Nat} {o : Option zo_T} (hlink : Cond.classLink own idx "LichenTable$Statement" ∈ lw_all) (hd : decode cc pc = .ok (.checkcast idx, 3)) (h : gd (zo_isS o = true) A = some res) (kk : A = some res → TW Y res Ω (pc + 3) ls (vo o :: st)) : TW Y res Ω pc ls (vo o :: st) := by
  obtain ⟨hS, h'⟩ := gd_e h
  have kk := kk h'
  obtain ⟨k, j, hk, rfl⟩ := zo_isS_e hS
  rcases hk with rfl | rfl
  · exact zo_castT hY (by decide) hlink (Or.inr q1825) hd kk
  · exact zo_castT hY (by decide) hlink (Or.inr q1824) hd kk
/-- a Statement's terms -/
theorem zo_getS (hY : zo_Gd Y cc nL own d) {idx : Nat} {o : Option zo_T} (L1 : zo_FL own idx 11 0) (L2 : zo_FL own idx 12 0) (hd : decode cc pc = .ok (.getfield idx, 3)) (h : gT Ω o F = some res) (kk : ∀ j, F j = some res → TW Y res Ω (pc + 3) ls (vr 20 j :: st)) : TW Y res Ω pc ls (vo o :: st) := by
  obtain ⟨k, n, j, hk, rfl, hg, hF⟩ := gT_e h
  have kk := kk j hF
  rcases hk with rfl | rfl
  · exact zo_getR hY L1 rfl hd (by rw [hg]; exact kk)
  · exact zo_getR hY L2 rfl hd (by rw [hg]; exact kk)
/-- whether a Statement uses -/
theorem zo_uses (hY : zo_Gd Y cc nL own d) (h11 : ∀ j, zo_MT (zo_Gof Y) (zo_J Y) yX14_uses cX14_uses 1 (some .boolean) 0 [vr 11 j] Ω (some (vi 1), Ω, 0, 0)) (h12 : ∀ j, zo_MT (zo_Gof Y) (zo_J Y) yX15_uses cX15_uses 1 (some .boolean) 0 [vr 12 j] Ω (some (vi 0), Ω, 0, 0)) (hdp : 1 ≤ d) {idx : Nat} {o : Option zo_T} (hlink : Cond.methodLink own idx ⟨"LichenTable$Statement", "uses", "()Z"⟩ ∈ lw_all) (h8 : st.length ≤ 4) (hd : decode cc pc = .ok (.invokevirtual idx, 3)) (h : gd (zo_isS o = true) A = some res) (kk : A = some res → TW Y res Ω (pc + 3) ls (vi (zo_us o) :: st)) : TW Y res Ω pc ls (vo o :: st) := by
  obtain ⟨hS, h'⟩ := gd_e h
  have kk := kk h'
  clear h
  obtain ⟨k, j, hk, rfl⟩ := zo_isS_e hS
  obtain ⟨p, l, e, R, s, m, args, below, meth, c, G, J, ρ0, Ω0, nL0, Q⟩ := Y
  obtain ⟨hx, hb, hml, rfl, hown, hts, hlk, hK, hfr, hlo⟩ := hY
  intro ρ H locs LS x y' hR hJ hE hL hq hv hvl hvs h1 h2
  have hW := hK.2.2.2.2.2.2.2.2
  have hz : va_Nw (.declares ⟨"LichenTable$Statement", "uses", "()Z"⟩) s := va_Nw.warmD hW (va_Nw.of rfl (hK.2.2.2.2.1 _ q858))
  obtain ⟨hvo, hvr⟩ := hvs
  rcases hk with rfl | rfl
  · have hG : GoodIn lw_all (va_wsU own idx (zo_cl 11).1 "LichenTable$Statement" ⟨"LichenTable$Statement", "uses", "()Z"⟩ yX14_uses (ws_ yX14_uses cX14_uses 1 (some .boolean))) := by
      refine lw_app ?_ (lw_meth q865)
      intro w hw
      simp only [List.mem_cons, List.not_mem_nil, or_false] at hw
      rcases hw with e | e | e | e | e
      · rw [e]; exact hlink
      · rw [e]; exact q859
      · rw [e]; exact q863
      · rw [e]; exact q864
      · rw [e]; exact q105
    have cw := va_cwA (rm := { frames := 0, cells := 0, slots := 0, locals := 64 * 0 }) (R := R) (mc := 0) (ms := 0) 0 hts hG rfl rfl rfl hz ⟨by decide, by decide, by decide +kernel⟩ ⟨by show 0 + 1 ≤ R.frames; omega, by show 8 + (1 + 11) + 64 * 0 ≤ R.locals; omega⟩
    exact zo_after (q := (some (vi 1), Ω, 0, 0)) (r' := res) (va_runU (b := ρ 11 j) (As := []) (rest := st.map (zo_c ρ)) ⟨hx, hb, hml, hown, hts⟩ (h11 j l ρ) cw ⟨zo_blind, zo_recv hK hR (by decide) hvo, fun U hU hW => ⟨rfl, by rw [hU]; exact hR, hJ, hK.moved hW, hvo, trivial⟩⟩ rfl rfl hv.1 rfl (by have := zo_room8 (ρ := ρ) h8; show 2 * 0 + _ ≤ 8; omega) hd ⟨by show x + 0 ≤ R.cells; omega, by show y' + 0 ≤ R.slots; omega⟩) hE hL hq hv hvl hvr h1 h2 kk
  · have hG : GoodIn lw_all (va_wsU own idx (zo_cl 12).1 "LichenTable$Statement" ⟨"LichenTable$Statement", "uses", "()Z"⟩ yX15_uses (ws_ yX15_uses cX15_uses 1 (some .boolean))) := by
      refine lw_app ?_ (lw_meth q862)
      intro w hw
      simp only [List.mem_cons, List.not_mem_nil, or_false] at hw
      rcases hw with e | e | e | e | e
      · rw [e]; exact hlink
      · rw [e]; exact q859
      · rw [e]; exact q860
      · rw [e]; exact q861
      · rw [e]; exact q106
    have cw := va_cwA (rm := { frames := 0, cells := 0, slots := 0, locals := 64 * 0 }) (R := R) (mc := 0) (ms := 0) 0 hts hG rfl rfl rfl hz ⟨by decide, by decide, by decide +kernel⟩ ⟨by show 0 + 1 ≤ R.frames; omega, by show 8 + (1 + 11) + 64 * 0 ≤ R.locals; omega⟩
    exact zo_after (q := (some (vi 0), Ω, 0, 0)) (r' := res) (va_runU (b := ρ 12 j) (As := []) (rest := st.map (zo_c ρ)) ⟨hx, hb, hml, hown, hts⟩ (h12 j l ρ) cw ⟨zo_blind, zo_recv hK hR (by decide) hvo, fun U hU hW => ⟨rfl, by rw [hU]; exact hR, hJ, hK.moved hW, hvo, trivial⟩⟩ rfl rfl hv.1 rfl (by have := zo_room8 (ρ := ρ) h8; show 2 * 0 + _ ≤ 8; omega) hd ⟨by show x + 0 ≤ R.cells; omega, by show y' + 0 ≤ R.slots; omega⟩) hE hL hq hv hvl hvr h1 h2 kk
/-- the end of a method that may throw -/
theorem zo_vretX (hY : zo_Gd Y cc nL own d) (hr : zo_rtX Y none) (hd : decode cc pc = .ok (.return_, 1)) (h : rV Ω = some res) : TW Y res Ω pc ls [] := by
  cases h
  obtain ⟨p, l, e, R, s, m, args, below, meth, c, G, J, ρ0, Ω0, nL0, Q⟩ := Y
  obtain ⟨hx, hb, hml, rfl, hown, hts, hlk, hK, hfr, hlo⟩ := hY
  obtain ⟨hrt, -, -, -, rfl⟩ := hr
  intro ρ H locs LS x y hR hJ hE hL hq hv hvl hvs h1 h2
  have h1 : x = R.cells := h1
  have h2 : y = R.slots := h2
  subst h1 h2
  intro T hT X
  obtain ⟨t, a1, b1⟩ := W.vret (Qc := zo_QX G J ρ0 Ω0 none Ω) (free := fun q => G.2.2.2.1.size ≤ q) (ls := LS) hx hb hrt (fun t ht hW => ⟨ρ, rfl, by rw [ht]; exact hR, hJ, hE, hL⟩) hq hd hlk T hT X
  exact ⟨t, a1, zo_Qx.of b1⟩
theorem zo_iretX (hY : zo_Gd Y cc nL own d) (hr : zo_rtX Y (some .int)) {a : Int32} (hd : decode cc pc = .ok (.ireturn, 1)) (h : rI a Ω = some res) : TW Y res Ω pc ls [vi a] := by
  cases h
  obtain ⟨p, l, e, R, s, m, args, below, meth, c, G, J, ρ0, Ω0, nL0, Q⟩ := Y
  obtain ⟨hx, hb, hml, rfl, hown, hts, hlk, hK, hfr, hlo⟩ := hY
  obtain ⟨hrt, -, -, -, rfl⟩ := hr
  intro ρ H locs LS x y hR hJ hE hL hq hv hvl hvs h1 h2
  have h1 : x = R.cells := h1
  have h2 : y = R.slots := h2
  subst h1 h2
  intro T hT X
  obtain ⟨t, a1, b1⟩ := W.iret (Qc := zo_QX G J ρ0 Ω0 (some (vi a)) Ω) (free := fun q => G.2.2.2.1.size ≤ q) (ls := LS) hx hb hrt (fun t ht hW => ⟨ρ, rfl, by rw [ht]; exact hR, hJ, hE, hL⟩) hq hd hlk T hT X
  exact ⟨t, a1, zo_Qx.of b1⟩
theorem zo_athrow (hY : zo_Gd Y cc nL own d) {rt : Option FieldType} (hr : zo_rtX Y rt) {n : Nat} (hd : decode cc pc = .ok (.athrow, 1)) (h : rT n Ω = some res) : TW Y res Ω pc ls [vr 10 n] := by
  cases h
  obtain ⟨p, l, e, R, s, m, args, below, meth, c, G, J, ρ0, Ω0, nL0, Q⟩ := Y
  obtain ⟨hx, hb, hml, rfl, hown, hts, hlk, hK, hfr, hlo⟩ := hY
  obtain ⟨hrt, hno, -, -, rfl⟩ := hr
  intro ρ H locs LS x y hR hJ hE hL hq hv hvl hvs h1 h2
  have h1 : x = R.cells := h1
  have h2 : y = R.slots := h2
  subst h1 h2
  intro T hT X
  have hnil : c.exceptionTable.toList = [] := by
    have h0 : c.exceptionTable.size = 0 := by simpa [Array.isEmpty] using hno
    exact List.eq_nil_of_length_eq_zero (by simpa using h0)
  obtain ⟨hst, hrun, hend, hW, hsame⟩ := X.athrowLeaves hx (g := F0 m pc LS [.ref (ρ 10 n)]) rfl rfl rfl (fun z hz => by rw [hnil] at hz; cases hz) (a := ρ 10 n) (rest := []) rfl (by rw [hb]; exact hd) hlk
  exact ⟨_, hst, .threw (ρ 10 n), hrun, hend, ⟨ρ, zo_ocT.mpr ⟨rfl, hvs.1⟩, by show zo_Rep G ρ Ω T.heap; rw [hT]; exact hR, hJ, hE, hL⟩, locs, ⟨hW, hsame⟩, hq⟩
end TWX
section ZGO
variable {p : Program} {l : Launch} {e : Env} {R : Room} {s : State} {m : MethodId} {args : Array Value} {below : List Frame} {meth : Method} {c : Code} {H : Heap} {locs : List Loc} {x y' : Nat} {G : zo_G} {J : zo_O → Prop} {ρ : Nat → Nat → Nat} {Ω : zo_O} {LS : Array Slot} {pc : Nat} {st : List zo_V} {cc : ByteArray} {own : String} {d nL0 : Nat}
/-- a call of a method that may throw -/
theorem zo_goX {q : zo_R} {y : MethodName} {cc' : ByteArray} {nL' d' idx n k j : Nat} {ret' : Option FieldType} {as : List zo_V} (hx : p.tables.exec = Jvm.exec) (hb : c.code = cc) (hml : c.maxLocals = nL0) (hown : s.vm.findClass own = some m.cls) (hts : ∀ w ∈ lw_all, w.before args s = true) (hK : zo_K G s) (hfr : d ≤ R.frames) (hlo : 64 * d ≤ R.locals)
    (hR : zo_Rep G ρ Ω H) (hJ : J Ω) (hLS : LS.size = nL0) (hvo : zo_ok Ω (k, j)) (hva : zo_vs Ω as) (hLF : zo_LF l)
    (hM : zo_MX G J y cc' nL' ret' d' (vr k j :: as) Ω q) (hd' : d' + 1 ≤ d) (hnL : nL' ≤ 45) (hk : k < 21) (hC : y.cls = (zo_cl k).1 ∧ zo_Cn y n) (hn : as.length = n) (hlink : Cond.methodLink own idx y ∈ lw_all) (hin : Cond.instanceMethod y ∈ lw_all) (hsel : Cond.selects (zo_cl k).1 y y ∈ lw_all) (hini : Cond.initialized (zo_cl k).1 ∈ lw_all) (hcode : Cond.code y cc' nL' ret' ∈ lw_all) (h8 : st.length ≤ 4) (hd : decode cc pc = .ok (.invokevirtual idx, 3)) (hf : x + q.2.2.1 ≤ R.cells ∧ y' + q.2.2.2 ≤ R.slots) :
    ∀ T : State, T.heap = H → Stand p l e R s m args below meth c T locs x y' → ∃ (o : Outcome) (t T' : State) (L : List Loc) (ρ' : Nat → Nat → Nat), Stand p l e R s m args below meth c T' (locs ++ L) (x + q.2.2.1) (y' + q.2.2.2) ∧ (∀ z ∈ L, G.2.2.2.1.size ≤ z.base) ∧ T'.heap = t.heap ∧ zo_oc G ρ' q.2.1 q.1 o t ∧ zo_Rep G ρ' q.2.1 t.heap ∧ J q.2.1 ∧ zo_ext Ω ρ ρ' ∧ zo_le Ω q.2.1 ∧
      ∀ target, Steps p.tables e below (zo_aft o T' (F0 m pc LS (st.map (zo_c ρ))) 3) target → Steps p.tables e below (T.setTop (F0 m pc LS (((as.reverse ++ vr k j :: st).map (zo_c ρ))))) target := by
  intro T hT X
  have cw := cwV (rm := { frames := d', cells := q.2.2.1, slots := q.2.2.2, locals := 64 * d' }) (R := R) (mc := q.2.2.1) (ms := q.2.2.2) n hts (lw_V hlink hin hsel hini hcode) rfl rfl rfl hC ⟨by show d' + 1 ≤ R.frames; omega, by show 8 + (nL' + 11) + 64 * d' ≤ R.locals; omega⟩
  obtain ⟨⟨hrc, hrs, hfr', hlo', hws, hcw, hcd, hini', hy, hlen, hl⟩, hin', hse⟩ := cw
  have hK2 : zo_BX l R p e below s args y 3 8 (PreOf R q.2.2.1 q.2.2.2 (zo_Pc G J ρ (vr k j :: as) Ω)) (zo_PX (zo_QX G J ρ Ω q.1 q.2.1) q.2.2.1 q.2.2.2 (fun z => G.2.2.2.1.size ≤ z)) :=
    zo_back (bytes := cc') (maxL := nL') (ret := ret') (hM l ρ hLF) zo_blind hrc hrs hfr' hlo' hws hcw (fun a' U hW => word_at hW (Or.inl (by first | rfl | simp [Cond.onTables, Cond.keeps, Cond.steady])) hini')
  obtain ⟨cellB, hcB, hoB, hclB⟩ := zo_recv hK hR hk hvo
  have h8' := zo_room8 (ρ := ρ) h8
  obtain ⟨o, vm₁, ⟨U', l2, c2, s2⟩, hW₁, X', ⟨g', mk, t, L, e1, e2, ⟨ρ', hq1, hq2, hq3, hq4, hq5⟩, g1, hL, g2, g3⟩, st1⟩ := zo_callVx X hx (C := (zo_cl k).1) (bytes := cc') (maxL := nL') (ret := ret') hown hl hin' hse hcd hy hK2 (b := ρ k j) (by rw [hT]; exact hcB) hoB hclB (g := F0 m pc LS (((as.reverse ++ vr k j :: st).map (zo_c ρ)))) rfl (hLS.trans hml.symm) (argsL := as.map (zo_c ρ)) (rest := st.map (zo_c ρ)) (fun sig h => by rw [List.length_map]; exact hn.trans (hlen sig h)) (by show _ = _; rw [List.map_append, List.map_reverse]; rfl) (by show 2 * 0 + _ ≤ 8; omega) (by rw [hb]; exact hd)
    (fun vm₁ hW₁ => ⟨hf.1, hf.2, rfl, by show zo_Rep G ρ Ω T.heap; rw [hT]; exact hR, hJ, hK.moved hW₁, hvo, hva⟩)
  dsimp only [Pt.U, Pt.locs, Pt.cells, Pt.slots] at X' e1 e2 g1 g2 g3 st1
  subst g1; subst g2; subst g3
  exact ⟨o, t, U', L, ρ', X', hL, e1, hq1, hq2, hq3, hq4, hq5, st1⟩
end ZGO
section TWY
variable {Y : zo_Y} {res : zo_R} {Ω : zo_O} {pc : Nat} {ls : List (Nat × zo_V)} {st : List zo_V} {cc : ByteArray} {nL : Nat} {own : String} {d : Nat} {A X : Option zo_R} {FO : zo_O → Option zo_R} {FI : Int32 → zo_O → Option zo_R} {FN : Nat → zo_O → Option zo_R}
theorem zo_apq {H0 : Nat} {locs L : List Loc} (h : ∀ q ∈ locs, H0 ≤ q.base) (h2 : ∀ q ∈ L, H0 ≤ q.base) : ∀ q ∈ locs ++ L, H0 ≤ q.base := fun q hq => by
  rcases List.mem_append.mp hq with h3 | h3
  · exact h q h3
  · exact h2 q h3
theorem zo_flt2 {ρ : Nat → Nat → Nat} {LS : Array Slot} {nL i : Nat} {w : Value} (hb : ls.all (fun q => q.2.isLeft || (match q.2 with | .inr (.inl _) => true | _ => false)) = true) (h2 : lv_has LS nL ((i, w) :: (zo_cs ρ ls).filter (fun q => !(q.1 == i) && !(q.1 + 1 == i && q.2.category == 2)))) : lv_has LS nL (zo_cs ρ (ls.filter (fun q => !(q.1 == i)))) := by
  refine ⟨h2.1, h2.2.1, fun q hq => h2.2.2 q ?_⟩
  obtain ⟨q', h4, rfl⟩ := List.mem_map.mp hq
  obtain ⟨h5, h6⟩ := List.mem_filter.mp h4
  refine List.mem_cons_of_mem _ (List.mem_filter.mpr ⟨List.mem_map_of_mem h5, ?_⟩)
  have h7 := List.all_eq_true.mp hb q' h5
  have h8 : (zo_c ρ q'.2).category = 1 := zo_c1 ρ (by
    rcases q' with ⟨j, x | (_ | t) | y⟩
    · exact Or.inl rfl
    · exact Or.inr ⟨_, rfl⟩
    · exact Or.inr ⟨_, rfl⟩
    · cases h7)
  show (!(q'.1 == i) && !(q'.1 + 1 == i && (zo_c ρ q'.2).category == 2)) = true
  rw [h8]
  simp only [Bool.not_eq_true', Bool.and_eq_true] at h6 ⊢
  exact ⟨h6, by simp⟩
theorem zo_callVX (hY : zo_Gd Y cc nL own d) {rt : Option FieldType} (hr : zo_rtX Y rt) {idx n k j : Nat} {y : MethodName} {cc' : ByteArray} {nL' d' : Nat} {ret' : Option FieldType} {as : List zo_V} (hM : ∀ q, X = some q → zo_MX (zo_Gof Y) (zo_J Y) y cc' nL' ret' d' (vr k j :: as) Ω q) (hd' : d' + 1 ≤ d) (hnL : nL' ≤ 45) (hk : k < 21) (hC : y.cls = (zo_cl k).1 ∧ zo_Cn y n) (hn : as.length = n) (hlink : Cond.methodLink own idx y ∈ lw_all) (hin : Cond.instanceMethod y ∈ lw_all) (hsel : Cond.selects (zo_cl k).1 y y ∈ lw_all) (hini : Cond.initialized (zo_cl k).1 ∈ lw_all) (hcode : Cond.code y cc' nL' ret' ∈ lw_all) (h8 : st.length ≤ 4) (hd : decode cc pc = .ok (.invokevirtual idx, 3)) {st1 : List zo_V} (hs : as.reverse ++ vr k j :: st = st1) (h : cx X FO = some res) (kk : ∀ Ω1 r', FO Ω1 = some r' → TW Y r' Ω1 (pc + 3) ls st) : TW Y res Ω pc ls st1 := by
  subst hs
  rcases cx_e h with ⟨Ω1, c1, s1, r', hX, hF, rfl⟩ | ⟨n1, Ω1, c1, s1, hX, rfl⟩
  · have hM := hM _ hX
    have kk := kk Ω1 r' hF
    obtain ⟨p, l, e, R, s, m, args, below, meth, c, G, J, ρ0, Ω0, nL0, Q⟩ := Y
    obtain ⟨hx, hb, hml, rfl, hown, hts, hlk, hK, hfr, hlo⟩ := hY
    obtain ⟨hrt, hno, hLF, -, rfl⟩ := hr
    intro ρ H locs LS x y' hR hJ hE hL hq hv hvl hvs h1 h2
    have h1 : x + (r'.2.2.1 + c1) = R.cells := h1
    have h2 : y' + (r'.2.2.2 + s1) = R.slots := h2
    obtain ⟨hva, hvo, hvr⟩ := zo_vs_app hvs
    intro T hT X0
    obtain ⟨o, t, T', L, ρ', X', hL', e1, hoc, hR', hJ', hE', hle, st2⟩ := zo_goX (q := (none, Ω1, c1, s1)) hx hb hml hown hts hK hfr hlo hR hJ hv.1 hvo hva hLF hM hd' hnL hk hC hn hlink hin hsel hini hcode h8 hd ⟨by show x + c1 ≤ _; omega, by show y' + s1 ≤ _; omega⟩ T hT X0
    have hoc : o = .returned none := hoc
    subst hoc
    have hst := zo_st.ext hE' hvr
    have hls := zo_cs.ext hE' hvl
    have k1 := kk ρ' T'.heap (locs ++ L) LS (x + c1) (y' + s1) (by rw [e1]; exact hR') hJ' (hE.tr hL hE') (hL.tr hle) (zo_apq hq hL') (by rw [hls]; exact hv) (hvl.le hle) (zo_vs.le hle hvr) (by omega) (by omega)
    rw [hst] at k1
    obtain ⟨t2, a1, b1⟩ := k1 T' rfl X'
    exact ⟨t2, st2 t2 a1, b1⟩
  · have hM := hM _ hX
    obtain ⟨p, l, e, R, s, m, args, below, meth, c, G, J, ρ0, Ω0, nL0, Q⟩ := Y
    obtain ⟨hx, hb, hml, rfl, hown, hts, hlk, hK, hfr, hlo⟩ := hY
    obtain ⟨hrt, hno, hLF, -, rfl⟩ := hr
    intro ρ H locs LS x y' hR hJ hE hL hq hv hvl hvs h1 h2
    have h1 : x + c1 = R.cells := h1
    have h2 : y' + s1 = R.slots := h2
    obtain ⟨hva, hvo, hvr⟩ := zo_vs_app hvs
    intro T hT X0
    obtain ⟨o, t, T', L, ρ', X', hL', e1, hoc, hR', hJ', hE', hle, st2⟩ := zo_goX (q := (some (vr 10 n1), Ω1, c1, s1)) hx hb hml hown hts hK hfr hlo hR hJ hv.1 hvo hva hLF hM hd' hnL hk hC hn hlink hin hsel hini hcode h8 hd ⟨by show x + c1 ≤ _; omega, by show y' + s1 ≤ _; omega⟩ T hT X0
    obtain ⟨rfl, hok⟩ := zo_ocT.mp hoc
    have hnil : c.exceptionTable.toList = [] := by
      have h0 : c.exceptionTable.size = 0 := by simpa [Array.isEmpty] using hno
      exact List.eq_nil_of_length_eq_zero (by simpa using h0)
    obtain ⟨hst, hrun, hend, hW, hsame⟩ := X'.leaveThrown (ρ' 10 n1) (g := F0 m pc LS (st.map (zo_c ρ))) rfl rfl rfl (fun z hz => by rw [hnil] at hz; cases hz) hlk
    have hsame : s.sameButNew _ (locs ++ L) (x + c1) (y' + s1) := hsame
    rw [h1, h2] at hsame
    exact ⟨_, st2 _ hst, .threw (ρ' 10 n1), hrun, hend, ⟨ρ', zo_ocT.mpr ⟨rfl, hok⟩, by show zo_Rep G ρ' Ω1 T'.heap; rw [e1]; exact hR', hJ', hE.tr hL hE', hL.tr hle⟩, locs ++ L, ⟨hW, hsame⟩, zo_apq hq hL'⟩
/-- a call of a method that may throw a Wrong, which is caught here -/
theorem zo_callHV (hY : zo_Gd Y cc nL own d) {sp ep hp ct : Nat} (hh : zo_hh Y [(sp, ep, hp, ct)]) {idx n k j : Nat} {y : MethodName} {cc' : ByteArray} {nL' d' : Nat} {ret' : Option FieldType} {as : List zo_V} (hM : ∀ q, X = some q → zo_MX (zo_Gof Y) (zo_J Y) y cc' nL' ret' d' (vr k j :: as) Ω q) (hd' : d' + 1 ≤ d) (hnL : nL' ≤ 45) (hk : k < 21) (hC : y.cls = (zo_cl k).1 ∧ zo_Cn y n) (hn : as.length = n) (hlink : Cond.methodLink own idx y ∈ lw_all) (hin : Cond.instanceMethod y ∈ lw_all) (hsel : Cond.selects (zo_cl k).1 y y ∈ lw_all) (hini : Cond.initialized (zo_cl k).1 ∈ lw_all) (hcode : Cond.code y cc' nL' ret' ∈ lw_all) (hcl : Cond.classLink own ct (zo_cl 10).1 ∈ lw_all) (hcv : sp ≤ pc ∧ pc < ep) (hct : ct ≠ 0) (h8 : st.length ≤ 4) (hd : decode cc pc = .ok (.invokevirtual idx, 3)) {st1 : List zo_V} (hs : as.reverse ++ vr k j :: st = st1) (h : chV X FO FN = some res) (k1 : ∀ Ω1 r', FO Ω1 = some r' → TW Y r' Ω1 (pc + 3) ls st) (k2 : ∀ n1 Ω1 r', FN n1 Ω1 = some r' → TW Y r' Ω1 hp ls [vr 10 n1]) : TW Y res Ω pc ls st1 := by
  subst hs
  rcases chV_e h with ⟨Ω1, c1, s1, r', hX, hF, rfl⟩ | ⟨n1, Ω1, c1, s1, r', hX, hF, rfl⟩
  · have hM := hM _ hX
    have kk := k1 Ω1 r' hF
    obtain ⟨p, l, e, R, s, m, args, below, meth, c, G, J, ρ0, Ω0, nL0, Q⟩ := Y
    obtain ⟨hx, hb, hml, rfl, hown, hts, hlk, hK, hfr, hlo⟩ := hY
    obtain ⟨hLF, htab⟩ := hh
    intro ρ H locs LS x y' hR hJ hE hL hq hv hvl hvs h1 h2
    have h1 : x + (r'.2.2.1 + c1) = R.cells := h1
    have h2 : y' + (r'.2.2.2 + s1) = R.slots := h2
    obtain ⟨hva, hvo, hvr⟩ := zo_vs_app hvs
    intro T hT X0
    obtain ⟨o, t, T', L, ρ', X', hL', e1, hoc, hR', hJ', hE', hle, st2⟩ := zo_goX (q := (none, Ω1, c1, s1)) hx hb hml hown hts hK hfr hlo hR hJ hv.1 hvo hva hLF hM hd' hnL hk hC hn hlink hin hsel hini hcode h8 hd ⟨by show x + c1 ≤ _; omega, by show y' + s1 ≤ _; omega⟩ T hT X0
    have hoc : o = .returned none := hoc
    subst hoc
    have hst := zo_st.ext hE' hvr
    have hls := zo_cs.ext hE' hvl
    have k1 := kk ρ' T'.heap (locs ++ L) LS (x + c1) (y' + s1) (by rw [e1]; exact hR') hJ' (hE.tr hL hE') (hL.tr hle) (zo_apq hq hL') (by rw [hls]; exact hv) (hvl.le hle) (zo_vs.le hle hvr) (by omega) (by omega)
    rw [hst] at k1
    obtain ⟨t2, a1, b1⟩ := k1 T' rfl X'
    exact ⟨t2, st2 t2 a1, b1⟩
  · have hM := hM _ hX
    have kk := k2 n1 Ω1 r' hF
    obtain ⟨p, l, e, R, s, m, args, below, meth, c, G, J, ρ0, Ω0, nL0, Q⟩ := Y
    obtain ⟨hx, hb, hml, rfl, hown, hts, hlk, hK, hfr, hlo⟩ := hY
    obtain ⟨hLF, htab⟩ := hh
    intro ρ H locs LS x y' hR hJ hE hL hq hv hvl hvs h1 h2
    have h1 : x + (r'.2.2.1 + c1) = R.cells := h1
    have h2 : y' + (r'.2.2.2 + s1) = R.slots := h2
    obtain ⟨hva, hvo, hvr⟩ := zo_vs_app hvs
    intro T hT X0
    obtain ⟨o, t, T', L, ρ', X', hL', e1, hoc, hR', hJ', hE', hle, st2⟩ := zo_goX (q := (some (vr 10 n1), Ω1, c1, s1)) hx hb hml hown hts hK hfr hlo hR hJ hv.1 hvo hva hLF hM hd' hnL hk hC hn hlink hin hsel hini hcode h8 hd ⟨by show x + c1 ≤ _; omega, by show y' + s1 ≤ _; omega⟩ T hT X0
    obtain ⟨rfl, hok⟩ := zo_ocT.mp hoc
    obtain ⟨cell, g1, g2, g3⟩ := zo_recv hK hR' (by decide) hok
    obtain ⟨hS10, hfc, kC, hkC, hkind⟩ := hK.1 10 (by decide)
    have hcc : cell.cls = G.1 10 := Option.some.inj (g3.symm.trans hfc)
    obtain ⟨vm', X2, hst3⟩ := zo_catch X' (own := own) (name := (zo_cl 10).1) (index := ct) hown (hts _ hcl) (a := ρ' 10 n1) (cell := cell) (cT := G.1 10) (ks := kC) (by rw [e1]; exact g1) g2 (by rw [hcc]; exact hkC) hfc (by rw [hcc]; exact va_assign ⟨hfc, kC, hkC, hkind⟩) (g := F0 m pc LS (st.map (zo_c ρ))) rfl htab hcv hct
    have hls := zo_cs.ext hE' hvl
    have k1 := kk ρ' T'.heap (locs ++ L) LS (x + c1) (y' + s1) (by rw [e1]; exact hR') hJ' (hE.tr hL hE') (hL.tr hle) (zo_apq hq hL') (by rw [hls]; exact hv) (hvl.le hle) ⟨hok, trivial⟩ (by omega) (by omega)
    obtain ⟨t2, a1, b1⟩ := k1 (T'.setVm vm') rfl X2
    exact ⟨t2, st2 t2 (hst3 t2 a1), b1⟩
/-- a call of a method that may throw a NoSuchElementException, which is caught here, stored and forgotten -/
theorem zo_callHN (hY : zo_Gd Y cc nL own d) {sp ep hp ct : Nat} (hh : zo_hh Y [(sp, ep, hp, ct)]) {idx n k j : Nat} {y : MethodName} {cc' : ByteArray} {nL' d' : Nat} {ret' : Option FieldType} {as : List zo_V} (hM : ∀ q, X = some q → zo_MX (zo_Gof Y) (zo_J Y) y cc' nL' ret' d' (vr k j :: as) Ω q) (hd' : d' + 1 ≤ d) (hnL : nL' ≤ 45) (hk : k < 21) (hC : y.cls = (zo_cl k).1 ∧ zo_Cn y n) (hn : as.length = n) (hlink : Cond.methodLink own idx y ∈ lw_all) (hin : Cond.instanceMethod y ∈ lw_all) (hsel : Cond.selects (zo_cl k).1 y y ∈ lw_all) (hini : Cond.initialized (zo_cl k).1 ∈ lw_all) (hcode : Cond.code y cc' nL' ret' ∈ lw_all) (hcl : Cond.classLink own ct (zo_cl 19).1 ∈ lw_all) (hcv : sp ≤ pc ∧ pc < ep) (hct : ct ≠ 0) (h8 : st.length ≤ 4) (hd : decode cc pc = .ok (.invokevirtual idx, 3)) {iv : Nat} (hd2 : decode cc hp = .ok (.astore iv, 2)) (hiv : iv < nL) {st1 : List zo_V} (hs : as.reverse ++ vr k j :: st = st1) (hb0 : ls.all (fun q => q.2.isLeft || (match q.2 with | .inr (.inl _) => true | _ => false)) = true) {ls' : List (Nat × zo_V)} (hl : ls.filter (fun q => !(q.1 == iv)) = ls') (h : chN X FI FO = some res) (k1 : ∀ x1 Ω1 r', FI x1 Ω1 = some r' → TW Y r' Ω1 (pc + 3) ls (vi x1 :: st)) (k2 : ∀ Ω1 r', FO Ω1 = some r' → TW Y r' Ω1 (hp + 2) ls' []) : TW Y res Ω pc ls st1 := by
  subst hs
  rcases chN_e h with ⟨x1, Ω1, c1, s1, r', hX, hF, rfl⟩ | ⟨n1, Ω1, c1, s1, r', hX, hF, rfl⟩
  · have hM := hM _ hX
    have kk := k1 x1 Ω1 r' hF
    obtain ⟨p, l, e, R, s, m, args, below, meth, c, G, J, ρ0, Ω0, nL0, Q⟩ := Y
    obtain ⟨hx, hb, hml, rfl, hown, hts, hlk, hK, hfr, hlo⟩ := hY
    obtain ⟨hLF, htab⟩ := hh
    intro ρ H locs LS x y' hR hJ hE hL hq hv hvl hvs h1 h2
    have h1 : x + (r'.2.2.1 + c1) = R.cells := h1
    have h2 : y' + (r'.2.2.2 + s1) = R.slots := h2
    obtain ⟨hva, hvo, hvr⟩ := zo_vs_app hvs
    intro T hT X0
    obtain ⟨o, t, T', L, ρ', X', hL', e1, hoc, hR', hJ', hE', hle, st2⟩ := zo_goX (q := (some (vi x1), Ω1, c1, s1)) hx hb hml hown hts hK hfr hlo hR hJ hv.1 hvo hva hLF hM hd' hnL hk hC hn hlink hin hsel hini hcode h8 hd ⟨by show x + c1 ≤ _; omega, by show y' + s1 ≤ _; omega⟩ T hT X0
    have hoc : o = .returned (some (.int x1)) := hoc
    subst hoc
    have hst := zo_st.ext hE' hvr
    have hls := zo_cs.ext hE' hvl
    have k1 := kk ρ' T'.heap (locs ++ L) LS (x + c1) (y' + s1) (by rw [e1]; exact hR') hJ' (hE.tr hL hE') (hL.tr hle) (zo_apq hq hL') (by rw [hls]; exact hv) (hvl.le hle) ⟨trivial, zo_vs.le hle hvr⟩ (by omega) (by omega)
    rw [List.map_cons, hst] at k1
    obtain ⟨t2, a1, b1⟩ := k1 T' rfl X'
    exact ⟨t2, st2 t2 a1, b1⟩
  · have hM := hM _ hX
    have kk := k2 Ω1 r' hF
    obtain ⟨p, l, e, R, s, m, args, below, meth, c, G, J, ρ0, Ω0, nL0, Q⟩ := Y
    obtain ⟨hx, hb, hml, rfl, hown, hts, hlk, hK, hfr, hlo⟩ := hY
    obtain ⟨hLF, htab⟩ := hh
    intro ρ H locs LS x y' hR hJ hE hL hq hv hvl hvs h1 h2
    have h1 : x + (r'.2.2.1 + c1) = R.cells := h1
    have h2 : y' + (r'.2.2.2 + s1) = R.slots := h2
    obtain ⟨hva, hvo, hvr⟩ := zo_vs_app hvs
    intro T hT X0
    obtain ⟨o, t, T', L, ρ', X', hL', e1, hoc, hR', hJ', hE', hle, st2⟩ := zo_goX (q := (some (vr 19 n1), Ω1, c1, s1)) hx hb hml hown hts hK hfr hlo hR hJ hv.1 hvo hva hLF hM hd' hnL hk hC hn hlink hin hsel hini hcode h8 hd ⟨by show x + c1 ≤ _; omega, by show y' + s1 ≤ _; omega⟩ T hT X0
    obtain ⟨a, cell, rfl, g1, hcc, g2⟩ := zo_ocN.mp hoc
    obtain ⟨hS19, hfc, kC, hkC, hkind⟩ := hK.1 19 (by decide)
    obtain ⟨vm', X2, hst3⟩ := zo_catch X' (own := own) (name := (zo_cl 19).1) (index := ct) hown (hts _ hcl) (a := a) (cell := cell) (cT := G.1 19) (ks := kC) (by rw [e1]; exact g1) g2 (by rw [hcc]; exact hkC) hfc (by rw [hcc]; exact va_assign ⟨hfc, kC, hkC, hkind⟩) (g := F0 m pc LS (st.map (zo_c ρ))) rfl htab hcv hct
    have hls := zo_cs.ext hE' hvl
    have hv' : lv_has LS nL0 (zo_cs ρ' ls) := by rw [hls]; exact hv
    have hw : W p l e R s m args below meth c T'.heap (locs ++ L) (x + c1) (y' + s1) (Q r'.1 r'.2.1) (F0 m hp LS [.ref a]) := by
      refine lv_astore (x := a) hx hb hd2 hv' hiv rfl (fun LS' hv2 => ?_)
      subst hl
      exact kk ρ' T'.heap (locs ++ L) LS' (x + c1) (y' + s1) (by rw [e1]; exact hR') hJ' (hE.tr hL hE') (hL.tr hle) (zo_apq hq hL') (zo_flt2 hb0 hv2) (fun q hq => (hvl.le hle) q (List.mem_filter.mp hq).1) trivial (by omega) (by omega)
    obtain ⟨t2, a1, b1⟩ := hw (T'.setVm vm') rfl X2
    exact ⟨t2, st2 t2 (hst3 t2 a1), b1⟩
end TWY
