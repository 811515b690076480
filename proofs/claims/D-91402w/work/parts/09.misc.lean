/-! ===== nest mates' calls, casts, comparing references, switches, String constants ===== -/
set_option maxRecDepth 10000
theorem zo_q_maxs : Cond.static Lib.Math.max.name ∈ lw_all := q304
theorem zo_q_maxc : Cond.code Lib.Math.max.name Lib.Math.max.code 2 (some .int) ∈ lw_all := q305
theorem zo_q_mins : Cond.static Lib.Math.min.name ∈ lw_all := q345
theorem zo_q_minc : Cond.code Lib.Math.min.name Lib.Math.min.code 2 (some .int) ∈ lw_all := q346
theorem zo_q_mi : Cond.initialized "java/lang/Math" ∈ lw_all := q86
/-- Math.max, Math.min -/
def mx (a b : Int32) : Int32 := if a < b then b else a
def mn (a b : Int32) : Int32 := if b < a then b else a
theorem zo_cap_ge : ∀ n, n ≤ zo_cap n
  | 0 => Nat.le_refl _
  | n + 1 => by
    have ih := zo_cap_ge n
    unfold zo_cap
    by_cases h : n < zo_cap n
    · rw [if_pos h]; exact h
    · rw [if_neg h]
      by_cases h0 : zo_cap n = 0
      · rw [if_pos h0]; omega
      · rw [if_neg h0]
        by_cases h1 : n = 0
        · subst h1; exact absurd rfl h0
        · by_cases h2 : n = 1
          · subst h2
            have : zo_cap 1 = 10 := rfl
            omega
          · omega
/-- an answer that is a byte or a char -/
def rN (ty : FieldType) (a : Int32) (Ω : zo_O) : Option zo_R := gd (vp_nar ty a = a) (some (some (vi a), Ω, 0, 0))
theorem zo_stat {G : zo_G} {U : State} (hK : zo_K G U) {C n ds : String} {z : Int32} (hl : Cond.laysStatic C n ds ∈ lw_tbl) (hi : Cond.initialized C ∈ lw_tbl) (hm : (Cond.eq (.static C n ds) (.int z)) ∈ flatC (Jvm.Cond.and given_1 narrow_1)) : va_Z C n ds (.int z) (fun q => G.2.2.2.1.size ≤ q) G.2.2.2.2.2.2.1 G.2.2.2.1 := by
  obtain ⟨-, -, -, e0, hw, hg, -, -, -⟩ := hK
  have hs := flat_of_before _ hg
  rw [← e0]
  exact va_Zof (hw _ hl) (hw _ hi) (va_eqi (hs _ hm)) (fun a ha q => by omega)
theorem zo_Zcs : ∀ G U, zo_K G U → va_Z "java/lang/String" "COMPACT_STRINGS" "Z" (.int 1) (fun q => G.2.2.2.1.size ≤ q) G.2.2.2.2.2.2.1 G.2.2.2.1 := fun G U hK => zo_stat hK q629 (lw_all_tbl q98) (by decide +kernel)
section TWM
variable {Y : zo_Y} {res : zo_R} {Ω : zo_O} {pc : Nat} {ls : List (Nat × zo_V)} {st : List zo_V} {cc : ByteArray} {nL : Nat} {own : String} {d : Nat} {A B X : Option zo_R} {F : Nat → Option zo_R} {FV : Option zo_V → zo_O → Option zo_R}
theorem zo_recv {G : zo_G} {ρ : Nat → Nat → Nat} {H : Heap} {s : State} (hK : zo_K G s) (hR : zo_Rep G ρ Ω H) {k j : Nat} (hk : k < 21) (hvo : zo_ok Ω (k, j)) : ∃ cell : Cell, H[ρ k j]? = some cell ∧ cell.vm.isStatics = false ∧ s.vm.findClass (zo_cl k).1 = some cell.cls := by
  obtain ⟨hc, -⟩ := hR.cell (zo_lv_of hvo (by omega) (by omega))
  unfold zo_cell at hc
  rw [if_pos hk] at hc
  obtain ⟨cell, g1, g2, g3, -⟩ := hc
  exact ⟨cell, g1, by rw [g3]; rfl, by rw [g2]; exact (hK.1 k hk).2.1⟩
/-- checkcast of what is never null, to a kind -/
theorem zo_castT (hY : zo_Gd Y cc nL own d) {idx K j : Nat} {nm : String} (hk : K < 21) (hlink : Cond.classLink own idx nm ∈ lw_all) (hc : nm = (zo_cl K).1 ∨ Cond.castable (zo_cl K).1 nm ∈ lw_tbl) (hd : decode cc pc = .ok (.checkcast idx, 3)) (kk : TW Y res Ω (pc + 3) ls (vr K j :: st)) : TW Y res Ω pc ls (vr K j :: st) := by
  obtain ⟨p, l, e, R, s, m, args, below, meth, c, G, J, ρ0, Ω0, nL0, Q⟩ := Y
  obtain ⟨hx, hb, hml, rfl, hown, hts, hlk, hK, hfr, hlo⟩ := hY
  intro ρ H locs LS x y hR hJ hE hL hq hv hvl hvs h1 h2
  have kk := kk ρ H locs LS x y hR hJ hE hL hq hv hvl hvs h1 h2
  have hcell := zo_recv hK hR hk hvs.1
  rcases hc with rfl | hc
  · exact va_castS hx hb hown (hts _ hlink) (hK.1 K hk).2 hcell hd kk
  · exact va_castY hx hb hown (hts _ hlink) (hK.2.2.1 _ hc rfl) hcell hd kk
theorem zo_castK (hY : zo_Gd Y cc nL own d) {idx K : Nat} {o : Option zo_T} {nm : String} (hk : K < 21) (hlink : Cond.classLink own idx nm ∈ lw_all) (hc : nm = (zo_cl K).1 ∨ Cond.castable (zo_cl K).1 nm ∈ lw_tbl) (hd : decode cc pc = .ok (.checkcast idx, 3)) (h : bk o K F = some res) (kk : ∀ j, F j = some res → TW Y res Ω (pc + 3) ls (vr K j :: st)) : TW Y res Ω pc ls (vo o :: st) := by
  obtain ⟨j, rfl, h'⟩ := bk_e h
  exact zo_castT hY hk hlink hc hd (kk j h')
/-- comparing references of one kind -/
theorem zo_acmp_ne (hY : zo_Gd Y cc nL own d) {k a b : Nat} (hk : k ≠ 21 ∧ k ≠ 22) {off : Int} (tgt : Nat) (hd : decode cc pc = .ok (.if_acmp .ne off, 3)) (ht : (pc : Int) + off = (tgt : Int)) (h : (if a = b then A else B) = some res) (kf : a = b → A = some res → TW Y res Ω (pc + 3) ls st) (kt : ¬ a = b → B = some res → TW Y res Ω tgt ls st) : TW Y res Ω pc ls (vr k b :: vr k a :: st) := by
  obtain ⟨p, l, e, R, s, m, args, below, meth, c, G, J, ρ0, Ω0, nL0, Q⟩ := Y
  obtain ⟨hx, hb, hml, rfl, hown, hts, hlk, hK, hfr, hlo⟩ := hY
  intro ρ H locs LS x y hR hJ hE hL hq hv hvl hvs h1 h2
  have hinj : ρ k a = ρ k b → a = b := fun q => by
    obtain ⟨-, -, -, ⟨ow, h4⟩, -⟩ := hR
    have e1 := (h4 k a (zo_lv_of hvs.2.1 hk.1 hk.2)).1
    have e2 := (h4 k b (zo_lv_of hvs.1 hk.1 hk.2)).1
    rw [q, e2] at e1
    cases e1
    rfl
  refine lv_acmp_ne (rx := some (ρ k a)) (ry := some (ρ k b)) hx hb hd ht (fun hc => ?_) (fun hc => ?_)
  · have hne : ¬ a = b := fun q => hc (by rw [q])
    rw [if_neg hne] at h
    exact kt hne h ρ H locs LS x y hR hJ hE hL hq hv hvl hvs.2.2 h1 h2
  · have he : a = b := hinj (Option.some.inj hc)
    rw [if_pos he] at h
    exact kf he h ρ H locs LS x y hR hJ hE hL hq hv hvl hvs.2.2 h1 h2
theorem zo_tsIn (hY : zo_Gd Y cc nL own d) {a : Int32} {dflt lo hi : Int} {offs : Array Int} {len : Nat} {off : Int} (v : Int32) (tgt : Nat) (ha : a = v) (hd : decode cc pc = .ok (.tableswitch dflt lo hi offs, len)) (g1 : ¬ v.toInt < lo) (g2 : ¬ hi < v.toInt) (ho : offs[(v.toInt - lo).toNat]? = some off) (ht : (pc : Int) + off = (tgt : Int)) (k : TW Y res Ω tgt ls st) : TW Y res Ω pc ls (vi a :: st) := by
  subst ha
  obtain ⟨p, l, e, R, s, m, args, below, meth, c, G, J, ρ0, Ω0, nL0, Q⟩ := Y
  obtain ⟨hx, hb, hml, rfl, hown, hts, hlk, hK, hfr, hlo⟩ := hY
  intro ρ H locs LS x y hR hJ hE hL hq hv hvl hvs h1 h2
  exact lv_tableIn hx hb hd g1 g2 ho ht (k ρ H locs LS x y hR hJ hE hL hq hv hvl hvs.2 h1 h2)
theorem zo_tsOut (hY : zo_Gd Y cc nL own d) {a : Int32} {dflt lo hi : Int} {offs : Array Int} {len : Nat} (tgt : Nat) (hd : decode cc pc = .ok (.tableswitch dflt lo hi offs, len)) (ho : a.toInt < lo ∨ hi < a.toInt) (ht : (pc : Int) + dflt = (tgt : Int)) (k : TW Y res Ω tgt ls st) : TW Y res Ω pc ls (vi a :: st) := by
  obtain ⟨p, l, e, R, s, m, args, below, meth, c, G, J, ρ0, Ω0, nL0, Q⟩ := Y
  obtain ⟨hx, hb, hml, rfl, hown, hts, hlk, hK, hfr, hlo⟩ := hY
  intro ρ H locs LS x y hR hJ hE hL hq hv hvl hvs h1 h2
  exact lv_tableOut hx hb hd ho ht (k ρ H locs LS x y hR hJ hE hL hq hv hvl hvs.2 h1 h2)
theorem zo_ldcS (hY : zo_Gd Y cc nL own d) {idx j : Nat} {tx : String} (hm : (own, idx, tx, j) ∈ zo_strs) (hd : decode cc pc = .ok (.ldc idx, 2)) (k : TW Y res Ω (pc + 2) ls (vr 21 j :: st)) : TW Y res Ω pc ls st := by
  obtain ⟨p, l, e, R, s, m, args, below, meth, c, G, J, ρ0, Ω0, nL0, Q⟩ := Y
  obtain ⟨hx, hb, hml, rfl, hown, hts, hlk, hK, hfr, hlo⟩ := hY
  intro ρ H locs LS x y hR hJ hE hL hq hv hvl hvs h1 h2
  have kk := k ρ H locs LS x y hR hJ hE hL hq hv hvl ⟨Or.inl rfl, hvs⟩ h1 h2
  have hz : vk_R own idx tx (ρ 21 j) s := by
    rw [(hR.2.2.1 j).1]
    exact (hK.2.2.2.2.2.2.1 _ hm).warm hK.2.2.2.2.2.2.2.2
  exact va_ldcS hx hb hown hz hd kk
theorem zo_ldcwS (hY : zo_Gd Y cc nL own d) {idx j : Nat} {tx : String} (hm : (own, idx, tx, j) ∈ zo_strs) (hd : decode cc pc = .ok (.ldc_w idx, 3)) (k : TW Y res Ω (pc + 3) ls (vr 21 j :: st)) : TW Y res Ω pc ls st := by
  obtain ⟨p, l, e, R, s, m, args, below, meth, c, G, J, ρ0, Ω0, nL0, Q⟩ := Y
  obtain ⟨hx, hb, hml, rfl, hown, hts, hlk, hK, hfr, hlo⟩ := hY
  intro ρ H locs LS x y hR hJ hE hL hq hv hvl hvs h1 h2
  have kk := k ρ H locs LS x y hR hJ hE hL hq hv hvl ⟨Or.inl rfl, hvs⟩ h1 h2
  have hz : vk_R own idx tx (ρ 21 j) s := by
    rw [(hR.2.2.1 j).1]
    exact (hK.2.2.2.2.2.2.1 _ hm).warm hK.2.2.2.2.2.2.2.2
  intro T hT X
  obtain ⟨t, a1, b1⟩ := kk T hT X
  exact ⟨t, X.ldcStringW hx hown (text := tx) (a := ρ 21 j) hz.1 hz.2 (g := F0 m pc LS (st.map (zo_c ρ))) rfl (by rw [hb]; exact hd) t a1, b1⟩
theorem zo_callSN (hY : zo_Gd Y cc nL own d) {idx n : Nat} {host : String} {y : MethodName} {cc' : ByteArray} {nL' d' : Nat} {ret' : Option FieldType} {as : List zo_V} (hM : ∀ q, X = some q → zo_MT (zo_Gof Y) (zo_J Y) y cc' nL' ret' d' as Ω q) (hd' : d' + 1 ≤ d) (hnL : nL' ≤ 45) (hC : zo_Cn y n) (hn : as.length = n) (hlink : Cond.methodLinkNest own idx y host ∈ lw_tbl) (hst : Cond.static y ∈ lw_all) (hini : Cond.initialized y.cls ∈ lw_all) (hcode : Cond.code y cc' nL' ret' ∈ lw_all) (h8 : st.length ≤ 4) (hd : decode cc pc = .ok (.invokestatic idx, 3)) {st1 : List zo_V} (hs : as.reverse ++ st = st1) (h : cl X FV = some res) (kk : ∀ q r', X = some q → FV q.1 q.2.1 = some r' → TW Y r' q.2.1 (pc + 3) ls (q.1.toList ++ st)) : TW Y res Ω pc ls st1 := by
  obtain ⟨q, r', hX, hF, rfl⟩ := cl_e h
  have kk := kk q r' hX hF
  have hM := hM q hX
  subst hs
  obtain ⟨p, l, e, R, s, m, args, below, meth, c, G, J, ρ0, Ω0, nL0, Q⟩ := Y
  obtain ⟨hx, hb, hml, rfl, hown, hts, hlk, hK, hfr, hlo⟩ := hY
  intro ρ H locs LS x y' hR hJ hE hL hq hv hvl hvs h1 h2
  have h1 : x + (r'.2.2.1 + q.2.2.1) = R.cells := h1
  have h2 : y' + (r'.2.2.2 + q.2.2.2) = R.slots := h2
  obtain ⟨hva, hvr⟩ := zo_vs_app hvs
  have cw := va_cnB (rm := { frames := d', cells := q.2.2.1, slots := q.2.2.2, locals := 64 * d' }) (R := R) (mc := q.2.2.1) (ms := q.2.2.2) n hts (lw_meth hcode) rfl rfl rfl (hK.2.2.1 _ hlink rfl) (hts _ hini) hC ⟨by show d' + 1 ≤ R.frames; omega, by show 8 + (nL' + 11) + 64 * d' ≤ R.locals; omega⟩
  exact zo_after (q := q) (r' := r') (va_runSN (As := as.map (zo_c ρ)) (rest := st.map (zo_c ρ)) ⟨hx, hb, hml, hown, hts⟩ (hM l ρ) ⟨cw, hts _ hst, trivial⟩ ⟨zo_blind, fun U hU hW => ⟨rfl, by rw [hU]; exact hR, hJ, hK.moved hW, hva⟩⟩ rfl (by rw [List.length_map]; exact hn) hv.1 (by rw [List.map_append, List.map_reverse]) (by have := zo_room8 (ρ := ρ) h8; show 2 * 0 + _ ≤ 8; omega) hd ⟨by omega, by omega⟩) hE hL hq hv hvl hvr h1 h2 kk
theorem zo_callVN (hY : zo_Gd Y cc nL own d) {idx n k j : Nat} {host : String} {y : MethodName} {cc' : ByteArray} {nL' d' : Nat} {ret' : Option FieldType} {as : List zo_V} (hM : ∀ q, X = some q → zo_MT (zo_Gof Y) (zo_J Y) y cc' nL' ret' d' (vr k j :: as) Ω q) (hd' : d' + 1 ≤ d) (hnL : nL' ≤ 45) (hk : k < 21) (hC : zo_Cn y n) (hn : as.length = n) (hlink : Cond.methodLinkNest own idx y host ∈ lw_tbl) (hin : Cond.instanceMethod y ∈ lw_all) (hsel : Cond.selects (zo_cl k).1 y y ∈ lw_all) (hini : Cond.initialized y.cls ∈ lw_all) (hcode : Cond.code y cc' nL' ret' ∈ lw_all) (h8 : st.length ≤ 4) (hd : decode cc pc = .ok (.invokevirtual idx, 3)) {st1 : List zo_V} (hs : as.reverse ++ vr k j :: st = st1) (h : cl X FV = some res) (kk : ∀ q r', X = some q → FV q.1 q.2.1 = some r' → TW Y r' q.2.1 (pc + 3) ls (q.1.toList ++ st)) : TW Y res Ω pc ls st1 := by
  obtain ⟨q, r', hX, hF, rfl⟩ := cl_e h
  have kk := kk q r' hX hF
  have hM := hM q hX
  subst hs
  obtain ⟨p, l, e, R, s, m, args, below, meth, c, G, J, ρ0, Ω0, nL0, Q⟩ := Y
  obtain ⟨hx, hb, hml, rfl, hown, hts, hlk, hK, hfr, hlo⟩ := hY
  intro ρ H locs LS x y' hR hJ hE hL hq hv hvl hvs h1 h2
  have h1 : x + (r'.2.2.1 + q.2.2.1) = R.cells := h1
  have h2 : y' + (r'.2.2.2 + q.2.2.2) = R.slots := h2
  obtain ⟨hva, hvo, hvr⟩ := zo_vs_app hvs
  have cw := va_cnB (rm := { frames := d', cells := q.2.2.1, slots := q.2.2.2, locals := 64 * d' }) (R := R) (mc := q.2.2.1) (ms := q.2.2.2) n hts (lw_meth hcode) rfl rfl rfl (hK.2.2.1 _ hlink rfl) (hts _ hini) hC ⟨by show d' + 1 ≤ R.frames; omega, by show 8 + (nL' + 11) + 64 * d' ≤ R.locals; omega⟩
  exact zo_after (q := q) (r' := r') (va_runVN (As := as.map (zo_c ρ)) (rest := st.map (zo_c ρ)) ⟨hx, hb, hml, hown, hts⟩ (hM l ρ) ⟨cw, hts _ hin, hts _ hsel⟩ ⟨zo_blind, zo_recv hK hR hk hvo, fun U hU hW => ⟨rfl, by rw [hU]; exact hR, hJ, hK.moved hW, hvo, hva⟩⟩ rfl (by rw [List.length_map]; exact hn) hv.1 (by rw [List.map_append, List.map_reverse]; rfl) (by have := zo_room8 (ρ := ρ) h8; show 2 * 0 + _ ≤ 8; omega) hd ⟨by omega, by omega⟩) hE hL hq hv hvl hvr h1 h2 kk
theorem zo_callIN (hY : zo_Gd Y cc nL own d) {idx n k j : Nat} {host : String} {y : MethodName} {cc' : ByteArray} {nL' d' : Nat} {as : List zo_V} (hM : ∀ q, X = some q → zo_MT (zo_Gof Y) (zo_J Y) y cc' nL' none d' (vr k j :: as) Ω q) (hd' : d' + 1 ≤ d) (hnL : nL' ≤ 45) (hC : zo_Cn y n) (hnm : y.name = "<init>") (hn : as.length = n) (hlink : Cond.methodLinkNest own idx y host ∈ lw_tbl) (hin : Cond.instanceMethod y ∈ lw_all) (hini : Cond.initialized y.cls ∈ lw_all) (hcode : Cond.code y cc' nL' none ∈ lw_all) (h8 : st.length ≤ 4) (hd : decode cc pc = .ok (.invokespecial idx, 3)) {st1 : List zo_V} (hs : as.reverse ++ vr k j :: st = st1) (h : cl X FV = some res) (kk : ∀ q r', X = some q → FV q.1 q.2.1 = some r' → TW Y r' q.2.1 (pc + 3) ls (q.1.toList ++ st)) : TW Y res Ω pc ls st1 := by
  obtain ⟨q, r', hX, hF, rfl⟩ := cl_e h
  have kk := kk q r' hX hF
  have hM := hM q hX
  subst hs
  obtain ⟨p, l, e, R, s, m, args, below, meth, c, G, J, ρ0, Ω0, nL0, Q⟩ := Y
  obtain ⟨hx, hb, hml, rfl, hown, hts, hlk, hK, hfr, hlo⟩ := hY
  intro ρ H locs LS x y' hR hJ hE hL hq hv hvl hvs h1 h2
  have h1 : x + (r'.2.2.1 + q.2.2.1) = R.cells := h1
  have h2 : y' + (r'.2.2.2 + q.2.2.2) = R.slots := h2
  obtain ⟨hva, hvo, hvr⟩ := zo_vs_app hvs
  have cw := va_cnB (rm := { frames := d', cells := q.2.2.1, slots := q.2.2.2, locals := 64 * d' }) (R := R) (mc := q.2.2.1) (ms := q.2.2.2) n hts (lw_meth hcode) rfl rfl rfl (hK.2.2.1 _ hlink rfl) (hts _ hini) hC ⟨by show d' + 1 ≤ R.frames; omega, by show 8 + (nL' + 11) + 64 * d' ≤ R.locals; omega⟩
  exact zo_after (q := q) (r' := r') (va_runIN (b := ρ k j) (As := as.map (zo_c ρ)) (rest := st.map (zo_c ρ)) ⟨hx, hb, hml, hown, hts⟩ (hM l ρ) ⟨cw, hnm, hts _ hin⟩ ⟨zo_blind, fun U hU hW => ⟨rfl, by rw [hU]; exact hR, hJ, hK.moved hW, hvo, hva⟩⟩ rfl (by rw [List.length_map]; exact hn) hv.1 (by rw [List.map_append, List.map_reverse]; rfl) (by have := zo_room8 (ρ := ρ) h8; show 2 * 0 + _ ≤ 8; omega) hd ⟨by omega, by omega⟩) hE hL hq hv hvl hvr h1 h2 kk
theorem zo_mmax (hY : zo_Gd Y cc nL own d) (hdp : 1 ≤ d) {a b : Int32} {idx : Nat} (hlink : Cond.methodLink own idx Lib.Math.max.name ∈ lw_all) (h8 : st.length ≤ 4) (hd : decode cc pc = .ok (.invokestatic idx, 3)) (k : TW Y res Ω (pc + 3) ls (vi (mx a b) :: st)) : TW Y res Ω pc ls (vi b :: vi a :: st) := by
  obtain ⟨p, l, e, R, s, m, args, below, meth, c, G, J, ρ0, Ω0, nL0, Q⟩ := Y
  obtain ⟨hx, hb, hml, rfl, hown, hts, hlk, hK, hfr, hlo⟩ := hY
  intro ρ H locs LS x y hR hJ hE hL hq hv hvl hvs h1 h2
  have := zo_room8 (ρ := ρ) h8
  exact va_mmax hx hb (by rw [hml]; exact hv.1.symm) hown (hts _ hlink) (hts _ zo_q_maxs) (hts _ zo_q_mi) (hts _ zo_q_maxc) (by omega) (by omega) (by omega) (by omega) hd (k ρ H locs LS x y hR hJ hE hL hq hv hvl ⟨trivial, hvs.2.2⟩ h1 h2)
theorem zo_mmin (hY : zo_Gd Y cc nL own d) (hdp : 1 ≤ d) {a b : Int32} {idx : Nat} (hlink : Cond.methodLink own idx Lib.Math.min.name ∈ lw_all) (h8 : st.length ≤ 4) (hd : decode cc pc = .ok (.invokestatic idx, 3)) (k : TW Y res Ω (pc + 3) ls (vi (mn a b) :: st)) : TW Y res Ω pc ls (vi b :: vi a :: st) := by
  obtain ⟨p, l, e, R, s, m, args, below, meth, c, G, J, ρ0, Ω0, nL0, Q⟩ := Y
  obtain ⟨hx, hb, hml, rfl, hown, hts, hlk, hK, hfr, hlo⟩ := hY
  intro ρ H locs LS x y hR hJ hE hL hq hv hvl hvs h1 h2
  have := zo_room8 (ρ := ρ) h8
  exact va_mmin hx hb (by rw [hml]; exact hv.1.symm) hown (hts _ hlink) (hts _ zo_q_mins) (hts _ zo_q_mi) (hts _ zo_q_minc) (by omega) (by omega) (by omega) (by omega) hd (k ρ H locs LS x y hR hJ hE hL hq hv hvl ⟨trivial, hvs.2.2⟩ h1 h2)
/-- a String constant's bytes -/
theorem zo_sval (hY : zo_Gd Y cc nL own d) {idx j : Nat} (hj : j < 14) (hlink : Cond.fieldLink own idx "java/lang/String" "value" "[B" ∈ lw_all) (hd : decode cc pc = .ok (.getfield idx, 3)) (k : TW Y res Ω (pc + 3) ls (vr 22 (j + 1) :: st)) : TW Y res Ω pc ls (vr 21 j :: st) := by
  obtain ⟨p, l, e, R, s, m, args, below, meth, c, G, J, ρ0, Ω0, nL0, Q⟩ := Y
  obtain ⟨hx, hb, hml, rfl, hown, hts, hlk, hK, hfr, hlo⟩ := hY
  intro ρ H locs LS x y hR hJ hE hL hq hv hvl hvs h1 h2
  have kk := k ρ H locs LS x y hR hJ hE hL hq hv hvl ⟨Or.inr (Or.inl rfl), hvs.2⟩ h1 h2
  have hW := hK.2.2.2.2.2.2.2.2
  obtain ⟨cf, k1, fi, f, cell, g1, g2, g3, g4, g5, g6⟩ := va_OF.moved hW.alike ((hK.2.2.2.2.2.2.2.1).1 j hj).2.2.1
  have e1 : ρ 21 j = G.2.2.2.2.1 21 j := (hR.2.2.1 j).1
  have e2 : ρ 22 (j + 1) = G.2.2.2.2.1 22 (j + 1) := (hR.2.2.1 (j + 1)).2
  have hlt : G.2.2.2.2.1 21 j < G.2.2.2.1.size := (Array.getElem?_eq_some_iff.mp g3).1
  refine W.getf (a := ρ 21 j) (v := .ref (ρ 22 (j + 1))) hx hb hown (hts _ hlink) g1 g2 (by rw [e1, hR.2.1 _ hlt]; exact g3) g4 (by rw [e2]; exact g5) rfl rfl hd kk
theorem zo_scod (hY : zo_Gd Y cc nL own d) {idx j : Nat} (hj : j < 14) (hlink : Cond.fieldLink own idx "java/lang/String" "coder" "B" ∈ lw_all) (hd : decode cc pc = .ok (.getfield idx, 3)) (k : TW Y res Ω (pc + 3) ls (vi 0 :: st)) : TW Y res Ω pc ls (vr 21 j :: st) := by
  obtain ⟨p, l, e, R, s, m, args, below, meth, c, G, J, ρ0, Ω0, nL0, Q⟩ := Y
  obtain ⟨hx, hb, hml, rfl, hown, hts, hlk, hK, hfr, hlo⟩ := hY
  intro ρ H locs LS x y hR hJ hE hL hq hv hvl hvs h1 h2
  have kk := k ρ H locs LS x y hR hJ hE hL hq hv hvl ⟨trivial, hvs.2⟩ h1 h2
  have hW := hK.2.2.2.2.2.2.2.2
  obtain ⟨cf, k1, fi, f, cell, g1, g2, g3, g4, g5, g6⟩ := va_OF.moved hW.alike ((hK.2.2.2.2.2.2.2.1).1 j hj).2.1
  have e1 : ρ 21 j = G.2.2.2.2.1 21 j := (hR.2.2.1 j).1
  have hlt : G.2.2.2.2.1 21 j < G.2.2.2.1.size := (Array.getElem?_eq_some_iff.mp g3).1
  exact W.getf (a := ρ 21 j) (v := .int 0) hx hb hown (hts _ hlink) g1 g2 (by rw [e1, hR.2.1 _ hlt]; exact g3) g4 g5 rfl rfl hd kk
theorem zo_sln (hY : zo_Gd Y cc nL own d) {j : Nat} (hj : j < 14) (hd : decode cc pc = .ok (.arraylength, 1)) (k : TW Y res Ω (pc + 1) ls (vi (nI (zo_sl j)) :: st)) : TW Y res Ω pc ls (vr 22 (j + 1) :: st) := by
  obtain ⟨p, l, e, R, s, m, args, below, meth, c, G, J, ρ0, Ω0, nL0, Q⟩ := Y
  obtain ⟨hx, hb, hml, rfl, hown, hts, hlk, hK, hfr, hlo⟩ := hY
  intro ρ H locs LS x y hR hJ hE hL hq hv hvl hvs h1 h2
  have kk := k ρ H locs LS x y hR hJ hE hL hq hv hvl ⟨trivial, hvs.2⟩ h1 h2
  have hW := hK.2.2.2.2.2.2.2.2
  obtain ⟨cell, g1, g2, g3, g4, g5, g6, g7⟩ := va_T.moved hW.alike ((hK.2.2.2.2.2.2.2.1).1 j hj).2.2.2
  have e2 : ρ 22 (j + 1) = G.2.2.2.2.1 22 (j + 1) := (hR.2.2.1 (j + 1)).2
  have hlt : G.2.2.2.2.1 22 (j + 1) < G.2.2.2.1.size := (Array.getElem?_eq_some_iff.mp g1).1
  exact W.alen (a := ρ 22 (j + 1)) (n := nI (zo_sl j)) hx hb (by rw [e2, hR.2.1 _ hlt]; exact g1) g2 g5 rfl rfl hd kk
theorem zo_sbl (hY : zo_Gd Y cc nL own d) {j : Nat} {i : Int32} (hj : j < 14) (hd : decode cc pc = .ok (.baload, 1)) (h : ix i (zo_sl j) F = some res) (k : ∀ z, F z = some res → TW Y res Ω (pc + 1) ls (vi (zo_sb j z) :: st)) : TW Y res Ω pc ls (vi i :: vr 22 (j + 1) :: st) := by
  obtain ⟨hin, h'⟩ := ix_e h
  have k := k _ h'
  obtain ⟨p, l, e, R, s, m, args, below, meth, c, G, J, ρ0, Ω0, nL0, Q⟩ := Y
  obtain ⟨hx, hb, hml, rfl, hown, hts, hlk, hK, hfr, hlo⟩ := hY
  intro ρ H locs LS x y hR hJ hE hL hq hv hvl hvs h1 h2
  have kk := k ρ H locs LS x y hR hJ hE hL hq hv hvl ⟨trivial, hvs.2.2⟩ h1 h2
  have hW := hK.2.2.2.2.2.2.2.2
  obtain ⟨cell, g1, g2, g3, g4, g5, g6, g7⟩ := va_T.moved hW.alike ((hK.2.2.2.2.2.2.2.1).1 j hj).2.2.2
  have e2 : ρ 22 (j + 1) = G.2.2.2.2.1 22 (j + 1) := (hR.2.2.1 (j + 1)).2
  have hlt : G.2.2.2.2.1 22 (j + 1) < G.2.2.2.1.size := (Array.getElem?_eq_some_iff.mp g1).1
  have hi : i.toNatClampNeg < zo_sl j := zo_lt hin
  have hin' : ¬ (i < 0 ∨ cell.slots.size ≤ i.toNatClampNeg) := fun q => q.elim (fun q => hin (Or.inl q)) (fun q => by omega)
  exact W.bald (a := ρ 22 (j + 1)) hx hb (by rw [e2, hR.2.1 _ hlt]; exact g1) g2 g3 hin' (g6 _ hi) rfl rfl hd kk
/-- the script -/
theorem zo_scl (hY : zo_Gd Y cc nL own d) (hd : decode cc pc = .ok (.arraylength, 1)) (k : TW Y res Ω (pc + 1) ls (vi (nI (zo_Gof Y).2.2.2.2.2.2.2.2.1) :: st)) : TW Y res Ω pc ls (vr 22 0 :: st) := by
  obtain ⟨p, l, e, R, s, m, args, below, meth, c, G, J, ρ0, Ω0, nL0, Q⟩ := Y
  obtain ⟨hx, hb, hml, rfl, hown, hts, hlk, hK, hfr, hlo⟩ := hY
  intro ρ H locs LS x y hR hJ hE hL hq hv hvl hvs h1 h2
  have kk := k ρ H locs LS x y hR hJ hE hL hq hv hvl ⟨trivial, hvs.2⟩ h1 h2
  have hW := hK.2.2.2.2.2.2.2.2
  obtain ⟨hlt, hX⟩ := (hK.2.2.2.2.2.2.2.1).2.1
  obtain ⟨scr, g1, g2, g3, g4, g5⟩ := va_X.moved hW.alike hX
  have e2 : ρ 22 0 = G.2.2.2.2.1 22 0 := (hR.2.2.1 0).2
  exact W.alen (a := ρ 22 0) (n := nI G.2.2.2.2.2.2.2.2.1) hx hb (by rw [e2, hR.2.1 _ hlt]; exact g1) g2 (by rw [g4] <;> rfl) rfl rfl hd kk
theorem zo_scd (hY : zo_Gd Y cc nL own d) {i : Int32} {N : Nat} (hN : N = (zo_Gof Y).2.2.2.2.2.2.2.2.1) (hd : decode cc pc = .ok (.iaload, 1)) (h : ix i N F = some res) (k : ∀ z, F z = some res → TW Y res Ω (pc + 1) ls (vi ((zo_Gof Y).2.2.2.2.2.2.2.2.2 z) :: st)) : TW Y res Ω pc ls (vi i :: vr 22 0 :: st) := by
  obtain ⟨hin, h'⟩ := ix_e h
  have k := k _ h'
  obtain ⟨p, l, e, R, s, m, args, below, meth, c, G, J, ρ0, Ω0, nL0, Q⟩ := Y
  obtain ⟨hx, hb, hml, rfl, hown, hts, hlk, hK, hfr, hlo⟩ := hY
  intro ρ H locs LS x y hR hJ hE hL hq hv hvl hvs h1 h2
  have kk := k ρ H locs LS x y hR hJ hE hL hq hv hvl ⟨trivial, hvs.2.2⟩ h1 h2
  have hW := hK.2.2.2.2.2.2.2.2
  obtain ⟨hlt, hX⟩ := (hK.2.2.2.2.2.2.2.1).2.1
  obtain ⟨scr, g1, g2, g3, g4, g5⟩ := va_X.moved hW.alike hX
  have e2 : ρ 22 0 = G.2.2.2.2.1 22 0 := (hR.2.2.1 0).2
  have hN : N = G.2.2.2.2.2.2.2.2.1 := hN
  subst hN
  exact W.iald (a := ρ 22 0) hx hb (by rw [e2, hR.2.1 _ hlt]; exact g1) g2 g3 (by rw [g4]; exact hin) (g5 _ (zo_lt hin)) rfl rfl hd kk
/-- a static that holds an int, as the start has it -/
theorem zo_gsI (hY : zo_Gd Y cc nL own d) {C n ds : String} {idx : Nat} {v : Int32} (hZ : ∀ G U, zo_K G U → va_Z C n ds (.int v) (fun q => G.2.2.2.1.size ≤ q) G.2.2.2.2.2.2.1 G.2.2.2.1) (hlink : Cond.fieldLink own idx C n ds ∈ lw_all) (hd : decode cc pc = .ok (.getstatic idx, 3)) (k : TW Y res Ω (pc + 3) ls (vi v :: st)) : TW Y res Ω pc ls st := by
  obtain ⟨p, l, e, R, s, m, args, below, meth, c, G, J, ρ0, Ω0, nL0, Q⟩ := Y
  obtain ⟨hx, hb, hml, rfl, hown, hts, hlk, hK, hfr, hlo⟩ := hY
  intro ρ H locs LS x y hR hJ hE hL hq hv hvl hvs h1 h2
  have kk := k ρ H locs LS x y hR hJ hE hL hq hv hvl ⟨trivial, hvs⟩ h1 h2
  have hW := hK.2.2.2.2.2.2.2.2
  obtain ⟨cf, kf, fi, f, a, cell, g1, g2, g3, g4, g5, g6, g7, g8⟩ := (hZ G s hK).moved hW.alike
  have hlt : a < G.2.2.2.1.size := (Array.getElem?_eq_some_iff.mp g5).1
  exact W.gets hx hb hown (hts _ hlink) g1 g2 g3 g4 (by rw [hR.2.1 _ hlt]; exact g5) (fun e => by rw [e] at g6; cases g6) g7 rfl hd kk
/-- a list's size -/
theorem zo_lsi (hY : zo_Gd Y cc nL own d) {idx n : Nat} (hlink : Cond.fieldLink own idx "java/util/ArrayList" "size" "I" ∈ lw_all) (hd : decode cc pc = .ok (.getfield idx, 3)) (k : TW Y res Ω (pc + 3) ls (vi (nI (gS Ω n).length) :: st)) : TW Y res Ω pc ls (vr 20 n :: st) := by
  obtain ⟨p, l, e, R, s, m, args, below, meth, c, G, J, ρ0, Ω0, nL0, Q⟩ := Y
  obtain ⟨hx, hb, hml, rfl, hown, hts, hlk, hK, hfr, hlo⟩ := hY
  intro ρ H locs LS x y hR hJ hE hL hq hv hvl hvs h1 h2
  have kk := k ρ H locs LS x y hR hJ hE hL hq hv hvl ⟨trivial, hvs.2⟩ h1 h2
  obtain ⟨hc, -⟩ := hR.cell (zo_lv_of hvs.1 (by omega) (by omega))
  unfold zo_cell at hc
  rw [if_pos (by decide)] at hc
  obtain ⟨cell, q1, q2, q3, q4⟩ := hc
  obtain ⟨hS, hfc, kC, hkC, hkind⟩ := hK.1 20 (by decide)
  obtain ⟨cf, kf, fi, fd, hi, hsl⟩ := hS 2 (by decide)
  have hst := (u_facts hfc hkC (u_lays hts (zo_in 20 (by decide)) (by decide)) hi).1
  exact W.getf (a := ρ 20 n) hx hb hown (hts _ hlink) hi hst q1 (by rw [q3]; exact fun h => by cases h) (by rw [hsl, q4 2 (by decide)]; rfl) rfl rfl hd kk
/-- a list's element: getfield elementData, iload_1, aaload -/
theorem zo_lgt (hY : zo_Gd Y cc nL own d) {idx n q0 : Nat} {i : Int32} (hlink : Cond.fieldLink own idx "java/util/ArrayList" "elementData" "[Ljava/lang/Object;" ∈ lw_all) (hl1 : ls[q0]? = some (1, vi i)) (hd : decode cc pc = .ok (.getfield idx, 3)) (hd2 : decode cc (pc + 3) = .ok (.iload_n 1, 1)) (hd3 : decode cc (pc + 3 + 1) = .ok (.aaload, 1)) (h : ix i (gS Ω n).length F = some res) (k : ∀ z, z < (gS Ω n).length → F z = some res → TW Y res Ω (pc + 3 + 1 + 1) ls (vo ((gS Ω n)[z]?) :: st)) : TW Y res Ω pc ls (vr 20 n :: st) := by
  obtain ⟨hin, h'⟩ := ix_e h
  have hlt := zo_lt hin
  have k := k _ hlt h'
  obtain ⟨p, l, e, R, s, m, args, below, meth, c, G, J, ρ0, Ω0, nL0, Q⟩ := Y
  obtain ⟨hx, hb, hml, rfl, hown, hts, hlk, hK, hfr, hlo⟩ := hY
  intro ρ H locs LS x y hR hJ hE hL hq hv hvl hvs h1 h2
  have hlv := zo_lv_of hvs.1 (by omega) (by omega)
  have hn : n < gC Ω 20 := by
    unfold zo_lv at hlv
    rw [if_neg (by decide)] at hlv
    exact hlv
  have hok : zo_vk Ω (vo ((gS Ω n)[i.toNatClampNeg]?)) := by
    cases hg : (gS Ω n)[i.toNatClampNeg]? with
    | none => trivial
    | some t => exact hR.2.2.2.2.2.1 n t hn (List.mem_of_getElem? hg)
  have kk := k ρ H locs LS x y hR hJ hE hL hq hv hvl ⟨hok, hvs.2⟩ h1 h2
  have hne : gS Ω n ≠ [] := fun q => by rw [q] at hlt; exact absurd hlt (Nat.not_lt_zero _)
  obtain ⟨hc, -⟩ := hR.cell hlv
  unfold zo_cell at hc
  rw [if_pos (by decide)] at hc
  obtain ⟨cell, q1, q2, q3, q4⟩ := hc
  obtain ⟨hS, hfc, kC, hkC, hkind⟩ := hK.1 20 (by decide)
  obtain ⟨cf, kf, fi, fd, hi, hsl⟩ := hS 1 (by decide)
  have hst := (u_facts hfc hkC (u_lays hts (zo_in 20 (by decide)) (by decide)) hi).1
  have h40 : zo_lv Ω 40 n := by unfold zo_lv; rw [if_pos rfl]; exact ⟨hn, hne⟩
  obtain ⟨hc2, -⟩ := hR.cell h40
  unfold zo_cell at hc2
  rw [if_neg (by decide)] at hc2
  have hlen : zo_ln Ω 40 n = zo_cap (gS Ω n).length := by unfold zo_ln; rw [if_pos rfl]
  have hcap : (gS Ω n).length ≤ zo_cap (gS Ω n).length := zo_cap_ge _
  refine W.getf (a := ρ 20 n) (v := .ref (ρ 40 n)) hx hb hown (hts _ hlink) hi hst q1 (by rw [q3]; exact fun h => by cases h) (by rw [hsl, q4 1 (by decide)]; unfold zo_fv; rw [if_pos rfl, if_pos rfl, if_neg hne]) rfl rfl hd ?_
  refine lv_iload_n hx hb hd2 rfl (zo_lat hv q0 hl1) ?_
  have hA := (hK.2.1 40 (by decide) (by decide)).1
  have hin2 : vp_in i (zo_ln Ω 40 n) := by
    rw [hlen]
    exact fun q => q.elim (fun q => hin (Or.inl q)) (fun q => by omega)
  refine W.aald (a := ρ 40 n) (v := zo_mp ρ ((gS Ω n)[i.toNatClampNeg]?)) (ty := zo_at 40) hx hb hc2 (hA _ _) rfl (fun q => by cases q) (zo_isz hin2) ?_ rfl rfl hd3 kk
  rw [arrV_read _ _ (zo_lt hin2)]
  unfold zo_av
  rw [if_pos rfl]
/-- a call through a String constant -/
theorem zo_callVS (hY : zo_Gd Y cc nL own d) {idx n j : Nat} {y : MethodName} {cc' : ByteArray} {nL' d' : Nat} {ret' : Option FieldType} {as : List zo_V} (hM : ∀ q, X = some q → zo_MT (zo_Gof Y) (zo_J Y) y cc' nL' ret' d' (vr 21 j :: as) Ω q) (hj : j < 14) (hd' : d' + 1 ≤ d) (hnL : nL' ≤ 45) (hcl : y.cls = "java/lang/String") (hC : zo_Cn y n) (hn : as.length = n) (hlink : Cond.methodLink own idx y ∈ lw_all) (hin : Cond.instanceMethod y ∈ lw_all) (hsel : Cond.selects "java/lang/String" y y ∈ lw_all) (hini : Cond.initialized "java/lang/String" ∈ lw_all) (hcode : Cond.code y cc' nL' ret' ∈ lw_all) (h8 : st.length ≤ 4) (hd : decode cc pc = .ok (.invokevirtual idx, 3)) {st1 : List zo_V} (hs : as.reverse ++ vr 21 j :: st = st1) (h : cl X FV = some res) (kk : ∀ q r', X = some q → FV q.1 q.2.1 = some r' → TW Y r' q.2.1 (pc + 3) ls (q.1.toList ++ st)) : TW Y res Ω pc ls st1 := by
  obtain ⟨q, r', hX, hF, rfl⟩ := cl_e h
  have kk := kk q r' hX hF
  have hM := hM q hX
  subst hs
  obtain ⟨p, l, e, R, s, m, args, below, meth, c, G, J, ρ0, Ω0, nL0, Q⟩ := Y
  obtain ⟨hx, hb, hml, rfl, hown, hts, hlk, hK, hfr, hlo⟩ := hY
  intro ρ H locs LS x y' hR hJ hE hL hq hv hvl hvs h1 h2
  have h1 : x + (r'.2.2.1 + q.2.2.1) = R.cells := h1
  have h2 : y' + (r'.2.2.2 + q.2.2.2) = R.slots := h2
  obtain ⟨hva, hvo, hvr⟩ := zo_vs_app hvs
  have cw := cwV (rm := { frames := d', cells := q.2.2.1, slots := q.2.2.2, locals := 64 * d' }) (R := R) (mc := q.2.2.1) (ms := q.2.2.2) n hts (lw_V hlink hin hsel hini hcode) rfl rfl rfl ⟨hcl, hC⟩ ⟨by show d' + 1 ≤ R.frames; omega, by show 8 + (nL' + 11) + 64 * d' ≤ R.locals; omega⟩
  have hcell : ∃ cell : Cell, H[ρ 21 j]? = some cell ∧ cell.vm.isStatics = false ∧ s.vm.findClass "java/lang/String" = some cell.cls := by
    have hW := hK.2.2.2.2.2.2.2.2
    obtain ⟨cell, g1, g2, g3, g4⟩ := va_O.moved hW.alike ((hK.2.2.2.2.2.2.2.1).1 j hj).1
    have e1 : ρ 21 j = G.2.2.2.2.1 21 j := (hR.2.2.1 j).1
    have hlt : G.2.2.2.2.1 21 j < G.2.2.2.1.size := (Array.getElem?_eq_some_iff.mp g1).1
    exact ⟨cell, by rw [e1, hR.2.1 _ hlt]; exact g1, g2, g3⟩
  refine zo_after (q := q) (r' := r') (va_runV (b := ρ 21 j) (As := as.map (zo_c ρ)) (rest := st.map (zo_c ρ)) ⟨hx, hb, hml, hown, hts⟩ (hM l ρ) cw ⟨zo_blind, hcell, fun U hU hW => ⟨rfl, by rw [hU]; exact hR, hJ, hK.moved hW, hvo, hva⟩⟩ rfl (by rw [List.length_map]; exact hn) hv.1 (by rw [List.map_append, List.map_reverse]; rfl) (by have := zo_room8 (ρ := ρ) h8; show 2 * 0 + _ ≤ 8; omega) hd ⟨by omega, by omega⟩) hE hL hq hv hvl hvr h1 h2 kk
theorem zo_nret (hY : zo_Gd Y cc nL own d) {ty : FieldType} (hty : ty = .byte ∨ ty = .char) (hr : zo_rt Y (some ty)) {a : Int32} (hd : decode cc pc = .ok (.ireturn, 1)) (h : rN ty a Ω = some res) : TW Y res Ω pc ls [vi a] := by
  have hg := gd_e h
  clear h
  obtain ⟨hna, h⟩ := hg
  cases h
  have hnar : narrow ty (.int a) = .int a := by
    rcases hty with rfl | rfl
    · show Value.int (vp_nar .byte a) = _
      rw [hna]
    · show Value.int (vp_nar .char a) = _
      rw [hna]
  obtain ⟨p, l, e, R, s, m, args, below, meth, c, G, J, ρ0, Ω0, nL0, Q⟩ := Y
  obtain ⟨hx, hb, hml, rfl, hown, hts, hlk, hK, hfr, hlo⟩ := hY
  obtain ⟨hrt, rfl⟩ := hr
  intro ρ H locs LS x y hR hJ hE hL hq hv hvl hvs h1 h2
  have h1 : x = R.cells := h1
  have h2 : y = R.slots := h2
  subst h1 h2
  exact W.zret hx hb hrt hnar (fun t ht hW => ⟨ρ, rfl, by rw [ht]; exact hR, hJ, hE, hL, fun v hv => by cases hv; trivial⟩) hq hd hlk
end TWM
