/-! ===== new cells, answers, contracts, calls ===== -/
set_option maxRecDepth 10000
/-- what a method asks and leaves -/
def zo_Pc (G : zo_G) (J : zo_O → Prop) (ρ : Nat → Nat → Nat) (as : List zo_V) (Ω : zo_O) : Array Value → State → Prop := fun a U => a = (as.map (zo_c ρ)).toArray ∧ zo_Rep G ρ Ω U.heap ∧ J Ω ∧ zo_K G U ∧ zo_vs Ω as
def zo_Qc (G : zo_G) (J : zo_O → Prop) (ρ : Nat → Nat → Nat) (Ω : zo_O) (r : Option zo_V) (Ω' : zo_O) : Array Value → State → Outcome → State → Prop := fun _ _ o t => ∃ ρ', o = .returned (r.map (zo_c ρ')) ∧ zo_Rep G ρ' Ω' t.heap ∧ J Ω' ∧ zo_ext Ω ρ ρ' ∧ zo_le Ω Ω' ∧ ∀ v, r = some v → zo_vk Ω' v
def zo_MT (G : zo_G) (J : zo_O → Prop) (y : MethodName) (cc : ByteArray) (nL : Nat) (ret : Option FieldType) (d : Nat) (as : List zo_V) (Ω : zo_O) (res : zo_R) : Prop :=
  ∀ (l : Launch) (ρ : Nat → Nat → Nat), Met l y (ws_ y cc nL ret) { frames := d, cells := res.2.2.1, slots := res.2.2.2, locals := 64 * d } (zo_Pc G J ρ as Ω) (zo_Qc G J ρ Ω res.1 res.2.1) res.2.2.1 res.2.2.2 (fun q => G.2.2.2.1.size ≤ q)
def zo_rt : zo_Y → Option FieldType → Prop
  | (_, _, _, R, s, _, args, below, meth, _, G, J, ρ0, Ω0, _, Q), rt => meth.sig.returnType = rt ∧ Q = fun o Ω' => MQ below (zo_Qc G J ρ0 Ω0 o Ω') args s R.cells R.slots (fun q => G.2.2.2.1.size ≤ q)
def zo_Gof : zo_Y → zo_G
  | (_, _, _, _, _, _, _, _, _, _, G, _, _, _, _, _) => G
def rI (a : Int32) (Ω : zo_O) : Option zo_R := some (some (vi a), Ω, 0, 0)
def rZ (a : Int32) (Ω : zo_O) : Option zo_R := gd (a = 0 ∨ a = 1) (some (some (vi a), Ω, 0, 0))
def rV (Ω : zo_O) : Option zo_R := some (none, Ω, 0, 0)
def rR (o : Option zo_T) (Ω : zo_O) : Option zo_R := some (some (vo o), Ω, 0, 0)
theorem zo_nolong : ∀ k, k < 21 → ∀ f, f < (zo_cl k).2.2 → zo_ty k f ≠ .long ∧ zo_ty k f ≠ .float ∧ zo_ty k f ≠ .double := by decide +kernel
theorem zo_adf : ∀ k, 32 ≤ k → k < 44 → k ≠ 42 → (zo_at k).isReference = false → defaultValue (zo_at k) = Value.int 0 := by
  intro k h1 h2 h3 h4
  match k, h1, h2, h3, h4 with
  | 32, _, _, _, _ => rfl
  | 33, _, _, _, _ => rfl
  | 34, _, _, _, _ => rfl
  | 35, _, _, _, _ => rfl
  | 36, _, _, _, _ => rfl
  | 38, _, _, _, _ => rfl
  | 43, _, _, _, _ => rfl
  | 37, _, _, _, h => cases h
  | 39, _, _, _, h => cases h
  | 40, _, _, _, h => cases h
  | 41, _, _, _, h => cases h
  | 42, _, _, h, _ => exact absurd rfl h
  | k + 44, _, h, _, _ => exact absurd h (by omega)
theorem zo_q_oi : Cond.instanceMethod objectInit ∈ lw_all := q124
theorem zo_q_oc : Cond.code objectInit ⟨#[0xb1]⟩ 1 none ∈ lw_all := q125
section TWN
variable {Y : zo_Y} {res : zo_R} {Ω : zo_O} {pc : Nat} {ls : List (Nat × zo_V)} {st : List zo_V} {cc : ByteArray} {nL : Nat} {own : String} {d : Nat} {A : Option zo_R} {F : Nat → Option zo_R} {FO : zo_O → Option zo_R} {FJ : Nat → zo_O → Option zo_R}
theorem zo_iret (hY : zo_Gd Y cc nL own d) (hr : zo_rt Y (some .int)) {a : Int32} (hd : decode cc pc = .ok (.ireturn, 1)) (h : rI a Ω = some res) : TW Y res Ω pc ls [vi a] := by
  cases h
  obtain ⟨p, l, e, R, s, m, args, below, meth, c, G, J, ρ0, Ω0, nL0, Q⟩ := Y
  obtain ⟨hx, hb, hml, rfl, hown, hts, hlk, hK, hfr, hlo⟩ := hY
  obtain ⟨hrt, rfl⟩ := hr
  intro ρ H locs LS x y hR hJ hE hL hq hv hvl hvs h1 h2
  have h1 : x = R.cells := h1
  have h2 : y = R.slots := h2
  subst h1 h2
  exact W.iret hx hb hrt (fun t ht hW => ⟨ρ, rfl, by rw [ht]; exact hR, hJ, hE, hL, fun v hv => by cases hv; trivial⟩) hq hd hlk
theorem zo_zret (hY : zo_Gd Y cc nL own d) (hr : zo_rt Y (some .boolean)) {a : Int32} (hd : decode cc pc = .ok (.ireturn, 1)) (h : rZ a Ω = some res) : TW Y res Ω pc ls [vi a] := by
  obtain ⟨h01, h⟩ := gd_e h
  cases h
  obtain ⟨p, l, e, R, s, m, args, below, meth, c, G, J, ρ0, Ω0, nL0, Q⟩ := Y
  obtain ⟨hx, hb, hml, rfl, hown, hts, hlk, hK, hfr, hlo⟩ := hY
  obtain ⟨hrt, rfl⟩ := hr
  intro ρ H locs LS x y hR hJ hE hL hq hv hvl hvs h1 h2
  have h1 : x = R.cells := h1
  have h2 : y = R.slots := h2
  subst h1 h2
  exact W.zret hx hb hrt (by rcases h01 with rfl | rfl <;> rfl) (fun t ht hW => ⟨ρ, rfl, by rw [ht]; exact hR, hJ, hE, hL, fun v hv => by cases hv; trivial⟩) hq hd hlk
theorem zo_vret (hY : zo_Gd Y cc nL own d) (hr : zo_rt Y none) (hd : decode cc pc = .ok (.return_, 1)) (h : rV Ω = some res) : TW Y res Ω pc ls [] := by
  cases h
  obtain ⟨p, l, e, R, s, m, args, below, meth, c, G, J, ρ0, Ω0, nL0, Q⟩ := Y
  obtain ⟨hx, hb, hml, rfl, hown, hts, hlk, hK, hfr, hlo⟩ := hY
  obtain ⟨hrt, rfl⟩ := hr
  intro ρ H locs LS x y hR hJ hE hL hq hv hvl hvs h1 h2
  have h1 : x = R.cells := h1
  have h2 : y = R.slots := h2
  subst h1 h2
  exact W.vret hx hb hrt (fun t ht hW => ⟨ρ, rfl, by rw [ht]; exact hR, hJ, hE, hL, fun v hv => by cases hv⟩) hq hd hlk
theorem zo_aret (hY : zo_Gd Y cc nL own d) {rt : FieldType} (hr : zo_rt Y (some rt)) (hrt2 : (∃ n, rt = .object n) ∨ ∃ t, rt = .array t) {o : Option zo_T} (hd : decode cc pc = .ok (.areturn, 1)) (h : rR o Ω = some res) : TW Y res Ω pc ls [vo o] := by
  cases h
  obtain ⟨p, l, e, R, s, m, args, below, meth, c, G, J, ρ0, Ω0, nL0, Q⟩ := Y
  obtain ⟨hx, hb, hml, rfl, hown, hts, hlk, hK, hfr, hlo⟩ := hY
  obtain ⟨hrt, rfl⟩ := hr
  intro ρ H locs LS x y hR hJ hE hL hq hv hvl hvs h1 h2
  have h1 : x = R.cells := h1
  have h2 : y = R.slots := h2
  subst h1 h2
  refine W.aret (v := zo_mp ρ o) hx hb hrt hrt2 ?_ (fun t ht hW => ⟨ρ, rfl, by rw [ht]; exact hR, hJ, hE, hL, fun v hv => by cases hv; exact hvs.1⟩) hq hd hlk
  cases o with
  | none => exact Or.inl rfl
  | some t => exact Or.inr ⟨_, rfl⟩
/-- new, of a class that is no list -/
theorem zo_new (hY : zo_Gd Y cc nL own d) (hJC : zo_JC (zo_J Y)) {idx k N : Nat} (hk : k < 20) (hck : zo_ck k = false ∨ ∀ Ω, zo_J Y Ω → zo_J Y (nw Ω k 0)) (hNN : (zo_cl k).2.2 = N) (hcl : Cond.classLink own idx (zo_cl k).1 ∈ lw_all) (hins : Cond.instantiable (zo_cl k).1 N ∈ lw_all) (hini : Cond.initialized (zo_cl k).1 ∈ lw_all) (hd : decode cc pc = .ok (.new idx, 3)) (h : ad 1 N (lt (nw Ω k 0) FO) = some res) (kk : ∀ Ω' res', FO Ω' = some res' → TW Y res' Ω' (pc + 3) ls (vr k (gC Ω k) :: st)) : TW Y res Ω pc ls st := by
  obtain ⟨res', h', rfl⟩ := ad_e h
  clear h
  have kk := kk _ res' h'
  have hJ2 : zo_J Y Ω → zo_J Y (nw Ω k 0) := fun q => hck.elim (fun z => hJC.2.2.1 Ω k 0 z q) (fun z => z Ω q)
  obtain ⟨p, l, e, R, s, m, args, below, meth, c, G, J, ρ0, Ω0, nL0, Q⟩ := Y
  obtain ⟨hx, hb, hml, rfl, hown, hts, hlk, hK, hfr, hlo⟩ := hY
  intro ρ H locs LS x y hR hJ hE hL hq hv hvl hvs h1 h2
  have hKn := hK.1 k (by omega)
  have h1 : x + (res'.2.2.1 + 1) = R.cells := h1
  have h2 : y + (res'.2.2.2 + N) = R.slots := h2
  refine W.newcK hx hb hown (hts _ hcl) (hts _ hins) (hts _ hini) rfl hd (by omega) (by omega) hKn.2.1 rfl fun H1 kC hkC e1 z1 o1 => ?_
  have hcell : zo_cell G (zo_rn ρ k (gC Ω k) H.size) (nw Ω k 0) k (gC Ω k) H1 := by
    unfold zo_cell
    rw [if_pos (by omega)]
    have hρ : zo_rn ρ k (gC Ω k) H.size k (gC Ω k) = H.size := if_pos ⟨rfl, rfl⟩
    rw [hρ]
    refine (u_born (zo_ty k) hts (zo_in k (by omega)) hKn hkC e1 (zo_tyok k (by omega))).to (fun f hf => ?_)
    rw [zo_flds (by omega)]
    have hR0 : gR (nw Ω k 0) k (gC Ω k) f = none := if_pos ⟨rfl, rfl⟩
    have hI0 : gI (nw Ω k 0) k (gC Ω k) f = 0 := if_pos ⟨rfl, rfl⟩
    rw [hR0, hI0]
    unfold zo_rf
    have hnl := zo_nolong k (by omega) f hf
    cases hz : zo_ty k f with
    | object c => rfl
    | array t => rfl
    | long => exact absurd hz hnl.1
    | float => exact absurd hz hnl.2.1
    | double => exact absurd hz hnl.2.2
    | _ => rfl
  obtain ⟨hR', hE'⟩ := hR.new (by omega) z1 o1 hcell
  have hst := zo_st.ext hE' hvs
  have hls := zo_cs.ext hE' hvl
  have kk := kk (zo_rn ρ k (gC Ω k) H.size) H1 locs LS (x + 1) (y + N) hR' (hJ2 hJ) (hE.tr hL hE') (hL.tr zo_le.nw) hq (by rw [hls]; exact hv) (hvl.le zo_le.nw) ⟨Or.inr (Or.inr ⟨by show k ≠ 40; omega, by show gC Ω k < if k = k then gC Ω k + 1 else gC Ω k; rw [if_pos rfl]; omega⟩), zo_vs.le zo_le.nw hvs⟩ (by omega) (by omega)
  have hρ : zo_c (zo_rn ρ k (gC Ω k) H.size) (vr k (gC Ω k)) = .ref H.size := by
    show Value.ref (zo_rn ρ k (gC Ω k) H.size k (gC Ω k)) = _
    rw [show zo_rn ρ k (gC Ω k) H.size k (gC Ω k) = H.size from if_pos ⟨rfl, rfl⟩]
  rw [List.map_cons, hρ, hst] at kk
  exact kk
/-- newarray of ints, bytes, booleans, longs -/
theorem zo_newa (hY : zo_Gd Y cc nL own d) (hJC : zo_JC (zo_J Y)) {k : Nat} {a : Int32} {aty : ArrayType} (h32 : 32 ≤ k ∧ k < 44) (hty : zo_at k = newarray.typeOf aty) (hpr : (zo_at k).isReference = false) (hck : zo_ck k = false ∨ ∀ Ω len, zo_J Y Ω → zo_J Y (nw Ω k len)) (hac : Cond.arrayClass (newarray.typeOf aty) ∈ lw_all) (hd : decode cc pc = .ok (.newarray aty, 2)) (h : gd (¬ a < 0 ∧ a.toNatClampNeg ≤ 65536) (ad 1 a.toNatClampNeg (lt (nw Ω k a.toNatClampNeg) FO)) = some res) (kk : ∀ Ω' res', FO Ω' = some res' → TW Y res' Ω' (pc + 2) ls (vr k (gC Ω k) :: st)) : TW Y res Ω pc ls (vi a :: st) := by
  have hg := gd_e h
  clear h
  obtain ⟨⟨h0, hbig⟩, h⟩ := hg
  obtain ⟨res', h', rfl⟩ := ad_e h
  clear h
  have kk := kk _ res' h'
  generalize hN : a.toNatClampNeg = N at *
  have hJ2 : zo_J Y Ω → zo_J Y (nw Ω k N) := fun q => hck.elim (fun z => hJC.2.2.1 Ω k N z q) (fun z => z Ω N q)
  have h40 : k ≠ 40 := by rintro rfl; cases hpr
  obtain ⟨p, l, e, R, s, m, args, below, meth, c, G, J, ρ0, Ω0, nL0, Q⟩ := Y
  obtain ⟨hx, hb, hml, rfl, hown, hts, hlk, hK, hfr, hlo⟩ := hY
  intro ρ H locs LS x y hR hJ hE hL hq hv hvl hvs h1 h2
  have h1 : x + (res'.2.2.1 + 1) = R.cells := h1
  have h2 : y + (res'.2.2.2 + N) = R.slots := h2
  have hcb : N * componentBytes (newarray.typeOf aty) ≤ 536870912 := by
    have : componentBytes (newarray.typeOf aty) ≤ 8 := by cases aty <;> decide
    calc N * componentBytes (newarray.typeOf aty) ≤ 65536 * 8 := Nat.mul_le_mul hbig this
      _ ≤ 536870912 := by decide
  refine va_newaK hx hb (hts _ hac) rfl hd rfl h0 hN hcb (by omega) (by omega) rfl fun H1 cA e1 z1 o1 hAr hNm => ?_
  have hRA := (hK.2.1 k h32.1 h32.2).2
  have hcA : cA = G.2.2.1 k := by
    rw [hty] at hRA
    have hz : s.vm.findClass ("[" ++ (newarray.typeOf aty).toString) = some (G.2.2.1 k) := by cases aty <;> exact hRA
    exact Option.some.inj (hNm.symm.trans hz)
  subst hcA
  have hcell : zo_cell G (zo_rn ρ k (gC Ω k) H.size) (nw Ω k N) k (gC Ω k) H1 := by
    unfold zo_cell
    rw [if_neg (by omega)]
    have hρ : zo_rn ρ k (gC Ω k) H.size k (gC Ω k) = H.size := if_pos ⟨rfl, rfl⟩
    rw [hρ, e1]
    unfold zo_ln
    rw [if_neg h40]
    have hLn : gL (nw Ω k N) k (gC Ω k) = N := if_pos ⟨rfl, rfl⟩
    rw [hLn]
    congr 2
    funext i
    unfold zo_av
    have hI0 : gI (nw Ω k N) k (gC Ω k) i = 0 := if_pos ⟨rfl, rfl⟩
    have hJ0 : gJ (nw Ω k N) k (gC Ω k) i = 0 := if_pos ⟨rfl, rfl⟩
    rw [if_neg h40, hpr, if_neg (by decide), hI0, hJ0]
    by_cases h42 : k = 42
    · subst h42
      rw [if_pos rfl, ← hty]; rfl
    · rw [if_neg h42, ← hty]
      exact zo_adf k h32.1 h32.2 h42 hpr
  obtain ⟨hR', hE'⟩ := hR.new (by omega) z1 o1 hcell
  have hst := zo_st.ext hE' hvs.2
  have hls := zo_cs.ext hE' hvl
  have kk := kk (zo_rn ρ k (gC Ω k) H.size) H1 locs LS (x + 1) (y + N) hR' (hJ2 hJ) (hE.tr hL hE') (hL.tr zo_le.nw) hq (by rw [hls]; exact hv) (hvl.le zo_le.nw) ⟨Or.inr (Or.inr ⟨by show k ≠ 40; omega, by show gC Ω k < if k = k then gC Ω k + 1 else gC Ω k; rw [if_pos rfl]; omega⟩), zo_vs.le zo_le.nw hvs.2⟩ (by omega) (by omega)
  have hρ : zo_c (zo_rn ρ k (gC Ω k) H.size) (vr k (gC Ω k)) = .ref H.size := by
    show Value.ref (zo_rn ρ k (gC Ω k) H.size k (gC Ω k)) = _
    rw [show zo_rn ρ k (gC Ω k) H.size k (gC Ω k) = H.size from if_pos ⟨rfl, rfl⟩]
  rw [List.map_cons, hρ, hst] at kk
  exact kk
/-- Object's constructor -/
theorem zo_oini (hY : zo_Gd Y cc nL own d) (hdp : 1 ≤ d) {idx k n : Nat} (hlink : Cond.methodLink own idx objectInit ∈ lw_all) (hst8 : ∀ ρ, (((st.map (zo_c ρ)).map fun v => v.category).sum) ≤ 8) (hd : decode cc pc = .ok (.invokespecial idx, 3)) (kk : TW Y res Ω (pc + 3) ls st) : TW Y res Ω pc ls (vr k n :: st) := by
  obtain ⟨p, l, e, R, s, m, args, below, meth, c, G, J, ρ0, Ω0, nL0, Q⟩ := Y
  obtain ⟨hx, hb, hml, rfl, hown, hts, hlk, hK, hfr, hlo⟩ := hY
  intro ρ H locs LS x y hR hJ hE hL hq hv hvl hvs h1 h2
  have := hst8 ρ
  refine W.objInit hx hb hown (hts _ hlink) (hts _ zo_q_oi) (hts _ zo_q_oc) rfl (by rw [hml]; exact hv.1) rfl hd (by omega) ?_ (kk ρ H locs LS x y hR hJ hE hL hq hv hvl hvs.2 h1 h2)
  show 2 * 0 + _ + 12 ≤ R.locals
  omega
end TWN
/-! ===== contracts ===== -/
def zo_la : Nat → List zo_V → List (Nat × zo_V)
  | _, [] => []
  | i, v :: r => (i, v) :: zo_la (i + 1) r
def zo_a1 (v : zo_V) : Bool := match v with
  | .inl _ => true
  | .inr (.inl _) => true
  | _ => false
theorem zo_a1_c {v : zo_V} (h : zo_a1 v = true) (ρ : Nat → Nat → Nat) : (zo_c ρ v).category = 1 := by
  rcases v with x | (_ | t) | y
  · rfl
  · rfl
  · rfl
  · cases h
theorem zo_la_args (ρ : Nat → Nat → Nat) : ∀ (i : Nat) (as : List zo_V), as.all zo_a1 = true → lv_args i (as.map (zo_c ρ)) = zo_cs ρ (zo_la i as)
  | _, [], _ => rfl
  | i, v :: r, h => by
    simp only [List.all_cons, Bool.and_eq_true] at h
    show (i, zo_c ρ v) :: lv_args (if (zo_c ρ v).category = 2 then i + 2 else i + 1) (r.map (zo_c ρ)) = (i, zo_c ρ v) :: zo_cs ρ (zo_la (i + 1) r)
    rw [zo_a1_c h.1, if_neg (by decide), zo_la_args ρ (i + 1) r h.2]
theorem zo_la_len (ρ : Nat → Nat → Nat) : ∀ (as : List zo_V), as.all zo_a1 = true → (lg_sl (as.map (zo_c ρ))).length = as.length
  | [], _ => rfl
  | v :: r, h => by
    simp only [List.all_cons, Bool.and_eq_true] at h
    have ih := zo_la_len ρ r h.2
    unfold lg_sl at ih ⊢
    rw [List.map_cons, List.flatMap_cons, zo_a1_c h.1, if_neg (by decide), List.length_append, ih]
    simp; omega
theorem zo_la_vl {Ω : zo_O} : ∀ (i : Nat) (as : List zo_V), zo_vs Ω as → zo_vl Ω (zo_la i as)
  | _, [], _ => fun q h => by cases h
  | i, v :: r, h => fun q hq => by
    rcases List.mem_cons.mp hq with e | e
    · rw [e]; exact h.1
    · exact zo_la_vl (i + 1) r h.2 q e
/-- a method's contract out of a walk of its body -/
theorem zo_enter {G : zo_G} {J : zo_O → Prop} {y : MethodName} {cc : ByteArray} {nL : Nat} {ret : Option FieldType} {d : Nat} {as : List zo_V} {Ω : zo_O} {res : zo_R} (hy : plainName y.cls = true) (ha : as.all zo_a1 = true) (hn : as.length ≤ nL)
    (body : ∀ Y : zo_Y, zo_Gd Y cc nL y.cls d → zo_J Y = J → zo_rt Y ret → (y.name = "<init>" → zo_mn Y) → TW Y res Ω 0 (zo_la 0 as) []) : zo_MT G J y cc nL ret d as Ω res := by
  intro l ρ
  refine Met.ofW (cc := cc) (maxL := nL) (ret := ret) hy rfl ?_
  intro p e s m args below meth c s₁ B hml hv
  obtain ⟨rfl, hR, hJ, hK, hvs⟩ := hv
  have hts := atoms_spec (ws := ws_ y cc nL ret) B.pre
  have hts : ∀ w ∈ lw_all, w.before _ s = true := fun w h => hts w (List.mem_cons_of_mem _ h)
  have hl := lv_entry (as.map (zo_c ρ)) (n := nL) (by rw [zo_la_len ρ as ha]; exact hn)
  rw [zo_la_args ρ 0 as ha] at hl
  rw [lg_entry_eq]
  have hb := body (p, l, e, { frames := d, cells := res.2.2.1, slots := res.2.2.2, locals := 64 * d }, s, m, (as.map (zo_c ρ)).toArray, below, meth, c, G, J, ρ, Ω, nL, fun o Ω' => MQ below (zo_Qc G J ρ Ω o Ω') (as.map (zo_c ρ)).toArray s res.2.2.1 res.2.2.2 (fun q => G.2.2.2.1.size ≤ q))
    ⟨B.exec, B.bytes, hml, rfl, findClass_of_methodNamed B.named, hts, B.notSynchronized, hK, Nat.le_refl _, Nat.le_refl _⟩ rfl ⟨B.returns, rfl⟩ (fun h => (name_of_methodNamed B.named B.method).1.trans h)
  exact hb ρ s.heap [] _ 0 0 hR hJ zo_ext.rf zo_le.rf (fun q h => by cases h) hl (zo_la_vl 0 as hvs) trivial (Nat.zero_add _) (Nat.zero_add _)
theorem zo_blind {G : zo_G} {J : zo_O → Prop} {ρ : Nat → Nat → Nat} {as : List zo_V} {Ω : zo_O} : FrameBlind (zo_Pc G J ρ as Ω) := fun a U g mk h => ⟨h.1, h.2.1, h.2.2.1, zo_K.same (s := U) (U := U.calling g mk a) rfl h.2.2.2.1, h.2.2.2.2⟩
section TWC
variable {Y : zo_Y} {res : zo_R} {Ω : zo_O} {pc : Nat} {ls : List (Nat × zo_V)} {st : List zo_V} {cc : ByteArray} {nL : Nat} {own : String} {d : Nat} {A X : Option zo_R} {F : Option zo_V → zo_O → Option zo_R}
/-- what comes behind a call -/
theorem zo_after {p : Program} {l : Launch} {e : Env} {R : Room} {s : State} {m : MethodId} {args : Array Value} {below : List Frame} {meth : Method} {c : Code} {G : zo_G} {J : zo_O → Prop} {ρ0 : Nat → Nat → Nat} {Ω0 : zo_O} {nL0 : Nat} {Q : Option zo_V → zo_O → State → Prop} {q r' : zo_R} {H : Heap} {locs : List Loc} {LS : Array Slot} {x y : Nat} {ρ : Nat → Nat → Nat} {st0 : List Value} {a : Array Value}
    (hr : va_Run p l e R s m args below meth c H locs x y q.2.2.1 q.2.2.2 (F0 m pc LS st0) (st.map (zo_c ρ)) (zo_Qc G J ρ Ω q.1 q.2.1 a) (fun z => G.2.2.2.1.size ≤ z))
    (hE : zo_ext Ω0 ρ0 ρ) (hL : zo_le Ω0 Ω) (hq : ∀ z ∈ locs, G.2.2.2.1.size ≤ z.base) (hv : lv_has LS nL0 (zo_cs ρ ls)) (hvl : zo_vl Ω ls) (hvs : zo_vs Ω st) (h1 : x + (r'.2.2.1 + q.2.2.1) = R.cells) (h2 : y + (r'.2.2.2 + q.2.2.2) = R.slots)
    (kk : TW (p, l, e, R, s, m, args, below, meth, c, G, J, ρ0, Ω0, nL0, Q) r' q.2.1 (pc + 3) ls (q.1.toList ++ st)) : W p l e R s m args below meth c H locs x y (Q r'.1 r'.2.1) (F0 m pc LS st0) := by
  intro T hT X
  obtain ⟨v, st₀, t, T', L, h0, X', hLf, e1, e2, ⟨ρ', hv', hR', hJ', hE', hL', hok⟩, st1⟩ := hr T hT X
  cases hv'
  have hst := zo_st.ext hE' hvs
  have hls := zo_cs.ext hE' hvl
  have hvs2 : zo_vs q.2.1 (q.1.toList ++ st) := by
    cases hq1 : q.1 with
    | none => exact zo_vs.le hL' hvs
    | some w => exact ⟨hok w hq1, zo_vs.le hL' hvs⟩
  have k1 := kk ρ' T'.heap (locs ++ L) LS (x + q.2.2.1) (y + q.2.2.2) (by rw [e1]; exact hR') hJ' (hE.tr hL hE') (hL.tr hL') (fun z hz => by
      rcases List.mem_append.mp hz with h | h
      · exact hq z h
      · exact hLf z h) (by rw [hls]; exact hv) (hvl.le hL') hvs2 (by omega) (by omega)
  have hsk : (q.1.toList ++ st).map (zo_c ρ') = (q.1.map (zo_c ρ')).toList ++ st.map (zo_c ρ) := by
    rw [List.map_append, hst]
    cases q.1 <;> rfl
  rw [hsk] at k1
  obtain ⟨t2, a1, b1⟩ := k1 T' rfl X'
  exact ⟨t2, st1 t2 a1, b1⟩
theorem zo_vs_app {Ω : zo_O} : ∀ {as st : List zo_V}, zo_vs Ω (as.reverse ++ st) → zo_vs Ω as ∧ zo_vs Ω st := by
  have hap : ∀ {a b : List zo_V}, zo_vs Ω (a ++ b) → zo_vs Ω a ∧ zo_vs Ω b := by
    intro a
    induction a with
    | nil => exact fun h => ⟨trivial, h⟩
    | cons v r ih => exact fun h => ⟨⟨h.1, (ih h.2).1⟩, (ih h.2).2⟩
  have hap2 : ∀ {a b : List zo_V}, zo_vs Ω a → zo_vs Ω b → zo_vs Ω (a ++ b) := by
    intro a
    induction a with
    | nil => exact fun _ h => h
    | cons v r ih => exact fun h h' => ⟨h.1, ih h.2 h'⟩
  have hre : ∀ {a : List zo_V}, zo_vs Ω a.reverse → zo_vs Ω a := by
    intro a
    induction a with
    | nil => exact fun h => h
    | cons v r ih =>
      intro h
      rw [List.reverse_cons] at h
      exact ⟨(hap h).2.1, ih (hap h).1⟩
  intro as st h
  exact ⟨hre (hap h).1, (hap h).2⟩
/-- what is asked of a method's name at a call -/
def zo_Cn (y : MethodName) (n : Nat) : Prop := y.cls ≠ "java/lang/invoke/MethodHandle" ∧ y.cls ≠ "java/lang/invoke/VarHandle" ∧ (parseMethodDescriptor y.desc).map (fun d => d.parameters.length) = some n
theorem zo_room8 {st : List zo_V} {ρ : Nat → Nat → Nat} (h : st.length ≤ 4) : ((st.map (zo_c ρ)).map fun v => v.category).sum ≤ 8 := by
  have h2 : ∀ (st : List zo_V), ((st.map (zo_c ρ)).map fun v => v.category).sum ≤ 2 * st.length := by
    intro st
    induction st with
    | nil => simp
    | cons v r ih =>
      have : (zo_c ρ v).category ≤ 2 := by rcases lv_cat (zo_c ρ v) with q | q <;> omega
      simp only [List.map_cons, List.sum_cons, List.length_cons]
      omega
  have := h2 st
  omega
/-- a static call -/
theorem zo_callS (hY : zo_Gd Y cc nL own d) {idx n : Nat} {y : MethodName} {cc' : ByteArray} {nL' d' : Nat} {ret' : Option FieldType} {as : List zo_V} (hM : ∀ q, X = some q → zo_MT (zo_Gof Y) (zo_J Y) y cc' nL' ret' d' as Ω q) (hd' : d' + 1 ≤ d) (hnL : nL' ≤ 45) (hC : zo_Cn y n) (hn : as.length = n) (hlink : Cond.methodLink own idx y ∈ lw_all) (hst : Cond.static y ∈ lw_all) (hini : Cond.initialized y.cls ∈ lw_all) (hcode : Cond.code y cc' nL' ret' ∈ lw_all) (h8 : st.length ≤ 4) (hd : decode cc pc = .ok (.invokestatic idx, 3)) {st1 : List zo_V} (hs : as.reverse ++ st = st1) (h : cl X F = some res) (kk : ∀ q r', X = some q → F q.1 q.2.1 = some r' → TW Y r' q.2.1 (pc + 3) ls (q.1.toList ++ st)) : TW Y res Ω pc ls st1 := by
  obtain ⟨q, r', hX, hF, rfl⟩ := cl_e h
  have kk := kk q r' hX hF
  have hM := hM q hX
  subst hs
  obtain ⟨p, l, e, R, s, m, args, below, meth, c, G, J, ρ0, Ω0, nL0, Q⟩ := Y
  obtain ⟨hx, hb, hml, rfl, hown, hts, hlk, hK, hfr, hlo⟩ := hY
  intro ρ H locs LS x y' hR hJ hE hL hq hv hvl hvs h1 h2
  have h1 : x + (r'.2.2.1 + q.2.2.1) = R.cells := h1
  have h2 : y' + (r'.2.2.2 + q.2.2.2) = R.slots := h2
  have hva : zo_vs Ω as ∧ zo_vs Ω st := zo_vs_app hvs
  have cw := va_cwS (rm := { frames := d', cells := q.2.2.1, slots := q.2.2.2, locals := 64 * d' }) (R := R) (mc := q.2.2.1) (ms := q.2.2.2) n hts (lw_S hlink hst hini hcode) rfl rfl rfl hC ⟨by show d' + 1 ≤ R.frames; omega, by show 8 + (nL' + 11) + 64 * d' ≤ R.locals; omega⟩
  refine zo_after (q := q) (r' := r') (va_runS (As := as.map (zo_c ρ)) (rest := st.map (zo_c ρ)) ⟨hx, hb, hml, hown, hts⟩ (hM l ρ) cw ⟨zo_blind, fun U hU hW => ⟨rfl, by rw [hU]; exact hR, hJ, hK.moved hW, hva.1⟩⟩ rfl (by rw [List.length_map]; exact hn) hv.1 (by rw [List.map_append, List.map_reverse]) (by have := zo_room8 (ρ := ρ) h8; show 2 * 0 + _ ≤ 8; omega) hd ⟨by omega, by omega⟩) hE hL hq hv hvl hva.2 h1 h2 kk
/-- a call through an object -/
theorem zo_callV (hY : zo_Gd Y cc nL own d) {idx n k j : Nat} {y : MethodName} {cc' : ByteArray} {nL' d' : Nat} {ret' : Option FieldType} {as : List zo_V} (hM : ∀ q, X = some q → zo_MT (zo_Gof Y) (zo_J Y) y cc' nL' ret' d' (vr k j :: as) Ω q) (hd' : d' + 1 ≤ d) (hnL : nL' ≤ 45) (hk : k < 21) (hC : y.cls = (zo_cl k).1 ∧ zo_Cn y n) (hn : as.length = n) (hlink : Cond.methodLink own idx y ∈ lw_all) (hin : Cond.instanceMethod y ∈ lw_all) (hsel : Cond.selects (zo_cl k).1 y y ∈ lw_all) (hini : Cond.initialized (zo_cl k).1 ∈ lw_all) (hcode : Cond.code y cc' nL' ret' ∈ lw_all) (h8 : st.length ≤ 4) (hd : decode cc pc = .ok (.invokevirtual idx, 3)) {st1 : List zo_V} (hs : as.reverse ++ vr k j :: st = st1) (h : cl X F = some res) (kk : ∀ q r', X = some q → F q.1 q.2.1 = some r' → TW Y r' q.2.1 (pc + 3) ls (q.1.toList ++ st)) : TW Y res Ω pc ls st1 := by
  obtain ⟨q, r', hX, hF, rfl⟩ := cl_e h
  have kk := kk q r' hX hF
  have hM := hM q hX
  subst hs
  obtain ⟨p, l, e, R, s, m, args, below, meth, c, G, J, ρ0, Ω0, nL0, Q⟩ := Y
  obtain ⟨hx, hb, hml, rfl, hown, hts, hlk, hK, hfr, hlo⟩ := hY
  intro ρ H locs LS x y' hR hJ hE hL hq hv hvl hvs h1 h2
  have h1 : x + (r'.2.2.1 + q.2.2.1) = R.cells := h1
  have h2 : y' + (r'.2.2.2 + q.2.2.2) = R.slots := h2
  obtain ⟨hva, hvo, hvr⟩ := zo_vs_app hvs
  have cw := cwV (rm := { frames := d', cells := q.2.2.1, slots := q.2.2.2, locals := 64 * d' }) (R := R) (mc := q.2.2.1) (ms := q.2.2.2) n hts (lw_V hlink hin hsel hini hcode) rfl rfl rfl hC ⟨by show d' + 1 ≤ R.frames; omega, by show 8 + (nL' + 11) + 64 * d' ≤ R.locals; omega⟩
  have hcell : ∃ cell : Cell, H[ρ k j]? = some cell ∧ cell.vm.isStatics = false ∧ s.vm.findClass (zo_cl k).1 = some cell.cls := by
    obtain ⟨hc, -⟩ := hR.cell (zo_lv_of hvo (by omega) (by omega))
    unfold zo_cell at hc
    rw [if_pos hk] at hc
    obtain ⟨cell, g1, g2, g3, -⟩ := hc
    exact ⟨cell, g1, by rw [g3]; rfl, by rw [g2]; exact (hK.1 k hk).2.1⟩
  refine zo_after (q := q) (r' := r') (va_runV (As := as.map (zo_c ρ)) (rest := st.map (zo_c ρ)) ⟨hx, hb, hml, hown, hts⟩ (hM l ρ) cw ⟨zo_blind, hcell, fun U hU hW => ⟨rfl, by rw [hU]; exact hR, hJ, hK.moved hW, hvo, hva⟩⟩ rfl (by rw [List.length_map]; exact hn) hv.1 (by rw [List.map_append, List.map_reverse]; rfl) (by have := zo_room8 (ρ := ρ) h8; show 2 * 0 + _ ≤ 8; omega) hd ⟨by omega, by omega⟩) hE hL hq hv hvl hvr h1 h2 kk
/-- a constructor's call -/
theorem zo_callI (hY : zo_Gd Y cc nL own d) {idx n k j : Nat} {y : MethodName} {cc' : ByteArray} {nL' d' : Nat} {as : List zo_V} (hM : ∀ q, X = some q → zo_MT (zo_Gof Y) (zo_J Y) y cc' nL' none d' (vr k j :: as) Ω q) (hd' : d' + 1 ≤ d) (hnL : nL' ≤ 45) (hC : zo_Cn y n) (hnm : y.name = "<init>") (hn : as.length = n) (hlink : Cond.methodLink own idx y ∈ lw_all) (hin : Cond.instanceMethod y ∈ lw_all) (hini : Cond.initialized y.cls ∈ lw_all) (hcode : Cond.code y cc' nL' none ∈ lw_all) (h8 : st.length ≤ 4) (hd : decode cc pc = .ok (.invokespecial idx, 3)) {st1 : List zo_V} (hs : as.reverse ++ vr k j :: st = st1) (h : cl X F = some res) (kk : ∀ q r', X = some q → F q.1 q.2.1 = some r' → TW Y r' q.2.1 (pc + 3) ls (q.1.toList ++ st)) : TW Y res Ω pc ls st1 := by
  obtain ⟨q, r', hX, hF, rfl⟩ := cl_e h
  have kk := kk q r' hX hF
  have hM := hM q hX
  subst hs
  obtain ⟨p, l, e, R, s, m, args, below, meth, c, G, J, ρ0, Ω0, nL0, Q⟩ := Y
  obtain ⟨hx, hb, hml, rfl, hown, hts, hlk, hK, hfr, hlo⟩ := hY
  intro ρ H locs LS x y' hR hJ hE hL hq hv hvl hvs h1 h2
  have h1 : x + (r'.2.2.1 + q.2.2.1) = R.cells := h1
  have h2 : y' + (r'.2.2.2 + q.2.2.2) = R.slots := h2
  obtain ⟨hva, hvo, hvr⟩ := zo_vs_app hvs
  have cw := cwI (rm := { frames := d', cells := q.2.2.1, slots := q.2.2.2, locals := 64 * d' }) (R := R) (mc := q.2.2.1) (ms := q.2.2.2) n hts (lw_meth hcode) rfl rfl rfl (hts _ hini) (hts _ hlink) (hts _ hin) hnm hC ⟨by show d' + 1 ≤ R.frames; omega, by show 8 + (nL' + 11) + 64 * d' ≤ R.locals; omega⟩
  refine zo_after (q := q) (r' := r') (va_runI (b := ρ k j) (As := as.map (zo_c ρ)) (rest := st.map (zo_c ρ)) ⟨hx, hb, hml, hown, hts⟩ (hM l ρ) cw ⟨zo_blind, fun U hU hW => ⟨rfl, by rw [hU]; exact hR, hJ, hK.moved hW, hvo, hva⟩⟩ rfl (by rw [List.length_map]; exact hn) hv.1 (by rw [List.map_append, List.map_reverse]; rfl) (by have := zo_room8 (ρ := ρ) h8; show 2 * 0 + _ ≤ 8; omega) hd ⟨by omega, by omega⟩) hE hL hq hv hvl hvr h1 h2 kk
end TWC
