/-! ===== rows that read and write the heap ===== -/
set_option maxRecDepth 10000
theorem zo_in : ∀ k, k < 21 → ∀ w ∈ u_ws (zo_cl k).1 (zo_cl k).2.1 (zo_cl k).2.2, w ∈ lw_all := by
  intro k hk
  match k, hk with
  | 0, _ => exact in_X1
  | 1, _ => exact in_X2
  | 2, _ => exact in_X4
  | 3, _ => exact in_X5
  | 4, _ => exact in_X6
  | 5, _ => exact in_X7
  | 6, _ => exact in_X8
  | 7, _ => exact in_X9
  | 8, _ => exact in_X10
  | 9, _ => exact in_X11
  | 10, _ => exact in_X12
  | 11, _ => exact in_X14
  | 12, _ => exact in_X15
  | 13, _ => exact in_X16
  | 14, _ => exact in_X17
  | 15, _ => exact in_X18
  | 16, _ => exact in_X20
  | 17, _ => exact in_X21
  | 18, _ => exact in_X22
  | 19, _ => exact in_J14
  | 20, _ => exact in_J2
  | k + 21, hk => exact absurd hk (by omega)
theorem zo_tyok : ∀ k, k < 21 → ∀ f, f < (zo_cl k).2.2 → parseFieldDescriptor ((zo_cl k).2.1 f).2.2.1 = some (zo_ty k f) := by
  intro k hk
  match k, hk with
  | 0, _ => exact tyX1_ok
  | 1, _ => exact tyX2_ok
  | 2, _ => exact tyX4_ok
  | 3, _ => exact tyX5_ok
  | 4, _ => exact tyX6_ok
  | 5, _ => exact tyX7_ok
  | 6, _ => exact tyX8_ok
  | 7, _ => exact tyX9_ok
  | 8, _ => exact tyX10_ok
  | 9, _ => exact tyX11_ok
  | 10, _ => exact tyX12_ok
  | 11, _ => exact tyX14_ok
  | 12, _ => exact tyX15_ok
  | 13, _ => exact tyX16_ok
  | 14, _ => exact tyX17_ok
  | 15, _ => exact tyX18_ok
  | 16, _ => exact tyX20_ok
  | 17, _ => exact tyX21_ok
  | 18, _ => exact tyX22_ok
  | 19, _ => exact tyJ14_ok
  | 20, _ => exact tyJ2_ok
  | k + 21, hk => exact absurd hk (by omega)
theorem zo_nm : ∀ k, k < 21 → ∀ a, a < (zo_cl k).2.2 → ∀ b, b < (zo_cl k).2.2 → a ≠ b → ((zo_cl k).2.1 a).2.1 ≠ ((zo_cl k).2.1 b).2.1 := by
  intro k hk
  match k, hk with
  | 0, _ => exact nmX1
  | 1, _ => exact nmX2
  | 2, _ => exact nmX4
  | 3, _ => exact nmX5
  | 4, _ => exact nmX6
  | 5, _ => exact nmX7
  | 6, _ => exact nmX8
  | 7, _ => exact nmX9
  | 8, _ => exact nmX10
  | 9, _ => exact nmX11
  | 10, _ => exact nmX12
  | 11, _ => exact nmX14
  | 12, _ => exact nmX15
  | 13, _ => exact nmX16
  | 14, _ => exact nmX17
  | 15, _ => exact nmX18
  | 16, _ => exact nmX20
  | 17, _ => exact nmX21
  | 18, _ => exact nmX22
  | 19, _ => exact nmJ14
  | 20, _ => exact nmJ2
  | k + 21, hk => exact absurd hk (by omega)
theorem zo_apart {G : zo_G} {s : State} {args : Array Value} (hts : ∀ w ∈ lw_all, w.before args s = true) (hK : zo_K G s) {k : Nat} (hk : k < 21) : ∀ x y, x < (zo_cl k).2.2 → y < (zo_cl k).2.2 → x ≠ y → G.2.1 k x ≠ G.2.1 k y := by
  intro x y hx hy hne
  obtain ⟨hS, -⟩ := hK.1 k hk
  obtain ⟨_, _, _, fa, hia, ea⟩ := hS x hx
  obtain ⟨_, _, _, fb, hib, eb⟩ := hS y hy
  rw [← ea, ← eb]
  refine u_apart (u_lays hts (zo_in k hk) hx) (u_lays hts (zo_in k hk) hy) hia hib ?_
  rw [(State.fieldFound?_type hia (zo_tyok k hk x hx)).1, (State.fieldFound?_type hib (zo_tyok k hk y hy)).1]
  exact zo_nm k hk x hx y hy hne
theorem zo_lv_of {Ω : zo_O} {k n : Nat} (h : zo_ok Ω (k, n)) (h1 : k ≠ 21) (h2 : k ≠ 22) : zo_lv Ω k n := by
  unfold zo_lv
  rcases h with h | h | h
  · exact absurd h h1
  · exact absurd h h2
  · rw [if_neg h.1]; exact h.2
theorem zo_Rep.cell {G : zo_G} {ρ : Nat → Nat → Nat} {Ω : zo_O} {H : Heap} (h : zo_Rep G ρ Ω H) {k n : Nat} (hl : zo_lv Ω k n) : zo_cell G ρ Ω k n H ∧ G.2.2.2.1.size ≤ ρ k n := by
  obtain ⟨-, -, -, ⟨own, ho⟩, -⟩ := h
  exact ⟨(ho k n hl).2.2, (ho k n hl).2.1⟩
/-- one cell is changed -/
theorem zo_Rep.put {G : zo_G} {ρ : Nat → Nat → Nat} {Ω Ω' : zo_O} {H H' : Heap} (h : zo_Rep G ρ Ω H) {k n : Nat} (hl : zo_lv Ω k n) (hk : k ≠ 20 ∧ k ≠ 40) (hz : H'.size = H.size) (ho : ∀ q : Nat, q ≠ ρ k n → H'[q]? = H[q]?) (hc : zo_cell G ρ Ω' k n H')
    (hC : ∀ k, gC Ω' k = gC Ω k) (hS : ∀ n, gS Ω' n = gS Ω n) (hLn : ∀ k n, gL Ω' k n = gL Ω k n) (hI : ∀ k' n' i, ¬ (k' = k ∧ n' = n) → gI Ω' k' n' i = gI Ω k' n' i) (hRf : ∀ k' n' i, ¬ (k' = k ∧ n' = n) → gR Ω' k' n' i = gR Ω k' n' i) (hJf : ∀ k' n' i, ¬ (k' = k ∧ n' = n) → gJ Ω' k' n' i = gJ Ω k' n' i) (hrk : ∀ f t, gR Ω' k n f = some t → zo_ok Ω t) : zo_Rep G ρ Ω' H' := by
  have hok : ∀ t, zo_ok Ω t → zo_ok Ω' t := fun t ht => ht.le (fun k => by rw [hC]; exact Nat.le_refl _)
  obtain ⟨h1, h2, h3, ⟨own, h4⟩, h5, h6, h7⟩ := h
  have hlv : ∀ k' n', zo_lv Ω' k' n' → zo_lv Ω k' n' := fun k' n' hq => by
    unfold zo_lv at hq ⊢
    rw [hC, hC, hS] at hq
    exact hq
  refine ⟨by rw [hz]; exact h1, fun q hq => ?_, h3, ⟨own, fun k' n' hl' => ?_⟩, fun k' n' f t hn ht => ?_, fun n' t hn ht => ?_, by rw [hC, hC, hC]; exact h7⟩
  · rw [ho q (fun e => by have := (h4 k n hl).2.1; omega)]
    exact h2 q hq
  · obtain ⟨a1, a2, a3⟩ := h4 k' n' (hlv k' n' hl')
    by_cases he : k' = k ∧ n' = n
    · obtain ⟨rfl, rfl⟩ := he
      exact ⟨a1, a2, hc⟩
    · refine ⟨a1, a2, a3.cong rfl (ho _ (fun e => he ?_)) (fun hk21 f hf => ?_) (fun _ => ?_) (fun _ i hi => ?_)⟩
      · have b1 := (h4 k n hl).1
        rw [← e, a1] at b1
        cases b1
        exact ⟨rfl, rfl⟩
      · unfold zo_fv
        rw [hS, hRf k' n' f he, hI k' n' f he]
      · unfold zo_ln
        rw [hS, hLn]
      · unfold zo_av
        rw [hS, hRf k' n' i he, hI k' n' i he, hJf k' n' i he]
  · rw [hC] at hn
    by_cases he : k' = k ∧ n' = n
    · obtain ⟨rfl, rfl⟩ := he
      exact hok t (hrk f t ht)
    · rw [hRf k' n' f he] at ht
      exact hok t (h5 k' n' f t hn ht)
  · rw [hC] at hn
    rw [hS] at ht
    exact hok t (h6 n' t hn ht)
theorem zo_flds {k : Nat} (h20 : k ≠ 20) (G : zo_G) (ρ : Nat → Nat → Nat) (Ω : zo_O) (n f : Nat) : zo_fv G ρ Ω k n f = if zo_rf k f = true then zo_mp ρ (gR Ω k n f) else .int (gI Ω k n f) := by
  unfold zo_fv
  rw [if_neg h20]
/-- a field by its place in its class, linked from a class's pool -/
def zo_FL (own : String) (idx k f : Nat) : Prop := k < 21 ∧ f < (zo_cl k).2.2 ∧ k ≠ 20 ∧
  ((∃ ref, Cond.fieldLink own idx ref ((zo_cl k).2.1 f).2.1 ((zo_cl k).2.1 f).2.2.1 ∈ lw_all ∧ (ref = ((zo_cl k).2.1 f).1 ∨ Cond.sameField ref ((zo_cl k).2.1 f).1 ((zo_cl k).2.1 f).2.1 ((zo_cl k).2.1 f).2.2.1 ∈ lw_all)) ∨
   ∃ ref host, Cond.fieldLinkNest own idx ref ((zo_cl k).2.1 f).2.1 ((zo_cl k).2.1 f).2.2.1 host ∈ lw_tbl ∧ (ref = ((zo_cl k).2.1 f).1 ∨ Cond.sameField ref ((zo_cl k).2.1 f).1 ((zo_cl k).2.1 f).2.1 ((zo_cl k).2.1 f).2.2.1 ∈ lw_all))
theorem zo_same {args : Array Value} {s : State} (hts : ∀ w ∈ lw_all, w.before args s = true) {ref O nm ds : String} (h : ref = O ∨ Cond.sameField ref O nm ds ∈ lw_all) (x : ClassId × Class × Nat × Field) (hx : s.fieldFound? O nm ds = some x) : s.fieldFound? ref nm ds = some x := by
  rcases h with rfl | h
  · exact hx
  · exact u_same (hts _ h) x hx
section TWH
variable {Y : zo_Y} {res : zo_R} {Ω : zo_O} {pc : Nat} {ls : List (Nat × zo_V)} {st : List zo_V} {cc : ByteArray} {nL : Nat} {own : String} {d : Nat} {A : Option zo_R} {F : Nat → Option zo_R} {FO : zo_O → Option zo_R}
theorem zo_get0 (hY : zo_Gd Y cc nL own d) {idx k f n : Nat} (L : zo_FL own idx k f) (hd : decode cc pc = .ok (.getfield idx, 3)) (v : zo_V) (hv0 : ∀ G ρ, zo_c ρ v = zo_fv G ρ Ω k n f) (hvk : (∀ t, gR Ω k n f = some t → zo_ok Ω t) → zo_vk Ω v) (kk : TW Y res Ω (pc + 3) ls (v :: st)) : TW Y res Ω pc ls (vr k n :: st) := by
  obtain ⟨p, l, e, R, s, m, args, below, meth, c, G, J, ρ0, Ω0, nL0, Q⟩ := Y
  obtain ⟨hx, hb, hml, rfl, hown, hts, hlk, hK, hfr, hlo⟩ := hY
  intro ρ H locs LS x y hR hJ hE hL hq hv hvl hvs h1 h2
  obtain ⟨hk, hf, h20, hlink⟩ := L
  have hlv := zo_lv_of hvs.1 (by omega) (by omega)
  obtain ⟨hc, hbase⟩ := hR.cell hlv
  unfold zo_cell at hc
  rw [if_pos hk] at hc
  obtain ⟨cell, q1, q2, q3, q4⟩ := hc
  obtain ⟨hS, hfc, kC, hkC, hkind⟩ := hK.1 k hk
  obtain ⟨cf, kf, fi, fd, hi, hsl⟩ := hS f hf
  have hst := (u_facts hfc hkC (u_lays hts (zo_in k hk) hf) hi).1
  have hn : n < gC Ω k := by
    unfold zo_lv at hlv
    rw [if_neg (by omega)] at hlv
    exact hlv
  have kk := kk ρ H locs LS x y hR hJ hE hL hq hv hvl ⟨hvk (fun t ht => hR.2.2.2.2.1 k n f t hn ht), hvs.2⟩ h1 h2
  have hval : cell.slots[fd.slot]? = some (zo_c ρ v) := by rw [hsl, q4 f hf, hv0 G ρ]
  rcases hlink with ⟨ref, hl1, hl2⟩ | ⟨ref, host, hl1, hl2⟩
  · exact W.getf hx hb hown (hts _ hl1) (zo_same hts hl2 _ hi) hst q1 (by rw [q3]; exact fun h => by cases h) hval rfl rfl hd kk
  · exact va_Wgetf hx hb hown ((hK.2.2.1 _ hl1 rfl).use rfl) (zo_same hts hl2 _ hi) hst q1 (by rw [q3]; exact fun h => by cases h) hval rfl rfl hd kk
theorem zo_getI (hY : zo_Gd Y cc nL own d) {idx k f n : Nat} (L : zo_FL own idx k f) (hr : zo_rf k f = false) (hd : decode cc pc = .ok (.getfield idx, 3)) (kk : TW Y res Ω (pc + 3) ls (vi (gI Ω k n f) :: st)) : TW Y res Ω pc ls (vr k n :: st) :=
  zo_get0 hY L hd (vi (gI Ω k n f)) (fun G ρ => by rw [zo_flds L.2.2.1, hr]; rfl) (fun _ => trivial) kk
theorem zo_getR (hY : zo_Gd Y cc nL own d) {idx k f n : Nat} (L : zo_FL own idx k f) (hr : zo_rf k f = true) (hd : decode cc pc = .ok (.getfield idx, 3)) (kk : TW Y res Ω (pc + 3) ls (vo (gR Ω k n f) :: st)) : TW Y res Ω pc ls (vr k n :: st) :=
  zo_get0 hY L hd (vo (gR Ω k n f)) (fun G ρ => by rw [zo_flds L.2.2.1, hr]; rfl) (fun h => by
    cases hg : gR Ω k n f with
    | none => trivial
    | some t => exact h t hg) kk
/-- a reference that is never null, of a kind -/
theorem zo_getK (hY : zo_Gd Y cc nL own d) {idx k f n K : Nat} (L : zo_FL own idx k f) (hr : zo_rf k f = true) (hd : decode cc pc = .ok (.getfield idx, 3)) (h : bk (gR Ω k n f) K F = some res) (kk : ∀ j, F j = some res → TW Y res Ω (pc + 3) ls (vr K j :: st)) : TW Y res Ω pc ls (vr k n :: st) := by
  obtain ⟨j, e, h⟩ := bk_e h
  refine zo_getR hY L hr hd ?_
  rw [e]
  exact kk j h
/-- a constant reference -/
theorem zo_getC (hY : zo_Gd Y cc nL own d) {idx k f n K j : Nat} (L : zo_FL own idx k f) (hr : zo_rf k f = true) (hc : ∀ Ω, zo_J Y Ω → gR Ω k n f = some (K, j)) (hd : decode cc pc = .ok (.getfield idx, 3)) (kk : TW Y res Ω (pc + 3) ls (vr K j :: st)) : TW Y res Ω pc ls (vr k n :: st) := by
  have k1 : zo_J Y Ω → TW Y res Ω pc ls (vr k n :: st) := fun hJ => zo_getR hY L hr hd (by rw [hc Ω hJ]; exact kk)
  obtain ⟨p, l, e, R, s, m, args, below, meth, c, G, J, ρ0, Ω0, nL0, Q⟩ := Y
  intro ρ H locs LS x y hR hJ
  exact k1 hJ ρ H locs LS x y hR hJ
theorem zo_lsz {H0 : Nat} {locs : List Loc} {a i : Nat} (h : ∀ q ∈ locs, H0 ≤ q.base) (ha : H0 ≤ a) : ∀ q ∈ locs ++ [(⟨a, i⟩ : Loc)], H0 ≤ q.base := by
  intro q hq
  rcases List.mem_append.mp hq with h1 | h1
  · exact h q h1
  · rw [List.mem_singleton.mp h1]; exact ha
def zo_mn : zo_Y → Prop
  | (_, _, _, _, _, _, _, _, meth, _, _, _, _, _, _, _) => meth.name = "<init>"
theorem zo_put0 (hY : zo_Gd Y cc nL own d) {idx k f n : Nat} (L : zo_FL own idx k f) (hfin : ((zo_cl k).2.1 f).2.2.2 = false ∨ (((zo_cl k).2.1 f).2.2.2 = true ∧ zo_mn Y ∧ ((zo_cl k).2.1 f).1 = own ∧ ∃ ref, Cond.fieldLink own idx ref ((zo_cl k).2.1 f).2.1 ((zo_cl k).2.1 f).2.2.1 ∈ lw_all ∧ (ref = ((zo_cl k).2.1 f).1 ∨ Cond.sameField ref ((zo_cl k).2.1 f).1 ((zo_cl k).2.1 f).2.1 ((zo_cl k).2.1 f).2.2.1 ∈ lw_all))) (hd : decode cc pc = .ok (.putfield idx, 3)) (v : zo_V) (Ω' : zo_O)
    (hn : ∀ ρ, narrow (zo_ty k f) (zo_c ρ v) = zo_c ρ v) (hfit : ∀ ρ, fits (zo_ty k f) (zo_c ρ v) = true)
    (hfv : ∀ G ρ j, j < (zo_cl k).2.2 → updV (zo_fv G ρ Ω k n) f (zo_c ρ v) j = zo_fv G ρ Ω' k n j)
    (hC : ∀ k, gC Ω' k = gC Ω k) (hS : ∀ n, gS Ω' n = gS Ω n) (hLn : ∀ k n, gL Ω' k n = gL Ω k n) (hI : ∀ k' n' i, ¬ (k' = k ∧ n' = n) → gI Ω' k' n' i = gI Ω k' n' i) (hRf : ∀ k' n' i, ¬ (k' = k ∧ n' = n) → gR Ω' k' n' i = gR Ω k' n' i) (hJf : ∀ k' n' i, ¬ (k' = k ∧ n' = n) → gJ Ω' k' n' i = gJ Ω k' n' i) (hrk : zo_vk Ω v → (∀ f t, gR Ω k n f = some t → zo_ok Ω t) → ∀ f t, gR Ω' k n f = some t → zo_ok Ω t)
    (hJJ : zo_J Y Ω → zo_J Y Ω') (kk : TW Y res Ω' (pc + 3) ls st) : TW Y res Ω pc ls (v :: vr k n :: st) := by
  obtain ⟨p, l, e, R, s, m, args, below, meth, c, G, J, ρ0, Ω0, nL0, Q⟩ := Y
  obtain ⟨hx, hb, hml, rfl, hown, hts, hlk, hK, hfr, hlo⟩ := hY
  intro ρ H locs LS x y hR hJ hE hL hq hv hvl hvs h1 h2
  obtain ⟨hk, hf, h20, hlink⟩ := L
  have hlv := zo_lv_of hvs.2.1 (by omega) (by omega)
  obtain ⟨hc, hbase⟩ := hR.cell hlv
  have hc0 := hc
  unfold zo_cell at hc
  rw [if_pos hk] at hc
  obtain ⟨cell, q1, q2, q3, q4⟩ := hc
  obtain ⟨hS1, hfc, kC, hkC, hkind⟩ := hK.1 k hk
  obtain ⟨cf, kf, fi, fd, hi, hsl⟩ := hS1 f hf
  have hst := (u_facts hfc hkC (u_lays hts (zo_in k hk) hf) hi).1
  have hap := zo_apart hts hK hk
  have hnk : n < gC Ω k := by
    unfold zo_lv at hlv
    rw [if_neg (by omega)] at hlv
    exact hlv
  have hle : zo_le Ω Ω' := fun k => by rw [hC]; exact Nat.le_refl _
  have fin : ∀ H' : Heap, H'[ρ k n]? = some (cell.setSlot fd.slot (zo_c ρ v)) → H'.size = H.size → (∀ q, q ≠ ρ k n → H'[q]? = H[q]?) → W p l e R s m args below meth c H' (locs ++ [⟨ρ k n, fd.slot⟩]) x y (Q res.1 res.2.1) (F0 m (pc + 3) LS (st.map (zo_c ρ))) := by
    intro H' e1 e2 e3
    rw [hsl] at e1 ⊢
    have hcell : zo_cell G ρ Ω' k n H' := by
      unfold zo_cell
      rw [if_pos hk]
      exact t_OB.to (V := updV (zo_fv G ρ Ω k n) f (zo_c ρ v)) ⟨_, e1, q2, q3, t_set q4 hap hf _⟩ (fun j hj => hfv G ρ j hj)
    exact kk ρ H' _ LS x y (hR.put hlv ⟨h20, by omega⟩ e2 e3 hcell hC hS hLn hI hRf hJf (hrk hvs.1 (fun f t ht => hR.2.2.2.2.1 k n f t hnk ht))) (hJJ hJ) hE (hL.tr hle) (zo_lsz hq hbase) hv (hvl.le hle) (zo_vs.le hle hvs.2.2) h1 h2
  rcases hfin with hfin | ⟨hfin, hmn, hdecl, hlf⟩
  · have hlay := hts _ (zo_in k hk _ (u_in_lay hf))
    unfold u_lay at hlay
    rw [if_neg (by rw [hfin]; decide)] at hlay
    have h6 := u_store hfc hkC hkind hlay hi (zo_tyok k hk f hf) (hn ρ) (hfit ρ)
    rcases hlink with ⟨ref, hl1, hl2⟩ | ⟨ref, host, hl1, hl2⟩
    · exact W.putK hx hb (f := fd) ⟨hown, hts _ hl1, ⟨_, _, _, zo_same hts hl2 _ hi⟩, hst⟩ (by rw [q2]; exact h6) q1 q3 (by rw [hsl]; exact k2_hasslot (q4 f hf)) rfl rfl hd fin
    · exact va_WputK hx hb (f := fd) hown ((hK.2.2.1 _ hl1 rfl).use rfl) (zo_same hts hl2 _ hi) hst (by rw [q2]; exact h6) q1 q3 (by rw [hsl]; exact k2_hasslot (q4 f hf)) rfl rfl hd fin
  · have hlay := hts _ (zo_in k hk _ (u_in_lay hf))
    unfold u_lay at hlay
    rw [if_pos hfin] at hlay
    have hcf : m.cls = cf := by
      obtain ⟨_, _, c', _, _, _, -, -, hf', -, -, -, hown2, -⟩ := Cond.laysFinal_spec hlay
      have e1 : c' = cf := by have := hi.symm.trans hf'; simp at this; exact this.1.symm
      rw [hdecl] at hown2
      rw [← e1]; exact Option.some.inj (hown.symm.trans hown2)
    have h6 := u_fits hfc hkC hkind (Or.inr hlay) hi (zo_tyok k hk f hf) (hn ρ) (hfit ρ)
    obtain ⟨ref, hl1, hl2⟩ := hlf
    exact W.putFinK hx hb hown (hts _ hl1) (zo_same hts hl2 _ hi) hst hcf hmn (by rw [q2]; exact h6) q1 q3 (by rw [hsl]; exact k2_hasslot (q4 f hf)) rfl rfl hd fin
end TWH
