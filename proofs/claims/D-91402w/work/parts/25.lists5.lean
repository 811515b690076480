set_option maxRecDepth 100000
/-! ===== new lists ===== -/
theorem zo_Rep.new2 {G : zo_G} {ρ : Nat → Nat → Nat} {Ω : zo_O} {H H' : Heap} (h : zo_Rep G ρ Ω H) {k len : Nat} (hk : k ≠ 21 ∧ k ≠ 22 ∧ k ≠ 40) (hz : H.size + 1 ≤ H'.size) (ho : ∀ q : Nat, q < H.size → H'[q]? = H[q]?) (hc : zo_cell G (zo_rn ρ k (gC Ω k) H.size) (nw Ω k len) k (gC Ω k) H') :
    zo_Rep G (zo_rn ρ k (gC Ω k) H.size) (nw Ω k len) H' ∧ zo_ext Ω ρ (zo_rn ρ k (gC Ω k) H.size) := by
  have hext : zo_ext Ω ρ (zo_rn ρ k (gC Ω k) H.size) := fun t ht => by
    unfold zo_rn
    rw [if_neg]
    rintro ⟨e1, e2⟩
    rcases ht with q | q | ⟨q, q2⟩
    · exact hk.1 (e1.symm.trans q)
    · exact hk.2.1 (e1.symm.trans q)
    · rw [e2, e1] at q2
      exact Nat.lt_irrefl _ q2
  obtain ⟨h1, h2, h3, ⟨own, h4⟩, h5, h6, h7⟩ := h
  refine ⟨⟨by omega, fun q hq => (ho q (by omega)).trans (h2 q hq), fun n => ?_, ⟨fun a => if a = H.size then (k, gC Ω k) else own a, fun k' n' hl' => ?_⟩, fun k' n' f t hn ht => ?_, fun n' t hn ht => ?_, ?_⟩, hext⟩
  · unfold zo_rn
    rw [if_neg (fun q => hk.1 q.1.symm), if_neg (fun q => hk.2.1 q.1.symm)]
    exact h3 n
  · by_cases he : k' = k ∧ n' = gC Ω k
    · obtain ⟨rfl, rfl⟩ := he
      refine ⟨?_, ?_, hc⟩
      · simp [zo_rn]
      · simp [zo_rn]; exact h1
    · have hl : zo_lv Ω k' n' := by
        unfold zo_lv at hl' ⊢
        by_cases h40 : k' = 40
        · rw [if_pos h40] at hl' ⊢
          obtain ⟨a1, a2⟩ := hl'
          have a1 : n' < if 20 = k then gC Ω k + 1 else gC Ω 20 := a1
          have a2 : (if k = 20 ∧ n' = gC Ω k then [] else gS Ω n') ≠ [] := a2
          by_cases h20 : k = 20
          · subst h20
            rw [if_pos rfl] at a1
            by_cases hn : n' = gC Ω 20
            · rw [if_pos ⟨rfl, hn⟩] at a2
              exact absurd rfl a2
            · rw [if_neg (fun q => hn q.2)] at a2
              exact ⟨by omega, a2⟩
          · rw [if_neg (fun q => h20 q.symm)] at a1
            rw [if_neg (fun q => h20 q.1)] at a2
            exact ⟨a1, a2⟩
        · rw [if_neg h40] at hl' ⊢
          have hl' : n' < if k' = k then gC Ω k + 1 else gC Ω k' := hl'
          by_cases hkk : k' = k
          · rw [if_pos hkk] at hl'
            have hne : n' ≠ gC Ω k := fun q => he ⟨hkk, q⟩
            rw [hkk]
            omega
          · rw [if_neg hkk] at hl'
            exact hl'
      obtain ⟨a1, a2, a3⟩ := h4 k' n' hl
      have hlt := a3.lt
      have hρ : zo_rn ρ k (gC Ω k) H.size k' n' = ρ k' n' := if_neg he
      have hSn : (k' = 20 ∨ k' = 40) → gS (nw Ω k len) n' = gS Ω n' := fun hq => by
        show (if k = 20 ∧ n' = gC Ω k then [] else gS Ω n') = gS Ω n'
        by_cases hc2 : k = 20 ∧ n' = gC Ω k
        · exfalso
          rcases hq with rfl | rfl
          · exact he ⟨hc2.1.symm, hc2.2⟩
          · unfold zo_lv at hl
            rw [if_pos rfl] at hl
            have := hl.1
            rw [hc2.2, hc2.1] at this
            exact Nat.lt_irrefl _ this
        · rw [if_neg hc2]
      have hIn : ∀ i, gI (nw Ω k len) k' n' i = gI Ω k' n' i := fun i => if_neg he
      have hRn : ∀ i, gR (nw Ω k len) k' n' i = gR Ω k' n' i := fun i => if_neg he
      have hJn : ∀ i, gJ (nw Ω k len) k' n' i = gJ Ω k' n' i := fun i => if_neg he
      have hLn : gL (nw Ω k len) k' n' = gL Ω k' n' := if_neg he
      have hnc : k' ≠ 40 → n' < gC Ω k' := fun q => by
        unfold zo_lv at hl
        rw [if_neg q] at hl
        exact hl
      have hmp : k' ≠ 40 → ∀ i, zo_mp (zo_rn ρ k (gC Ω k) H.size) (gR Ω k' n' i) = zo_mp ρ (gR Ω k' n' i) := fun q i => zo_mp.ext hext (fun t ht => h5 k' n' i t (hnc q) ht)
      refine ⟨?_, ?_, a3.cong hρ (ho _ hlt) (fun h21 f hf => ?_) (fun _ => ?_) (fun _ i hi => ?_)⟩
      · show (if zo_rn ρ k (gC Ω k) H.size k' n' = H.size then (k, gC Ω k) else own (zo_rn ρ k (gC Ω k) H.size k' n')) = (k', n')
        rw [hρ, if_neg (by omega)]
        exact a1
      · rw [hρ]; exact a2
      · unfold zo_fv
        by_cases h20 : k' = 20
        · rw [if_pos h20, if_pos h20, hSn (Or.inl h20)]
          rw [show zo_rn ρ k (gC Ω k) H.size 40 n' = ρ 40 n' from if_neg (fun q => hk.2.2 q.1.symm)]
        · rw [if_neg h20, if_neg h20, hRn, hIn, hmp (by omega)]
      · unfold zo_ln
        by_cases h40 : k' = 40
        · rw [if_pos h40, if_pos h40, hSn (Or.inr h40)]
        · rw [if_neg h40, if_neg h40, hLn]
      · unfold zo_av
        by_cases h40 : k' = 40
        · rw [if_pos h40, if_pos h40, hSn (Or.inr h40)]
          refine zo_mp.ext hext (fun t ht => ?_)
          unfold zo_lv at hl
          rw [if_pos h40] at hl
          exact h6 n' t hl.1 (List.mem_of_getElem? ht)
        · rw [if_neg h40, if_neg h40, hRn, hIn, hJn, hmp h40]
  · have ht : (if k' = k ∧ n' = gC Ω k then none else gR Ω k' n' f) = some t := ht
    by_cases he : k' = k ∧ n' = gC Ω k
    · rw [if_pos he] at ht; cases ht
    · rw [if_neg he] at ht
      have hn : n' < if k' = k then gC Ω k + 1 else gC Ω k' := hn
      have hn2 : n' < gC Ω k' := by
        by_cases hkk : k' = k
        · rw [if_pos hkk] at hn
          have hne : n' ≠ gC Ω k := fun q => he ⟨hkk, q⟩
          rw [hkk]; omega
        · rw [if_neg hkk] at hn; exact hn
      exact (h5 k' n' f t hn2 ht).le zo_le.nw
  · have ht : t ∈ (if k = 20 ∧ n' = gC Ω k then [] else gS Ω n') := ht
    by_cases he : k = 20 ∧ n' = gC Ω k
    · rw [if_pos he] at ht; cases ht
    · rw [if_neg he] at ht
      have hn : n' < if 20 = k then gC Ω k + 1 else gC Ω 20 := hn
      have hn2 : n' < gC Ω 20 := by
        by_cases hkk : 20 = k
        · rw [if_pos hkk] at hn
          have hne : n' ≠ gC Ω k := fun q => he ⟨hkk.symm, q⟩
          rw [hkk]; omega
        · rw [if_neg hkk] at hn; exact hn
      exact (h6 n' t hn2 ht).le zo_le.nw
  · refine ⟨?_, ?_, ?_⟩
    · exact (if_neg (fun q : (21 : Nat) = k => hk.1 q.symm)).trans h7.1
    · exact (if_neg (fun q : (22 : Nat) = k => hk.2.1 q.symm)).trans h7.2.1
    · exact (if_neg (fun q : (40 : Nat) = k => hk.2.2 q.symm)).trans h7.2.2

abbrev zl_N (b : Nat) (v : Value) : Nat × va_E := (b, .inr (0, [.int (nI 0), v, .int (nI 0)]))
theorem kc_i0 (l : Launch) (b : Nat) : Met l yJ0_init (ws_ yJ0_init cJ0_init 1 none) { frames := 1, cells := 0, slots := 0, locals := 64 } (fun a _ => a = ([.ref b] : List Value).toArray) (fun _ st o t => o = .returned none ∧ t.heap = st.heap) 0 0 (fun _ => False) := by
  refine Met.ofW (cc := cJ0_init) (maxL := 1) (ret := none) (by decide) rfl ?_
  intro p e s m args below meth c s₁ B hml hP
  obtain rfl := hP
  have hx := B.exec
  have hb := B.bytes
  have hr := B.returns
  have hlocks := B.notSynchronized
  have hts := atoms_spec (ws := ws_ yJ0_init cJ0_init 1 none) B.pre
  have hts : ∀ w ∈ lw_all, w.before _ s = true := fun w h => hts w (List.mem_cons_of_mem _ h)
  have hown : s.vm.findClass "java/util/AbstractCollection" = some m.cls := findClass_of_methodNamed B.named
  have hl := lv_entry ([.ref b] : List Value) (n := 1) (Nat.le_of_ble_eq_true rfl)
  rw [lg_entry_eq]
  generalize (lg_sl ([.ref b] : List Value) ++ List.replicate (1 - (lg_sl ([.ref b] : List Value)).length) Slot.unset).toArray = ls at hl ⊢
  have hl : lv_has ls 1 [(0, .ref b)] := hl
  refine lv_aload_n hx hb dJ0_init_0 rfl (lv_at hl 0 rfl) ?_
  refine W.objInit hx hb hown (hts _ q137) (hts _ zo_q_oi) (hts _ zo_q_oc) rfl (by rw [hml]; exact hl.1) rfl dJ0_init_1 (Nat.le_of_ble_eq_true rfl) (Nat.le_of_ble_eq_true rfl) ?_
  exact W.vret hx hb hr (fun t ht hW => ⟨rfl, ht⟩) (fun q h => by cases h) dJ0_init_4 hlocks
def zl_Pn (G : zo_G) (sz b : Nat) (v : Value) : State → Prop := fun U => U.heap.size = sz ∧ va_P (zl_D G) [zo_cl 20] [zl_N b v] U.heap ∧ zo_K G U ∧ ∀ q : Nat, q < G.2.2.2.1.size → U.heap[q]? = G.2.2.2.1[q]?
theorem zl_blindn {G : zo_G} {sz b : Nat} {v : Value} {av : List Value} : FrameBlind (va_Pc av (zl_Pn G sz b v)) := fun a U g mk h => ⟨h.1, h.2.1, h.2.2.1, zo_K.same (s := U) (U := U.calling g mk a) rfl h.2.2.2.1, h.2.2.2.2⟩
def zl_Qn (G : zo_G) (sz b : Nat) (v w : Value) : Array Value → State → Outcome → State → Prop := va_Qv (S := Unit) (fun _ => True) (fun _ t => va_P (zl_D G) [zo_cl 20] [zl_N b w] t.heap ∧ va_D (va_A [zl_N b v] sz) [zl_N b w]) (va_A [zl_N b v] sz)
theorem kc_i1 (l : Launch) (G : zo_G) (sz b : Nat) : Met l yJ1_init (ws_ yJ1_init cJ1_init 1 none) { frames := 2, cells := 0, slots := 0, locals := 128 } (va_Pc [.ref b] (zl_Pn G sz b .null)) (zl_Qn G sz b .null .null) 0 0 (va_A [zl_N b .null] sz) := by
  refine Met.ofW (cc := cJ1_init) (maxL := 1) (ret := none) (by decide) rfl ?_
  intro p e s m args below meth c s₁ B hml hP
  obtain ⟨rfl, rfl, hP, hK, hold⟩ := hP
  have hx := B.exec
  have hb := B.bytes
  have hr := B.returns
  have hlocks := B.notSynchronized
  have hts := atoms_spec (ws := ws_ yJ1_init cJ1_init 1 none) B.pre
  have hts : ∀ w ∈ lw_all, w.before _ s = true := fun w h => hts w (List.mem_cons_of_mem _ h)
  have hown : s.vm.findClass "java/util/AbstractList" = some m.cls := findClass_of_methodNamed B.named
  have hl := lv_entry ([.ref b] : List Value) (n := 1) (Nat.le_of_ble_eq_true rfl)
  rw [lg_entry_eq]
  generalize (lg_sl ([.ref b] : List Value) ++ List.replicate (1 - (lg_sl ([.ref b] : List Value)).length) Slot.unset).toArray = ls at hl ⊢
  have hl : lv_has ls 1 [(0, .ref b)] := hl
  have hKK := zl_K hK
  have hD : va_D (va_A [zl_N b .null] s.heap.size) [zl_N b .null] := zl_AA (zl_one _)
  have hS : va_S (va_A [zl_N b .null] s.heap.size) s.heap s.heap [] := va_S.rf
  refine lv_aload_n hx hb dJ1_init_0 rfl (lv_at hl 0 rfl) ?_
  have cw := cwI (rm := { frames := 1, cells := 0, slots := 0, locals := 64 }) (R := (headSpec (ws_ yJ1_init cJ1_init 1 none) { frames := 2, cells := 0, slots := 0, locals := 128 }).room) (mc := 0) (ms := 0) 0 hts (lw_meth q136) rfl rfl rfl (hts _ q79) (hts _ q134) (hts _ q135) rfl ⟨by decide, by decide, by decide +kernel⟩ ⟨(Nat.le_of_ble_eq_true rfl), (Nat.le_of_ble_eq_true rfl)⟩
  have hrun := va_runI (p := p) (l := l) (e := e) (m := m) (below := below) (meth := meth) (H := s.heap) (locs := []) (cells := 0) (slots := 0) (b := b) (As := []) (rest := []) (g := F0 m 1 ls [.ref b]) (Ts := lw_all) ⟨hx, hb, hml, hown, hts⟩ (kc_i0 l b) cw ⟨fun a U g mk q => q, fun U hU hW => rfl⟩ rfl rfl hl.1 rfl (by show 2 * 0 + 0 ≤ 8; omega) dJ1_init_1 ⟨Nat.le_refl _, Nat.le_refl _⟩
  have kk : W p l e (headSpec (ws_ yJ1_init cJ1_init 1 none) { frames := 2, cells := 0, slots := 0, locals := 128 }).room s m #[Value.ref b] below meth c s.heap [] 0 0 (MQ below (zl_Qn G s.heap.size b .null .null) #[Value.ref b] s 0 0 (va_A [zl_N b .null] s.heap.size)) (F0 m 4 ls []) := by
    refine lv_aload_n hx hb dJ1_init_4 rfl (lv_at hl 0 rfl) ?_
    refine lv_iconst (v := nI 0) hx hb dJ1_init_5 (by decide) ?_
    refine va_put hx hb hts (zo_in 20 (by decide)) (zo_ty 20) (zo_tyok 20 (by decide)) (zo_nm 20 (by decide)) hown hKK hP hD hS 0 rfl rfl 0 (by decide) (hts _ q142) (fun x h => h) rfl (zo_tyok 20 (by decide) 0 (by decide)) rfl rfl (Nat.le_of_ble_eq_true rfl) dJ1_init_6 ?_
    intro H2 locs2 hP2 hD2 hS2
    exact W.vret hx hb hr (fun t' ht' hW => ⟨⟨(), rfl, trivial, by rw [ht']; exact hP2, hD2⟩, hS2.F ht'⟩) hS2.2.2 dJ1_init_9 hlocks
  intro T hT X
  obtain ⟨v, st₀, t, T', L, h0, X', hL, e1, e2, ⟨hv, hh⟩, stp⟩ := hrun T hT X
  cases hv
  have hLn : L = [] := by
    cases L with
    | nil => rfl
    | cons q r => exact (hL q List.mem_cons_self).elim
  subst hLn
  obtain ⟨t2, a1, b1⟩ := kk T' (by rw [e1, hh, h0]) X'
  exact ⟨t2, stp t2 a1, b1⟩
theorem kc_i2 (l : Launch) (G : zo_G) (sz b : Nat) (hG1 : G.2.2.2.1.size ≤ sz) (hG2 : G.2.2.2.1.size ≤ b) : Met l yJ2_init (ws_ yJ2_init cJ2_init 1 none) { frames := 3, cells := 0, slots := 0, locals := 192 } (va_Pc [.ref b] (zl_Pn G sz b .null)) (zl_Qn G sz b .null (.ref G.2.2.2.2.2.1)) 0 0 (va_A [zl_N b .null] sz) := by
  refine Met.ofW (cc := cJ2_init) (maxL := 1) (ret := none) (by decide) rfl ?_
  intro p e s m args below meth c s₁ B hml hP
  obtain ⟨rfl, rfl, hP, hK, hold⟩ := hP
  have hx := B.exec
  have hb := B.bytes
  have hr := B.returns
  have hlocks := B.notSynchronized
  have hts := atoms_spec (ws := ws_ yJ2_init cJ2_init 1 none) B.pre
  have hts : ∀ w ∈ lw_all, w.before _ s = true := fun w h => hts w (List.mem_cons_of_mem _ h)
  have hown : s.vm.findClass "java/util/ArrayList" = some m.cls := findClass_of_methodNamed B.named
  have hl := lv_entry ([.ref b] : List Value) (n := 1) (Nat.le_of_ble_eq_true rfl)
  rw [lg_entry_eq]
  generalize (lg_sl ([.ref b] : List Value) ++ List.replicate (1 - (lg_sl ([.ref b] : List Value)).length) Slot.unset).toArray = ls at hl ⊢
  have hl : lv_has ls 1 [(0, .ref b)] := hl
  have hKK := zl_K hK
  have hD : va_D (va_A [zl_N b .null] s.heap.size) [zl_N b .null] := zl_AA (zl_one _)
  have hS : va_S (va_A [zl_N b .null] s.heap.size) s.heap s.heap [] := va_S.rf
  refine lv_aload_n hx hb dJ2_init_0 rfl (lv_at hl 0 rfl) ?_
  have cw := cwI (rm := { frames := 2, cells := 0, slots := 0, locals := 128 }) (R := (headSpec (ws_ yJ2_init cJ2_init 1 none) { frames := 3, cells := 0, slots := 0, locals := 192 }).room) (mc := 0) (ms := 0) 0 hts (lw_meth q133) rfl rfl rfl (hts _ q80) (hts _ q131) (hts _ q132) rfl ⟨by decide, by decide, by decide +kernel⟩ ⟨(Nat.le_of_ble_eq_true rfl), (Nat.le_of_ble_eq_true rfl)⟩
  have hrun := va_runI (p := p) (l := l) (e := e) (m := m) (below := below) (meth := meth) (H := s.heap) (locs := []) (cells := 0) (slots := 0) (b := b) (As := []) (rest := []) (g := F0 m 1 ls [.ref b]) (Ts := lw_all) ⟨hx, hb, hml, hown, hts⟩ (kc_i1 l G s.heap.size b) cw ⟨zl_blindn, fun U hU hW => ⟨rfl, by rw [hU], by rw [hU]; exact hP, hK.moved hW, by rw [hU]; exact hold⟩⟩ rfl rfl hl.1 rfl (by show 2 * 0 + 0 ≤ 8; omega) dJ2_init_1 ⟨Nat.le_refl _, Nat.le_refl _⟩
  refine va_callv hrun hS (fun q _ h => h) (fun q h => h) (fun u t H1 locs1 ht hal _ hB hz hk hS1 => ?_)
  subst ht
  have hold1 : ∀ q : Nat, q < G.2.2.2.1.size → t.heap[q]? = G.2.2.2.1[q]? := fun q hq => by
    rw [hS1.2.1 q (by omega) (fun z => (zl_A1 z).elim (fun z => by have z : q = b := z; omega) (fun z => by omega))]
    exact hold q hq
  refine lv_aload_n hx hb dJ2_init_4 rfl (lv_at hl 0 rfl) ?_
  obtain ⟨hZ, hZc⟩ := (hK.2.2.2.2.2.2.2.1).2.2
  obtain ⟨cf, kf, fi, fl, sa, scell, z1, z2, z3, z4, z5, z6, z7, z8⟩ := hZ.moved (zl_warm hK).alike
  have hlt : sa < G.2.2.2.1.size := (Array.getElem?_eq_some_iff.mp z5).1
  refine W.gets (v := .ref G.2.2.2.2.2.1) hx hb hown (hts _ q138) z1 z2 z3 z4 (by rw [hold1 _ hlt]; exact z5) (fun e => by rw [e] at z6; cases z6) z7 rfl dJ2_init_5 ?_
  refine va_put hx hb hts (zo_in 20 (by decide)) (zo_ty 20) (zo_tyok 20 (by decide)) (zo_nm 20 (by decide)) hown hKK hB.1 hB.2 hS1 0 rfl rfl 1 (by decide) (hts _ q140) (fun x h => h) rfl (zo_tyok 20 (by decide) 1 (by decide)) rfl rfl (Nat.le_of_ble_eq_true rfl) dJ2_init_8 ?_
  intro H2 locs2 hP2 hD2 hS2
  refine W.cs (Nat.zero_add 0) (Nat.zero_add _) ?_
  exact W.vret hx hb hr (fun t' ht' hW => ⟨⟨(), rfl, trivial, by rw [ht']; exact hP2, hD2⟩, hS2.F ht'⟩) hS2.2.2 dJ2_init_11 hlocks
section TWL
variable {Y : zo_Y} {res : zo_R} {Ω : zo_O} {pc : Nat} {ls : List (Nat × zo_V)} {st : List zo_V} {cc : ByteArray} {nL : Nat} {own : String} {d : Nat} {FO : zo_O → Option zo_R}
/-- new ArrayList, dup, <init> -/
theorem zo_newL (hY : zo_Gd Y cc nL own d) (hJC : zo_JC (zo_J Y)) (hdp : 4 ≤ d) {idx idx2 : Nat} (hcl : Cond.classLink own idx "java/util/ArrayList" ∈ lw_all) (hlink : Cond.methodLink own idx2 ⟨"java/util/ArrayList", "<init>", "()V"⟩ ∈ lw_all) (h8 : st.length ≤ 3) (hd1 : decode cc pc = .ok (.new idx, 3)) (hd2 : decode cc (pc + 3) = .ok (.dup, 1)) (hd3 : decode cc (pc + 3 + 1) = .ok (.invokespecial idx2, 3)) (h : ad 1 3 (lt (nw Ω 20 0) FO) = some res) (kk : ∀ Ω' res', FO Ω' = some res' → TW Y res' Ω' (pc + 3 + 1 + 3) ls (vr 20 (gC Ω 20) :: st)) : TW Y res Ω pc ls st := by
  obtain ⟨res', h', rfl⟩ := ad_e h
  clear h
  have kk := kk _ res' h'
  have hJ2 : zo_J Y Ω → zo_J Y (nw Ω 20 0) := fun q => hJC.2.2.1 Ω 20 0 rfl q
  obtain ⟨p, l, e, R, s, m, args, below, meth, c, G, J, ρ0, Ω0, nL0, Q⟩ := Y
  obtain ⟨hx, hb, hml, rfl, hown, hts, hlk, hK, hfr, hlo⟩ := hY
  intro ρ H locs LS x y hR hJ hE hL hq hv hvl hvs h1 h2
  have hKn := hK.1 20 (by omega)
  have h1 : x + (res'.2.2.1 + 1) = R.cells := h1
  have h2 : y + (res'.2.2.2 + 3) = R.slots := h2
  refine W.newcK (C := "java/util/ArrayList") (n := 3) hx hb hown (hts _ hcl) (hts _ q127) (hts _ q81) rfl hd1 (by omega) (by omega) hKn.2.1 rfl fun H1 kC hkC e1 z1 o1 => ?_
  have hob := (u_born (zo_ty 20) hts (zo_in 20 (by omega)) hKn hkC e1 (zo_tyok 20 (by omega)))
  have hP : va_P (zl_D G) [zo_cl 20] [zl_N H.size .null] H1 := zl_P1w ⟨zo_cl 20, rfl, hob.to (fun f hf => by
    have hf : f < 3 := hf
    match f, hf with
    | 0, _ => rfl
    | 1, _ => rfl
    | 2, _ => rfl)⟩
  refine lv_dup hx hb hd2 rfl ?_
  have hold1 : ∀ q : Nat, q < G.2.2.2.1.size → H1[q]? = G.2.2.2.1[q]? := fun q hq => by rw [o1 q (by have := hR.1; omega)]; exact hR.2.1 q hq
  have hG1 : G.2.2.2.1.size ≤ H1.size := by have := hR.1; omega
  have cw := cwI (rm := { frames := 3, cells := 0, slots := 0, locals := 192 }) (R := R) (mc := 0) (ms := 0) 0 hts (lw_meth q130) rfl rfl rfl (hts _ q81) (hts _ hlink) (hts _ q129) rfl ⟨by decide, by decide, by decide +kernel⟩ ⟨by show 3 + 1 ≤ R.frames; omega, by show 8 + (1 + 11) + 192 ≤ R.locals; omega⟩
  have h8' := zo_room8 (ρ := ρ) (st := vi 0 :: st) (by show st.length + 1 ≤ 4; omega)
  have hrun := va_runI (p := p) (l := l) (e := e) (m := m) (below := below) (meth := meth) (H := H1) (locs := locs) (cells := x + 1) (slots := y + 3) (b := H.size) (As := []) (rest := .ref H.size :: st.map (zo_c ρ)) (g := F0 m (pc + 3 + 1) LS (.ref H.size :: .ref H.size :: st.map (zo_c ρ))) (Ts := lw_all) ⟨hx, hb, hml, hown, hts⟩ (kc_i2 l G H1.size H.size hG1 hR.1) cw ⟨zl_blindn, fun U hU hW => ⟨rfl, by rw [hU], by rw [hU]; exact hP, hK.moved hW, by rw [hU]; exact hold1⟩⟩ rfl rfl hv.1 rfl (by
    show 2 * 0 + (1 + ((st.map (zo_c ρ)).map fun v => v.category).sum) ≤ 8
    have h8'' : 1 + ((st.map (zo_c ρ)).map fun v => v.category).sum ≤ 8 := h8'
    omega) hd3 ⟨by omega, by omega⟩
  intro T hT X
  obtain ⟨v, st₀, t, T', L, h0, X', hLf, t1, t2, ⟨⟨u, hvv, -, hPn, hDn⟩, hFs⟩, stp⟩ := hrun T hT X
  cases hvv
  have hfs1 : H1.size ≤ t.heap.size := by have := hFs.1; rw [h0] at this; exact this
  have hfs2 : ∀ q : Nat, q < H.size → t.heap[q]? = H[q]? := fun q hq => by
    have := hFs.2 q (by rw [h0]; omega) (fun z => (zl_A1 z).elim (fun z => by have z : q = H.size := z; omega) (fun z => by omega))
    rw [this, h0]
    exact o1 q hq
  have hcell : zo_cell G (zo_rn ρ 20 (gC Ω 20) H.size) (nw Ω 20 0) 20 (gC Ω 20) t.heap := by
    unfold zo_cell
    rw [if_pos (by omega)]
    have hρ : zo_rn ρ 20 (gC Ω 20) H.size 20 (gC Ω 20) = H.size := if_pos ⟨rfl, rfl⟩
    rw [hρ]
    obtain ⟨r, g1, g2⟩ := hPn 0 _ rfl
    cases g1
    refine t_OB.to (N := 3) g2 (fun f hf => ?_)
    have hS0 : gS (nw Ω 20 0) (gC Ω 20) = [] := if_pos ⟨rfl, rfl⟩
    unfold zo_fv
    rw [if_pos rfl, hS0]
    match f, hf with
    | 0, _ => rfl
    | 1, _ => rfl
    | 2, _ => rfl
  obtain ⟨hR', hE'⟩ := hR.new2 (by omega) (by omega) hfs2 hcell
  have hst := zo_st.ext hE' hvs
  have hls := zo_cs.ext hE' hvl
  have kk := kk (zo_rn ρ 20 (gC Ω 20) H.size) T'.heap (locs ++ L) LS (x + 1) (y + 3) (by rw [t1]; exact hR') (hJ2 hJ) (hE.tr hL hE') (hL.tr zo_le.nw) (zo_apq hq (fun q hq2 => (zl_A1 (hLf q hq2)).elim (fun z => by have := hR.1; rw [z]; exact this) (fun z => Nat.le_trans hG1 z))) (by rw [hls]; exact hv) (hvl.le zo_le.nw) ⟨Or.inr (Or.inr ⟨by show (20 : Nat) ≠ 40; decide, by show gC Ω 20 < if 20 = 20 then gC Ω 20 + 1 else gC Ω 20; rw [if_pos rfl]; omega⟩), zo_vs.le zo_le.nw hvs⟩ (by omega) (by omega)
  have hρ : zo_c (zo_rn ρ 20 (gC Ω 20) H.size) (vr 20 (gC Ω 20)) = .ref H.size := by
    show Value.ref (zo_rn ρ 20 (gC Ω 20) H.size 20 (gC Ω 20)) = _
    rw [show zo_rn ρ 20 (gC Ω 20) H.size 20 (gC Ω 20) = H.size from if_pos ⟨rfl, rfl⟩]
  rw [List.map_cons, hρ, hst] at kk
  obtain ⟨t3, a1, b1⟩ := kk T' rfl X'
  exact ⟨t3, stp t3 a1, b1⟩
end TWL
