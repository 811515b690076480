set_option maxRecDepth 100000
/-! ===== ArrayList.add in the token world ===== -/
def zl_Pv (G : zo_G) (sz : Nat) (ws : va_W) (E : Nat → Prop) : State → Prop := fun U => zl_Pw G sz ws E U ∧ G.2.2.2.1.size ≤ sz ∧ ∀ (k : Nat) (q : Nat × va_E), ws[k]? = some q → G.2.2.2.1.size ≤ q.1
theorem zl_old {G : zo_G} {sz : Nat} {ws : va_W} {s : State} {H : Heap} {locs : List Loc} (hS : va_S (va_A ws sz) s.heap H locs) (hsz : s.heap.size = sz) (h1 : G.2.2.2.1.size ≤ sz) (h2 : ∀ (k : Nat) (q : Nat × va_E), ws[k]? = some q → G.2.2.2.1.size ≤ q.1) (ho : ∀ q : Nat, q < G.2.2.2.1.size → s.heap[q]? = G.2.2.2.1[q]?) : ∀ q : Nat, q < G.2.2.2.1.size → H[q]? = G.2.2.2.1[q]? := by
  intro q hq
  rw [hS.2.1 q (by omega) (fun z => ?_)]
  · exact ho q hq
  · rcases z with ⟨k, e, z⟩ | z
    · have := h2 k _ z
      exact absurd hq (by show ¬ q < _; have h3 : G.2.2.2.1.size ≤ q := this; omega)
    · omega
theorem zl_notA {ws ws1 : va_W} {sz sz1 y : Nat} (h : ¬ va_A ws sz y) (hs : sz ≤ sz1) (ha : ∀ (k : Nat) (e : va_E), ws1[k]? = some (y, e) → ∃ (k' : Nat) (e' : va_E), ws[k']? = some (y, e')) : ¬ va_A ws1 sz1 y := fun z => h (by
  rcases z with ⟨k, e, z⟩ | z
  · obtain ⟨k', e', h'⟩ := ha k e z
    exact Or.inl ⟨k', e', h'⟩
  · exact Or.inr (by omega))
theorem zl_ad1 {q q' : Nat × va_E} {y : Nat} (hq : q'.1 = q.1) : ∀ (k : Nat) (e : va_E), [q'][k]? = some (y, e) → ∃ (k' : Nat) (e' : va_E), [q][k']? = some (y, e') := by
  intro k e h
  match k, h with
  | 0, h => cases h; exact ⟨0, q.2, by rw [← show q.1 = y from hq.symm]; rfl⟩
  | k + 1, h => cases h
theorem zl_ad2 {q q' r : Nat × va_E} {y : Nat} (hq : q'.1 = q.1) : ∀ (k : Nat) (e : va_E), [q', r][k]? = some (y, e) → ∃ (k' : Nat) (e' : va_E), [q, r][k']? = some (y, e') := by
  intro k e h
  match k, h with
  | 0, h => cases h; exact ⟨0, q.2, by rw [← show q.1 = y from hq.symm]; rfl⟩
  | 1, h => exact ⟨1, e, h⟩
  | k + 2, h => cases h
theorem kc_adr (l : Launch) (G : zo_G) (sz b mo : Nat) (a ct n : Nat) (f : Nat → Option Nat) (v : Nat) (hc : ct < n) (hn : n ≤ 65536) : Met l yJ2_add (ws_ yJ2_add cJ2_add 2 (some .boolean)) { frames := 6, cells := 0, slots := 0, locals := 64 * 6 } (va_Pc [.ref b, .ref v] (zl_Pv G sz (zl_r1 G b mo a ct n f) (fun y => (∃ i, f i = some y) ∨ y = v))) (zl_Qi G sz (zl_r1 G b mo a ct n f) (zl_r2 G b (mo + 1) a ct n f v)) 0 0 (va_A (zl_r1 G b mo a ct n f) sz) := by
  refine Met.ofW (cc := cJ2_add) (maxL := 2) (ret := (some .boolean)) (by decide) rfl ?_
  intro p e s m args below meth c s₁ B hml hP
  obtain ⟨rfl, ⟨rfl, hP, hap, hK, hE, hold⟩, hG1, hG2⟩ := hP
  have hx := B.exec
  have hb := B.bytes
  have hr := B.returns
  have hlocks := B.notSynchronized
  have hts := atoms_spec (ws := ws_ yJ2_add cJ2_add 2 (some .boolean)) B.pre
  have hts : ∀ w ∈ lw_all, w.before _ s = true := fun w h => hts w (List.mem_cons_of_mem _ h)
  have hown : s.vm.findClass "java/util/ArrayList" = some m.cls := findClass_of_methodNamed B.named
  have hl := lv_entry ([.ref b, .ref v] : List Value) (n := 2) (Nat.le_of_ble_eq_true rfl)
  rw [lg_entry_eq]
  generalize (lg_sl ([.ref b, .ref v] : List Value) ++ List.replicate (2 - (lg_sl ([.ref b, .ref v] : List Value)).length) Slot.unset).toArray = ls at hl ⊢
  have hl : lv_has ls 2 [(0, .ref b), (1, .ref v)] := hl
  have hKK := zl_K hK
  have hD : va_D (va_A (zl_r1 G b mo a ct n f) s.heap.size) (zl_r1 G b mo a ct n f) := zl_AA hap
  have hS : va_S (va_A (zl_r1 G b mo a ct n f) s.heap.size) s.heap s.heap [] := va_S.rf
  refine lv_aload_n hx hb dJ2_add_0 rfl (lv_at hl 0 rfl) ?_
  refine lv_dup hx hb dJ2_add_1 rfl ?_
  refine va_get hx hb hts (zo_in 20 (by decide)) hown hKK hP 0 rfl rfl 0 (by decide) (hts _ q143) (fun x h => zo_same hts (Or.inr q144) x h) rfl dJ2_add_2 ?_
  refine lv_iconst (v := 1) hx hb dJ2_add_5 (by decide) ?_
  refine lv_iadd hx hb dJ2_add_6 ?_
  rw [nI_1]
  refine va_put hx hb hts (zo_in 20 (by decide)) (zo_ty 20) (zo_tyok 20 (by decide)) (zo_nm 20 (by decide)) hown hKK hP hD hS 0 rfl rfl 0 (by decide) (hts _ q143) (fun x h => zo_same hts (Or.inr q144) x h) rfl (zo_tyok 20 (by decide) 0 (by decide)) rfl rfl (Nat.le_of_ble_eq_true rfl) dJ2_add_7 ?_
  intro H1 locs1 hP1 hD1 hS1
  refine lv_aload_n hx hb dJ2_add_10 rfl (lv_at hl 0 rfl) ?_
  refine lv_aload_n hx hb dJ2_add_11 rfl (lv_at hl 1 rfl) ?_
  refine lv_aload_n hx hb dJ2_add_12 rfl (lv_at hl 0 rfl) ?_
  refine va_get hx hb hts (zo_in 20 (by decide)) hown hKK hP1 0 rfl rfl 1 (by decide) (hts _ q140) (fun x h => h) rfl dJ2_add_13 ?_
  refine lv_aload_n hx hb dJ2_add_16 rfl (lv_at hl 0 rfl) ?_
  refine va_get hx hb hts (zo_in 20 (by decide)) hown hKK hP1 0 rfl rfl 2 (by decide) (hts _ q141) (fun x h => h) rfl dJ2_add_17 ?_
  have cw := cwV (rm := { frames := 5, cells := 0, slots := 0, locals := 320 }) (R := (headSpec (ws_ yJ2_add cJ2_add 2 (some .boolean)) { frames := 6, cells := 0, slots := 0, locals := 64 * 6 }).room) (mc := 0) (ms := 0) 3 hts (lw_V q288 q290 qs0 q81 q291) rfl rfl rfl ⟨rfl, by decide, by decide, by decide +kernel⟩ ⟨(Nat.le_of_ble_eq_true rfl), (Nat.le_of_ble_eq_true rfl)⟩
  have hrun := va_runV (p := p) (l := l) (e := e) (m := m) (below := below) (meth := meth) (locs := locs1) (cells := 0) (slots := 0) (b := b) (As := [.ref v, .ref a, .int (nI ct)]) (rest := []) (g := F0 m 20 ls [.int (nI ct), .ref a, .ref v, .ref b]) (Ts := lw_all) ⟨hx, hb, hml, hown, hts⟩ (kc_ad2r l G H1.size b (mo + 1) a ct n f v hc hn) cw ⟨zl_blind, va_recv hKK hP1 rfl (q0 := 0) rfl, fun U hU hW => ⟨rfl, zl_go hU hW hP1 hD1.1 hK (fun y hy => ⟨zl_notA (hE y hy).1 hS1.1 (zl_ad2 rfl), zl_anyS hS1 (hE y hy).1 (hE y hy).2⟩) (zl_old hS1 rfl hG1 hG2 hold)⟩⟩ rfl rfl hl.1 rfl (by show 2 * 0 + 0 ≤ 8; omega) dJ2_add_20 ⟨by show 0 + 0 ≤ 0; omega, by show 0 + 0 ≤ 0; omega⟩
  have hF := va_free hD1 hS1 (fun q hq => Or.inr hq) [0, 1] (wc := (zl_r1 G b (mo + 1) a ct n f)) rfl
  refine va_callv hrun hS1 (fun q _ h => hF q h) (fun q h => hF q h) (fun ra t H2 locs2 ht hal _ hB hz hk hS2 => ?_)
  subst ht
  refine lv_iconst (v := 1) hx hb dJ2_add_23 (by decide) ?_
  refine W.cs (Nat.zero_add 0) (Nat.zero_add _) ?_
  exact W.zret hx hb hr rfl (fun t' ht' hW => ⟨⟨1, ra, rfl, rfl, by rw [ht']; exact hB.1, hB.2.weaken (fun _ q _ => hF q.1)⟩, hS2.F ht'⟩) hS2.2.2 dJ2_add_24 hlocks
theorem kc_adg (l : Launch) (G : zo_G) (sz b mo : Nat) (a n : Nat) (f : Nat → Option Nat) (v : Nat) (h10 : 10 ≤ n) (hn : n ≤ 40000) : Met l yJ2_add (ws_ yJ2_add cJ2_add 2 (some .boolean)) { frames := 6, cells := 1, slots := (n + n / 2), locals := 64 * 6 } (va_Pc [.ref b, .ref v] (zl_Pv G sz (zl_w1 G b mo a n f) (fun y => (∃ i, f i = some y) ∨ y = v))) (zl_Qi G sz (zl_w1 G b mo a n f) (zl_w3 G b (mo + 1) a n f v)) 1 (n + n / 2) (va_A (zl_w1 G b mo a n f) sz) := by
  refine Met.ofW (cc := cJ2_add) (maxL := 2) (ret := (some .boolean)) (by decide) rfl ?_
  intro p e s m args below meth c s₁ B hml hP
  obtain ⟨rfl, ⟨rfl, hP, hap, hK, hE, hold⟩, hG1, hG2⟩ := hP
  have hx := B.exec
  have hb := B.bytes
  have hr := B.returns
  have hlocks := B.notSynchronized
  have hts := atoms_spec (ws := ws_ yJ2_add cJ2_add 2 (some .boolean)) B.pre
  have hts : ∀ w ∈ lw_all, w.before _ s = true := fun w h => hts w (List.mem_cons_of_mem _ h)
  have hown : s.vm.findClass "java/util/ArrayList" = some m.cls := findClass_of_methodNamed B.named
  have hl := lv_entry ([.ref b, .ref v] : List Value) (n := 2) (Nat.le_of_ble_eq_true rfl)
  rw [lg_entry_eq]
  generalize (lg_sl ([.ref b, .ref v] : List Value) ++ List.replicate (2 - (lg_sl ([.ref b, .ref v] : List Value)).length) Slot.unset).toArray = ls at hl ⊢
  have hl : lv_has ls 2 [(0, .ref b), (1, .ref v)] := hl
  have hKK := zl_K hK
  have hD : va_D (va_A (zl_w1 G b mo a n f) s.heap.size) (zl_w1 G b mo a n f) := zl_AA hap
  have hS : va_S (va_A (zl_w1 G b mo a n f) s.heap.size) s.heap s.heap [] := va_S.rf
  refine lv_aload_n hx hb dJ2_add_0 rfl (lv_at hl 0 rfl) ?_
  refine lv_dup hx hb dJ2_add_1 rfl ?_
  refine va_get hx hb hts (zo_in 20 (by decide)) hown hKK hP 0 rfl rfl 0 (by decide) (hts _ q143) (fun x h => zo_same hts (Or.inr q144) x h) rfl dJ2_add_2 ?_
  refine lv_iconst (v := 1) hx hb dJ2_add_5 (by decide) ?_
  refine lv_iadd hx hb dJ2_add_6 ?_
  rw [nI_1]
  refine va_put hx hb hts (zo_in 20 (by decide)) (zo_ty 20) (zo_tyok 20 (by decide)) (zo_nm 20 (by decide)) hown hKK hP hD hS 0 rfl rfl 0 (by decide) (hts _ q143) (fun x h => zo_same hts (Or.inr q144) x h) rfl (zo_tyok 20 (by decide) 0 (by decide)) rfl rfl (Nat.le_of_ble_eq_true rfl) dJ2_add_7 ?_
  intro H1 locs1 hP1 hD1 hS1
  refine lv_aload_n hx hb dJ2_add_10 rfl (lv_at hl 0 rfl) ?_
  refine lv_aload_n hx hb dJ2_add_11 rfl (lv_at hl 1 rfl) ?_
  refine lv_aload_n hx hb dJ2_add_12 rfl (lv_at hl 0 rfl) ?_
  refine va_get hx hb hts (zo_in 20 (by decide)) hown hKK hP1 0 rfl rfl 1 (by decide) (hts _ q140) (fun x h => h) rfl dJ2_add_13 ?_
  refine lv_aload_n hx hb dJ2_add_16 rfl (lv_at hl 0 rfl) ?_
  refine va_get hx hb hts (zo_in 20 (by decide)) hown hKK hP1 0 rfl rfl 2 (by decide) (hts _ q141) (fun x h => h) rfl dJ2_add_17 ?_
  have cw := cwV (rm := { frames := 5, cells := 1, slots := (n + n / 2), locals := 320 }) (R := (headSpec (ws_ yJ2_add cJ2_add 2 (some .boolean)) { frames := 6, cells := 1, slots := (n + n / 2), locals := 64 * 6 }).room) (mc := 1) (ms := (n + n / 2)) 3 hts (lw_V q288 q290 qs0 q81 q291) rfl rfl rfl ⟨rfl, by decide, by decide, by decide +kernel⟩ ⟨(Nat.le_of_ble_eq_true rfl), (Nat.le_of_ble_eq_true rfl)⟩
  have hrun := va_runV (p := p) (l := l) (e := e) (m := m) (below := below) (meth := meth) (locs := locs1) (cells := 0) (slots := 0) (b := b) (As := [.ref v, .ref a, .int (nI n)]) (rest := []) (g := F0 m 20 ls [.int (nI n), .ref a, .ref v, .ref b]) (Ts := lw_all) ⟨hx, hb, hml, hown, hts⟩ (kc_ad2g l G H1.size b (mo + 1) a n f v h10 hn) cw ⟨zl_blind, va_recv hKK hP1 rfl (q0 := 0) rfl, fun U hU hW => ⟨rfl, zl_go hU hW hP1 hD1.1 hK (fun y hy => ⟨zl_notA (hE y hy).1 hS1.1 (zl_ad2 rfl), zl_anyS hS1 (hE y hy).1 (hE y hy).2⟩) (zl_old hS1 rfl hG1 hG2 hold)⟩⟩ rfl rfl hl.1 rfl (by show 2 * 0 + 0 ≤ 8; omega) dJ2_add_20 ⟨by show 0 + 1 ≤ 1; omega, by show 0 + (n + n / 2) ≤ (n + n / 2); omega⟩
  have hF := va_free hD1 hS1 (fun q hq => Or.inr hq) [0, 1] (wc := (zl_w1 G b (mo + 1) a n f)) rfl
  refine va_callv hrun hS1 (fun q _ h => hF q h) (fun q h => hF q h) (fun ra t H2 locs2 ht hal _ hB hz hk hS2 => ?_)
  subst ht
  refine lv_iconst (v := 1) hx hb dJ2_add_23 (by decide) ?_
  refine W.cs (Nat.zero_add 1) (Nat.zero_add _) ?_
  exact W.zret hx hb hr rfl (fun t' ht' hW => ⟨⟨1, ra, rfl, rfl, by rw [ht']; exact hB.1, hB.2.weaken (fun _ q _ => hF q.1)⟩, hS2.F ht'⟩) hS2.2.2 dJ2_add_24 hlocks
theorem kc_adz (l : Launch) (G : zo_G) (sz b mo : Nat) (v : Nat) : Met l yJ2_add (ws_ yJ2_add cJ2_add 2 (some .boolean)) { frames := 6, cells := 1, slots := 10, locals := 64 * 6 } (va_Pc [.ref b, .ref v] (zl_Pv G sz (zl_z1 G b mo) (fun y => y = v))) (zl_Qi G sz (zl_z1 G b mo) (zl_z3 G b (mo + 1) v)) 1 10 (va_A (zl_z1 G b mo) sz) := by
  refine Met.ofW (cc := cJ2_add) (maxL := 2) (ret := (some .boolean)) (by decide) rfl ?_
  intro p e s m args below meth c s₁ B hml hP
  obtain ⟨rfl, ⟨rfl, hP, hap, hK, hE, hold⟩, hG1, hG2⟩ := hP
  have hx := B.exec
  have hb := B.bytes
  have hr := B.returns
  have hlocks := B.notSynchronized
  have hts := atoms_spec (ws := ws_ yJ2_add cJ2_add 2 (some .boolean)) B.pre
  have hts : ∀ w ∈ lw_all, w.before _ s = true := fun w h => hts w (List.mem_cons_of_mem _ h)
  have hown : s.vm.findClass "java/util/ArrayList" = some m.cls := findClass_of_methodNamed B.named
  have hl := lv_entry ([.ref b, .ref v] : List Value) (n := 2) (Nat.le_of_ble_eq_true rfl)
  rw [lg_entry_eq]
  generalize (lg_sl ([.ref b, .ref v] : List Value) ++ List.replicate (2 - (lg_sl ([.ref b, .ref v] : List Value)).length) Slot.unset).toArray = ls at hl ⊢
  have hl : lv_has ls 2 [(0, .ref b), (1, .ref v)] := hl
  have hKK := zl_K hK
  have hD : va_D (va_A (zl_z1 G b mo) s.heap.size) (zl_z1 G b mo) := zl_AA hap
  have hS : va_S (va_A (zl_z1 G b mo) s.heap.size) s.heap s.heap [] := va_S.rf
  refine lv_aload_n hx hb dJ2_add_0 rfl (lv_at hl 0 rfl) ?_
  refine lv_dup hx hb dJ2_add_1 rfl ?_
  refine va_get hx hb hts (zo_in 20 (by decide)) hown hKK hP 0 rfl rfl 0 (by decide) (hts _ q143) (fun x h => zo_same hts (Or.inr q144) x h) rfl dJ2_add_2 ?_
  refine lv_iconst (v := 1) hx hb dJ2_add_5 (by decide) ?_
  refine lv_iadd hx hb dJ2_add_6 ?_
  rw [nI_1]
  refine va_put hx hb hts (zo_in 20 (by decide)) (zo_ty 20) (zo_tyok 20 (by decide)) (zo_nm 20 (by decide)) hown hKK hP hD hS 0 rfl rfl 0 (by decide) (hts _ q143) (fun x h => zo_same hts (Or.inr q144) x h) rfl (zo_tyok 20 (by decide) 0 (by decide)) rfl rfl (Nat.le_of_ble_eq_true rfl) dJ2_add_7 ?_
  intro H1 locs1 hP1 hD1 hS1
  refine lv_aload_n hx hb dJ2_add_10 rfl (lv_at hl 0 rfl) ?_
  refine lv_aload_n hx hb dJ2_add_11 rfl (lv_at hl 1 rfl) ?_
  refine lv_aload_n hx hb dJ2_add_12 rfl (lv_at hl 0 rfl) ?_
  refine va_get hx hb hts (zo_in 20 (by decide)) hown hKK hP1 0 rfl rfl 1 (by decide) (hts _ q140) (fun x h => h) rfl dJ2_add_13 ?_
  refine lv_aload_n hx hb dJ2_add_16 rfl (lv_at hl 0 rfl) ?_
  refine va_get hx hb hts (zo_in 20 (by decide)) hown hKK hP1 0 rfl rfl 2 (by decide) (hts _ q141) (fun x h => h) rfl dJ2_add_17 ?_
  have cw := cwV (rm := { frames := 5, cells := 1, slots := 10, locals := 320 }) (R := (headSpec (ws_ yJ2_add cJ2_add 2 (some .boolean)) { frames := 6, cells := 1, slots := 10, locals := 64 * 6 }).room) (mc := 1) (ms := 10) 3 hts (lw_V q288 q290 qs0 q81 q291) rfl rfl rfl ⟨rfl, by decide, by decide, by decide +kernel⟩ ⟨(Nat.le_of_ble_eq_true rfl), (Nat.le_of_ble_eq_true rfl)⟩
  have hrun := va_runV (p := p) (l := l) (e := e) (m := m) (below := below) (meth := meth) (locs := locs1) (cells := 0) (slots := 0) (b := b) (As := [.ref v, .ref G.2.2.2.2.2.1, .int (nI 0)]) (rest := []) (g := F0 m 20 ls [.int (nI 0), .ref G.2.2.2.2.2.1, .ref v, .ref b]) (Ts := lw_all) ⟨hx, hb, hml, hown, hts⟩ (kc_ad2z l G H1.size b (mo + 1) v) cw ⟨zl_blind, va_recv hKK hP1 rfl (q0 := 0) rfl, fun U hU hW => ⟨rfl, zl_go hU hW hP1 hD1.1 hK (fun y hy => ⟨zl_notA (hE y hy).1 hS1.1 (zl_ad1 rfl), zl_anyS hS1 (hE y hy).1 (hE y hy).2⟩) (zl_old hS1 rfl hG1 hG2 hold)⟩⟩ rfl rfl hl.1 rfl (by show 2 * 0 + 0 ≤ 8; omega) dJ2_add_20 ⟨by show 0 + 1 ≤ 1; omega, by show 0 + 10 ≤ 10; omega⟩
  have hF := va_free hD1 hS1 (fun q hq => Or.inr hq) [0] (wc := (zl_z1 G b (mo + 1))) rfl
  refine va_callv hrun hS1 (fun q _ h => hF q h) (fun q h => hF q h) (fun ra t H2 locs2 ht hal _ hB hz hk hS2 => ?_)
  subst ht
  refine lv_iconst (v := 1) hx hb dJ2_add_23 (by decide) ?_
  refine W.cs (Nat.zero_add 1) (Nat.zero_add _) ?_
  exact W.zret hx hb hr rfl (fun t' ht' hW => ⟨⟨1, ra, rfl, rfl, by rw [ht']; exact hB.1, hB.2.weaken (fun _ q _ => hF q.1)⟩, hS2.F ht'⟩) hS2.2.2 dJ2_add_24 hlocks
/-- what a list's element is to the machine -/
theorem zl_tok {G : zo_G} {ρ : Nat → Nat → Nat} {Ω : zo_O} {H : Heap} {s : State} (hK : zo_K G s) (hR : zo_Rep G ρ Ω H) {t : zo_T} (ht : t.1 < 21) (hok : zo_ok Ω t) : va_Any "java/lang/Object" s H (ρ t.1 t.2) := by
  obtain ⟨cell, h1, h2, h3⟩ := zo_recv hK hR ht hok
  have hca : ∀ k, k < 21 → Cond.castable (zo_cl k).1 "java/lang/Object" ∈ lw_tbl := by
    intro k hk
    match k, hk with
    | 0, _ => exact q1830
    | 1, _ => exact q1832
    | 2, _ => exact q1833
    | 3, _ => exact q1834
    | 4, _ => exact q1835
    | 5, _ => exact q1836
    | 6, _ => exact q1837
    | 7, _ => exact q1838
    | 8, _ => exact q1839
    | 9, _ => exact q1840
    | 10, _ => exact q1841
    | 11, _ => exact q1842
    | 12, _ => exact q1843
    | 13, _ => exact q1844
    | 14, _ => exact q1828
    | 15, _ => exact q1846
    | 16, _ => exact q1847
    | 17, _ => exact q1848
    | 18, _ => exact q1829
    | 19, _ => exact q1845
    | 20, _ => exact q1831
    | k + 21, h => exact absurd h (by omega)
  obtain ⟨c0, t0, f1, f2, f3⟩ := Cond.castable_spec (va_Nw.use (A := #[]) rfl (hK.2.2.1 _ (hca t.1 ht) rfl))
  cases h3.symm.trans f1
  obtain ⟨k, hk⟩ := Vm.classAt_of_findClass h3
  exact ⟨cell, h1, h2, ⟨k, hk⟩, fun comp hc => by cases hc.symm.trans f2; exact f3⟩
theorem zo_cap_10 : ∀ n, n ≠ 0 → 10 ≤ zo_cap n
  | 0, h => absurd rfl h
  | n + 1, _ => by
    unfold zo_cap
    by_cases h0 : n = 0
    · subst h0; decide
    · have := zo_cap_10 n h0
      by_cases h : n < zo_cap n
      · rw [if_pos h]; exact this
      · rw [if_neg h, if_neg (by omega)]; omega
theorem zo_cap_room {n : Nat} (h : n < zo_cap n) : zo_cap (n + 1) = zo_cap n := by
  show (if n < zo_cap n then zo_cap n else _) = _
  rw [if_pos h]
theorem zo_cap_grow {n : Nat} (h : ¬ n < zo_cap n) (h0 : n ≠ 0) : zo_cap n = n ∧ zo_cap (n + 1) = n + n / 2 := by
  have h1 := zo_cap_ge n
  have e : zo_cap n = n := by omega
  refine ⟨e, ?_⟩
  show (if n < zo_cap n then zo_cap n else if zo_cap n = 0 then 10 else zo_cap n + zo_cap n / 2) = _
  rw [if_neg h, if_neg (by omega), e]
/-- a list has one more -/
theorem zo_Rep.lst {G : zo_G} {ρ : Nat → Nat → Nat} {Ω : zo_O} {H H' : Heap} (h : zo_Rep G ρ Ω H) {n ra : Nat} {t : zo_T} (hn : n < gC Ω 20) (ht : zo_ok Ω t) (hsz : H.size ≤ H'.size)
    (ho : ∀ q : Nat, q < H.size → q ≠ ρ 20 n → q ≠ ra → H'[q]? = H[q]?) (hra : (ra = ρ 40 n ∧ gS Ω n ≠ []) ∨ H.size ≤ ra)
    (hobj : t_OB (ρ 20 n) (G.1 20) 3 (G.2.1 20) H' (fun f => if f = 1 then .ref ra else .int (nI ((gS Ω n).length + 1))))
    (harr : H'[ra]? = some (arrV (G.2.2.1 40) (zo_cap ((gS Ω n).length + 1)) (fun i => zo_mp ρ ((gS Ω n ++ [t])[i]?)))) :
    zo_Rep G (zo_rn ρ 40 n ra) (sS Ω n (gS Ω n ++ [t])) H' ∧ zo_ext Ω ρ (zo_rn ρ 40 n ra) := by
  have hext : zo_ext Ω ρ (zo_rn ρ 40 n ra) := fun t ht => by
    unfold zo_rn
    rw [if_neg]
    rintro ⟨e1, e2⟩
    rcases ht with q | q | ⟨q, q2⟩
    · rw [q] at e1; cases e1
    · rw [q] at e1; cases e1
    · exact q e1
  have hlv20 : zo_lv Ω 20 n := by unfold zo_lv; rw [if_neg (by decide)]; exact hn
  have hGra : G.2.2.2.1.size ≤ ra := by
    rcases hra with ⟨rfl, hne⟩ | hra
    · exact (h.cell (k := 40) (n := n) (by unfold zo_lv; rw [if_pos rfl]; exact ⟨hn, hne⟩)).2
    · exact Nat.le_trans h.1 hra
  have hG20 := (h.cell hlv20).2
  have hlt20 := (h.cell hlv20).1.lt
  have hR := h
  obtain ⟨h1, h2, h3, ⟨own, h4⟩, h5, h6, h7⟩ := h
  have hne : ∀ k' n', zo_lv Ω k' n' → ¬ (k' = 40 ∧ n' = n) → ρ k' n' ≠ ra := by
    intro k' n' hl hnn e
    rcases hra with ⟨e2, hne⟩ | hra
    · have g1 := (h4 k' n' hl).1
      have g2 := (h4 40 n (by unfold zo_lv; rw [if_pos rfl]; exact ⟨hn, hne⟩)).1
      rw [e, e2, g2] at g1
      cases g1
      exact hnn ⟨rfl, rfl⟩
    · have := (h4 k' n' hl).2.2.lt
      omega
  have hgS : ∀ n', gS (sS Ω n (gS Ω n ++ [t])) n' = if n' = n then gS Ω n ++ [t] else gS Ω n' := fun _ => rfl
  have hmp : ∀ (o : Option zo_T), (∀ t, o = some t → zo_ok Ω t) → zo_mp (zo_rn ρ 40 n ra) o = zo_mp ρ o := fun o ho => zo_mp.ext hext ho
  have hel : ∀ n' (i : Nat), n' < gC Ω 20 → ∀ t, (gS Ω n')[i]? = some t → zo_ok Ω t := fun n' i hn' t e => h6 n' t hn' (List.mem_of_getElem? e)
  refine ⟨⟨Nat.le_trans h1 hsz, fun q hq => ?_, fun m => ?_, ⟨fun a => if a = ra then (40, n) else own a, fun k' n' hl' => ?_⟩, h5, fun n' t' hn' ht' => ?_, h7⟩, hext⟩
  · rw [ho q (by omega) (by omega) (by omega)]
    exact h2 q hq
  · unfold zo_rn
    rw [if_neg (by rintro ⟨e, -⟩; cases e), if_neg (by rintro ⟨e, -⟩; cases e)]
    exact h3 m
  · by_cases he : k' = 40 ∧ n' = n
    · obtain ⟨rfl, rfl⟩ := he
      have hρ : zo_rn ρ 40 n' ra 40 n' = ra := if_pos ⟨rfl, rfl⟩
      rw [hρ]
      refine ⟨if_pos rfl, hGra, ?_⟩
      unfold zo_cell
      rw [if_neg (by decide), hρ, harr]
      unfold zo_ln
      rw [if_pos rfl, hgS, if_pos rfl, List.length_append]
      congr 2
      funext i
      unfold zo_av
      rw [if_pos rfl, hgS, if_pos rfl]
      refine (hmp _ (fun t' e => ?_)).symm
      rcases List.mem_append.mp (List.mem_of_getElem? e) with q | q
      · exact h6 n' t' hn q
      · rw [List.mem_singleton.mp q]; exact ht
    · have hρ : zo_rn ρ 40 n ra k' n' = ρ k' n' := if_neg he
      have hl : zo_lv Ω k' n' := by
        unfold zo_lv at hl' ⊢
        by_cases h40 : k' = 40
        · subst h40
          rw [if_pos rfl] at hl' ⊢
          rw [hgS, if_neg (fun q => he ⟨rfl, q⟩)] at hl'
          exact hl'
        · rw [if_neg h40] at hl' ⊢
          exact hl'
      have hn2 := hne k' n' hl he
      rw [hρ]
      refine ⟨by show (if ρ k' n' = ra then _ else _) = _; rw [if_neg hn2]; exact (h4 k' n' hl).1, (h4 k' n' hl).2.1, ?_⟩
      by_cases hb : k' = 20 ∧ n' = n
      · obtain ⟨rfl, rfl⟩ := hb
        unfold zo_cell
        rw [if_pos (by decide), hρ]
        refine hobj.to (fun f hf => ?_)
        unfold zo_fv
        rw [if_pos rfl, hgS, if_pos rfl, List.length_append]
        by_cases hf1 : f = 1
        · rw [if_pos hf1, if_pos hf1, if_neg (by simp), show zo_rn ρ 40 n' ra 40 n' = ra from if_pos ⟨rfl, rfl⟩]
        · rw [if_neg hf1, if_neg hf1]; rfl
      · have hq : ρ k' n' ≠ ρ 20 n := fun e => by
          have g1 := (h4 k' n' hl).1
          rw [e, (h4 20 n hlv20).1] at g1
          cases g1
          exact hb ⟨rfl, rfl⟩
        have hc := (h4 k' n' hl).2.2
        refine hc.cong hρ (ho _ hc.lt hq hn2) (fun hk f hf => ?_) (fun hk => ?_) (fun hk i hi => ?_)
        · unfold zo_fv
          by_cases h20 : k' = 20
          · subst h20
            have hnn : n' ≠ n := fun q => hb ⟨rfl, q⟩
            rw [if_pos rfl, if_pos rfl, hgS, if_neg hnn, show zo_rn ρ 40 n ra 40 n' = ρ 40 n' from if_neg (fun q => hnn q.2)]
          · rw [if_neg h20, if_neg h20]
            have hn3 : n' < gC Ω k' := by
              unfold zo_lv at hl
              rw [if_neg (by omega)] at hl
              exact hl
            rw [show gR (sS Ω n (gS Ω n ++ [t])) k' n' f = gR Ω k' n' f from rfl, hmp _ (fun t' e => h5 k' n' f t' hn3 e)]
            rfl
        · unfold zo_ln
          by_cases h40 : k' = 40
          · subst h40
            rw [if_pos rfl, if_pos rfl, hgS, if_neg (fun q => he ⟨rfl, q⟩)]
          · rw [if_neg h40, if_neg h40]; rfl
        · unfold zo_av
          by_cases h40 : k' = 40
          · subst h40
            have hl2 : n' < gC Ω 20 ∧ gS Ω n' ≠ [] := by
              unfold zo_lv at hl
              rw [if_pos rfl] at hl
              exact hl
            rw [if_pos rfl, if_pos rfl, hgS, if_neg (fun q => he ⟨rfl, q⟩), hmp _ (fun t' e => hel n' i hl2.1 t' e)]
          · rw [if_neg h40, if_neg h40]
            have hn3 : n' < gC Ω k' := by
              unfold zo_lv at hl
              rw [if_neg h40] at hl
              exact hl
            rw [show gR (sS Ω n (gS Ω n ++ [t])) k' n' i = gR Ω k' n' i from rfl, hmp _ (fun t' e => h5 k' n' i t' hn3 e)]
            rfl
  · rw [hgS] at ht'
    by_cases hnn : n' = n
    · subst hnn
      rw [if_pos rfl] at ht'
      rcases List.mem_append.mp ht' with q | q
      · exact h6 n' t' hn' q
      · rw [List.mem_singleton.mp q]; exact ht
    · rw [if_neg hnn] at ht'
      exact h6 n' t' hn' ht'

