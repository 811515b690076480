set_option maxRecDepth 100000
/-! ===== grow and add ===== -/
theorem zl_shr {n : Nat} (hn : n ≤ 40000) : nI n >>> ((1 : Int32) &&& 31) = nI (n / 2) := by
  have k := pk_shrN (n := n) (by omega) ((1 : Int32) &&& 31) 1 (by decide)
  rw [Nat.pow_one] at k
  exact k
theorem zl_sub1 (n : Nat) : nI (n + 1) - nI n = nI 1 := by
  have k := pk_sub (a := n + 1) (b := n) (by omega)
  rw [Nat.add_sub_cancel_left] at k
  exact k
theorem kc_nl (l : Launch) (n : Nat) (h10 : 10 ≤ n) (hn : n ≤ 40000) : Met l yJ3_newLength (ws_ yJ3_newLength cJ3_newLength 4 (some .int)) { frames := 1, cells := 0, slots := 0, locals := 64 } (fun a _ => a = ([.int (nI n), .int (nI 1), .int (nI (n / 2))] : List Value).toArray) (vp_Si (fun r => r = nI (n + n / 2))) 0 0 (fun _ => False) := by
  refine Met.ofW (cc := cJ3_newLength) (maxL := 4) (ret := (some .int)) (by decide) rfl ?_
  intro p e s m args below meth c s₁ B hml hP
  obtain rfl := hP
  have hx := B.exec
  have hb := B.bytes
  have hr := B.returns
  have hlocks := B.notSynchronized
  have hts := atoms_spec (ws := ws_ yJ3_newLength cJ3_newLength 4 (some .int)) B.pre
  have hts : ∀ w ∈ lw_all, w.before _ s = true := fun w h => hts w (List.mem_cons_of_mem _ h)
  have hown : s.vm.findClass "jdk/internal/util/ArraysSupport" = some m.cls := findClass_of_methodNamed B.named
  have hl := lv_entry ([.int (nI n), .int (nI 1), .int (nI (n / 2))] : List Value) (n := 4) (Nat.le_of_ble_eq_true rfl)
  rw [lg_entry_eq]
  generalize (lg_sl ([.int (nI n), .int (nI 1), .int (nI (n / 2))] : List Value) ++ List.replicate (4 - (lg_sl ([.int (nI n), .int (nI 1), .int (nI (n / 2))] : List Value)).length) Slot.unset).toArray = ls at hl ⊢
  have hl : lv_has ls 4 [(0, .int (nI n)), (1, .int (nI 1)), (2, .int (nI (n / 2)))] := hl
  refine lv_iload_n hx hb dJ3_newLength_0 rfl (lv_at hl 0 rfl) ?_
  refine lv_iload_n hx hb dJ3_newLength_1 rfl (lv_at hl 1 rfl) ?_
  refine lv_iload_n hx hb dJ3_newLength_2 rfl (lv_at hl 2 rfl) ?_
  refine va_mmax hx hb (by rw [hml]; exact hl.1.symm) hown (hts _ q303) (hts _ zo_q_maxs) (hts _ zo_q_mi) (hts _ zo_q_maxc) (Nat.le_of_ble_eq_true rfl) (Nat.le_of_ble_eq_true rfl) (Nat.le_of_ble_eq_true rfl) (Nat.le_of_ble_eq_true rfl) dJ3_newLength_3 ?_
  rw [if_pos (nI_lt (by omega) (by omega))]
  refine lv_iadd hx hb dJ3_newLength_6 ?_
  rw [nI_add]
  refine lv_istore_n hx hb dJ3_newLength_7 rfl hl (by decide) rfl (fun ls' hl' => ?_)
  have hl' : lv_has ls' 4 [(3, .int (nI (n + n / 2))), (0, .int (nI n)), (1, .int (nI 1)), (2, .int (nI (n / 2)))] := hl'
  refine lv_iconst (v := 0) hx hb dJ3_newLength_8 (by decide) ?_
  refine lv_iload_n hx hb dJ3_newLength_9 rfl (lv_at hl' 0 rfl) ?_
  refine lv_icmp_ge (tgt := 21) hx hb dJ3_newLength_10 (by decide) (fun q => absurd q (nI_nle (by omega) (by omega))) (fun _ => ?_)
  refine lv_iload_n hx hb dJ3_newLength_13 rfl (lv_at hl' 0 rfl) ?_
  refine lv_ldc (v := 2147483639) hx hb hown (hts _ q306) dJ3_newLength_14 ?_
  refine lv_icmp_gt (tgt := 21) hx hb dJ3_newLength_16 (by decide) (fun q => absurd q (nI_nlt (a := 2147483639) (b := n + n / 2) (by omega) (by omega))) (fun _ => ?_)
  refine lv_iload_n hx hb dJ3_newLength_19 rfl (lv_at hl' 0 rfl) ?_
  exact W.iret (v := nI (n + n / 2)) hx hb hr (fun t ht hW => ⟨_, rfl, rfl, ht⟩) (fun q h => by cases h) dJ3_newLength_20 hlocks
def zl_Pw (G : zo_G) (sz : Nat) (ws : va_W) (E : Nat → Prop) : State → Prop := fun U => U.heap.size = sz ∧ va_P (zl_D G) [zo_cl 20] ws U.heap ∧ (∀ (i j : Nat) (p q : Nat × va_E), ws[i]? = some p → ws[j]? = some q → p.1 = q.1 → i = j) ∧ zo_K G U ∧ (∀ y, E y → ¬ va_A ws sz y ∧ va_Any "java/lang/Object" U U.heap y) ∧ ∀ q : Nat, q < G.2.2.2.1.size → U.heap[q]? = G.2.2.2.1[q]?
theorem zl_blind {G : zo_G} {sz : Nat} {ws : va_W} {E : Nat → Prop} {av : List Value} : FrameBlind (va_Pc av (zl_Pw G sz ws E)) := fun a U g mk h => ⟨h.1, h.2.1, h.2.2.1, h.2.2.2.1, zo_K.same (s := U) (U := U.calling g mk a) rfl h.2.2.2.2.1, h.2.2.2.2.2⟩
theorem zl_go {G : zo_G} {ws : va_W} {E : Nat → Prop} {s U : State} {H : Heap} (hU : U.heap = H) (hW : s.WarmedH U.vm) (hP : va_P (zl_D G) [zo_cl 20] ws H) (hn : ∀ (i j : Nat) (p q : Nat × va_E), ws[i]? = some p → ws[j]? = some q → p.1 = q.1 → i = j) (hK : zo_K G s) (hE : ∀ y, E y → ¬ va_A ws H.size y ∧ va_Any "java/lang/Object" s H y) (ho : ∀ q : Nat, q < G.2.2.2.1.size → H[q]? = G.2.2.2.1[q]?) : zl_Pw G H.size ws E U :=
  ⟨by rw [hU], by rw [hU]; exact hP, hn, hK.moved hW, fun y hy => ⟨(hE y hy).1, by rw [hU]; exact zl_any hW.alike (hE y hy).2⟩, by rw [hU]; exact ho⟩
/-- one cell fewer -/
theorem zl_less {q r : Nat × va_E} {sz y : Nat} (h : ¬ va_A [q, r] sz y) : ¬ va_A [r] sz y := fun z => h (by
  rcases z with ⟨k, e, z⟩ | z
  · match k, z with
    | 0, z => exact Or.inl ⟨1, e, z⟩
    | k + 1, z => cases z
  · exact Or.inr z)
def zl_Qr (G : zo_G) (sz : Nat) (ws : va_W) (ws' : Nat → va_W) : Array Value → State → Outcome → State → Prop := va_Qr (S := Unit) (fun _ => True) (fun _ ra t => va_P (zl_D G) [zo_cl 20] (ws' ra) t.heap ∧ va_D (va_A ws sz) (ws' ra)) (va_A ws sz)
def zl_Qv (G : zo_G) (sz : Nat) (ws : va_W) (ws' : Nat → va_W) : Array Value → State → Outcome → State → Prop := va_Qv (S := Nat) (fun _ => True) (fun ra t => va_P (zl_D G) [zo_cl 20] (ws' ra) t.heap ∧ va_D (va_A ws sz) (ws' ra)) (va_A ws sz)
def zl_Qi (G : zo_G) (sz : Nat) (ws : va_W) (ws' : Nat → va_W) : Array Value → State → Outcome → State → Prop := va_Qi (S := Nat) (fun r _ => r = 1) (fun ra t => va_P (zl_D G) [zo_cl 20] (ws' ra) t.heap ∧ va_D (va_A ws sz) (ws' ra)) (va_A ws sz)
abbrev zl_w1 (G : zo_G) (b mo a n : Nat) (f : Nat → Option Nat) : va_W := [zl_L b mo a n, zl_A G a n f]
abbrev zl_w2 (G : zo_G) (b mo a n : Nat) (f : Nat → Option Nat) (ra : Nat) : va_W := [zl_L b mo ra n, zl_A G a n f, zl_A G ra (n + n / 2) (va_cpy f (fun _ => none) 0 0 n)]
abbrev zl_z1 (G : zo_G) (b mo : Nat) : va_W := [zl_L b mo G.2.2.2.2.2.1 0]
abbrev zl_z2 (G : zo_G) (b mo : Nat) (ra : Nat) : va_W := [zl_L b mo ra 0, zl_A G ra 10 (fun _ => none)]
theorem kc_gr2 (l : Launch) (G : zo_G) (sz b mo a n : Nat) (f : Nat → Option Nat) (h10 : 10 ≤ n) (hn : n ≤ 40000) : Met l yJ2_grow_2 (ws_ yJ2_grow_2 cJ2_grow_2 4 (some (.array (.object "java/lang/Object")))) { frames := 3, cells := 1, slots := n + n / 2, locals := 192 } (va_Pc [.ref b, .int (nI (n + 1))] (zl_Pw G sz (zl_w1 G b mo a n f) (fun y => ∃ i, f i = some y))) (zl_Qr G sz (zl_w1 G b mo a n f) (zl_w2 G b mo a n f)) 1 (n + n / 2) (va_A (zl_w1 G b mo a n f) sz) := by
  refine Met.ofW (cc := cJ2_grow_2) (maxL := 4) (ret := (some (.array (.object "java/lang/Object")))) (by decide) rfl ?_
  intro p e s m args below meth c s₁ B hml hP
  obtain ⟨rfl, rfl, hP, hap, hK, hE, hold⟩ := hP
  have hx := B.exec
  have hb := B.bytes
  have hr := B.returns
  have hlocks := B.notSynchronized
  have hts := atoms_spec (ws := ws_ yJ2_grow_2 cJ2_grow_2 4 (some (.array (.object "java/lang/Object")))) B.pre
  have hts : ∀ w ∈ lw_all, w.before _ s = true := fun w h => hts w (List.mem_cons_of_mem _ h)
  have hown : s.vm.findClass "java/util/ArrayList" = some m.cls := findClass_of_methodNamed B.named
  have hl := lv_entry ([.ref b, .int (nI (n + 1))] : List Value) (n := 4) (Nat.le_of_ble_eq_true rfl)
  rw [lg_entry_eq]
  generalize (lg_sl ([.ref b, .int (nI (n + 1))] : List Value) ++ List.replicate (4 - (lg_sl ([.ref b, .int (nI (n + 1))] : List Value)).length) Slot.unset).toArray = ls at hl ⊢
  have hl : lv_has ls 4 [(0, .ref b), (1, .int (nI (n + 1)))] := hl
  have hKK := zl_K hK
  have hD : va_D (va_A (zl_w1 G b mo a n f) s.heap.size) (zl_w1 G b mo a n f) := zl_AA hap
  have hS : va_S (va_A (zl_w1 G b mo a n f) s.heap.size) s.heap s.heap [] := va_S.rf
  refine lv_aload_n hx hb dJ2_grow_2_0 rfl (lv_at hl 0 rfl) ?_
  refine va_get hx hb hts (zo_in 20 (by decide)) hown hKK hP 0 rfl rfl 1 (by decide) (hts _ q140) (fun x h => h) rfl dJ2_grow_2_1 ?_
  refine va_alen hx hb hKK hP 1 0 rfl rfl (v := nI n) rfl dJ2_grow_2_4 ?_
  refine lv_istore_n hx hb dJ2_grow_2_5 rfl hl (by decide) rfl (fun ls1 hl1 => ?_)
  have hl1 : lv_has ls1 4 [(2, .int (nI n)), (0, .ref b), (1, .int (nI (n + 1)))] := hl1
  refine lv_iload_n hx hb dJ2_grow_2_6 rfl (lv_at hl1 0 rfl) ?_
  refine lv_if_gt (tgt := 20) hx hb dJ2_grow_2_7 (by decide) (fun _ => ?_) (fun q => absurd (by rw [← nI_0]; exact nI_lt (by omega) (by omega)) q)
  refine lv_iload_n hx hb dJ2_grow_2_20 rfl (lv_at hl1 0 rfl) ?_
  refine lv_iload_n hx hb dJ2_grow_2_21 rfl (lv_at hl1 2 rfl) ?_
  refine lv_iload_n hx hb dJ2_grow_2_22 rfl (lv_at hl1 0 rfl) ?_
  refine lv_isub hx hb dJ2_grow_2_23 ?_
  rw [zl_sub1]
  refine lv_iload_n hx hb dJ2_grow_2_24 rfl (lv_at hl1 0 rfl) ?_
  refine lv_iconst (v := 1) hx hb dJ2_grow_2_25 (by decide) ?_
  refine lv_ishr hx hb dJ2_grow_2_26 ?_
  rw [zl_shr hn]
  have cw := va_cwS (rm := { frames := 1, cells := 0, slots := 0, locals := 64 }) (R := (headSpec (ws_ yJ2_grow_2 cJ2_grow_2 4 (some (.array (.object "java/lang/Object")))) { frames := 3, cells := 1, slots := n + n / 2, locals := 192 }).room) (mc := 0) (ms := 0) 3 hts (lw_S q300 q301 q85 q302) rfl rfl rfl ⟨by decide, by decide, by decide +kernel⟩ ⟨(Nat.le_of_ble_eq_true rfl), (Nat.le_of_ble_eq_true rfl)⟩
  have hru := W.runS (As := [.int (nI n), .int (nI 1), .int (nI (n / 2))]) (rest := []) (H := s.heap) (locs := []) (cells := 0) (slots := 0) (e := e) (below := below) (meth := meth) (l := l) ⟨hx, hb, hml, hown, hts⟩ (kc_nl l n h10 hn) ⟨cw.1, cw.2⟩ ⟨fun a U g mk q => q, fun U hU hW => rfl⟩ (g := F0 m 27 ls1 [.int (nI (n / 2)), .int (nI 1), .int (nI n)]) rfl rfl hl1.1 rfl (by show 2 * 0 + 0 ≤ 8; omega) dJ2_grow_2_27 ⟨Nat.zero_le _, Nat.zero_le _⟩
  refine vp_callSi hru (fun r hr2 => ?_)
  subst hr2
  refine lv_istore_n hx hb dJ2_grow_2_30 rfl hl1 (by decide) rfl (fun ls2 hl2 => ?_)
  have hl2 : lv_has ls2 4 [(3, .int (nI (n + n / 2))), (2, .int (nI n)), (0, .ref b), (1, .int (nI (n + 1)))] := hl2
  refine lv_aload_n hx hb dJ2_grow_2_31 rfl (lv_at hl2 2 rfl) ?_
  refine lv_aload_n hx hb dJ2_grow_2_32 rfl (lv_at hl2 2 rfl) ?_
  refine va_get hx hb hts (zo_in 20 (by decide)) hown hKK hP 0 rfl rfl 1 (by decide) (hts _ q140) (fun x h => h) rfl dJ2_grow_2_33 ?_
  refine lv_iload_n hx hb dJ2_grow_2_36 rfl (lv_at hl2 0 rfl) ?_
  have cw2 := va_cwS (rm := { frames := 2, cells := 1, slots := n + n / 2, locals := 128 }) (R := (headSpec (ws_ yJ2_grow_2 cJ2_grow_2 4 (some (.array (.object "java/lang/Object")))) { frames := 3, cells := 1, slots := n + n / 2, locals := 192 }).room) (mc := 1) (ms := n + n / 2) 2 hts (lw_S q310 q311 q87 q312) rfl rfl rfl ⟨by decide, by decide, by decide +kernel⟩ ⟨(Nat.le_of_ble_eq_true rfl), (Nat.le_of_ble_eq_true rfl)⟩
  have hrun := va_runS (p := p) (l := l) (e := e) (m := m) (below := below) (meth := meth) (locs := []) (cells := 0) (slots := 0) (As := [.ref a, .int (nI (n + n / 2))]) (rest := [.ref b]) (g := F0 m 37 ls2 [.int (nI (n + n / 2)), .ref a, .ref b]) (Ts := lw_all) ⟨hx, hb, hml, hown, hts⟩ (kc_cp1 l G s.heap.size a n (n + n / 2) f (by omega) (by omega)) cw2 ⟨zl_blind1, fun U hU hW => ⟨rfl, by rw [hU], by rw [hU]; exact hP.sub [1] rfl, hK.moved hW, fun i y e => ⟨zl_less (hE y ⟨i, e⟩).1, by rw [hU]; exact zl_any hW.alike (hE y ⟨i, e⟩).2⟩⟩⟩ rfl rfl hl2.1 rfl (by show 2 * 0 + 1 ≤ 8; omega) dJ2_grow_2_37 ⟨by show 0 + 1 ≤ 1; omega, by show 0 + (n + n / 2) ≤ n + n / 2; omega⟩
  have hF := va_free hD hS (fun q hq => Or.inr hq) [1] (wc := [zl_A G a n f]) rfl
  refine va_callr hrun hS (fun q _ h => hF q h) (fun q h => hF q h) (fun u ra t H1 locs1 ht hal _ hB hz hk hS1 => ?_)
  subst ht
  obtain ⟨hP1, hD1⟩ := va_join hP hD [1] [0] (wc := [zl_A G a n f]) (wr := [zl_L b mo a n]) rfl rfl rfl (by decide) hk hF hB.1 hB.2
  refine lv_dup_x1 hx hb dJ2_grow_2_40 rfl rfl ?_
  refine va_put hx hb hts (zo_in 20 (by decide)) (zo_ty 20) (zo_tyok 20 (by decide)) (zo_nm 20 (by decide)) hown hKK hP1 hD1 hS1 0 rfl rfl 1 (by decide) (hts _ q140) (fun x h => h) rfl (zo_tyok 20 (by decide) 1 (by decide)) rfl rfl (Nat.le_of_ble_eq_true rfl) dJ2_grow_2_41 ?_
  intro H2 locs2 hP2 hD2 hS2
  refine W.cs (Nat.zero_add 1) (Nat.zero_add _) ?_
  exact W.aret (v := .ref ra) hx hb hr (Or.inr ⟨_, rfl⟩) (Or.inr ⟨_, rfl⟩) (fun t' ht' hW => ⟨⟨(), ra, rfl, trivial, by rw [ht']; exact hP2, hD2⟩, hS2.F ht'⟩) hS2.2.2 dJ2_grow_2_44 hlocks
theorem kc_gr2z (l : Launch) (G : zo_G) (sz b mo : Nat) : Met l yJ2_grow_2 (ws_ yJ2_grow_2 cJ2_grow_2 4 (some (.array (.object "java/lang/Object")))) { frames := 3, cells := 1, slots := 10, locals := 192 } (va_Pc [.ref b, .int (nI 1)] (zl_Pw G sz (zl_z1 G b mo) (fun _ => False))) (zl_Qr G sz (zl_z1 G b mo) (zl_z2 G b mo)) 1 10 (va_A (zl_z1 G b mo) sz) := by
  refine Met.ofW (cc := cJ2_grow_2) (maxL := 4) (ret := (some (.array (.object "java/lang/Object")))) (by decide) rfl ?_
  intro p e s m args below meth c s₁ B hml hP
  obtain ⟨rfl, rfl, hP, hap, hK, hE, hold⟩ := hP
  have hx := B.exec
  have hb := B.bytes
  have hr := B.returns
  have hlocks := B.notSynchronized
  have hts := atoms_spec (ws := ws_ yJ2_grow_2 cJ2_grow_2 4 (some (.array (.object "java/lang/Object")))) B.pre
  have hts : ∀ w ∈ lw_all, w.before _ s = true := fun w h => hts w (List.mem_cons_of_mem _ h)
  have hown : s.vm.findClass "java/util/ArrayList" = some m.cls := findClass_of_methodNamed B.named
  have hl := lv_entry ([.ref b, .int (nI 1)] : List Value) (n := 4) (Nat.le_of_ble_eq_true rfl)
  rw [lg_entry_eq]
  generalize (lg_sl ([.ref b, .int (nI 1)] : List Value) ++ List.replicate (4 - (lg_sl ([.ref b, .int (nI 1)] : List Value)).length) Slot.unset).toArray = ls at hl ⊢
  have hl : lv_has ls 4 [(0, .ref b), (1, .int (nI 1))] := hl
  have hKK := zl_K hK
  have hD : va_D (va_A (zl_z1 G b mo) s.heap.size) (zl_z1 G b mo) := zl_AA hap
  have hS : va_S (va_A (zl_z1 G b mo) s.heap.size) s.heap s.heap [] := va_S.rf
  obtain ⟨hZ, cellZ, hZc, hZa, hZn⟩ := (hK.2.2.2.2.2.2.2.1).2.2
  have hlt0 : G.2.2.2.2.2.1 < G.2.2.2.1.size := (Array.getElem?_eq_some_iff.mp hZc).1
  refine lv_aload_n hx hb dJ2_grow_2_0 rfl (lv_at hl 0 rfl) ?_
  refine va_get hx hb hts (zo_in 20 (by decide)) hown hKK hP 0 rfl rfl 1 (by decide) (hts _ q140) (fun x h => h) rfl dJ2_grow_2_1 ?_
  refine W.alen (a := G.2.2.2.2.2.1) (n := 0) hx hb (by rw [hold _ hlt0]; exact hZc) (State.isArrayOf_alike (zl_warm hK).alike hZa) hZn rfl rfl dJ2_grow_2_4 ?_
  refine lv_istore_n hx hb dJ2_grow_2_5 rfl hl (by decide) rfl (fun ls1 hl1 => ?_)
  have hl1 : lv_has ls1 4 [(2, .int 0), (0, .ref b), (1, .int (nI 1))] := hl1
  refine lv_iload_n hx hb dJ2_grow_2_6 rfl (lv_at hl1 0 rfl) ?_
  refine lv_if_gt (tgt := 20) hx hb dJ2_grow_2_7 rfl (fun q => absurd q (by decide)) (fun _ => ?_)
  refine lv_aload_n hx hb dJ2_grow_2_10 rfl (lv_at hl1 1 rfl) ?_
  refine va_get hx hb hts (zo_in 20 (by decide)) hown hKK hP 0 rfl rfl 1 (by decide) (hts _ q140) (fun x h => h) rfl dJ2_grow_2_11 ?_
  obtain ⟨cf, kf, fi, fl, sa, scell, z1, z2, z3, z4, z5, z6, z7, z8⟩ := hZ.moved (zl_warm hK).alike
  have hlt : sa < G.2.2.2.1.size := (Array.getElem?_eq_some_iff.mp z5).1
  refine W.gets (v := .ref G.2.2.2.2.2.1) hx hb hown (hts _ q138) z1 z2 z3 z4 (by rw [hold _ hlt]; exact z5) (fun e => by rw [e] at z6; cases z6) z7 rfl dJ2_grow_2_14 ?_
  refine lv_acmp_eq (rx := some G.2.2.2.2.2.1) (ry := some G.2.2.2.2.2.1) (tgt := 45) hx hb dJ2_grow_2_17 rfl (fun _ => ?_) (fun q => absurd rfl q)
  refine lv_aload_n hx hb dJ2_grow_2_45 rfl (lv_at hl1 1 rfl) ?_
  refine lv_bipush (v := 10) hx hb dJ2_grow_2_46 (by decide) ?_
  refine lv_iload_n hx hb dJ2_grow_2_48 rfl (lv_at hl1 2 rfl) ?_
  refine va_mmax hx hb (by rw [hml]; exact hl1.1.symm) hown (hts _ q350) (hts _ zo_q_maxs) (hts _ zo_q_mi) (hts _ zo_q_maxc) (Nat.le_of_ble_eq_true rfl) (Nat.le_of_ble_eq_true rfl) (Nat.le_of_ble_eq_true rfl) (Nat.le_of_ble_eq_true rfl) dJ2_grow_2_49 ?_
  rw [if_neg (by decide)]
  refine va_newq hx hb hown (hts _ q351) (zl_AO hK) hKK hP hD hS (fun q hq => Or.inr hq) (N' := 10) (by decide) (by decide) (by decide) (Nat.le_of_ble_eq_true rfl) (Nat.le_of_ble_eq_true rfl) dJ2_grow_2_52 ?_
  intro q cA H1 hK1 hP1 hD1 hS1
  have hcA : cA = G.2.2.1 40 := by
    have g1 := va_nmO (hK1.2 1 _ rfl).2 rfl
    have g2 := va_nmO (hK1.2 0 _ rfl).2 rfl
    exact Option.some.inj (g1.symm.trans g2)
  subst hcA
  refine lv_dup_x1 hx hb dJ2_grow_2_55 rfl rfl ?_
  refine va_put hx hb hts (zo_in 20 (by decide)) (zo_ty 20) (zo_tyok 20 (by decide)) (zo_nm 20 (by decide)) hown hK1 hP1 hD1 hS1 0 rfl rfl 1 (by decide) (hts _ q140) (fun x h => h) rfl (zo_tyok 20 (by decide) 1 (by decide)) rfl rfl (Nat.le_of_ble_eq_true rfl) dJ2_grow_2_56 ?_
  intro H2 locs2 hP2 hD2 hS2
  refine W.cs (Nat.zero_add 1) (Nat.zero_add _) ?_
  exact W.aret (v := .ref q) hx hb hr (Or.inr ⟨_, rfl⟩) (Or.inr ⟨_, rfl⟩) (fun t' ht' hW => ⟨⟨(), q, rfl, trivial, by rw [ht']; exact hP2, hD2⟩, hS2.F ht'⟩) hS2.2.2 dJ2_grow_2_59 hlocks
theorem kc_gr (l : Launch) (G : zo_G) (sz b mo : Nat) (a n : Nat) (f : Nat → Option Nat) (h10 : 10 ≤ n) (hn : n ≤ 40000) : Met l yJ2_grow (ws_ yJ2_grow cJ2_grow 1 (some (.array (.object "java/lang/Object")))) { frames := 4, cells := 1, slots := (n + n / 2), locals := 256 } (va_Pc [.ref b] (zl_Pw G sz (zl_w1 G b mo a n f) (fun y => ∃ i, f i = some y))) (zl_Qr G sz (zl_w1 G b mo a n f) (zl_w2 G b mo a n f)) 1 (n + n / 2) (va_A (zl_w1 G b mo a n f) sz) := by
  refine Met.ofW (cc := cJ2_grow) (maxL := 1) (ret := (some (.array (.object "java/lang/Object")))) (by decide) rfl ?_
  intro p e s m args below meth c s₁ B hml hP
  obtain ⟨rfl, rfl, hP, hap, hK, hE, hold⟩ := hP
  have hx := B.exec
  have hb := B.bytes
  have hr := B.returns
  have hlocks := B.notSynchronized
  have hts := atoms_spec (ws := ws_ yJ2_grow cJ2_grow 1 (some (.array (.object "java/lang/Object")))) B.pre
  have hts : ∀ w ∈ lw_all, w.before _ s = true := fun w h => hts w (List.mem_cons_of_mem _ h)
  have hown : s.vm.findClass "java/util/ArrayList" = some m.cls := findClass_of_methodNamed B.named
  have hl := lv_entry ([.ref b] : List Value) (n := 1) (Nat.le_of_ble_eq_true rfl)
  rw [lg_entry_eq]
  generalize (lg_sl ([.ref b] : List Value) ++ List.replicate (1 - (lg_sl ([.ref b] : List Value)).length) Slot.unset).toArray = ls at hl ⊢
  have hl : lv_has ls 1 [(0, .ref b)] := hl
  have hKK := zl_K hK
  have hS : va_S (va_A (zl_w1 G b mo a n f) s.heap.size) s.heap s.heap [] := va_S.rf
  refine lv_aload_n hx hb dJ2_grow_0 rfl (lv_at hl 0 rfl) ?_
  refine lv_aload_n hx hb dJ2_grow_1 rfl (lv_at hl 0 rfl) ?_
  refine va_get hx hb hts (zo_in 20 (by decide)) hown hKK hP 0 rfl rfl 2 (by decide) (hts _ q141) (fun x h => h) rfl dJ2_grow_2 ?_
  refine lv_iconst (v := 1) hx hb dJ2_grow_5 (by decide) ?_
  refine lv_iadd hx hb dJ2_grow_6 ?_
  rw [nI_1]
  have cw := cwV (rm := { frames := 3, cells := 1, slots := (n + n / 2), locals := 192 }) (R := (headSpec (ws_ yJ2_grow cJ2_grow 1 (some (.array (.object "java/lang/Object")))) { frames := 4, cells := 1, slots := (n + n / 2), locals := 256 }).room) (mc := 1) (ms := (n + n / 2)) 1 hts (lw_V q296 q298 qs2 q81 q299) rfl rfl rfl ⟨rfl, by decide, by decide, by decide +kernel⟩ ⟨(Nat.le_of_ble_eq_true rfl), (Nat.le_of_ble_eq_true rfl)⟩
  have hrun := va_runV (p := p) (l := l) (e := e) (m := m) (below := below) (meth := meth) (locs := []) (cells := 0) (slots := 0) (b := b) (As := [.int (nI (n + 1))]) (rest := []) (g := F0 m 7 ls [.int (nI (n + 1)), .ref b]) (Ts := lw_all) ⟨hx, hb, hml, hown, hts⟩ (kc_gr2 l G s.heap.size b mo a n f h10 hn) cw ⟨zl_blind, va_recv hKK hP rfl (q0 := 0) rfl, fun U hU hW => ⟨rfl, zl_go hU hW hP hap hK hE hold⟩⟩ rfl rfl hl.1 rfl (by show 2 * 0 + 0 ≤ 8; omega) dJ2_grow_7 ⟨by show 0 + 1 ≤ 1; omega, by show 0 + (n + n / 2) ≤ (n + n / 2); omega⟩
  refine va_callr hrun hS (fun q _ h => h) (fun q h => h) (fun u ra t H1 locs1 ht hal _ hB hz hk hS1 => ?_)
  subst ht
  refine W.cs (Nat.zero_add 1) (Nat.zero_add _) ?_
  exact W.aret (v := .ref ra) hx hb hr (Or.inr ⟨_, rfl⟩) (Or.inr ⟨_, rfl⟩) (fun t' ht' hW => ⟨⟨(), ra, rfl, trivial, by rw [ht']; exact hB.1, hB.2⟩, hS1.F ht'⟩) hS1.2.2 dJ2_grow_10 hlocks
theorem kc_grz (l : Launch) (G : zo_G) (sz b mo : Nat)  : Met l yJ2_grow (ws_ yJ2_grow cJ2_grow 1 (some (.array (.object "java/lang/Object")))) { frames := 4, cells := 1, slots := 10, locals := 256 } (va_Pc [.ref b] (zl_Pw G sz (zl_z1 G b mo) (fun _ => False))) (zl_Qr G sz (zl_z1 G b mo) (zl_z2 G b mo)) 1 10 (va_A (zl_z1 G b mo) sz) := by
  refine Met.ofW (cc := cJ2_grow) (maxL := 1) (ret := (some (.array (.object "java/lang/Object")))) (by decide) rfl ?_
  intro p e s m args below meth c s₁ B hml hP
  obtain ⟨rfl, rfl, hP, hap, hK, hE, hold⟩ := hP
  have hx := B.exec
  have hb := B.bytes
  have hr := B.returns
  have hlocks := B.notSynchronized
  have hts := atoms_spec (ws := ws_ yJ2_grow cJ2_grow 1 (some (.array (.object "java/lang/Object")))) B.pre
  have hts : ∀ w ∈ lw_all, w.before _ s = true := fun w h => hts w (List.mem_cons_of_mem _ h)
  have hown : s.vm.findClass "java/util/ArrayList" = some m.cls := findClass_of_methodNamed B.named
  have hl := lv_entry ([.ref b] : List Value) (n := 1) (Nat.le_of_ble_eq_true rfl)
  rw [lg_entry_eq]
  generalize (lg_sl ([.ref b] : List Value) ++ List.replicate (1 - (lg_sl ([.ref b] : List Value)).length) Slot.unset).toArray = ls at hl ⊢
  have hl : lv_has ls 1 [(0, .ref b)] := hl
  have hKK := zl_K hK
  have hS : va_S (va_A (zl_z1 G b mo) s.heap.size) s.heap s.heap [] := va_S.rf
  refine lv_aload_n hx hb dJ2_grow_0 rfl (lv_at hl 0 rfl) ?_
  refine lv_aload_n hx hb dJ2_grow_1 rfl (lv_at hl 0 rfl) ?_
  refine va_get hx hb hts (zo_in 20 (by decide)) hown hKK hP 0 rfl rfl 2 (by decide) (hts _ q141) (fun x h => h) rfl dJ2_grow_2 ?_
  refine lv_iconst (v := 1) hx hb dJ2_grow_5 (by decide) ?_
  refine lv_iadd hx hb dJ2_grow_6 ?_
  rw [nI_1]
  have cw := cwV (rm := { frames := 3, cells := 1, slots := 10, locals := 192 }) (R := (headSpec (ws_ yJ2_grow cJ2_grow 1 (some (.array (.object "java/lang/Object")))) { frames := 4, cells := 1, slots := 10, locals := 256 }).room) (mc := 1) (ms := 10) 1 hts (lw_V q296 q298 qs2 q81 q299) rfl rfl rfl ⟨rfl, by decide, by decide, by decide +kernel⟩ ⟨(Nat.le_of_ble_eq_true rfl), (Nat.le_of_ble_eq_true rfl)⟩
  have hrun := va_runV (p := p) (l := l) (e := e) (m := m) (below := below) (meth := meth) (locs := []) (cells := 0) (slots := 0) (b := b) (As := [.int (nI (0 + 1))]) (rest := []) (g := F0 m 7 ls [.int (nI (0 + 1)), .ref b]) (Ts := lw_all) ⟨hx, hb, hml, hown, hts⟩ (kc_gr2z l G s.heap.size b mo) cw ⟨zl_blind, va_recv hKK hP rfl (q0 := 0) rfl, fun U hU hW => ⟨rfl, zl_go hU hW hP hap hK hE hold⟩⟩ rfl rfl hl.1 rfl (by show 2 * 0 + 0 ≤ 8; omega) dJ2_grow_7 ⟨by show 0 + 1 ≤ 1; omega, by show 0 + 10 ≤ 10; omega⟩
  refine va_callr hrun hS (fun q _ h => h) (fun q h => h) (fun u ra t H1 locs1 ht hal _ hB hz hk hS1 => ?_)
  subst ht
  refine W.cs (Nat.zero_add 1) (Nat.zero_add _) ?_
  exact W.aret (v := .ref ra) hx hb hr (Or.inr ⟨_, rfl⟩) (Or.inr ⟨_, rfl⟩) (fun t' ht' hW => ⟨⟨(), ra, rfl, trivial, by rw [ht']; exact hB.1, hB.2⟩, hS1.F ht'⟩) hS1.2.2 dJ2_grow_10 hlocks
abbrev zl_r1 (G : zo_G) (b mo a c n : Nat) (f : Nat → Option Nat) : va_W := [zl_L b mo a c, zl_A G a n f]
abbrev zl_r2 (G : zo_G) (b mo a c n : Nat) (f : Nat → Option Nat) (v : Nat) (_ : Nat) : va_W := [zl_L b mo a (c + 1), zl_A G a n (va_up f c (some v))]
abbrev zl_w3 (G : zo_G) (b mo a n : Nat) (f : Nat → Option Nat) (v : Nat) (ra : Nat) : va_W := [zl_L b mo ra (n + 1), zl_A G a n f, zl_A G ra (n + n / 2) (va_up (va_cpy f (fun _ => none) 0 0 n) n (some v))]
abbrev zl_z3 (G : zo_G) (b mo : Nat) (v : Nat) (ra : Nat) : va_W := [zl_L b mo ra 1, zl_A G ra 10 (va_up (fun _ => none) 0 (some v))]
theorem kc_ad2r (l : Launch) (G : zo_G) (sz b mo : Nat) (a ct n : Nat) (f : Nat → Option Nat) (v : Nat) (hc : ct < n) (hn : n ≤ 65536) : Met l yJ2_add_2 (ws_ yJ2_add_2 cJ2_add_2 4 none) { frames := 5, cells := 0, slots := 0, locals := 320 } (va_Pc [.ref b, .ref v, .ref a, .int (nI ct)] (zl_Pw G sz (zl_r1 G b mo a ct n f) (fun y => (∃ i, f i = some y) ∨ y = v))) (zl_Qv G sz (zl_r1 G b mo a ct n f) (zl_r2 G b mo a ct n f v)) 0 0 (va_A (zl_r1 G b mo a ct n f) sz) := by
  refine Met.ofW (cc := cJ2_add_2) (maxL := 4) (ret := none) (by decide) rfl ?_
  intro p e s m args below meth c s₁ B hml hP
  obtain ⟨rfl, rfl, hP, hap, hK, hE, hold⟩ := hP
  have hx := B.exec
  have hb := B.bytes
  have hr := B.returns
  have hlocks := B.notSynchronized
  have hts := atoms_spec (ws := ws_ yJ2_add_2 cJ2_add_2 4 none) B.pre
  have hts : ∀ w ∈ lw_all, w.before _ s = true := fun w h => hts w (List.mem_cons_of_mem _ h)
  have hown : s.vm.findClass "java/util/ArrayList" = some m.cls := findClass_of_methodNamed B.named
  have hl := lv_entry ([.ref b, .ref v, .ref a, .int (nI ct)] : List Value) (n := 4) (Nat.le_of_ble_eq_true rfl)
  rw [lg_entry_eq]
  generalize (lg_sl ([.ref b, .ref v, .ref a, .int (nI ct)] : List Value) ++ List.replicate (4 - (lg_sl ([.ref b, .ref v, .ref a, .int (nI ct)] : List Value)).length) Slot.unset).toArray = ls at hl ⊢
  have hl : lv_has ls 4 [(0, .ref b), (1, .ref v), (2, .ref a), (3, .int (nI ct))] := hl
  have hKK := zl_K hK
  have hD : va_D (va_A (zl_r1 G b mo a ct n f) s.heap.size) (zl_r1 G b mo a ct n f) := zl_AA hap
  have hS : va_S (va_A (zl_r1 G b mo a ct n f) s.heap.size) s.heap s.heap [] := va_S.rf
  have hv := hE v (Or.inr rfl)
  refine lv_iload_n hx hb dJ2_add_2_0 rfl (lv_at hl 3 rfl) ?_
  refine lv_aload_n hx hb dJ2_add_2_1 rfl (lv_at hl 2 rfl) ?_
  refine va_alen hx hb hKK hP 1 0 rfl rfl (v := nI n) rfl dJ2_add_2_2 ?_
  refine lv_icmp_ne (tgt := 11) hx hb dJ2_add_2_3 (by decide) (fun _ => ?_) (fun q => absurd ((nI_eq (by omega) (by omega)).mp q) (by omega))
  refine lv_aload_n hx hb dJ2_add_2_11 rfl (lv_at hl 2 rfl) ?_
  refine lv_iload_n hx hb dJ2_add_2_12 rfl (lv_at hl 3 rfl) ?_
  refine lv_aload_n hx hb dJ2_add_2_13 rfl (lv_at hl 1 rfl) ?_
  refine va_astqM hx hb hKK hP hD hS 1 0 rfl rfl hv.2 (vp_in_nI hc (by omega)) dJ2_add_2_14 ?_
  intro H1 locs1 hP1 hD1 hS1
  rw [nI_clamp (by omega)] at hP1 hD1
  refine lv_aload_n hx hb dJ2_add_2_15 rfl (lv_at hl 0 rfl) ?_
  refine lv_iload_n hx hb dJ2_add_2_16 rfl (lv_at hl 3 rfl) ?_
  refine lv_iconst (v := 1) hx hb dJ2_add_2_17 (by decide) ?_
  refine lv_iadd hx hb dJ2_add_2_18 ?_
  rw [nI_1]
  refine va_put hx hb hts (zo_in 20 (by decide)) (zo_ty 20) (zo_tyok 20 (by decide)) (zo_nm 20 (by decide)) hown hKK hP1 hD1 hS1 0 rfl rfl 2 (by decide) (hts _ q141) (fun x h => h) rfl (zo_tyok 20 (by decide) 2 (by decide)) rfl rfl (Nat.le_of_ble_eq_true rfl) dJ2_add_2_19 ?_
  intro H2 locs2 hP2 hD2 hS2
  exact W.vret hx hb hr (fun t' ht' hW => ⟨⟨0, rfl, trivial, by rw [ht']; exact hP2, hD2⟩, hS2.F ht'⟩) hS2.2.2 dJ2_add_2_22 hlocks
theorem kc_ad2g (l : Launch) (G : zo_G) (sz b mo : Nat) (a n : Nat) (f : Nat → Option Nat) (v : Nat) (h10 : 10 ≤ n) (hn : n ≤ 40000) : Met l yJ2_add_2 (ws_ yJ2_add_2 cJ2_add_2 4 none) { frames := 5, cells := 1, slots := (n + n / 2), locals := 320 } (va_Pc [.ref b, .ref v, .ref a, .int (nI n)] (zl_Pw G sz (zl_w1 G b mo a n f) (fun y => (∃ i, f i = some y) ∨ y = v))) (zl_Qv G sz (zl_w1 G b mo a n f) (zl_w3 G b mo a n f v)) 1 (n + n / 2) (va_A (zl_w1 G b mo a n f) sz) := by
  refine Met.ofW (cc := cJ2_add_2) (maxL := 4) (ret := none) (by decide) rfl ?_
  intro p e s m args below meth c s₁ B hml hP
  obtain ⟨rfl, rfl, hP, hap, hK, hE, hold⟩ := hP
  have hx := B.exec
  have hb := B.bytes
  have hr := B.returns
  have hlocks := B.notSynchronized
  have hts := atoms_spec (ws := ws_ yJ2_add_2 cJ2_add_2 4 none) B.pre
  have hts : ∀ w ∈ lw_all, w.before _ s = true := fun w h => hts w (List.mem_cons_of_mem _ h)
  have hown : s.vm.findClass "java/util/ArrayList" = some m.cls := findClass_of_methodNamed B.named
  have hl := lv_entry ([.ref b, .ref v, .ref a, .int (nI n)] : List Value) (n := 4) (Nat.le_of_ble_eq_true rfl)
  rw [lg_entry_eq]
  generalize (lg_sl ([.ref b, .ref v, .ref a, .int (nI n)] : List Value) ++ List.replicate (4 - (lg_sl ([.ref b, .ref v, .ref a, .int (nI n)] : List Value)).length) Slot.unset).toArray = ls at hl ⊢
  have hl : lv_has ls 4 [(0, .ref b), (1, .ref v), (2, .ref a), (3, .int (nI n))] := hl
  have hKK := zl_K hK
  have hD : va_D (va_A (zl_w1 G b mo a n f) s.heap.size) (zl_w1 G b mo a n f) := zl_AA hap
  have hS : va_S (va_A (zl_w1 G b mo a n f) s.heap.size) s.heap s.heap [] := va_S.rf
  have hv := hE v (Or.inr rfl)
  refine lv_iload_n hx hb dJ2_add_2_0 rfl (lv_at hl 3 rfl) ?_
  refine lv_aload_n hx hb dJ2_add_2_1 rfl (lv_at hl 2 rfl) ?_
  refine va_alen hx hb hKK hP 1 0 rfl rfl (v := nI n) rfl dJ2_add_2_2 ?_
  refine lv_icmp_ne (tgt := 11) hx hb dJ2_add_2_3 rfl (fun q => absurd rfl q) (fun _ => ?_)
  refine lv_aload_n hx hb dJ2_add_2_6 rfl (lv_at hl 0 rfl) ?_
  have cw := cwV (rm := { frames := 4, cells := 1, slots := (n + n / 2), locals := 256 }) (R := (headSpec (ws_ yJ2_add_2 cJ2_add_2 4 none) { frames := 5, cells := 1, slots := (n + n / 2), locals := 320 }).room) (mc := 1) (ms := (n + n / 2)) 0 hts (lw_V q292 q294 qs1 q81 q295) rfl rfl rfl ⟨rfl, by decide, by decide, by decide +kernel⟩ ⟨(Nat.le_of_ble_eq_true rfl), (Nat.le_of_ble_eq_true rfl)⟩
  have hrun := va_runV (p := p) (l := l) (e := e) (m := m) (below := below) (meth := meth) (locs := []) (cells := 0) (slots := 0) (b := b) (As := []) (rest := []) (g := F0 m 7 ls [.ref b]) (Ts := lw_all) ⟨hx, hb, hml, hown, hts⟩ (kc_gr l G s.heap.size b mo a n f h10 hn) cw ⟨zl_blind, va_recv hKK hP rfl (q0 := 0) rfl, fun U hU hW => ⟨rfl, zl_go hU hW hP hap hK (fun y hy => hE y (Or.inl hy)) hold⟩⟩ rfl rfl hl.1 rfl (by show 2 * 0 + 0 ≤ 8; omega) dJ2_add_2_7 ⟨by show 0 + 1 ≤ 1; omega, by show 0 + (n + n / 2) ≤ (n + n / 2); omega⟩
  refine va_callr hrun hS (fun q _ h => h) (fun q h => h) (fun u ra t H1 locs1 ht hal _ hB hz hk hS1 => ?_)
  subst ht
  obtain ⟨hP1, hD1⟩ := hB
  refine lv_astore_n hx hb dJ2_add_2_10 rfl hl (by decide) rfl (fun ls1 hl1 => ?_)
  have hl1 : lv_has ls1 4 [(2, .ref ra), (0, .ref b), (1, .ref v), (3, .int (nI n))] := hl1
  refine lv_aload_n hx hb dJ2_add_2_11 rfl (lv_at hl1 0 rfl) ?_
  refine lv_iload_n hx hb dJ2_add_2_12 rfl (lv_at hl1 3 rfl) ?_
  refine lv_aload_n hx hb dJ2_add_2_13 rfl (lv_at hl1 2 rfl) ?_
  refine va_astqM hx hb hKK hP1 hD1 hS1 2 0 rfl rfl (zl_anyS hS1 hv.1 hv.2) (vp_in_nI (by omega) (by omega)) dJ2_add_2_14 ?_
  intro H2 locs2 hP2 hD2 hS2
  rw [nI_clamp (by omega)] at hP2 hD2
  refine lv_aload_n hx hb dJ2_add_2_15 rfl (lv_at hl1 1 rfl) ?_
  refine lv_iload_n hx hb dJ2_add_2_16 rfl (lv_at hl1 3 rfl) ?_
  refine lv_iconst (v := 1) hx hb dJ2_add_2_17 (by decide) ?_
  refine lv_iadd hx hb dJ2_add_2_18 ?_
  rw [nI_1]
  refine va_put hx hb hts (zo_in 20 (by decide)) (zo_ty 20) (zo_tyok 20 (by decide)) (zo_nm 20 (by decide)) hown hKK hP2 hD2 hS2 0 rfl rfl 2 (by decide) (hts _ q141) (fun x h => h) rfl (zo_tyok 20 (by decide) 2 (by decide)) rfl rfl (Nat.le_of_ble_eq_true rfl) dJ2_add_2_19 ?_
  intro H3 locs3 hP3 hD3 hS3
  refine W.cs (Nat.zero_add 1) (Nat.zero_add _) ?_
  exact W.vret hx hb hr (fun t' ht' hW => ⟨⟨ra, rfl, trivial, by rw [ht']; exact hP3, hD3⟩, hS3.F ht'⟩) hS3.2.2 dJ2_add_2_22 hlocks
theorem kc_ad2z (l : Launch) (G : zo_G) (sz b mo : Nat) (v : Nat) : Met l yJ2_add_2 (ws_ yJ2_add_2 cJ2_add_2 4 none) { frames := 5, cells := 1, slots := 10, locals := 320 } (va_Pc [.ref b, .ref v, .ref G.2.2.2.2.2.1, .int (nI 0)] (zl_Pw G sz (zl_z1 G b mo) (fun y => y = v))) (zl_Qv G sz (zl_z1 G b mo) (zl_z3 G b mo v)) 1 10 (va_A (zl_z1 G b mo) sz) := by
  refine Met.ofW (cc := cJ2_add_2) (maxL := 4) (ret := none) (by decide) rfl ?_
  intro p e s m args below meth c s₁ B hml hP
  obtain ⟨rfl, rfl, hP, hap, hK, hE, hold⟩ := hP
  have hx := B.exec
  have hb := B.bytes
  have hr := B.returns
  have hlocks := B.notSynchronized
  have hts := atoms_spec (ws := ws_ yJ2_add_2 cJ2_add_2 4 none) B.pre
  have hts : ∀ w ∈ lw_all, w.before _ s = true := fun w h => hts w (List.mem_cons_of_mem _ h)
  have hown : s.vm.findClass "java/util/ArrayList" = some m.cls := findClass_of_methodNamed B.named
  have hl := lv_entry ([.ref b, .ref v, .ref G.2.2.2.2.2.1, .int (nI 0)] : List Value) (n := 4) (Nat.le_of_ble_eq_true rfl)
  rw [lg_entry_eq]
  generalize (lg_sl ([.ref b, .ref v, .ref G.2.2.2.2.2.1, .int (nI 0)] : List Value) ++ List.replicate (4 - (lg_sl ([.ref b, .ref v, .ref G.2.2.2.2.2.1, .int (nI 0)] : List Value)).length) Slot.unset).toArray = ls at hl ⊢
  have hl : lv_has ls 4 [(0, .ref b), (1, .ref v), (2, .ref G.2.2.2.2.2.1), (3, .int (nI 0))] := hl
  have hKK := zl_K hK
  have hD : va_D (va_A (zl_z1 G b mo) s.heap.size) (zl_z1 G b mo) := zl_AA hap
  have hS : va_S (va_A (zl_z1 G b mo) s.heap.size) s.heap s.heap [] := va_S.rf
  have hv := hE v rfl
  refine lv_iload_n hx hb dJ2_add_2_0 rfl (lv_at hl 3 rfl) ?_
  refine lv_aload_n hx hb dJ2_add_2_1 rfl (lv_at hl 2 rfl) ?_
  obtain ⟨-, cellZ, hZc, hZa, hZn⟩ := (hK.2.2.2.2.2.2.2.1).2.2
  have hlt0 : G.2.2.2.2.2.1 < G.2.2.2.1.size := (Array.getElem?_eq_some_iff.mp hZc).1
  refine W.alen (a := G.2.2.2.2.2.1) (n := nI 0) hx hb (by rw [hold _ hlt0]; exact hZc) (State.isArrayOf_alike (zl_warm hK).alike hZa) hZn rfl rfl dJ2_add_2_2 ?_
  refine lv_icmp_ne (tgt := 11) hx hb dJ2_add_2_3 rfl (fun q => absurd rfl q) (fun _ => ?_)
  refine lv_aload_n hx hb dJ2_add_2_6 rfl (lv_at hl 0 rfl) ?_
  have cw := cwV (rm := { frames := 4, cells := 1, slots := 10, locals := 256 }) (R := (headSpec (ws_ yJ2_add_2 cJ2_add_2 4 none) { frames := 5, cells := 1, slots := 10, locals := 320 }).room) (mc := 1) (ms := 10) 0 hts (lw_V q292 q294 qs1 q81 q295) rfl rfl rfl ⟨rfl, by decide, by decide, by decide +kernel⟩ ⟨(Nat.le_of_ble_eq_true rfl), (Nat.le_of_ble_eq_true rfl)⟩
  have hrun := va_runV (p := p) (l := l) (e := e) (m := m) (below := below) (meth := meth) (locs := []) (cells := 0) (slots := 0) (b := b) (As := []) (rest := []) (g := F0 m 7 ls [.ref b]) (Ts := lw_all) ⟨hx, hb, hml, hown, hts⟩ (kc_grz l G s.heap.size b mo) cw ⟨zl_blind, va_recv hKK hP rfl (q0 := 0) rfl, fun U hU hW => ⟨rfl, zl_go hU hW hP hap hK (fun y hy => hy.elim) hold⟩⟩ rfl rfl hl.1 rfl (by show 2 * 0 + 0 ≤ 8; omega) dJ2_add_2_7 ⟨by show 0 + 1 ≤ 1; omega, by show 0 + 10 ≤ 10; omega⟩
  refine va_callr hrun hS (fun q _ h => h) (fun q h => h) (fun u ra t H1 locs1 ht hal _ hB hz hk hS1 => ?_)
  subst ht
  obtain ⟨hP1, hD1⟩ := hB
  refine lv_astore_n hx hb dJ2_add_2_10 rfl hl (by decide) rfl (fun ls1 hl1 => ?_)
  have hl1 : lv_has ls1 4 [(2, .ref ra), (0, .ref b), (1, .ref v), (3, .int (nI 0))] := hl1
  refine lv_aload_n hx hb dJ2_add_2_11 rfl (lv_at hl1 0 rfl) ?_
  refine lv_iload_n hx hb dJ2_add_2_12 rfl (lv_at hl1 3 rfl) ?_
  refine lv_aload_n hx hb dJ2_add_2_13 rfl (lv_at hl1 2 rfl) ?_
  refine va_astqM hx hb hKK hP1 hD1 hS1 1 0 rfl rfl (zl_anyS hS1 hv.1 hv.2) (vp_in_nI (by omega) (by omega)) dJ2_add_2_14 ?_
  intro H2 locs2 hP2 hD2 hS2
  rw [nI_clamp (by omega)] at hP2 hD2
  refine lv_aload_n hx hb dJ2_add_2_15 rfl (lv_at hl1 1 rfl) ?_
  refine lv_iload_n hx hb dJ2_add_2_16 rfl (lv_at hl1 3 rfl) ?_
  refine lv_iconst (v := 1) hx hb dJ2_add_2_17 (by decide) ?_
  refine lv_iadd hx hb dJ2_add_2_18 ?_
  rw [nI_1]
  refine va_put hx hb hts (zo_in 20 (by decide)) (zo_ty 20) (zo_tyok 20 (by decide)) (zo_nm 20 (by decide)) hown hKK hP2 hD2 hS2 0 rfl rfl 2 (by decide) (hts _ q141) (fun x h => h) rfl (zo_tyok 20 (by decide) 2 (by decide)) rfl rfl (Nat.le_of_ble_eq_true rfl) dJ2_add_2_19 ?_
  intro H3 locs3 hP3 hD3 hS3
  refine W.cs (Nat.zero_add 1) (Nat.zero_add _) ?_
  exact W.vret hx hb hr (fun t' ht' hW => ⟨⟨ra, rfl, trivial, by rw [ht']; exact hP3, hD3⟩, hS3.F ht'⟩) hS3.2.2 dJ2_add_2_22 hlocks
