set_option maxRecDepth 100000
theorem dJ11_init_2_0 : decode cJ11_init_2 0 = .ok (.aload_n 0, 1) := by decide +kernel
theorem dJ11_init_2_1 : decode cJ11_init_2 1 = .ok (.invokespecial 1, 3) := by decide +kernel
theorem dJ11_init_2_4 : decode cJ11_init_2 4 = .ok (.aload_n 0, 1) := by decide +kernel
theorem dJ11_init_2_5 : decode cJ11_init_2 5 = .ok (.aload_n 0, 1) := by decide +kernel
theorem dJ11_init_2_6 : decode cJ11_init_2 6 = .ok (.putfield 7, 3) := by decide +kernel
theorem dJ11_init_2_9 : decode cJ11_init_2 9 = .ok (.aload_n 0, 1) := by decide +kernel
theorem dJ11_init_2_10 : decode cJ11_init_2 10 = .ok (.getstatic 13, 3) := by decide +kernel
theorem dJ11_init_2_13 : decode cJ11_init_2 13 = .ok (.putfield 17, 3) := by decide +kernel
theorem dJ11_init_2_16 : decode cJ11_init_2 16 = .ok (.aload_n 0, 1) := by decide +kernel
theorem dJ11_init_2_17 : decode cJ11_init_2 17 = .ok (.getstatic 20, 3) := by decide +kernel
theorem dJ11_init_2_20 : decode cJ11_init_2 20 = .ok (.putfield 24, 3) := by decide +kernel
theorem dJ11_init_2_23 : decode cJ11_init_2 23 = .ok (.iload 4, 2) := by decide +kernel
theorem dJ11_init_2_25 : decode cJ11_init_2 25 = .ok (.ifCond .eq 11, 3) := by decide +kernel
theorem dJ11_init_2_28 : decode cJ11_init_2 28 = .ok (.aload_n 0, 1) := by decide +kernel
theorem dJ11_init_2_29 : decode cJ11_init_2 29 = .ok (.invokevirtual 27, 3) := by decide +kernel
theorem dJ11_init_2_32 : decode cJ11_init_2 32 = .ok (.pop, 1) := by decide +kernel
theorem dJ11_init_2_33 : decode cJ11_init_2 33 = .ok (.goto 8, 3) := by decide +kernel
theorem dJ11_init_2_36 : decode cJ11_init_2 36 = .ok (.aload_n 0, 1) := by decide +kernel
theorem dJ11_init_2_37 : decode cJ11_init_2 37 = .ok (.aconst_null, 1) := by decide +kernel
theorem dJ11_init_2_38 : decode cJ11_init_2 38 = .ok (.putfield 17, 3) := by decide +kernel
theorem dJ11_init_2_41 : decode cJ11_init_2 41 = .ok (.aload_n 0, 1) := by decide +kernel
theorem dJ11_init_2_42 : decode cJ11_init_2 42 = .ok (.aload_n 1, 1) := by decide +kernel
theorem dJ11_init_2_43 : decode cJ11_init_2 43 = .ok (.putfield 31, 3) := by decide +kernel
theorem dJ11_init_2_46 : decode cJ11_init_2 46 = .ok (.aload_n 0, 1) := by decide +kernel
theorem dJ11_init_2_47 : decode cJ11_init_2 47 = .ok (.aload_n 2, 1) := by decide +kernel
theorem dJ11_init_2_48 : decode cJ11_init_2 48 = .ok (.putfield 7, 3) := by decide +kernel
theorem dJ11_init_2_51 : decode cJ11_init_2 51 = .ok (.iload_n 3, 1) := by decide +kernel
theorem dJ11_init_2_52 : decode cJ11_init_2 52 = .ok (.ifCond .ne 8, 3) := by decide +kernel
theorem dJ11_init_2_55 : decode cJ11_init_2 55 = .ok (.aload_n 0, 1) := by decide +kernel
theorem dJ11_init_2_56 : decode cJ11_init_2 56 = .ok (.aconst_null, 1) := by decide +kernel
theorem dJ11_init_2_57 : decode cJ11_init_2 57 = .ok (.putfield 24, 3) := by decide +kernel
theorem dJ11_init_2_60 : decode cJ11_init_2 60 = .ok (.return_, 1) := by decide +kernel
theorem dJ12_init_0 : decode cJ12_init 0 = .ok (.aload_n 0, 1) := by decide +kernel
theorem dJ12_init_1 : decode cJ12_init 1 = .ok (.aload_n 1, 1) := by decide +kernel
theorem dJ12_init_2 : decode cJ12_init 2 = .ok (.aload_n 2, 1) := by decide +kernel
theorem dJ12_init_3 : decode cJ12_init 3 = .ok (.iload_n 3, 1) := by decide +kernel
theorem dJ12_init_4 : decode cJ12_init 4 = .ok (.iload 4, 2) := by decide +kernel
theorem dJ12_init_6 : decode cJ12_init 6 = .ok (.invokespecial 16, 3) := by decide +kernel
theorem dJ12_init_9 : decode cJ12_init 9 = .ok (.return_, 1) := by decide +kernel
theorem dX12_init_0 : decode cX12_init 0 = .ok (.aload_n 0, 1) := by decide +kernel
theorem dX12_init_1 : decode cX12_init 1 = .ok (.aconst_null, 1) := by decide +kernel
theorem dX12_init_2 : decode cX12_init 2 = .ok (.aconst_null, 1) := by decide +kernel
theorem dX12_init_3 : decode cX12_init 3 = .ok (.iconst 0, 1) := by decide +kernel
theorem dX12_init_4 : decode cX12_init 4 = .ok (.iconst 0, 1) := by decide +kernel
theorem dX12_init_5 : decode cX12_init 5 = .ok (.invokespecial 1, 3) := by decide +kernel
theorem dX12_init_8 : decode cX12_init 8 = .ok (.aload_n 0, 1) := by decide +kernel
theorem dX12_init_9 : decode cX12_init 9 = .ok (.iload_n 1, 1) := by decide +kernel
theorem dX12_init_10 : decode cX12_init 10 = .ok (.putfield 7, 3) := by decide +kernel
theorem dX12_init_13 : decode cX12_init 13 = .ok (.return_, 1) := by decide +kernel
/-! ===== Wrong's constructor ===== -/
abbrev zw_N (b : Nat) (fs : List Value) : Nat × va_E := (b, .inr (0, fs))
def zw_D (G : zo_G) : va_G := (fun _ => G.1 10, fun _ => G.2.1 10)
theorem zw_K {G : zo_G} {U : State} (h : zo_K G U) : va_K (zw_D G) [zo_cl 10] [] U := by
  refine ⟨fun c q hq => ?_, fun k q hq => by cases hq⟩
  match c, hq with
  | 0, hq => cases hq; exact h.1 10 (by decide)
  | c + 1, hq => cases hq
def zw_P (G : zo_G) (sz b : Nat) (fs : List Value) : State → Prop := fun U => U.heap.size = sz ∧ va_P (zw_D G) [zo_cl 10] [zw_N b fs] U.heap ∧ zo_K G U ∧ ∀ q : Nat, q < G.2.2.2.1.size → U.heap[q]? = G.2.2.2.1[q]?
theorem zw_blind {G : zo_G} {sz b : Nat} {fs : List Value} {av : List Value} : FrameBlind (va_Pc av (zw_P G sz b fs)) := fun a U g mk h => ⟨h.1, h.2.1, h.2.2.1, zo_K.same (s := U) (U := U.calling g mk a) rfl h.2.2.2.1, h.2.2.2.2⟩
def zw_Q (G : zo_G) (sz b : Nat) (fs fs' : List Value) : Array Value → State → Outcome → State → Prop := va_Qv (S := Unit) (fun _ => True) (fun _ t => va_P (zw_D G) [zo_cl 10] [zw_N b fs'] t.heap ∧ va_D (va_A [zw_N b fs] sz) [zw_N b fs']) (va_A [zw_N b fs] sz)
theorem zw_nar {ty : FieldType} (h : ty.isReference = true) {v : Value} (hv : v = .null ∨ ∃ a, v = .ref a) : narrow ty v = v ∧ fits ty v = true := by
  cases ty <;> first | (cases h; done) | (rcases hv with rfl | ⟨a, rfl⟩ <;> exact ⟨rfl, rfl⟩)
theorem zw_stat {G : zo_G} {U : State} (hK : zo_K G U) {C n ds : String} (hl : Cond.laysStatic C n ds ∈ lw_tbl) (hi : Cond.initialized C ∈ lw_tbl) (hm : (Cond.isRef (.static C n ds)) ∈ flatC (Jvm.Cond.and given_1 narrow_1)) : ∃ v : Value, (v = .null ∨ ∃ a, v = .ref a) ∧ va_Z C n ds v (fun q => G.2.2.2.1.size ≤ q) U G.2.2.2.1 := by
  obtain ⟨-, -, -, e0, hw, hg, -, -, hW⟩ := hK
  have hs := flat_of_before _ hg
  have hz := va_Zqof (A := fun q => G.2.2.2.2.2.2.1.heap.size ≤ q) (hw _ hl) (hw _ hi) (hs _ hm) (fun a ha q => by omega)
  rw [e0] at hz
  rcases hz.moved hW.alike with h | ⟨t, h⟩
  · exact ⟨_, Or.inl rfl, h⟩
  · exact ⟨_, Or.inr ⟨t, rfl⟩, h⟩
theorem kc_t2 (l : Launch) (G : zo_G) (sz b : Nat) (v0 v1 v2 v3 v4 v5 v6 : Value) (hG1 : G.2.2.2.1.size ≤ sz) (hG2 : G.2.2.2.1.size ≤ b) : Met l yJ11_init_2 (ws_ yJ11_init_2 cJ11_init_2 5 none) { frames := 1, cells := 0, slots := 0, locals := 64 } (va_Pc [.ref b, .null, .null, .int 0, .int 0] (zw_P G sz b [v0, v1, v2, v3, v4, v5, v6])) (zw_Q G sz b [v0, v1, v2, v3, v4, v5, v6] [.null, .null, .null, .null, v4, v5, v6]) 0 0 (va_A [zw_N b [v0, v1, v2, v3, v4, v5, v6]] sz) := by
  refine Met.ofW (cc := cJ11_init_2) (maxL := 5) (ret := none) (by decide) rfl ?_
  intro p e s m args below meth c s₁ B hml hP
  obtain ⟨rfl, rfl, hP, hK, hold⟩ := hP
  have hx := B.exec
  have hb := B.bytes
  have hr := B.returns
  have hlocks := B.notSynchronized
  have hts := atoms_spec (ws := ws_ yJ11_init_2 cJ11_init_2 5 none) B.pre
  have hts : ∀ w ∈ lw_all, w.before _ s = true := fun w h => hts w (List.mem_cons_of_mem _ h)
  have hown : s.vm.findClass "java/lang/Throwable" = some m.cls := findClass_of_methodNamed B.named
  have hl := lv_entry ([.ref b, .null, .null, .int 0, .int 0] : List Value) (n := 5) (Nat.le_of_ble_eq_true rfl)
  rw [lg_entry_eq]
  generalize (lg_sl ([.ref b, .null, .null, .int 0, .int 0] : List Value) ++ List.replicate (5 - (lg_sl ([.ref b, .null, .null, .int 0, .int 0] : List Value)).length) Slot.unset).toArray = ls at hl ⊢
  have hl : lv_has ls 5 [(0, .ref b), (1, .null), (2, .null), (3, .int 0), (4, .int 0)] := hl
  have hKK := zw_K hK
  have hD : va_D (va_A [zw_N b [v0, v1, v2, v3, v4, v5, v6]] s.heap.size) [zw_N b [v0, v1, v2, v3, v4, v5, v6]] := zl_AA (zl_one _)
  have hS : va_S (va_A [zw_N b [v0, v1, v2, v3, v4, v5, v6]] s.heap.size) s.heap s.heap [] := va_S.rf
  have hol : ∀ {H : Heap} {locs : List Loc}, va_S (va_A [zw_N b [v0, v1, v2, v3, v4, v5, v6]] s.heap.size) s.heap H locs → ∀ q : Nat, q < G.2.2.2.1.size → H[q]? = G.2.2.2.1[q]? := fun hS q hq => by
    rw [hS.2.1 q (by omega) (fun z => (zl_A1 z).elim (fun z => by have z : q = b := z; omega) (fun z => by omega))]
    exact hold q hq
  refine lv_aload_n hx hb dJ11_init_2_0 rfl (lv_at hl 0 rfl) ?_
  refine W.objInit hx hb hown (hts _ q694) (hts _ zo_q_oi) (hts _ zo_q_oc) rfl (by rw [hml]; exact hl.1) rfl dJ11_init_2_1 (Nat.le_of_ble_eq_true rfl) (Nat.le_of_ble_eq_true rfl) ?_
  refine lv_aload_n hx hb dJ11_init_2_4 rfl (lv_at hl 0 rfl) ?_
  refine lv_aload_n hx hb dJ11_init_2_5 rfl (lv_at hl 0 rfl) ?_
  refine va_put hx hb hts (zo_in 10 (by decide)) (zo_ty 10) (zo_tyok 10 (by decide)) (zo_nm 10 (by decide)) hown hKK hP hD hS 0 rfl rfl 0 (by decide) (hts _ q722) (fun x h => h) rfl (zo_tyok 10 (by decide) 0 (by decide)) (zw_nar rfl (Or.inr ⟨_, rfl⟩)).1 (zw_nar rfl (Or.inr ⟨_, rfl⟩)).2 (Nat.le_of_ble_eq_true rfl) dJ11_init_2_6 ?_
  intro H1 locs1 hP1 hD1 hS1
  refine lv_aload_n hx hb dJ11_init_2_9 rfl (lv_at hl 0 rfl) ?_
  obtain ⟨u1, hu1, cf, kf, fi, fd, sa, scell, z1, z2, z3, z4, z5, z6, z7, z8⟩ := zw_stat hK q696 (lw_all_tbl q101) (by decide +kernel)
  have hlt : sa < G.2.2.2.1.size := (Array.getElem?_eq_some_iff.mp z5).1
  refine W.gets (v := u1) hx hb hown (hts _ q695) z1 z2 z3 z4 (by rw [hol hS1 _ hlt]; exact z5) (fun e => by rw [e] at z6; cases z6) z7 rfl dJ11_init_2_10 ?_
  refine va_put hx hb hts (zo_in 10 (by decide)) (zo_ty 10) (zo_tyok 10 (by decide)) (zo_nm 10 (by decide)) hown hKK hP1 hD1 hS1 0 rfl rfl 1 (by decide) (hts _ q723) (fun x h => h) rfl (zo_tyok 10 (by decide) 1 (by decide)) (zw_nar rfl hu1).1 (zw_nar rfl hu1).2 (Nat.le_of_ble_eq_true rfl) dJ11_init_2_13 ?_
  intro H2 locs2 hP2 hD2 hS2
  refine lv_aload_n hx hb dJ11_init_2_16 rfl (lv_at hl 0 rfl) ?_
  obtain ⟨u2, hu2, cf', kf', fi', fd', sa', scell', y1, y2, y3, y4, y5, y6, y7, y8⟩ := zw_stat hK q698 (lw_all_tbl q101) (by decide +kernel)
  have hlt' : sa' < G.2.2.2.1.size := (Array.getElem?_eq_some_iff.mp y5).1
  refine W.gets (v := u2) hx hb hown (hts _ q697) y1 y2 y3 y4 (by rw [hol hS2 _ hlt']; exact y5) (fun e => by rw [e] at y6; cases y6) y7 rfl dJ11_init_2_17 ?_
  refine va_put hx hb hts (zo_in 10 (by decide)) (zo_ty 10) (zo_tyok 10 (by decide)) (zo_nm 10 (by decide)) hown hKK hP2 hD2 hS2 0 rfl rfl 2 (by decide) (hts _ q724) (fun x h => h) rfl (zo_tyok 10 (by decide) 2 (by decide)) (zw_nar rfl hu2).1 (zw_nar rfl hu2).2 (Nat.le_of_ble_eq_true rfl) dJ11_init_2_20 ?_
  intro H3 locs3 hP3 hD3 hS3
  refine lv_iload hx hb dJ11_init_2_23 (lv_at hl 4 rfl) ?_
  refine lv_if_eq (tgt := 36) hx hb dJ11_init_2_25 rfl (fun _ => ?_) (fun q => absurd rfl q)
  refine lv_aload_n hx hb dJ11_init_2_36 rfl (lv_at hl 0 rfl) ?_
  refine lv_null hx hb dJ11_init_2_37 ?_
  refine va_put hx hb hts (zo_in 10 (by decide)) (zo_ty 10) (zo_tyok 10 (by decide)) (zo_nm 10 (by decide)) hown hKK hP3 hD3 hS3 0 rfl rfl 1 (by decide) (hts _ q723) (fun x h => h) rfl (zo_tyok 10 (by decide) 1 (by decide)) (zw_nar rfl (Or.inl rfl)).1 (zw_nar rfl (Or.inl rfl)).2 (Nat.le_of_ble_eq_true rfl) dJ11_init_2_38 ?_
  intro H4 locs4 hP4 hD4 hS4
  refine lv_aload_n hx hb dJ11_init_2_41 rfl (lv_at hl 0 rfl) ?_
  refine lv_aload_nN hx hb dJ11_init_2_42 rfl (lv_at hl 1 rfl) ?_
  refine va_put hx hb hts (zo_in 10 (by decide)) (zo_ty 10) (zo_tyok 10 (by decide)) (zo_nm 10 (by decide)) hown hKK hP4 hD4 hS4 0 rfl rfl 3 (by decide) (hts _ q721) (fun x h => h) rfl (zo_tyok 10 (by decide) 3 (by decide)) (zw_nar rfl (Or.inl rfl)).1 (zw_nar rfl (Or.inl rfl)).2 (Nat.le_of_ble_eq_true rfl) dJ11_init_2_43 ?_
  intro H5 locs5 hP5 hD5 hS5
  refine lv_aload_n hx hb dJ11_init_2_46 rfl (lv_at hl 0 rfl) ?_
  refine lv_aload_nN hx hb dJ11_init_2_47 rfl (lv_at hl 2 rfl) ?_
  refine va_put hx hb hts (zo_in 10 (by decide)) (zo_ty 10) (zo_tyok 10 (by decide)) (zo_nm 10 (by decide)) hown hKK hP5 hD5 hS5 0 rfl rfl 0 (by decide) (hts _ q722) (fun x h => h) rfl (zo_tyok 10 (by decide) 0 (by decide)) (zw_nar rfl (Or.inl rfl)).1 (zw_nar rfl (Or.inl rfl)).2 (Nat.le_of_ble_eq_true rfl) dJ11_init_2_48 ?_
  intro H6 locs6 hP6 hD6 hS6
  refine lv_iload_n hx hb dJ11_init_2_51 rfl (lv_at hl 3 rfl) ?_
  refine lv_if_ne (tgt := 60) hx hb dJ11_init_2_52 rfl (fun q => absurd rfl q) (fun _ => ?_)
  refine lv_aload_n hx hb dJ11_init_2_55 rfl (lv_at hl 0 rfl) ?_
  refine lv_null hx hb dJ11_init_2_56 ?_
  refine va_put hx hb hts (zo_in 10 (by decide)) (zo_ty 10) (zo_tyok 10 (by decide)) (zo_nm 10 (by decide)) hown hKK hP6 hD6 hS6 0 rfl rfl 2 (by decide) (hts _ q724) (fun x h => h) rfl (zo_tyok 10 (by decide) 2 (by decide)) (zw_nar rfl (Or.inl rfl)).1 (zw_nar rfl (Or.inl rfl)).2 (Nat.le_of_ble_eq_true rfl) dJ11_init_2_57 ?_
  intro H7 locs7 hP7 hD7 hS7
  exact W.vret hx hb hr (fun t' ht' hW => ⟨⟨(), rfl, trivial, by rw [ht']; exact hP7, hD7⟩, hS7.F ht'⟩) hS7.2.2 dJ11_init_2_60 hlocks
theorem kc_e2 (l : Launch) (G : zo_G) (sz b : Nat) (v0 v1 v2 v3 v4 v5 v6 : Value) (hG1 : G.2.2.2.1.size ≤ sz) (hG2 : G.2.2.2.1.size ≤ b) : Met l yJ12_init (ws_ yJ12_init cJ12_init 5 none) { frames := 2, cells := 0, slots := 0, locals := 128 } (va_Pc [.ref b, .null, .null, .int 0, .int 0] (zw_P G sz b [v0, v1, v2, v3, v4, v5, v6])) (zw_Q G sz b [v0, v1, v2, v3, v4, v5, v6] [.null, .null, .null, .null, v4, v5, v6]) 0 0 (va_A [zw_N b [v0, v1, v2, v3, v4, v5, v6]] sz) := by
  refine Met.ofW (cc := cJ12_init) (maxL := 5) (ret := none) (by decide) rfl ?_
  intro p e s m args below meth c s₁ B hml hP
  obtain ⟨rfl, rfl, hP, hK, hold⟩ := hP
  have hx := B.exec
  have hb := B.bytes
  have hr := B.returns
  have hlocks := B.notSynchronized
  have hts := atoms_spec (ws := ws_ yJ12_init cJ12_init 5 none) B.pre
  have hts : ∀ w ∈ lw_all, w.before _ s = true := fun w h => hts w (List.mem_cons_of_mem _ h)
  have hown : s.vm.findClass "java/lang/Exception" = some m.cls := findClass_of_methodNamed B.named
  have hl := lv_entry ([.ref b, .null, .null, .int 0, .int 0] : List Value) (n := 5) (Nat.le_of_ble_eq_true rfl)
  rw [lg_entry_eq]
  generalize (lg_sl ([.ref b, .null, .null, .int 0, .int 0] : List Value) ++ List.replicate (5 - (lg_sl ([.ref b, .null, .null, .int 0, .int 0] : List Value)).length) Slot.unset).toArray = ls at hl ⊢
  have hl : lv_has ls 5 [(0, .ref b), (1, .null), (2, .null), (3, .int 0), (4, .int 0)] := hl
  have hS : va_S (va_A [zw_N b [v0, v1, v2, v3, v4, v5, v6]] s.heap.size) s.heap s.heap [] := va_S.rf
  refine lv_aload_n hx hb dJ12_init_0 rfl (lv_at hl 0 rfl) ?_
  refine lv_aload_nN hx hb dJ12_init_1 rfl (lv_at hl 1 rfl) ?_
  refine lv_aload_nN hx hb dJ12_init_2 rfl (lv_at hl 2 rfl) ?_
  refine lv_iload_n hx hb dJ12_init_3 rfl (lv_at hl 3 rfl) ?_
  refine lv_iload hx hb dJ12_init_4 (lv_at hl 4 rfl) ?_
  have cw := cwI (rm := { frames := 1, cells := 0, slots := 0, locals := 64 }) (R := (headSpec (ws_ yJ12_init cJ12_init 5 none) { frames := 2, cells := 0, slots := 0, locals := 128 }).room) (mc := 0) (ms := 0) 4 hts (lw_meth q717) rfl rfl rfl (hts _ q101) (hts _ q715) (hts _ q716) rfl ⟨by decide, by decide, by decide +kernel⟩ ⟨(Nat.le_of_ble_eq_true rfl), (Nat.le_of_ble_eq_true rfl)⟩
  have hrun := va_runI (p := p) (l := l) (e := e) (m := m) (below := below) (meth := meth) (H := s.heap) (locs := []) (cells := 0) (slots := 0) (b := b) (As := [.null, .null, .int 0, .int 0]) (rest := []) (g := F0 m 6 ls [.int 0, .int 0, .null, .null, .ref b]) (Ts := lw_all) ⟨hx, hb, hml, hown, hts⟩ (kc_t2 l G s.heap.size b v0 v1 v2 v3 v4 v5 v6 hG1 hG2) cw ⟨zw_blind, fun U hU hW => ⟨rfl, by rw [hU], by rw [hU]; exact hP, hK.moved hW, by rw [hU]; exact hold⟩⟩ rfl rfl hl.1 rfl (by show 2 * 0 + 0 ≤ 8; omega) dJ12_init_6 ⟨Nat.le_refl _, Nat.le_refl _⟩
  refine va_callv hrun hS (fun q _ h => h) (fun q h => h) (fun u t H1 locs1 ht hal _ hB hz hk hS1 => ?_)
  subst ht
  refine W.cs (Nat.zero_add 0) (Nat.zero_add _) ?_
  exact W.vret hx hb hr (fun t' ht' hW => ⟨⟨(), rfl, trivial, by rw [ht']; exact hB.1, hB.2⟩, hS1.F ht'⟩) hS1.2.2 dJ12_init_9 hlocks
theorem kc_w2 (l : Launch) (G : zo_G) (sz b : Nat) (kd : Int32) (v0 v1 v2 v3 v4 v5 v6 : Value) (hG1 : G.2.2.2.1.size ≤ sz) (hG2 : G.2.2.2.1.size ≤ b) : Met l yX12_init (ws_ yX12_init cX12_init 2 none) { frames := 3, cells := 0, slots := 0, locals := 64 * 3 } (va_Pc [.ref b, .int kd] (zw_P G sz b [v0, v1, v2, v3, v4, v5, v6])) (zw_Q G sz b [v0, v1, v2, v3, v4, v5, v6] [.null, .null, .null, .null, v4, v5, .int kd]) 0 0 (va_A [zw_N b [v0, v1, v2, v3, v4, v5, v6]] sz) := by
  refine Met.ofW (cc := cX12_init) (maxL := 2) (ret := none) (by decide) rfl ?_
  intro p e s m args below meth c s₁ B hml hP
  obtain ⟨rfl, rfl, hP, hK, hold⟩ := hP
  have hx := B.exec
  have hb := B.bytes
  have hr := B.returns
  have hlocks := B.notSynchronized
  have hts := atoms_spec (ws := ws_ yX12_init cX12_init 2 none) B.pre
  have hts : ∀ w ∈ lw_all, w.before _ s = true := fun w h => hts w (List.mem_cons_of_mem _ h)
  have hown : s.vm.findClass "LichenTable$Wrong" = some m.cls := findClass_of_methodNamed B.named
  have hl := lv_entry ([.ref b, .int kd] : List Value) (n := 2) (Nat.le_of_ble_eq_true rfl)
  rw [lg_entry_eq]
  generalize (lg_sl ([.ref b, .int kd] : List Value) ++ List.replicate (2 - (lg_sl ([.ref b, .int kd] : List Value)).length) Slot.unset).toArray = ls at hl ⊢
  have hl : lv_has ls 2 [(0, .ref b), (1, .int kd)] := hl
  have hKK := zw_K hK
  have hS : va_S (va_A [zw_N b [v0, v1, v2, v3, v4, v5, v6]] s.heap.size) s.heap s.heap [] := va_S.rf
  have hmn : meth.name = "<init>" := (name_of_methodNamed B.named B.method).1
  refine lv_aload_n hx hb dX12_init_0 rfl (lv_at hl 0 rfl) ?_
  refine lv_null hx hb dX12_init_1 ?_
  refine lv_null hx hb dX12_init_2 ?_
  refine lv_iconst (v := 0) hx hb dX12_init_3 (by decide) ?_
  refine lv_iconst (v := 0) hx hb dX12_init_4 (by decide) ?_
  have cw := cwI (rm := { frames := 2, cells := 0, slots := 0, locals := 128 }) (R := (headSpec (ws_ yX12_init cX12_init 2 none) { frames := 3, cells := 0, slots := 0, locals := 64 * 3 }).room) (mc := 0) (ms := 0) 4 hts (lw_meth q714) rfl rfl rfl (hts _ q102) (hts _ q712) (hts _ q713) rfl ⟨by decide, by decide, by decide +kernel⟩ ⟨(Nat.le_of_ble_eq_true rfl), (Nat.le_of_ble_eq_true rfl)⟩
  have hrun := va_runI (p := p) (l := l) (e := e) (m := m) (below := below) (meth := meth) (H := s.heap) (locs := []) (cells := 0) (slots := 0) (b := b) (As := [.null, .null, .int 0, .int 0]) (rest := []) (g := F0 m 5 ls [.int 0, .int 0, .null, .null, .ref b]) (Ts := lw_all) ⟨hx, hb, hml, hown, hts⟩ (kc_e2 l G s.heap.size b v0 v1 v2 v3 v4 v5 v6 hG1 hG2) cw ⟨zw_blind, fun U hU hW => ⟨rfl, by rw [hU], by rw [hU]; exact hP, hK.moved hW, by rw [hU]; exact hold⟩⟩ rfl rfl hl.1 rfl (by show 2 * 0 + 0 ≤ 8; omega) dX12_init_5 ⟨Nat.le_refl _, Nat.le_refl _⟩
  refine va_callv hrun hS (fun q _ h => h) (fun q h => h) (fun u t H1 locs1 ht hal _ hB hz hk hS1 => ?_)
  subst ht
  refine lv_aload_n hx hb dX12_init_8 rfl (lv_at hl 0 rfl) ?_
  refine lv_iload_n hx hb dX12_init_9 rfl (lv_at hl 1 rfl) ?_
  refine va_putF hx hb hts (zo_in 10 (by decide)) (zo_ty 10) (zo_tyok 10 (by decide)) (zo_nm 10 (by decide)) hown hKK hB.1 hB.2 hS1 0 rfl rfl 6 (by decide) (hts _ q718) (fun x h => h) rfl hmn rfl (zo_tyok 10 (by decide) 6 (by decide)) rfl rfl (Nat.le_of_ble_eq_true rfl) dX12_init_10 ?_
  intro H2 locs2 hP2 hD2 hS2
  refine W.cs (Nat.zero_add 0) (Nat.zero_add _) ?_
  exact W.vret hx hb hr (fun t' ht' hW => ⟨⟨(), rfl, trivial, by rw [ht']; exact hP2, hD2⟩, hS2.F ht'⟩) hS2.2.2 dX12_init_13 hlocks
def fn_X12_init (N : Nat) (x0 : Nat) (x1 : Int32) (Ω : zo_O) : Option zo_R := rV (sI (sR (sR (sR (sR Ω 10 x0 0 none) 10 x0 1 none) 10 x0 2 none) 10 x0 3 none) 10 x0 6 x1)
theorem mt_X12_init {G : zo_G} {J : zo_O → Prop} (hJ : zo_JC J) (hCon : ∀ Ω, J Ω → zo_Con Ω) (N : Nat) (x0 : Nat) (x1 : Int32) (Ω : zo_O) (res : zo_R) (h : fn_X12_init N x0 x1 Ω = some res) : zo_MT G J yX12_init cX12_init 2 (Option.none : Option Jvm.ClassFile.FieldType) 3 [vr 10 x0, vi x1] Ω res := by
  cases h
  intro l ρ
  show MetFree l yX12_init (headSpec (ws_ yX12_init cX12_init 2 none) { frames := 3, cells := 0, slots := 0, locals := 64 * 3 }) _ _ _
  intro p e ha hc hk s m args below hf happ hP _
  obtain ⟨rfl, hR, hJ0, hK, hvs⟩ := hP
  have hn : x0 < gC Ω 10 := by
    rcases hvs.1 with q | q | q
    · cases q
    · cases q
    · exact q.2
  have hlv : zo_lv Ω 10 x0 := by unfold zo_lv; rw [if_neg (by decide)]; exact hn
  obtain ⟨hcell, hG2⟩ := hR.cell hlv
  have hob : va_at (zw_D G) [zo_cl 10] (zw_N (ρ 10 x0) [zo_fv G ρ Ω 10 x0 0, zo_fv G ρ Ω 10 x0 1, zo_fv G ρ Ω 10 x0 2, zo_fv G ρ Ω 10 x0 3, zo_fv G ρ Ω 10 x0 4, zo_fv G ρ Ω 10 x0 5, zo_fv G ρ Ω 10 x0 6]) s.heap := by
    unfold zo_cell at hcell
    rw [if_pos (by decide)] at hcell
    refine ⟨zo_cl 10, rfl, hcell.to (fun f hf => ?_)⟩
    have hf : f < 7 := hf
    match f, hf with
    | 0, _ => rfl
    | 1, _ => rfl
    | 2, _ => rfl
    | 3, _ => rfl
    | 4, _ => rfl
    | 5, _ => rfl
    | 6, _ => rfl
  obtain ⟨nn, o, k1, k2, k3, ⟨⟨r, rfl, -, hPf, hDf⟩, hFr⟩, L, hFE, hL⟩ := kc_w2 l G s.heap.size (ρ 10 x0) x1 _ _ _ _ _ _ _ hR.1 hG2 p e ha hc hk s m _ below hf happ ⟨rfl, rfl, zl_P1w hob, hK, hR.2.1⟩ trivial
  refine ⟨nn, _, k1, k2, k3, ?_, L, hFE, fun q hq => ?_⟩
  · obtain ⟨r', g1, g2⟩ := hPf 0 _ rfl
    cases g1
    have hsz : (stepsAlone p.tables e nn s).heap.size = s.heap.size := by
      obtain ⟨-, -, h3⟩ := hFE
      have := hFr.1
      have h5 : (stepsAlone p.tables e nn s).heap.size ≤ s.heap.size + 0 := h3.2.2.1
      omega
    refine ⟨ρ, rfl, ?_, hJ.1 _ _ _ _ _ (hJ.2.1 _ _ _ _ _ rfl (hJ.2.1 _ _ _ _ _ rfl (hJ.2.1 _ _ _ _ _ rfl (hJ.2.1 _ _ _ _ _ rfl hJ0)))), zo_ext.rf, zo_le.rf, fun v hv => by cases hv⟩
    have hz : ∀ k' n' i, ¬ (k' = 10 ∧ n' = x0) → gI (sI (sR (sR (sR (sR Ω 10 x0 0 none) 10 x0 1 none) 10 x0 2 none) 10 x0 3 none) 10 x0 6 x1) k' n' i = gI Ω k' n' i := fun k' n' i hn => u3_ne hn
    have hzr : ∀ k' n' i, gR (sI (sR (sR (sR (sR Ω 10 x0 0 none) 10 x0 1 none) 10 x0 2 none) 10 x0 3 none) 10 x0 6 x1) k' n' i = if k' = 10 ∧ n' = x0 ∧ i < 4 then none else gR Ω k' n' i := fun k' n' i => by
      show u3 (u3 (u3 (u3 Ω.2.1 10 x0 0 none) 10 x0 1 none) 10 x0 2 none) 10 x0 3 none k' n' i = _
      unfold u3 gR
      by_cases hh : k' = 10 ∧ n' = x0
      · obtain ⟨rfl, rfl⟩ := hh
        match i with
        | 0 => simp
        | 1 => simp
        | 2 => simp
        | 3 => simp
        | i + 4 => rw [if_neg (by omega), if_neg (by omega), if_neg (by omega), if_neg (by omega), if_neg (by omega)]
      · rw [if_neg (fun q => hh ⟨q.1, q.2.1⟩), if_neg (fun q => hh ⟨q.1, q.2.1⟩), if_neg (fun q => hh ⟨q.1, q.2.1⟩), if_neg (fun q => hh ⟨q.1, q.2.1⟩), if_neg (fun q => hh ⟨q.1, q.2.1⟩)]
    refine hR.put (k := 10) (n := x0) hlv (by decide) hsz (fun q hq => ?_) ?_ (fun _ => rfl) (fun _ => rfl) (fun _ _ => rfl) hz (fun k' n' i hn => by rw [hzr, if_neg (fun q => hn ⟨q.1, q.2.1⟩)]) (fun _ _ _ _ => rfl) (fun f t ht => by
      rw [hzr] at ht
      by_cases hf : (10 : Nat) = 10 ∧ x0 = x0 ∧ f < 4
      · rw [if_pos hf] at ht; cases ht
      · rw [if_neg hf] at ht; exact hR.2.2.2.2.1 10 x0 f t hn ht)
    · by_cases hqs : q < s.heap.size
      · exact hFr.2 q hqs (fun z => (zl_A1 z).elim (fun z => hq z) (fun z => by omega))
      · rw [Array.getElem?_eq_none (by omega), Array.getElem?_eq_none (by omega)]
    · unfold zo_cell
      rw [if_pos (by decide)]
      refine g2.to (fun f hf => ?_)
      have hf : f < 7 := hf
      refine Eq.trans ?_ (zo_flds (by decide) G ρ _ x0 f).symm
      rw [hzr]
      have hI6 : gI (sI (sR (sR (sR (sR Ω 10 x0 0 none) 10 x0 1 none) 10 x0 2 none) 10 x0 3 none) 10 x0 6 x1) 10 x0 6 = x1 := if_pos ⟨rfl, rfl, rfl⟩
      have hI5 : gI (sI (sR (sR (sR (sR Ω 10 x0 0 none) 10 x0 1 none) 10 x0 2 none) 10 x0 3 none) 10 x0 6 x1) 10 x0 5 = gI Ω 10 x0 5 := u3_nf (by decide)
      match f, hf with
      | 0, _ => rw [if_pos (show (10 : Nat) = 10 ∧ x0 = x0 ∧ 0 < 4 from ⟨rfl, rfl, by decide⟩)]; rfl
      | 1, _ => rw [if_pos (show (10 : Nat) = 10 ∧ x0 = x0 ∧ 1 < 4 from ⟨rfl, rfl, by decide⟩)]; rfl
      | 2, _ => rw [if_pos (show (10 : Nat) = 10 ∧ x0 = x0 ∧ 2 < 4 from ⟨rfl, rfl, by decide⟩)]; rfl
      | 3, _ => rw [if_pos (show (10 : Nat) = 10 ∧ x0 = x0 ∧ 3 < 4 from ⟨rfl, rfl, by decide⟩)]; rfl
      | 4, _ => rw [if_neg (show ¬ ((10 : Nat) = 10 ∧ x0 = x0 ∧ 4 < 4) from fun q => absurd q.2.2 (by decide))]; rfl
      | 5, _ => rw [hI5]; rfl
      | 6, _ => rw [hI6]; rfl
  · rcases zl_A1 (hL q hq) with z | z
    · rw [z]; exact hG2
    · exact Nat.le_trans hR.1 z
