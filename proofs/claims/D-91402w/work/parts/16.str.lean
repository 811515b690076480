set_option maxRecDepth 100000
theorem cn_J7_checkIndex : zo_Cn yJ7_checkIndex 3 := ⟨by decide, by decide, by decide +kernel⟩
theorem cn_J8_checkIndex : zo_Cn yJ8_checkIndex 2 := ⟨by decide, by decide, by decide +kernel⟩
theorem cn_J8_coder : zo_Cn yJ8_coder 0 := ⟨by decide, by decide, by decide +kernel⟩
theorem cn_J8_isLatin1 : zo_Cn yJ8_isLatin1 0 := ⟨by decide, by decide, by decide +kernel⟩
theorem cn_J9_charAt : zo_Cn yJ9_charAt 2 := ⟨by decide, by decide, by decide +kernel⟩
theorem dJ7_checkIndex_0 : decode cJ7_checkIndex 0 = .ok (.iload_n 0, 1) := by decide +kernel
theorem dJ7_checkIndex_1 : decode cJ7_checkIndex 1 = .ok (.ifCond .lt 8, 3) := by decide +kernel
theorem dJ7_checkIndex_4 : decode cJ7_checkIndex 4 = .ok (.iload_n 0, 1) := by decide +kernel
theorem dJ7_checkIndex_5 : decode cJ7_checkIndex 5 = .ok (.iload_n 1, 1) := by decide +kernel
theorem dJ7_checkIndex_6 : decode cJ7_checkIndex 6 = .ok (.if_icmp .lt 10, 3) := by decide +kernel
theorem dJ7_checkIndex_9 : decode cJ7_checkIndex 9 = .ok (.aload_n 2, 1) := by decide +kernel
theorem dJ7_checkIndex_10 : decode cJ7_checkIndex 10 = .ok (.iload_n 0, 1) := by decide +kernel
theorem dJ7_checkIndex_11 : decode cJ7_checkIndex 11 = .ok (.iload_n 1, 1) := by decide +kernel
theorem dJ7_checkIndex_12 : decode cJ7_checkIndex 12 = .ok (.invokestatic 95, 3) := by decide +kernel
theorem dJ7_checkIndex_15 : decode cJ7_checkIndex 15 = .ok (.athrow, 1) := by decide +kernel
theorem dJ7_checkIndex_16 : decode cJ7_checkIndex 16 = .ok (.iload_n 0, 1) := by decide +kernel
theorem dJ7_checkIndex_17 : decode cJ7_checkIndex 17 = .ok (.ireturn, 1) := by decide +kernel
def fn_J7_checkIndex_9 (N : Nat)  (x0 : Int32) (x1 : Int32) (x2 : Option zo_T) (Ω : zo_O) : Option zo_R :=
  none
theorem ct_J7_checkIndex_9 {Y : zo_Y} (hY : zo_Gd Y cJ7_checkIndex 3 RJ7 0) (hJ : zo_JC (zo_J Y)) (hCon : ∀ Ω, zo_J Y Ω → zo_Con Ω) (hr : zo_rt Y (Option.some Jvm.ClassFile.FieldType.int)) (N : Nat)   (x0 : Int32) (x1 : Int32) (x2 : Option zo_T) (Ω : zo_O) (res : zo_R) (h : fn_J7_checkIndex_9 N  x0 x1 x2 Ω = some res) : TW Y res Ω 9 [(0, vi x0), (1, vi x1), (2, vo x2)] [] := by
  unfold fn_J7_checkIndex_9 at h
  refine zo_aload_n hY dJ7_checkIndex_9 rfl 2 rfl ?_
  refine zo_iload_n hY dJ7_checkIndex_10 rfl 0 rfl ?_
  refine zo_iload_n hY dJ7_checkIndex_11 rfl 1 rfl ?_
  cases h
def fn_J7_checkIndex (N : Nat) (x0 : Int32) (x1 : Int32) (x2 : Option zo_T) (Ω : zo_O) : Option zo_R :=
  if x0 < 0 then (
    fn_J7_checkIndex_9 N x0 x1 x2 Ω
    ) else
  if x0 < x1 then (
    rI x0 Ω
    ) else
  fn_J7_checkIndex_9 N x0 x1 x2 Ω
theorem mt_J7_checkIndex {G : zo_G} {J : zo_O → Prop} (hJ : zo_JC J) (hCon : ∀ Ω, J Ω → zo_Con Ω) (N : Nat) (x0 : Int32) (x1 : Int32) (x2 : Option zo_T) (Ω : zo_O) (res : zo_R) (h : fn_J7_checkIndex N x0 x1 x2 Ω = some res) : zo_MT G J yJ7_checkIndex cJ7_checkIndex 3 (Option.some Jvm.ClassFile.FieldType.int) 0 [vi x0, vi x1, vo x2] Ω res := by
  refine zo_enter (by decide) rfl (Nat.le_of_ble_eq_true rfl) (fun Y hY eJ hr hmn => ?_)
  subst eJ
  show TW Y res Ω 0 [(0, vi x0), (1, vi x1), (2, vo x2)] []
  unfold fn_J7_checkIndex at h
  refine zo_iload_n hY dJ7_checkIndex_0 rfl 0 rfl ?_
  refine zo_if_lt hY 9 dJ7_checkIndex_1 (by decide) h (fun c1 h => ?_) (fun c1 h => ?_)
  · exact ct_J7_checkIndex_9 hY hJ hCon hr N x0 x1 x2 Ω _ h
  · refine zo_iload_n hY dJ7_checkIndex_4 rfl 0 rfl ?_
    refine zo_iload_n hY dJ7_checkIndex_5 rfl 1 rfl ?_
    refine zo_icmp_lt hY 16 dJ7_checkIndex_6 (by decide) h (fun c2 h => ?_) (fun c2 h => ?_)
    · refine zo_iload_n hY dJ7_checkIndex_16 rfl 0 rfl ?_
      exact zo_iret hY hr dJ7_checkIndex_17 h
    · exact ct_J7_checkIndex_9 hY hJ hCon hr N x0 x1 x2 Ω _ h
theorem dJ8_checkIndex_0 : decode cJ8_checkIndex 0 = .ok (.iload_n 0, 1) := by decide +kernel
theorem dJ8_checkIndex_1 : decode cJ8_checkIndex 1 = .ok (.iload_n 1, 1) := by decide +kernel
theorem dJ8_checkIndex_2 : decode cJ8_checkIndex 2 = .ok (.getstatic 1053, 3) := by decide +kernel
theorem dJ8_checkIndex_5 : decode cJ8_checkIndex 5 = .ok (.invokestatic 1059, 3) := by decide +kernel
theorem dJ8_checkIndex_8 : decode cJ8_checkIndex 8 = .ok (.pop, 1) := by decide +kernel
theorem dJ8_checkIndex_9 : decode cJ8_checkIndex 9 = .ok (.return_, 1) := by decide +kernel
/-- Preconditions.checkIndex, whatever its last argument is -/
theorem kc_chk (l : Launch) (i n : Int32) (v : Value) (hv : v.category = 1) (h0 : ¬ i < 0) (h1 : i < n) : Met l yJ7_checkIndex (ws_ yJ7_checkIndex cJ7_checkIndex 3 (some .int)) { frames := 0, cells := 0, slots := 0, locals := 0 } (fun a _ => a = ([.int i, .int n, v] : List Value).toArray) (vp_Si (fun r => r = i)) 0 0 (fun _ => False) := by
  refine Met.ofW (cc := cJ7_checkIndex) (maxL := 3) (ret := some .int) (by decide) rfl ?_
  intro p e s m args below meth c s₁ B hml hP
  subst hP
  have hx := B.exec
  have hb := B.bytes
  have hr := B.returns
  have hlocks := B.notSynchronized
  have hl := lv_entry ([.int i, .int n, v]) (n := 3) (by have e1 : (Value.int i).category = 1 := rfl; have e2 : (Value.int n).category = 1 := rfl; simp [lg_sl, hv, e1, e2])
  rw [lg_entry_eq]
  generalize (lg_sl ([.int i, .int n, v]) ++ List.replicate (3 - (lg_sl ([.int i, .int n, v])).length) Slot.unset).toArray = ls at hl ⊢
  have hl : lv_has ls 3 [(0, .int i), (1, .int n), (2, v)] := hl
  refine lv_iload_n hx hb dJ7_checkIndex_0 rfl (lv_at hl 0 rfl) ?_
  refine lv_if_lt (tgt := 9) hx hb dJ7_checkIndex_1 (by decide) (fun c1 => absurd c1 h0) (fun _ => ?_)
  refine lv_iload_n hx hb dJ7_checkIndex_4 rfl (lv_at hl 0 rfl) ?_
  refine lv_iload_n hx hb dJ7_checkIndex_5 rfl (lv_at hl 1 rfl) ?_
  refine lv_icmp_lt (tgt := 16) hx hb dJ7_checkIndex_6 (by decide) (fun _ => ?_) (fun c1 => absurd h1 c1)
  refine lv_iload_n hx hb dJ7_checkIndex_16 rfl (lv_at hl 0 rfl) ?_
  exact W.iret (v := i) hx hb hr (fun t ht hW => ⟨i, rfl, rfl, ht⟩) (fun q h => by cases h) dJ7_checkIndex_17 hlocks
def fn_J8_checkIndex (N : Nat) (x0 : Int32) (x1 : Int32) (Ω : zo_O) : Option zo_R := gd (¬ x0 < 0 ∧ x0 < x1) (rV Ω)
theorem zo_Zsf {G : zo_G} {U : State} (hK : zo_K G U) : ∃ v : Value, v.category = 1 ∧ va_Z "jdk/internal/util/Preconditions" "SIOOBE_FORMATTER" "Ljava/util/function/BiFunction;" v (fun q => G.2.2.2.1.size ≤ q) G.2.2.2.2.2.2.1 G.2.2.2.1 := by
  obtain ⟨-, -, -, e0, hw, hg, -, -, -⟩ := hK
  have hs := flat_of_before _ hg
  rw [← e0]
  have h1 : (Cond.isRef (.static "jdk/internal/util/Preconditions" "SIOOBE_FORMATTER" "Ljava/util/function/BiFunction;")).before G.2.2.2.2.2.2.2.1 G.2.2.2.2.2.2.1 = true := hs _ (by decide +kernel)
  cases hv : (Term.static "jdk/internal/util/Preconditions" "SIOOBE_FORMATTER" "Ljava/util/function/BiFunction;").eval G.2.2.2.2.2.2.2.1 G.2.2.2.2.2.2.1 none [] G.2.2.2.2.2.2.1 with
  | none => simp [Cond.before, Cond.holds, Cond.value, hv] at h1
  | some v =>
    refine ⟨v, ?_, va_Zof (hw _ q645) (hw _ (lw_all_tbl q91)) hv (fun a ha q => by omega)⟩
    cases v <;> first | rfl | (simp [Cond.before, Cond.holds, Cond.value, hv] at h1)
theorem mt_J8_checkIndex {G : zo_G} {J : zo_O → Prop} (hJ : zo_JC J) (hCon : ∀ Ω, J Ω → zo_Con Ω) (N : Nat) (x0 : Int32) (x1 : Int32) (Ω : zo_O) (res : zo_R) (h : fn_J8_checkIndex N x0 x1 Ω = some res) : zo_MT G J yJ8_checkIndex cJ8_checkIndex 2 (Option.none : Option Jvm.ClassFile.FieldType) 1 [vi x0, vi x1] Ω res := by
  refine zo_enter (by decide) rfl (Nat.le_of_ble_eq_true rfl) (fun Y hY eJ hr hmn => ?_)
  show TW Y res Ω 0 [(0, vi x0), (1, vi x1)] []
  have hg := gd_e h
  clear h
  obtain ⟨⟨h0, h1⟩, h⟩ := hg
  refine zo_iload_n hY dJ8_checkIndex_0 rfl 0 rfl ?_
  refine zo_iload_n hY dJ8_checkIndex_1 rfl 1 rfl ?_
  have kk : TW Y res Ω 8 [(0, vi x0), (1, vi x1)] [vi x0] := by
    refine zo_pop hY dJ8_checkIndex_8 (Or.inl rfl) ?_
    exact zo_vret hY hr dJ8_checkIndex_9 h
  obtain ⟨p, l, e, R, s, m, args, below, meth, c, G, J, ρ0, Ω0, nL0, Q⟩ := Y
  obtain ⟨hx, hb, hml, rfl, hown, hts, hlk, hK, hfr, hlo⟩ := hY
  intro ρ H locs LS x y hR hJ hE hL hq hv hvl hvs g1 g2
  have kk := kk ρ H locs LS x y hR hJ hE hL hq hv hvl ⟨trivial, trivial⟩ g1 g2
  obtain ⟨v, hvc, hZ⟩ := zo_Zsf hK
  have hW := hK.2.2.2.2.2.2.2.2
  obtain ⟨cf, kf, fi, f, a, cell, z1, z2, z3, z4, z5, z6, z7, z8⟩ := hZ.moved hW.alike
  have hlt : a < G.2.2.2.1.size := (Array.getElem?_eq_some_iff.mp z5).1
  refine W.gets (v := v) hx hb hown (hts _ q644) z1 z2 z3 z4 (by rw [hR.2.1 _ hlt]; exact z5) (fun e => by rw [e] at z6; cases z6) z7 rfl dJ8_checkIndex_2 ?_
  have cw := va_cwS (rm := { frames := 0, cells := 0, slots := 0, locals := 0 }) (R := R) (mc := 0) (ms := 0) 3 hts (lw_S q646 q376 q91 q377) rfl rfl rfl cn_J7_checkIndex ⟨by show 0 + 1 ≤ R.frames; omega, by show 8 + (3 + 11) + 0 ≤ R.locals; omega⟩
  have hru := W.runS (As := [.int x0, .int x1, v]) (rest := []) (H := H) (locs := locs) (cells := x) (slots := y) (e := e) (below := below) (meth := meth) (l := l) ⟨hx, hb, hml, hown, hts⟩ (kc_chk l x0 x1 v hvc h0 h1) ⟨cw.1, cw.2⟩ ⟨fun a U g mk q => q, fun U hU hW => rfl⟩ (g := F0 m 5 LS [v, .int x1, .int x0]) rfl rfl hv.1 rfl (by show 2 * 0 + 0 ≤ 8; omega) dJ8_checkIndex_5 ⟨by omega, by omega⟩
  refine vp_callSi hru (fun r hr2 => ?_)
  subst hr2
  exact kk
theorem dJ8_coder_0 : decode cJ8_coder 0 = .ok (.getstatic 38, 3) := by decide +kernel
theorem dJ8_coder_3 : decode cJ8_coder 3 = .ok (.ifCond .eq 10, 3) := by decide +kernel
theorem dJ8_coder_6 : decode cJ8_coder 6 = .ok (.aload_n 0, 1) := by decide +kernel
theorem dJ8_coder_7 : decode cJ8_coder 7 = .ok (.getfield 15, 3) := by decide +kernel
theorem dJ8_coder_10 : decode cJ8_coder 10 = .ok (.goto 4, 3) := by decide +kernel
theorem dJ8_coder_13 : decode cJ8_coder 13 = .ok (.iconst 1, 1) := by decide +kernel
theorem dJ8_coder_14 : decode cJ8_coder 14 = .ok (.ireturn, 1) := by decide +kernel
def fn_J8_coder_14 (N : Nat)  (s0 : Int32) (Ω : zo_O) : Option zo_R :=
  rN .byte s0 Ω
theorem ct_J8_coder_14 {Y : zo_Y} (hY : zo_Gd Y cJ8_coder 1 RJ8 0) (hJ : zo_JC (zo_J Y)) (hCon : ∀ Ω, zo_J Y Ω → zo_Con Ω) (hr : zo_rt Y (Option.some Jvm.ClassFile.FieldType.byte)) (N : Nat)   (s0 : Int32) (Ω : zo_O) (res : zo_R) (h : fn_J8_coder_14 N  s0 Ω = some res) : TW Y res Ω 14 [] [vi s0] := by
  unfold fn_J8_coder_14 at h
  exact zo_nret hY (Or.inl rfl) hr dJ8_coder_14 h
def fn_J8_coder (N : Nat) (x0 : Nat) (Ω : zo_O) : Option zo_R :=
  if (1 : Int32) = 0 then (
    fn_J8_coder_14 N 1 Ω
    ) else
  gd (x0 < 14) <|
  fn_J8_coder_14 N 0 Ω
theorem mt_J8_coder {G : zo_G} {J : zo_O → Prop} (hJ : zo_JC J) (hCon : ∀ Ω, J Ω → zo_Con Ω) (N : Nat) (x0 : Nat) (Ω : zo_O) (res : zo_R) (h : fn_J8_coder N x0 Ω = some res) : zo_MT G J yJ8_coder cJ8_coder 1 (Option.some Jvm.ClassFile.FieldType.byte) 0 [vr 21 x0] Ω res := by
  refine zo_enter (by decide) rfl (Nat.le_of_ble_eq_true rfl) (fun Y hY eJ hr hmn => ?_)
  subst eJ
  show TW Y res Ω 0 [(0, vr 21 x0)] []
  unfold fn_J8_coder at h
  refine zo_gsI hY zo_Zcs q628 dJ8_coder_0 ?_
  refine zo_if_eq hY 13 dJ8_coder_3 (by decide) h (fun c1 h => ?_) (fun c1 h => ?_)
  · refine zo_iconst hY 1 (by decide) dJ8_coder_13 ?_
    refine zo_sub [] rfl ?_
    exact ct_J8_coder_14 hY hJ hCon hr N 1 Ω _ h
  · refine zo_aload_n hY dJ8_coder_6 rfl 0 rfl ?_
    obtain ⟨e2, h⟩ := gd_e h
    refine zo_scod hY e2 q1863 dJ8_coder_7 ?_
    refine zo_goto hY 14 dJ8_coder_10 (by decide) ?_
    refine zo_sub [] rfl ?_
    exact ct_J8_coder_14 hY hJ hCon hr N 0 Ω _ h
theorem dJ8_isLatin1_0 : decode cJ8_isLatin1 0 = .ok (.getstatic 38, 3) := by decide +kernel
theorem dJ8_isLatin1_3 : decode cJ8_isLatin1 3 = .ok (.ifCond .eq 14, 3) := by decide +kernel
theorem dJ8_isLatin1_6 : decode cJ8_isLatin1 6 = .ok (.aload_n 0, 1) := by decide +kernel
theorem dJ8_isLatin1_7 : decode cJ8_isLatin1 7 = .ok (.getfield 15, 3) := by decide +kernel
theorem dJ8_isLatin1_10 : decode cJ8_isLatin1 10 = .ok (.ifCond .ne 7, 3) := by decide +kernel
theorem dJ8_isLatin1_13 : decode cJ8_isLatin1 13 = .ok (.iconst 1, 1) := by decide +kernel
theorem dJ8_isLatin1_14 : decode cJ8_isLatin1 14 = .ok (.goto 4, 3) := by decide +kernel
theorem dJ8_isLatin1_17 : decode cJ8_isLatin1 17 = .ok (.iconst 0, 1) := by decide +kernel
theorem dJ8_isLatin1_18 : decode cJ8_isLatin1 18 = .ok (.ireturn, 1) := by decide +kernel
def fn_J8_isLatin1_18 (N : Nat)  (s0 : Int32) (Ω : zo_O) : Option zo_R :=
  rZ s0 Ω
theorem ct_J8_isLatin1_18 {Y : zo_Y} (hY : zo_Gd Y cJ8_isLatin1 1 RJ8 0) (hJ : zo_JC (zo_J Y)) (hCon : ∀ Ω, zo_J Y Ω → zo_Con Ω) (hr : zo_rt Y (Option.some Jvm.ClassFile.FieldType.boolean)) (N : Nat)   (s0 : Int32) (Ω : zo_O) (res : zo_R) (h : fn_J8_isLatin1_18 N  s0 Ω = some res) : TW Y res Ω 18 [] [vi s0] := by
  unfold fn_J8_isLatin1_18 at h
  exact zo_zret hY hr dJ8_isLatin1_18 h
def fn_J8_isLatin1_17 (N : Nat)   (Ω : zo_O) : Option zo_R :=
  fn_J8_isLatin1_18 N 0 Ω
theorem ct_J8_isLatin1_17 {Y : zo_Y} (hY : zo_Gd Y cJ8_isLatin1 1 RJ8 0) (hJ : zo_JC (zo_J Y)) (hCon : ∀ Ω, zo_J Y Ω → zo_Con Ω) (hr : zo_rt Y (Option.some Jvm.ClassFile.FieldType.boolean)) (N : Nat)    (Ω : zo_O) (res : zo_R) (h : fn_J8_isLatin1_17 N   Ω = some res) : TW Y res Ω 17 [] [] := by
  unfold fn_J8_isLatin1_17 at h
  refine zo_iconst hY 0 (by decide) dJ8_isLatin1_17 ?_
  exact ct_J8_isLatin1_18 hY hJ hCon hr N 0 Ω _ h
def fn_J8_isLatin1 (N : Nat) (x0 : Nat) (Ω : zo_O) : Option zo_R :=
  if (1 : Int32) = 0 then (
    fn_J8_isLatin1_17 N Ω
    ) else
  gd (x0 < 14) <|
  if (0 : Int32) = 0 then (
    fn_J8_isLatin1_18 N 1 Ω
    ) else
  fn_J8_isLatin1_17 N Ω
theorem mt_J8_isLatin1 {G : zo_G} {J : zo_O → Prop} (hJ : zo_JC J) (hCon : ∀ Ω, J Ω → zo_Con Ω) (N : Nat) (x0 : Nat) (Ω : zo_O) (res : zo_R) (h : fn_J8_isLatin1 N x0 Ω = some res) : zo_MT G J yJ8_isLatin1 cJ8_isLatin1 1 (Option.some Jvm.ClassFile.FieldType.boolean) 0 [vr 21 x0] Ω res := by
  refine zo_enter (by decide) rfl (Nat.le_of_ble_eq_true rfl) (fun Y hY eJ hr hmn => ?_)
  subst eJ
  show TW Y res Ω 0 [(0, vr 21 x0)] []
  unfold fn_J8_isLatin1 at h
  refine zo_gsI hY zo_Zcs q628 dJ8_isLatin1_0 ?_
  refine zo_if_eq hY 17 dJ8_isLatin1_3 (by decide) h (fun c1 h => ?_) (fun c1 h => ?_)
  · refine zo_sub [] rfl ?_
    exact ct_J8_isLatin1_17 hY hJ hCon hr N Ω _ h
  · refine zo_aload_n hY dJ8_isLatin1_6 rfl 0 rfl ?_
    obtain ⟨e2, h⟩ := gd_e h
    refine zo_scod hY e2 q1863 dJ8_isLatin1_7 ?_
    refine zo_if_ne hY 17 dJ8_isLatin1_10 (by decide) h (fun c3 h => ?_) (fun c3 h => ?_)
    · refine zo_iconst hY 1 (by decide) dJ8_isLatin1_13 ?_
      refine zo_goto hY 18 dJ8_isLatin1_14 (by decide) ?_
      refine zo_sub [] rfl ?_
      exact ct_J8_isLatin1_18 hY hJ hCon hr N 1 Ω _ h
    · refine zo_sub [] rfl ?_
      exact ct_J8_isLatin1_17 hY hJ hCon hr N Ω _ h
theorem dJ8_length_0 : decode cJ8_length 0 = .ok (.aload_n 0, 1) := by decide +kernel
theorem dJ8_length_1 : decode cJ8_length 1 = .ok (.getfield 9, 3) := by decide +kernel
theorem dJ8_length_4 : decode cJ8_length 4 = .ok (.arraylength, 1) := by decide +kernel
theorem dJ8_length_5 : decode cJ8_length 5 = .ok (.aload_n 0, 1) := by decide +kernel
theorem dJ8_length_6 : decode cJ8_length 6 = .ok (.invokevirtual 335, 3) := by decide +kernel
theorem dJ8_length_9 : decode cJ8_length 9 = .ok (.ishr, 1) := by decide +kernel
theorem dJ8_length_10 : decode cJ8_length 10 = .ok (.ireturn, 1) := by decide +kernel
def fn_J8_length (N : Nat) (x0 : Nat) (Ω : zo_O) : Option zo_R :=
  gd (x0 < 14) <|
  gd (x0 < 14) <|
  gd (x0 < 14) <|
  ci (fn_J8_coder N x0 Ω) fun r4 Ω3 =>
  rI ((nI (zo_sl x0)) >>> ((r4 : Int32) &&& 31)) Ω3
theorem mt_J8_length {G : zo_G} {J : zo_O → Prop} (hJ : zo_JC J) (hCon : ∀ Ω, J Ω → zo_Con Ω) (N : Nat) (x0 : Nat) (Ω : zo_O) (res : zo_R) (h : fn_J8_length N x0 Ω = some res) : zo_MT G J yJ8_length cJ8_length 1 (Option.some Jvm.ClassFile.FieldType.int) 1 [vr 21 x0] Ω res := by
  refine zo_enter (by decide) rfl (Nat.le_of_ble_eq_true rfl) (fun Y hY eJ hr hmn => ?_)
  subst eJ
  show TW Y res Ω 0 [(0, vr 21 x0)] []
  unfold fn_J8_length at h
  refine zo_aload_n hY dJ8_length_0 rfl 0 rfl ?_
  obtain ⟨e1, h⟩ := gd_e h
  refine zo_sval hY e1 q1862 dJ8_length_1 ?_
  obtain ⟨e2, h⟩ := gd_e h
  refine zo_sln hY e2 dJ8_length_4 ?_
  refine zo_aload_n hY dJ8_length_5 rfl 0 rfl ?_
  obtain ⟨e5, h⟩ := gd_e h
  refine zo_callVS hY (fun q hq => mt_J8_coder hJ hCon N x0 Ω q hq) e5 (by decide) (by decide) rfl cn_J8_coder rfl q624 q625 q626 q98 q627 (Nat.le_of_ble_eq_true rfl) dJ8_length_6 rfl h (ci_k (fun r4 Ω3 res h => ?_))
  refine zo_ishr hY dJ8_length_9 ?_
  exact zo_iret hY hr dJ8_length_10 h
theorem dJ9_charAt_0 : decode cJ9_charAt 0 = .ok (.iload_n 1, 1) := by decide +kernel
theorem dJ9_charAt_1 : decode cJ9_charAt 1 = .ok (.aload_n 0, 1) := by decide +kernel
theorem dJ9_charAt_2 : decode cJ9_charAt 2 = .ok (.arraylength, 1) := by decide +kernel
theorem dJ9_charAt_3 : decode cJ9_charAt 3 = .ok (.invokestatic 9, 3) := by decide +kernel
theorem dJ9_charAt_6 : decode cJ9_charAt 6 = .ok (.aload_n 0, 1) := by decide +kernel
theorem dJ9_charAt_7 : decode cJ9_charAt 7 = .ok (.iload_n 1, 1) := by decide +kernel
theorem dJ9_charAt_8 : decode cJ9_charAt 8 = .ok (.baload, 1) := by decide +kernel
theorem dJ9_charAt_9 : decode cJ9_charAt 9 = .ok (.sipush 255, 3) := by decide +kernel
theorem dJ9_charAt_12 : decode cJ9_charAt 12 = .ok (.iand, 1) := by decide +kernel
theorem dJ9_charAt_13 : decode cJ9_charAt 13 = .ok (.i2c, 1) := by decide +kernel
theorem dJ9_charAt_14 : decode cJ9_charAt 14 = .ok (.ireturn, 1) := by decide +kernel
def fn_J9_charAt (N : Nat) (x0 : Nat) (x1 : Int32) (Ω : zo_O) : Option zo_R :=
  gd (x0 < 14) <|
  cv (fn_J8_checkIndex N x1 (nI (zo_sl x0)) Ω) fun Ω2 =>
  gd (x0 < 14) <|
  ix x1 (zo_sl x0) fun j3 =>
  rN .char ((((zo_sb x0 j3) &&& 255).toUInt32 % 65536).toInt32) Ω2
theorem mt_J9_charAt {G : zo_G} {J : zo_O → Prop} (hJ : zo_JC J) (hCon : ∀ Ω, J Ω → zo_Con Ω) (N : Nat) (x0 : Nat) (x1 : Int32) (Ω : zo_O) (res : zo_R) (h : fn_J9_charAt N x0 x1 Ω = some res) : zo_MT G J yJ9_charAt cJ9_charAt 2 (Option.some Jvm.ClassFile.FieldType.char) 2 [vr 22 (x0 + 1), vi x1] Ω res := by
  refine zo_enter (by decide) rfl (Nat.le_of_ble_eq_true rfl) (fun Y hY eJ hr hmn => ?_)
  subst eJ
  show TW Y res Ω 0 [(0, vr 22 (x0 + 1)), (1, vi x1)] []
  unfold fn_J9_charAt at h
  refine zo_iload_n hY dJ9_charAt_0 rfl 1 rfl ?_
  refine zo_aload_n hY dJ9_charAt_1 rfl 0 rfl ?_
  obtain ⟨e1, h⟩ := gd_e h
  refine zo_sln hY e1 dJ9_charAt_2 ?_
  refine zo_callS hY (fun q hq => mt_J8_checkIndex hJ hCon N x1 (nI (zo_sl x0)) Ω q hq) (by decide) (by decide) cn_J8_checkIndex rfl q641 q642 q98 q643 (Nat.le_of_ble_eq_true rfl) dJ9_charAt_3 rfl h (cv_k (fun Ω2 res h => ?_))
  refine zo_aload_n hY dJ9_charAt_6 rfl 0 rfl ?_
  refine zo_iload_n hY dJ9_charAt_7 rfl 1 rfl ?_
  obtain ⟨e4, h⟩ := gd_e h
  refine zo_sbl hY e4 dJ9_charAt_8 h (fun j3 h => ?_)
  refine zo_sipush hY 255 (by decide) dJ9_charAt_9 ?_
  refine zo_iand hY dJ9_charAt_12 ?_
  refine zo_i2c hY dJ9_charAt_13 ?_
  exact zo_nret hY (Or.inr rfl) hr dJ9_charAt_14 h
theorem dJ8_charAt_0 : decode cJ8_charAt 0 = .ok (.aload_n 0, 1) := by decide +kernel
theorem dJ8_charAt_1 : decode cJ8_charAt 1 = .ok (.invokevirtual 492, 3) := by decide +kernel
theorem dJ8_charAt_4 : decode cJ8_charAt 4 = .ok (.ifCond .eq 12, 3) := by decide +kernel
theorem dJ8_charAt_7 : decode cJ8_charAt 7 = .ok (.aload_n 0, 1) := by decide +kernel
theorem dJ8_charAt_8 : decode cJ8_charAt 8 = .ok (.getfield 9, 3) := by decide +kernel
theorem dJ8_charAt_11 : decode cJ8_charAt 11 = .ok (.iload_n 1, 1) := by decide +kernel
theorem dJ8_charAt_12 : decode cJ8_charAt 12 = .ok (.invokestatic 495, 3) := by decide +kernel
theorem dJ8_charAt_15 : decode cJ8_charAt 15 = .ok (.ireturn, 1) := by decide +kernel
theorem dJ8_charAt_16 : decode cJ8_charAt 16 = .ok (.aload_n 0, 1) := by decide +kernel
theorem dJ8_charAt_17 : decode cJ8_charAt 17 = .ok (.getfield 9, 3) := by decide +kernel
theorem dJ8_charAt_20 : decode cJ8_charAt 20 = .ok (.iload_n 1, 1) := by decide +kernel
theorem dJ8_charAt_21 : decode cJ8_charAt 21 = .ok (.invokestatic 498, 3) := by decide +kernel
theorem dJ8_charAt_24 : decode cJ8_charAt 24 = .ok (.ireturn, 1) := by decide +kernel
def fn_J8_charAt (N : Nat) (x0 : Nat) (x1 : Int32) (Ω : zo_O) : Option zo_R :=
  gd (x0 < 14) <|
  ci (fn_J8_isLatin1 N x0 Ω) fun r2 Ω1 =>
  if r2 = 0 then (
    gd (x0 < 14) <|
    none
    ) else
  gd (x0 < 14) <|
  ci (fn_J9_charAt N x0 x1 Ω1) fun r8 Ω7 =>
  rN .char r8 Ω7
theorem mt_J8_charAt {G : zo_G} {J : zo_O → Prop} (hJ : zo_JC J) (hCon : ∀ Ω, J Ω → zo_Con Ω) (N : Nat) (x0 : Nat) (x1 : Int32) (Ω : zo_O) (res : zo_R) (h : fn_J8_charAt N x0 x1 Ω = some res) : zo_MT G J yJ8_charAt cJ8_charAt 2 (Option.some Jvm.ClassFile.FieldType.char) 3 [vr 21 x0, vi x1] Ω res := by
  refine zo_enter (by decide) rfl (Nat.le_of_ble_eq_true rfl) (fun Y hY eJ hr hmn => ?_)
  subst eJ
  show TW Y res Ω 0 [(0, vr 21 x0), (1, vi x1)] []
  unfold fn_J8_charAt at h
  refine zo_aload_n hY dJ8_charAt_0 rfl 0 rfl ?_
  obtain ⟨e3, h⟩ := gd_e h
  refine zo_callVS hY (fun q hq => mt_J8_isLatin1 hJ hCon N x0 Ω q hq) e3 (by decide) (by decide) rfl cn_J8_isLatin1 rfl q634 q635 q636 q98 q637 (Nat.le_of_ble_eq_true rfl) dJ8_charAt_1 rfl h (ci_k (fun r2 Ω1 res h => ?_))
  refine zo_if_eq hY 16 dJ8_charAt_4 (by decide) h (fun c4 h => ?_) (fun c4 h => ?_)
  · refine zo_aload_n hY dJ8_charAt_16 rfl 0 rfl ?_
    obtain ⟨e5, h⟩ := gd_e h
    refine zo_sval hY e5 q1862 dJ8_charAt_17 ?_
    refine zo_iload_n hY dJ8_charAt_20 rfl 1 rfl ?_
    cases h
  · refine zo_aload_n hY dJ8_charAt_7 rfl 0 rfl ?_
    obtain ⟨e6, h⟩ := gd_e h
    refine zo_sval hY e6 q1862 dJ8_charAt_8 ?_
    refine zo_iload_n hY dJ8_charAt_11 rfl 1 rfl ?_
    refine zo_callS hY (fun q hq => mt_J9_charAt hJ hCon N x0 x1 Ω1 q hq) (by decide) (by decide) cn_J9_charAt rfl q638 q639 q99 q640 (Nat.le_of_ble_eq_true rfl) dJ8_charAt_12 rfl h (ci_k (fun r8 Ω7 res h => ?_))
    exact zo_nret hY (Or.inr rfl) hr dJ8_charAt_15 h
