set_option maxRecDepth 100000
theorem LX1_265_4 : zo_FL RX1 265 4 1 := ⟨by decide, by decide, by decide, Or.inr ⟨_, _, q427, Or.inl rfl⟩⟩
theorem LX1_267_4 : zo_FL RX1 267 4 2 := ⟨by decide, by decide, by decide, Or.inr ⟨_, _, q429, Or.inl rfl⟩⟩
theorem LX1_269_4 : zo_FL RX1 269 4 3 := ⟨by decide, by decide, by decide, Or.inr ⟨_, _, q431, Or.inl rfl⟩⟩
theorem LX18_7_15 : zo_FL RX18 7 15 0 := ⟨by decide, by decide, by decide, Or.inl ⟨_, q944, Or.inl rfl⟩⟩
theorem LX18_13_15 : zo_FL RX18 13 15 1 := ⟨by decide, by decide, by decide, Or.inl ⟨_, q946, Or.inl rfl⟩⟩
theorem cn_X18_init : zo_Cn yX18_init 2 := ⟨by decide, by decide, by decide +kernel⟩
theorem LX1_274_15 : zo_FL RX1 274 15 1 := ⟨by decide, by decide, by decide, Or.inr ⟨_, _, q948, Or.inl rfl⟩⟩
theorem LX18_17_15 : zo_FL RX18 17 15 2 := ⟨by decide, by decide, by decide, Or.inl ⟨_, q949, Or.inl rfl⟩⟩
theorem LX18_26_15 : zo_FL RX18 26 15 3 := ⟨by decide, by decide, by decide, Or.inl ⟨_, q952, Or.inl rfl⟩⟩
theorem cn_X18_has : zo_Cn yX18_has 2 := ⟨by decide, by decide, by decide +kernel⟩
theorem LX17_34_15 : zo_FL RX17 34 15 1 := ⟨by decide, by decide, by decide, Or.inr ⟨_, _, q947, Or.inl rfl⟩⟩
theorem LX17_39_15 : zo_FL RX17 39 15 0 := ⟨by decide, by decide, by decide, Or.inr ⟨_, _, q945, Or.inl rfl⟩⟩
theorem LX17_42_2 : zo_FL RX17 42 2 5 := ⟨by decide, by decide, by decide, Or.inr ⟨_, _, q268, Or.inl rfl⟩⟩
theorem LX17_45_2 : zo_FL RX17 45 2 1 := ⟨by decide, by decide, by decide, Or.inr ⟨_, _, q259, Or.inl rfl⟩⟩
theorem LX17_50_15 : zo_FL RX17 50 15 2 := ⟨by decide, by decide, by decide, Or.inr ⟨_, _, q950, Or.inl rfl⟩⟩
theorem LX19_7_16 : zo_FL RX19 7 16 0 := ⟨by decide, by decide, by decide, Or.inl ⟨_, q982, Or.inl rfl⟩⟩
theorem LX19_13_16 : zo_FL RX19 13 16 1 := ⟨by decide, by decide, by decide, Or.inl ⟨_, q988, Or.inl rfl⟩⟩
theorem LX19_16_16 : zo_FL RX19 16 16 2 := ⟨by decide, by decide, by decide, Or.inl ⟨_, q994, Or.inl rfl⟩⟩
theorem cn_X19_init : zo_Cn yX19_init 3 := ⟨by decide, by decide, by decide +kernel⟩
theorem cn_X20_init : zo_Cn yX20_init 3 := ⟨by decide, by decide, by decide +kernel⟩
theorem LX17_60_0 : zo_FL RX17 60 0 7 := ⟨by decide, by decide, by decide, Or.inr ⟨_, _, q165, Or.inl rfl⟩⟩
theorem cn_X1_lookedAt : zo_Cn yX1_lookedAt 3 := ⟨by decide, by decide, by decide +kernel⟩
theorem LX17_68_0 : zo_FL RX17 68 0 11 := ⟨by decide, by decide, by decide, Or.inr ⟨_, _, q171, Or.inl rfl⟩⟩
theorem LX17_73_15 : zo_FL RX17 73 15 3 := ⟨by decide, by decide, by decide, Or.inr ⟨_, _, q953, Or.inl rfl⟩⟩
theorem LX19_7_17 : zo_FL RX19 7 17 0 := ⟨by decide, by decide, by decide, Or.inl ⟨_, q982, Or.inl rfl⟩⟩
theorem LX19_13_17 : zo_FL RX19 13 17 1 := ⟨by decide, by decide, by decide, Or.inl ⟨_, q988, Or.inl rfl⟩⟩
theorem LX19_16_17 : zo_FL RX19 16 17 2 := ⟨by decide, by decide, by decide, Or.inl ⟨_, q994, Or.inl rfl⟩⟩
theorem cn_X21_init : zo_Cn yX21_init 3 := ⟨by decide, by decide, by decide +kernel⟩
theorem LX1_69_0 : zo_FL RX1 69 0 18 := ⟨by decide, by decide, by decide, Or.inl ⟨_, q181, Or.inl rfl⟩⟩
theorem cn_X17_init : zo_Cn yX17_init 1 := ⟨by decide, by decide, by decide +kernel⟩
theorem cn_X4_isDated : zo_Cn yX4_isDated 0 := ⟨by decide, by decide, by decide +kernel⟩
theorem cn_X4_isLike : zo_Cn yX4_isLike 2 := ⟨by decide, by decide, by decide +kernel⟩
theorem LX1_73_0 : zo_FL RX1 73 0 19 := ⟨by decide, by decide, by decide, Or.inl ⟨_, q182, Or.inl rfl⟩⟩
theorem cn_X1_findGroups : zo_Cn yX1_findGroups 4 := ⟨by decide, by decide, by decide +kernel⟩
theorem cn_X17_strikes : zo_Cn yX17_strikes 0 := ⟨by decide, by decide, by decide +kernel⟩
theorem cn_X17_asks : zo_Cn yX17_asks 3 := ⟨by decide, by decide, by decide +kernel⟩
theorem cn_X1_isClass : zo_Cn yX1_isClass 4 := ⟨by decide, by decide, by decide +kernel⟩
theorem cn_X1_begins : zo_Cn yX1_begins 1 := ⟨by decide, by decide, by decide +kernel⟩
theorem cn_X1_curve : zo_Cn yX1_curve 4 := ⟨by decide, by decide, by decide +kernel⟩
theorem LX1_312_14 : zo_FL RX1 312 14 2 := ⟨by decide, by decide, by decide, Or.inr ⟨_, _, q912, Or.inl rfl⟩⟩
theorem LX22_9_18 : zo_FL RX22 9 18 0 := ⟨by decide, by decide, by decide, Or.inl ⟨_, q1093, Or.inl rfl⟩⟩
theorem LX22_15_18 : zo_FL RX22 15 18 1 := ⟨by decide, by decide, by decide, Or.inl ⟨_, q1095, Or.inl rfl⟩⟩
theorem cn_X22_init : zo_Cn yX22_init 0 := ⟨by decide, by decide, by decide +kernel⟩
theorem LX1_322_15 : zo_FL RX1 322 15 2 := ⟨by decide, by decide, by decide, Or.inr ⟨_, _, q951, Or.inl rfl⟩⟩
theorem cn_X17_firstAge : zo_Cn yX17_firstAge 1 := ⟨by decide, by decide, by decide +kernel⟩
theorem cn_X22_within : zo_Cn yX22_within 2 := ⟨by decide, by decide, by decide +kernel⟩
theorem LX1_334_15 : zo_FL RX1 334 15 3 := ⟨by decide, by decide, by decide, Or.inr ⟨_, _, q954, Or.inl rfl⟩⟩
theorem cn_X17_lastAge : zo_Cn yX17_lastAge 1 := ⟨by decide, by decide, by decide +kernel⟩
theorem LX1_339_6 : zo_FL RX1 339 6 1 := ⟨by decide, by decide, by decide, Or.inr ⟨_, _, q475, Or.inl rfl⟩⟩
theorem LX1_341_6 : zo_FL RX1 341 6 2 := ⟨by decide, by decide, by decide, Or.inr ⟨_, _, q477, Or.inl rfl⟩⟩
theorem LX1_344_6 : zo_FL RX1 344 6 3 := ⟨by decide, by decide, by decide, Or.inr ⟨_, _, q479, Or.inl rfl⟩⟩
theorem cn_X1_spanBy : zo_Cn yX1_spanBy 2 := ⟨by decide, by decide, by decide +kernel⟩
theorem LX1_351_2 : zo_FL RX1 351 2 5 := ⟨by decide, by decide, by decide, Or.inr ⟨_, _, q269, Or.inl rfl⟩⟩
theorem cn_X1_isThere : zo_Cn yX1_isThere 2 := ⟨by decide, by decide, by decide +kernel⟩
theorem cn_X1_spanOf : zo_Cn yX1_spanOf 2 := ⟨by decide, by decide, by decide +kernel⟩
theorem cn_X22_isNone : zo_Cn yX22_isNone 0 := ⟨by decide, by decide, by decide +kernel⟩
theorem LX1_361_18 : zo_FL RX1 361 18 0 := ⟨by decide, by decide, by decide, Or.inr ⟨_, _, q1094, Or.inl rfl⟩⟩
theorem LX1_362_18 : zo_FL RX1 362 18 1 := ⟨by decide, by decide, by decide, Or.inr ⟨_, _, q1096, Or.inl rfl⟩⟩
def fn_X3_isBy_4_13 (N : Nat)  (s0 : Int32) (Ω : zo_O) : Option zo_R :=
  rZ s0 Ω
theorem ct_X3_isBy_4_13 {Y : zo_Y} (hY : zo_Gd Y cX3_isBy 2 RX3 0) (hJ : zo_JC (zo_J Y)) (hCon : ∀ Ω, zo_J Y Ω → zo_Con Ω) (hr : zo_rt Y (Option.some Jvm.ClassFile.FieldType.boolean)) (N : Nat)   (s0 : Int32) (Ω : zo_O) (res : zo_R) (h : fn_X3_isBy_4_13 N  s0 Ω = some res) : TW Y res Ω 13 [] [vi s0] := by
  unfold fn_X3_isBy_4_13 at h
  exact zo_zret hY hr dX3_isBy_13 h
def fn_X3_isBy_4 (N : Nat) (x0 : Nat) (x1 : Int32) (Ω : zo_O) : Option zo_R :=
  if x1 < gI Ω 4 x0 0 then (
    fn_X3_isBy_4_13 N 0 Ω
    ) else
  fn_X3_isBy_4_13 N 1 Ω
theorem mt_X3_isBy_4 {G : zo_G} {J : zo_O → Prop} (hJ : zo_JC J) (hCon : ∀ Ω, J Ω → zo_Con Ω) (N : Nat) (x0 : Nat) (x1 : Int32) (Ω : zo_O) (res : zo_R) (h : fn_X3_isBy_4 N x0 x1 Ω = some res) : zo_MT G J yX3_isBy cX3_isBy 2 (Option.some Jvm.ClassFile.FieldType.boolean) 0 [vr 4 x0, vi x1] Ω res := by
  refine zo_enter (by decide) rfl (Nat.le_of_ble_eq_true rfl) (fun Y hY eJ hr hmn => ?_)
  subst eJ
  show TW Y res Ω 0 [(0, vr 4 x0), (1, vi x1)] []
  unfold fn_X3_isBy_4 at h
  refine zo_aload_n hY dX3_isBy_0 rfl 0 rfl ?_
  refine zo_getI hY LX3_7_4 rfl dX3_isBy_1 ?_
  refine zo_iload_n hY dX3_isBy_4 rfl 1 rfl ?_
  refine zo_icmp_gt hY 12 dX3_isBy_5 (by decide) h (fun c1 h => ?_) (fun c1 h => ?_)
  · refine zo_iconst hY 0 (by decide) dX3_isBy_12 ?_
    refine zo_sub [] rfl ?_
    exact ct_X3_isBy_4_13 hY hJ hCon hr N 0 Ω _ h
  · refine zo_iconst hY 1 (by decide) dX3_isBy_8 ?_
    refine zo_goto hY 13 dX3_isBy_9 (by decide) ?_
    refine zo_sub [] rfl ?_
    exact ct_X3_isBy_4_13 hY hJ hCon hr N 1 Ω _ h
theorem dX1_lookedAt_0 : decode cX1_lookedAt 0 = .ok (.iconst 0, 1) := by decide +kernel
theorem dX1_lookedAt_1 : decode cX1_lookedAt 1 = .ok (.istore 4, 2) := by decide +kernel
theorem dX1_lookedAt_3 : decode cX1_lookedAt 3 = .ok (.iconst 0, 1) := by decide +kernel
theorem dX1_lookedAt_4 : decode cX1_lookedAt 4 = .ok (.istore 5, 2) := by decide +kernel
theorem dX1_lookedAt_6 : decode cX1_lookedAt 6 = .ok (.iload 5, 2) := by decide +kernel
theorem dX1_lookedAt_8 : decode cX1_lookedAt 8 = .ok (.aload_n 0, 1) := by decide +kernel
theorem dX1_lookedAt_9 : decode cX1_lookedAt 9 = .ok (.getfield 23, 3) := by decide +kernel
theorem dX1_lookedAt_12 : decode cX1_lookedAt 12 = .ok (.invokevirtual 85, 3) := by decide +kernel
theorem dX1_lookedAt_15 : decode cX1_lookedAt 15 = .ok (.if_icmp .ge 83, 3) := by decide +kernel
theorem dX1_lookedAt_18 : decode cX1_lookedAt 18 = .ok (.aload_n 0, 1) := by decide +kernel
theorem dX1_lookedAt_19 : decode cX1_lookedAt 19 = .ok (.getfield 23, 3) := by decide +kernel
theorem dX1_lookedAt_22 : decode cX1_lookedAt 22 = .ok (.iload 5, 2) := by decide +kernel
theorem dX1_lookedAt_24 : decode cX1_lookedAt 24 = .ok (.invokevirtual 116, 3) := by decide +kernel
theorem dX1_lookedAt_27 : decode cX1_lookedAt 27 = .ok (.checkcast 123, 3) := by decide +kernel
theorem dX1_lookedAt_30 : decode cX1_lookedAt 30 = .ok (.getfield 265, 3) := by decide +kernel
theorem dX1_lookedAt_33 : decode cX1_lookedAt 33 = .ok (.iload_n 1, 1) := by decide +kernel
theorem dX1_lookedAt_34 : decode cX1_lookedAt 34 = .ok (.if_icmp .ne 58, 3) := by decide +kernel
theorem dX1_lookedAt_37 : decode cX1_lookedAt 37 = .ok (.aload_n 0, 1) := by decide +kernel
theorem dX1_lookedAt_38 : decode cX1_lookedAt 38 = .ok (.getfield 23, 3) := by decide +kernel
theorem dX1_lookedAt_41 : decode cX1_lookedAt 41 = .ok (.iload 5, 2) := by decide +kernel
theorem dX1_lookedAt_43 : decode cX1_lookedAt 43 = .ok (.invokevirtual 116, 3) := by decide +kernel
theorem dX1_lookedAt_46 : decode cX1_lookedAt 46 = .ok (.checkcast 123, 3) := by decide +kernel
theorem dX1_lookedAt_49 : decode cX1_lookedAt 49 = .ok (.getfield 267, 3) := by decide +kernel
theorem dX1_lookedAt_52 : decode cX1_lookedAt 52 = .ok (.iload_n 2, 1) := by decide +kernel
theorem dX1_lookedAt_53 : decode cX1_lookedAt 53 = .ok (.if_icmp .ne 39, 3) := by decide +kernel
theorem dX1_lookedAt_56 : decode cX1_lookedAt 56 = .ok (.aload_n 0, 1) := by decide +kernel
theorem dX1_lookedAt_57 : decode cX1_lookedAt 57 = .ok (.getfield 23, 3) := by decide +kernel
theorem dX1_lookedAt_60 : decode cX1_lookedAt 60 = .ok (.iload 5, 2) := by decide +kernel
theorem dX1_lookedAt_62 : decode cX1_lookedAt 62 = .ok (.invokevirtual 116, 3) := by decide +kernel
theorem dX1_lookedAt_65 : decode cX1_lookedAt 65 = .ok (.checkcast 123, 3) := by decide +kernel
theorem dX1_lookedAt_68 : decode cX1_lookedAt 68 = .ok (.iload_n 3, 1) := by decide +kernel
theorem dX1_lookedAt_69 : decode cX1_lookedAt 69 = .ok (.invokevirtual 268, 3) := by decide +kernel
theorem dX1_lookedAt_72 : decode cX1_lookedAt 72 = .ok (.ifCond .eq 20, 3) := by decide +kernel
theorem dX1_lookedAt_75 : decode cX1_lookedAt 75 = .ok (.aload_n 0, 1) := by decide +kernel
theorem dX1_lookedAt_76 : decode cX1_lookedAt 76 = .ok (.getfield 23, 3) := by decide +kernel
theorem dX1_lookedAt_79 : decode cX1_lookedAt 79 = .ok (.iload 5, 2) := by decide +kernel
theorem dX1_lookedAt_81 : decode cX1_lookedAt 81 = .ok (.invokevirtual 116, 3) := by decide +kernel
theorem dX1_lookedAt_84 : decode cX1_lookedAt 84 = .ok (.checkcast 123, 3) := by decide +kernel
theorem dX1_lookedAt_87 : decode cX1_lookedAt 87 = .ok (.getfield 269, 3) := by decide +kernel
theorem dX1_lookedAt_90 : decode cX1_lookedAt 90 = .ok (.istore 4, 2) := by decide +kernel
theorem dX1_lookedAt_92 : decode cX1_lookedAt 92 = .ok (.iinc 5 1, 3) := by decide +kernel
theorem dX1_lookedAt_95 : decode cX1_lookedAt 95 = .ok (.goto (-89), 3) := by decide +kernel
theorem dX1_lookedAt_98 : decode cX1_lookedAt 98 = .ok (.iload 4, 2) := by decide +kernel
theorem dX1_lookedAt_100 : decode cX1_lookedAt 100 = .ok (.ireturn, 1) := by decide +kernel
def fn_X1_lookedAt_92 (N : Nat) (K6 : Int32 → Int32 → Int32 → Int32 → Int32 → zo_O → Option zo_R) (x1 : Int32) (x2 : Int32) (x3 : Int32) (x4 : Int32) (x5 : Int32) (Ω : zo_O) : Option zo_R :=
  K6 x1 x2 x3 x4 (x5 + 1) Ω
theorem ct_X1_lookedAt_92 {Y : zo_Y} (hY : zo_Gd Y cX1_lookedAt 6 RX1 3) (hJ : zo_JC (zo_J Y)) (hCon : ∀ Ω, zo_J Y Ω → zo_Con Ω) (hr : zo_rt Y (Option.some Jvm.ClassFile.FieldType.int)) (N : Nat) (K6 : Int32 → Int32 → Int32 → Int32 → Int32 → zo_O → Option zo_R) (hK6 : ∀ (x1 : Int32) (x2 : Int32) (x3 : Int32) (x4 : Int32) (x5 : Int32) (Ω : zo_O) (res : zo_R), K6 x1 x2 x3 x4 x5 Ω = some res → TW Y res Ω 6 [(0, vr 0 0), (1, vi x1), (2, vi x2), (3, vi x3), (4, vi x4), (5, vi x5)] []) (x1 : Int32) (x2 : Int32) (x3 : Int32) (x4 : Int32) (x5 : Int32) (Ω : zo_O) (res : zo_R) (h : fn_X1_lookedAt_92 N K6 x1 x2 x3 x4 x5 Ω = some res) : TW Y res Ω 92 [(0, vr 0 0), (1, vi x1), (2, vi x2), (3, vi x3), (4, vi x4), (5, vi x5)] [] := by
  unfold fn_X1_lookedAt_92 at h
  refine zo_iinc hY 1 dX1_lookedAt_92 (by decide) (by decide) 5 rfl rfl (ls' := [(5, vi (x5 + 1)), (0, vr 0 0), (1, vi x1), (2, vi x2), (3, vi x3), (4, vi x4)]) rfl ?_
  refine zo_goto hY 6 dX1_lookedAt_95 (by decide) ?_
  refine zo_sub [1, 2, 3, 4, 5, 0] rfl ?_
  exact hK6 x1 x2 x3 x4 (x5 + 1) Ω _ h
def bd_X1_lookedAt_6 (N : Nat)  (K6 : Int32 → Int32 → Int32 → Int32 → Int32 → zo_O → Option zo_R) (x1 : Int32) (x2 : Int32) (x3 : Int32) (x4 : Int32) (x5 : Int32) (Ω : zo_O) : Option zo_R :=
  ci (fn_J2_size N 2 Ω) fun r2 Ω1 =>
  if r2 ≤ x5 then (
    rI x4 Ω1
    ) else
  cr (fn_J2_get N 2 x5 Ω1) fun r5 Ω4 =>
  bk r5 4 fun j6 =>
  if gI Ω4 4 j6 1 = x1 then (
    cr (fn_J2_get N 2 x5 Ω4) fun r9 Ω8 =>
    bk r9 4 fun j10 =>
    if gI Ω8 4 j10 2 = x2 then (
      cr (fn_J2_get N 2 x5 Ω8) fun r13 Ω12 =>
      bk r13 4 fun j14 =>
      ci (fn_X3_isBy_4 N j14 x3 Ω12) fun r16 Ω15 =>
      if r16 = 0 then (
        fn_X1_lookedAt_92 N K6 x1 x2 x3 x4 x5 Ω15
        ) else
      cr (fn_J2_get N 2 x5 Ω15) fun r19 Ω18 =>
      bk r19 4 fun j20 =>
      li (gI Ω18 4 j20 3) fun y21 =>
      fn_X1_lookedAt_92 N K6 x1 x2 x3 y21 x5 Ω18
      ) else
    fn_X1_lookedAt_92 N K6 x1 x2 x3 x4 x5 Ω8
    ) else
  fn_X1_lookedAt_92 N K6 x1 x2 x3 x4 x5 Ω4
theorem cb_X1_lookedAt_6 {Y : zo_Y} (hY : zo_Gd Y cX1_lookedAt 6 RX1 3) (hJ : zo_JC (zo_J Y)) (hCon : ∀ Ω, zo_J Y Ω → zo_Con Ω) (hr : zo_rt Y (Option.some Jvm.ClassFile.FieldType.int)) (N : Nat)  (K6 : Int32 → Int32 → Int32 → Int32 → Int32 → zo_O → Option zo_R)  (hK6 : ∀ (x1 : Int32) (x2 : Int32) (x3 : Int32) (x4 : Int32) (x5 : Int32) (Ω : zo_O) (res : zo_R), K6 x1 x2 x3 x4 x5 Ω = some res → TW Y res Ω 6 [(0, vr 0 0), (1, vi x1), (2, vi x2), (3, vi x3), (4, vi x4), (5, vi x5)] []) (x1 : Int32) (x2 : Int32) (x3 : Int32) (x4 : Int32) (x5 : Int32) (Ω : zo_O) (res : zo_R) (h : bd_X1_lookedAt_6 N  K6 x1 x2 x3 x4 x5 Ω = some res) : TW Y res Ω 6 [(0, vr 0 0), (1, vi x1), (2, vi x2), (3, vi x3), (4, vi x4), (5, vi x5)] [] := by
  unfold bd_X1_lookedAt_6 at h
  refine zo_iload hY dX1_lookedAt_6 5 rfl ?_
  refine zo_aload_n hY dX1_lookedAt_8 rfl 0 rfl ?_
  refine zo_getC hY LX1_23_0 rfl (fun Ω q => (hCon Ω q).1 2 _ rfl) dX1_lookedAt_9 ?_
  refine zo_callV hY (fun q hq => mt_J2_size hJ hCon N 2 Ω q hq) (by decide) (by decide) (by decide) ⟨rfl, cn_J2_size⟩ rfl q245 q246 q247 q81 q248 (Nat.le_of_ble_eq_true rfl) dX1_lookedAt_12 rfl h (ci_k (fun r2 Ω1 res h => ?_))
  refine zo_icmp_ge hY 98 dX1_lookedAt_15 (by decide) h (fun c3 h => ?_) (fun c3 h => ?_)
  · refine zo_iload hY dX1_lookedAt_98 4 rfl ?_
    exact zo_iret hY hr dX1_lookedAt_100 h
  · refine zo_aload_n hY dX1_lookedAt_18 rfl 0 rfl ?_
    refine zo_getC hY LX1_23_0 rfl (fun Ω q => (hCon Ω q).1 2 _ rfl) dX1_lookedAt_19 ?_
    refine zo_iload hY dX1_lookedAt_22 5 rfl ?_
    refine zo_callV hY (fun q hq => mt_J2_get hJ hCon N 2 x5 Ω1 q hq) (by decide) (by decide) (by decide) ⟨rfl, cn_J2_get⟩ rfl q368 q369 q370 q81 q371 (Nat.le_of_ble_eq_true rfl) dX1_lookedAt_24 rfl h (cr_k (fun r5 Ω4 res h => ?_))
    refine zo_castK hY (by decide) q420 (Or.inl rfl) dX1_lookedAt_27 h (fun j6 h => ?_)
    refine zo_getI hY LX1_265_4 rfl dX1_lookedAt_30 ?_
    refine zo_iload_n hY dX1_lookedAt_33 rfl 1 rfl ?_
    refine zo_icmp_ne hY 92 dX1_lookedAt_34 (by decide) h (fun c7 h => ?_) (fun c7 h => ?_)
    · refine zo_aload_n hY dX1_lookedAt_37 rfl 0 rfl ?_
      refine zo_getC hY LX1_23_0 rfl (fun Ω q => (hCon Ω q).1 2 _ rfl) dX1_lookedAt_38 ?_
      refine zo_iload hY dX1_lookedAt_41 5 rfl ?_
      refine zo_callV hY (fun q hq => mt_J2_get hJ hCon N 2 x5 Ω4 q hq) (by decide) (by decide) (by decide) ⟨rfl, cn_J2_get⟩ rfl q368 q369 q370 q81 q371 (Nat.le_of_ble_eq_true rfl) dX1_lookedAt_43 rfl h (cr_k (fun r9 Ω8 res h => ?_))
      refine zo_castK hY (by decide) q420 (Or.inl rfl) dX1_lookedAt_46 h (fun j10 h => ?_)
      refine zo_getI hY LX1_267_4 rfl dX1_lookedAt_49 ?_
      refine zo_iload_n hY dX1_lookedAt_52 rfl 2 rfl ?_
      refine zo_icmp_ne hY 92 dX1_lookedAt_53 (by decide) h (fun c11 h => ?_) (fun c11 h => ?_)
      · refine zo_aload_n hY dX1_lookedAt_56 rfl 0 rfl ?_
        refine zo_getC hY LX1_23_0 rfl (fun Ω q => (hCon Ω q).1 2 _ rfl) dX1_lookedAt_57 ?_
        refine zo_iload hY dX1_lookedAt_60 5 rfl ?_
        refine zo_callV hY (fun q hq => mt_J2_get hJ hCon N 2 x5 Ω8 q hq) (by decide) (by decide) (by decide) ⟨rfl, cn_J2_get⟩ rfl q368 q369 q370 q81 q371 (Nat.le_of_ble_eq_true rfl) dX1_lookedAt_62 rfl h (cr_k (fun r13 Ω12 res h => ?_))
        refine zo_castK hY (by decide) q420 (Or.inl rfl) dX1_lookedAt_65 h (fun j14 h => ?_)
        refine zo_iload_n hY dX1_lookedAt_68 rfl 3 rfl ?_
        refine zo_callU hY (fun q hq => mt_X3_isBy_4 hJ hCon N j14 x3 Ω12 q hq) (by decide) (by decide) (by decide) cn_X3_isBy rfl rfl q1012 q1013 q1014 q829 q83 q830 (Nat.le_of_ble_eq_true rfl) dX1_lookedAt_69 rfl h (ci_k (fun r16 Ω15 res h => ?_))
        refine zo_if_eq hY 92 dX1_lookedAt_72 (by decide) h (fun c17 h => ?_) (fun c17 h => ?_)
        · exact ct_X1_lookedAt_92 hY hJ hCon hr N K6 hK6 x1 x2 x3 x4 x5 Ω15 _ h
        · refine zo_aload_n hY dX1_lookedAt_75 rfl 0 rfl ?_
          refine zo_getC hY LX1_23_0 rfl (fun Ω q => (hCon Ω q).1 2 _ rfl) dX1_lookedAt_76 ?_
          refine zo_iload hY dX1_lookedAt_79 5 rfl ?_
          refine zo_callV hY (fun q hq => mt_J2_get hJ hCon N 2 x5 Ω15 q hq) (by decide) (by decide) (by decide) ⟨rfl, cn_J2_get⟩ rfl q368 q369 q370 q81 q371 (Nat.le_of_ble_eq_true rfl) dX1_lookedAt_81 rfl h (cr_k (fun r19 Ω18 res h => ?_))
          refine zo_castK hY (by decide) q420 (Or.inl rfl) dX1_lookedAt_84 h (fun j20 h => ?_)
          refine zo_getI hY LX1_269_4 rfl dX1_lookedAt_87 ?_
          refine zo_nmi h (fun y21 h => ?_)
          refine zo_istore hY dX1_lookedAt_90 (by decide) rfl (ls' := [(4, vi y21), (0, vr 0 0), (1, vi x1), (2, vi x2), (3, vi x3), (5, vi x5)]) rfl ?_
          refine zo_sub [1, 2, 3, 4, 0, 5] rfl ?_
          exact ct_X1_lookedAt_92 hY hJ hCon hr N K6 hK6 x1 x2 x3 y21 x5 Ω18 _ h
      · exact ct_X1_lookedAt_92 hY hJ hCon hr N K6 hK6 x1 x2 x3 x4 x5 Ω8 _ h
    · exact ct_X1_lookedAt_92 hY hJ hCon hr N K6 hK6 x1 x2 x3 x4 x5 Ω4 _ h
def fn_X1_lookedAt_6 (N : Nat)  : Nat → Int32 → Int32 → Int32 → Int32 → Int32 → zo_O → Option zo_R
  | 0, _, _, _, _, _, _ => none
  | n + 1, x1, x2, x3, x4, x5, Ω => bd_X1_lookedAt_6 N  (fn_X1_lookedAt_6 N  n) x1 x2 x3 x4 x5 Ω
theorem ct_X1_lookedAt_6 {Y : zo_Y} (hY : zo_Gd Y cX1_lookedAt 6 RX1 3) (hJ : zo_JC (zo_J Y)) (hCon : ∀ Ω, zo_J Y Ω → zo_Con Ω) (hr : zo_rt Y (Option.some Jvm.ClassFile.FieldType.int)) (N : Nat)   : ∀ (n : Nat) (x1 : Int32) (x2 : Int32) (x3 : Int32) (x4 : Int32) (x5 : Int32) (Ω : zo_O) (res : zo_R), fn_X1_lookedAt_6 N  n x1 x2 x3 x4 x5 Ω = some res → TW Y res Ω 6 [(0, vr 0 0), (1, vi x1), (2, vi x2), (3, vi x3), (4, vi x4), (5, vi x5)] [] := by
  intro n
  induction n with
  | zero => intro x1 x2 x3 x4 x5 Ω res h; exact nomatch (show (none : Option zo_R) = some res from h)
  | succ n ih => intro x1 x2 x3 x4 x5 Ω res h; exact cb_X1_lookedAt_6 hY hJ hCon hr N  (fn_X1_lookedAt_6 N  n)  ih x1 x2 x3 x4 x5 Ω res h
def fn_X1_lookedAt (N : Nat) (x1 : Int32) (x2 : Int32) (x3 : Int32) (Ω : zo_O) : Option zo_R :=
  fn_X1_lookedAt_6 N N x1 x2 x3 0 0 Ω
theorem mt_X1_lookedAt {G : zo_G} {J : zo_O → Prop} (hJ : zo_JC J) (hCon : ∀ Ω, J Ω → zo_Con Ω) (N : Nat) (x1 : Int32) (x2 : Int32) (x3 : Int32) (Ω : zo_O) (res : zo_R) (h : fn_X1_lookedAt N x1 x2 x3 Ω = some res) : zo_MT G J yX1_lookedAt cX1_lookedAt 6 (Option.some Jvm.ClassFile.FieldType.int) 3 [vr 0 0, vi x1, vi x2, vi x3] Ω res := by
  refine zo_enter (by decide) rfl (Nat.le_of_ble_eq_true rfl) (fun Y hY eJ hr hmn => ?_)
  subst eJ
  show TW Y res Ω 0 [(0, vr 0 0), (1, vi x1), (2, vi x2), (3, vi x3)] []
  unfold fn_X1_lookedAt at h
  refine zo_iconst hY 0 (by decide) dX1_lookedAt_0 ?_
  refine zo_istore hY dX1_lookedAt_1 (by decide) rfl (ls' := [(4, vi 0), (0, vr 0 0), (1, vi x1), (2, vi x2), (3, vi x3)]) rfl ?_
  refine zo_iconst hY 0 (by decide) dX1_lookedAt_3 ?_
  refine zo_istore hY dX1_lookedAt_4 (by decide) rfl (ls' := [(5, vi 0), (4, vi 0), (0, vr 0 0), (1, vi x1), (2, vi x2), (3, vi x3)]) rfl ?_
  refine zo_sub [2, 3, 4, 5, 1, 0] rfl ?_
  exact ct_X1_lookedAt_6 hY hJ hCon hr N N x1 x2 x3 0 0 Ω _ h
theorem dX18_init_0 : decode cX18_init 0 = .ok (.aload_n 0, 1) := by decide +kernel
theorem dX18_init_1 : decode cX18_init 1 = .ok (.invokespecial 1, 3) := by decide +kernel
theorem dX18_init_4 : decode cX18_init 4 = .ok (.aload_n 0, 1) := by decide +kernel
theorem dX18_init_5 : decode cX18_init 5 = .ok (.aload_n 1, 1) := by decide +kernel
theorem dX18_init_6 : decode cX18_init 6 = .ok (.putfield 7, 3) := by decide +kernel
theorem dX18_init_9 : decode cX18_init 9 = .ok (.aload_n 0, 1) := by decide +kernel
theorem dX18_init_10 : decode cX18_init 10 = .ok (.iload_n 2, 1) := by decide +kernel
theorem dX18_init_11 : decode cX18_init 11 = .ok (.putfield 13, 3) := by decide +kernel
theorem dX18_init_14 : decode cX18_init 14 = .ok (.return_, 1) := by decide +kernel
def fn_X18_init (N : Nat) (x0 : Nat) (x1 : Nat) (x2 : Int32) (Ω : zo_O) : Option zo_R :=
  lt (sR Ω 15 x0 0 (some (2, x1))) fun Ω1 =>
  lt (sI Ω1 15 x0 1 x2) fun Ω2 =>
  rV Ω2
theorem mt_X18_init {G : zo_G} {J : zo_O → Prop} (hJ : zo_JC J) (hCon : ∀ Ω, J Ω → zo_Con Ω) (N : Nat) (x0 : Nat) (x1 : Nat) (x2 : Int32) (Ω : zo_O) (res : zo_R) (h : fn_X18_init N x0 x1 x2 Ω = some res) : zo_MT G J yX18_init cX18_init 3 (Option.none : Option Jvm.ClassFile.FieldType) 1 [vr 15 x0, vr 2 x1, vi x2] Ω res := by
  refine zo_enter (by decide) rfl (Nat.le_of_ble_eq_true rfl) (fun Y hY eJ hr hmn => ?_)
  subst eJ
  have hmn := hmn rfl
  show TW Y res Ω 0 [(0, vr 15 x0), (1, vr 2 x1), (2, vi x2)] []
  unfold fn_X18_init at h
  refine zo_aload_n hY dX18_init_0 rfl 0 rfl ?_
  refine zo_oini hY (by decide) q943 (fun ρ => zo_room8 (Nat.le_of_ble_eq_true rfl)) dX18_init_1 ?_
  refine zo_aload_n hY dX18_init_4 rfl 0 rfl ?_
  refine zo_aload_n hY dX18_init_5 rfl 1 rfl ?_
  refine zo_putR hY hJ LX18_7_15 rfl (Or.inl rfl) (Or.inr ⟨rfl, hmn, rfl, _, q944, Or.inl rfl⟩) dX18_init_6 h (fun Ω1 h => ?_)
  refine zo_aload_n hY dX18_init_9 rfl 0 rfl ?_
  refine zo_iload_n hY dX18_init_10 rfl 2 rfl ?_
  refine zo_putI hY hJ LX18_13_15 rfl (Or.inr ⟨rfl, hmn, rfl, _, q946, Or.inl rfl⟩) dX18_init_11 h (fun Ω2 h => ?_)
  exact zo_vret hY hr dX18_init_14 h
theorem dX18_has_0 : decode cX18_has 0 = .ok (.aload_n 0, 1) := by decide +kernel
theorem dX18_has_1 : decode cX18_has 1 = .ok (.aload_n 0, 1) := by decide +kernel
theorem dX18_has_2 : decode cX18_has 2 = .ok (.getfield 17, 3) := by decide +kernel
theorem dX18_has_5 : decode cX18_has 5 = .ok (.iload_n 1, 1) := by decide +kernel
theorem dX18_has_6 : decode cX18_has 6 = .ok (.invokestatic 20, 3) := by decide +kernel
theorem dX18_has_9 : decode cX18_has 9 = .ok (.putfield 17, 3) := by decide +kernel
theorem dX18_has_12 : decode cX18_has 12 = .ok (.aload_n 0, 1) := by decide +kernel
theorem dX18_has_13 : decode cX18_has 13 = .ok (.aload_n 0, 1) := by decide +kernel
theorem dX18_has_14 : decode cX18_has 14 = .ok (.getfield 26, 3) := by decide +kernel
theorem dX18_has_17 : decode cX18_has 17 = .ok (.iload_n 2, 1) := by decide +kernel
theorem dX18_has_18 : decode cX18_has 18 = .ok (.invokestatic 20, 3) := by decide +kernel
theorem dX18_has_21 : decode cX18_has 21 = .ok (.putfield 26, 3) := by decide +kernel
theorem dX18_has_24 : decode cX18_has 24 = .ok (.return_, 1) := by decide +kernel
def fn_X18_has (N : Nat) (x0 : Nat) (x1 : Int32) (x2 : Int32) (Ω : zo_O) : Option zo_R :=
  lt (sI Ω 15 x0 2 (mx (gI Ω 15 x0 2) x1)) fun Ω1 =>
  lt (sI Ω1 15 x0 3 (mx (gI Ω1 15 x0 3) x2)) fun Ω2 =>
  rV Ω2
theorem mt_X18_has {G : zo_G} {J : zo_O → Prop} (hJ : zo_JC J) (hCon : ∀ Ω, J Ω → zo_Con Ω) (N : Nat) (x0 : Nat) (x1 : Int32) (x2 : Int32) (Ω : zo_O) (res : zo_R) (h : fn_X18_has N x0 x1 x2 Ω = some res) : zo_MT G J yX18_has cX18_has 3 (Option.none : Option Jvm.ClassFile.FieldType) 1 [vr 15 x0, vi x1, vi x2] Ω res := by
  refine zo_enter (by decide) rfl (Nat.le_of_ble_eq_true rfl) (fun Y hY eJ hr hmn => ?_)
  subst eJ
  show TW Y res Ω 0 [(0, vr 15 x0), (1, vi x1), (2, vi x2)] []
  unfold fn_X18_has at h
  refine zo_aload_n hY dX18_has_0 rfl 0 rfl ?_
  refine zo_aload_n hY dX18_has_1 rfl 0 rfl ?_
  refine zo_getI hY LX18_17_15 rfl dX18_has_2 ?_
  refine zo_iload_n hY dX18_has_5 rfl 1 rfl ?_
  refine zo_mmax hY (by decide) q968 (Nat.le_of_ble_eq_true rfl) dX18_has_6 ?_
  refine zo_putI hY hJ LX18_17_15 rfl (Or.inl rfl) dX18_has_9 h (fun Ω1 h => ?_)
  refine zo_aload_n hY dX18_has_12 rfl 0 rfl ?_
  refine zo_aload_n hY dX18_has_13 rfl 0 rfl ?_
  refine zo_getI hY LX18_26_15 rfl dX18_has_14 ?_
  refine zo_iload_n hY dX18_has_17 rfl 2 rfl ?_
  refine zo_mmax hY (by decide) q968 (Nat.le_of_ble_eq_true rfl) dX18_has_18 ?_
  refine zo_putI hY hJ LX18_26_15 rfl (Or.inl rfl) dX18_has_21 h (fun Ω2 h => ?_)
  exact zo_vret hY hr dX18_has_24 h
theorem dX1_findGroups_0 : decode cX1_findGroups 0 = .ok (.aload_n 1, 1) := by decide +kernel
theorem dX1_findGroups_1 : decode cX1_findGroups 1 = .ok (.invokevirtual 85, 3) := by decide +kernel
theorem dX1_findGroups_4 : decode cX1_findGroups 4 = .ok (.istore 5, 2) := by decide +kernel
theorem dX1_findGroups_6 : decode cX1_findGroups 6 = .ok (.iconst 0, 1) := by decide +kernel
theorem dX1_findGroups_7 : decode cX1_findGroups 7 = .ok (.istore 6, 2) := by decide +kernel
theorem dX1_findGroups_9 : decode cX1_findGroups 9 = .ok (.iload 6, 2) := by decide +kernel
theorem dX1_findGroups_11 : decode cX1_findGroups 11 = .ok (.aload_n 0, 1) := by decide +kernel
theorem dX1_findGroups_12 : decode cX1_findGroups 12 = .ok (.getfield 20, 3) := by decide +kernel
theorem dX1_findGroups_15 : decode cX1_findGroups 15 = .ok (.invokevirtual 85, 3) := by decide +kernel
theorem dX1_findGroups_18 : decode cX1_findGroups 18 = .ok (.if_icmp .ge 152, 3) := by decide +kernel
theorem dX1_findGroups_21 : decode cX1_findGroups 21 = .ok (.aload_n 0, 1) := by decide +kernel
theorem dX1_findGroups_22 : decode cX1_findGroups 22 = .ok (.getfield 20, 3) := by decide +kernel
theorem dX1_findGroups_25 : decode cX1_findGroups 25 = .ok (.iload 6, 2) := by decide +kernel
theorem dX1_findGroups_27 : decode cX1_findGroups 27 = .ok (.invokevirtual 116, 3) := by decide +kernel
theorem dX1_findGroups_30 : decode cX1_findGroups 30 = .ok (.checkcast 114, 3) := by decide +kernel
theorem dX1_findGroups_33 : decode cX1_findGroups 33 = .ok (.astore 7, 2) := by decide +kernel
theorem dX1_findGroups_35 : decode cX1_findGroups 35 = .ok (.aload 7, 2) := by decide +kernel
theorem dX1_findGroups_37 : decode cX1_findGroups 37 = .ok (.getfield 137, 3) := by decide +kernel
theorem dX1_findGroups_40 : decode cX1_findGroups 40 = .ok (.aload_n 2, 1) := by decide +kernel
theorem dX1_findGroups_41 : decode cX1_findGroups 41 = .ok (.if_acmp .ne 123, 3) := by decide +kernel
theorem dX1_findGroups_44 : decode cX1_findGroups 44 = .ok (.aload 7, 2) := by decide +kernel
theorem dX1_findGroups_46 : decode cX1_findGroups 46 = .ok (.getfield 141, 3) := by decide +kernel
theorem dX1_findGroups_49 : decode cX1_findGroups 49 = .ok (.iload_n 3, 1) := by decide +kernel
theorem dX1_findGroups_50 : decode cX1_findGroups 50 = .ok (.if_icmp .ne 114, 3) := by decide +kernel
theorem dX1_findGroups_53 : decode cX1_findGroups 53 = .ok (.aload_n 0, 1) := by decide +kernel
theorem dX1_findGroups_54 : decode cX1_findGroups 54 = .ok (.aload 7, 2) := by decide +kernel
theorem dX1_findGroups_56 : decode cX1_findGroups 56 = .ok (.iload 4, 2) := by decide +kernel
theorem dX1_findGroups_58 : decode cX1_findGroups 58 = .ok (.invokevirtual 254, 3) := by decide +kernel
theorem dX1_findGroups_61 : decode cX1_findGroups 61 = .ok (.ifCond .ne 6, 3) := by decide +kernel
theorem dX1_findGroups_64 : decode cX1_findGroups 64 = .ok (.goto 100, 3) := by decide +kernel
theorem dX1_findGroups_67 : decode cX1_findGroups 67 = .ok (.aconst_null, 1) := by decide +kernel
theorem dX1_findGroups_68 : decode cX1_findGroups 68 = .ok (.astore 8, 2) := by decide +kernel
theorem dX1_findGroups_70 : decode cX1_findGroups 70 = .ok (.iload 5, 2) := by decide +kernel
theorem dX1_findGroups_72 : decode cX1_findGroups 72 = .ok (.istore 9, 2) := by decide +kernel
theorem dX1_findGroups_74 : decode cX1_findGroups 74 = .ok (.iload 9, 2) := by decide +kernel
theorem dX1_findGroups_76 : decode cX1_findGroups 76 = .ok (.aload_n 1, 1) := by decide +kernel
theorem dX1_findGroups_77 : decode cX1_findGroups 77 = .ok (.invokevirtual 85, 3) := by decide +kernel
theorem dX1_findGroups_80 : decode cX1_findGroups 80 = .ok (.if_icmp .ge 40, 3) := by decide +kernel
theorem dX1_findGroups_83 : decode cX1_findGroups 83 = .ok (.aload_n 1, 1) := by decide +kernel
theorem dX1_findGroups_84 : decode cX1_findGroups 84 = .ok (.iload 9, 2) := by decide +kernel
theorem dX1_findGroups_86 : decode cX1_findGroups 86 = .ok (.invokevirtual 116, 3) := by decide +kernel
theorem dX1_findGroups_89 : decode cX1_findGroups 89 = .ok (.checkcast 272, 3) := by decide +kernel
theorem dX1_findGroups_92 : decode cX1_findGroups 92 = .ok (.getfield 274, 3) := by decide +kernel
theorem dX1_findGroups_95 : decode cX1_findGroups 95 = .ok (.aload 7, 2) := by decide +kernel
theorem dX1_findGroups_97 : decode cX1_findGroups 97 = .ok (.getfield 144, 3) := by decide +kernel
theorem dX1_findGroups_100 : decode cX1_findGroups 100 = .ok (.if_icmp .ne 14, 3) := by decide +kernel
theorem dX1_findGroups_103 : decode cX1_findGroups 103 = .ok (.aload_n 1, 1) := by decide +kernel
theorem dX1_findGroups_104 : decode cX1_findGroups 104 = .ok (.iload 9, 2) := by decide +kernel
theorem dX1_findGroups_106 : decode cX1_findGroups 106 = .ok (.invokevirtual 116, 3) := by decide +kernel
theorem dX1_findGroups_109 : decode cX1_findGroups 109 = .ok (.checkcast 272, 3) := by decide +kernel
theorem dX1_findGroups_112 : decode cX1_findGroups 112 = .ok (.astore 8, 2) := by decide +kernel
theorem dX1_findGroups_114 : decode cX1_findGroups 114 = .ok (.iinc 9 1, 3) := by decide +kernel
theorem dX1_findGroups_117 : decode cX1_findGroups 117 = .ok (.goto (-43), 3) := by decide +kernel
theorem dX1_findGroups_120 : decode cX1_findGroups 120 = .ok (.aload 8, 2) := by decide +kernel
theorem dX1_findGroups_122 : decode cX1_findGroups 122 = .ok (.ifnonnull 25, 3) := by decide +kernel
theorem dX1_findGroups_125 : decode cX1_findGroups 125 = .ok (.new 272, 3) := by decide +kernel
theorem dX1_findGroups_128 : decode cX1_findGroups 128 = .ok (.dup, 1) := by decide +kernel
theorem dX1_findGroups_129 : decode cX1_findGroups 129 = .ok (.aload_n 2, 1) := by decide +kernel
theorem dX1_findGroups_130 : decode cX1_findGroups 130 = .ok (.aload 7, 2) := by decide +kernel
theorem dX1_findGroups_132 : decode cX1_findGroups 132 = .ok (.getfield 144, 3) := by decide +kernel
theorem dX1_findGroups_135 : decode cX1_findGroups 135 = .ok (.invokespecial 275, 3) := by decide +kernel
theorem dX1_findGroups_138 : decode cX1_findGroups 138 = .ok (.astore 8, 2) := by decide +kernel
theorem dX1_findGroups_140 : decode cX1_findGroups 140 = .ok (.aload_n 1, 1) := by decide +kernel
theorem dX1_findGroups_141 : decode cX1_findGroups 141 = .ok (.aload 8, 2) := by decide +kernel
theorem dX1_findGroups_143 : decode cX1_findGroups 143 = .ok (.invokevirtual 101, 3) := by decide +kernel
theorem dX1_findGroups_146 : decode cX1_findGroups 146 = .ok (.pop, 1) := by decide +kernel
theorem dX1_findGroups_147 : decode cX1_findGroups 147 = .ok (.aload 8, 2) := by decide +kernel
theorem dX1_findGroups_149 : decode cX1_findGroups 149 = .ok (.aload_n 0, 1) := by decide +kernel
theorem dX1_findGroups_150 : decode cX1_findGroups 150 = .ok (.aload 7, 2) := by decide +kernel
theorem dX1_findGroups_152 : decode cX1_findGroups 152 = .ok (.invokevirtual 258, 3) := by decide +kernel
theorem dX1_findGroups_155 : decode cX1_findGroups 155 = .ok (.aload_n 0, 1) := by decide +kernel
theorem dX1_findGroups_156 : decode cX1_findGroups 156 = .ok (.aload 7, 2) := by decide +kernel
theorem dX1_findGroups_158 : decode cX1_findGroups 158 = .ok (.invokevirtual 262, 3) := by decide +kernel
theorem dX1_findGroups_161 : decode cX1_findGroups 161 = .ok (.invokevirtual 278, 3) := by decide +kernel
theorem dX1_findGroups_164 : decode cX1_findGroups 164 = .ok (.iinc 6 1, 3) := by decide +kernel
theorem dX1_findGroups_167 : decode cX1_findGroups 167 = .ok (.goto (-158), 3) := by decide +kernel
theorem dX1_findGroups_170 : decode cX1_findGroups 170 = .ok (.return_, 1) := by decide +kernel
def fn_X1_findGroups_114 (N : Nat) (K9 : Nat → Nat → Int32 → Int32 → Int32 → Int32 → zo_O → Option zo_R) (K74 : Nat → Nat → Int32 → Int32 → Int32 → Int32 → Nat → Option zo_T → Int32 → zo_O → Option zo_R) (x1 : Nat) (x2 : Nat) (x3 : Int32) (x4 : Int32) (x5 : Int32) (x6 : Int32) (x7 : Nat) (x8 : Option zo_T) (x9 : Int32) (Ω : zo_O) : Option zo_R :=
  K74 x1 x2 x3 x4 x5 x6 x7 x8 (x9 + 1) Ω
theorem ct_X1_findGroups_114 {Y : zo_Y} (hY : zo_Gd Y cX1_findGroups 10 RX1 7) (hJ : zo_JC (zo_J Y)) (hCon : ∀ Ω, zo_J Y Ω → zo_Con Ω) (hr : zo_rt Y (Option.none : Option Jvm.ClassFile.FieldType)) (N : Nat) (K9 : Nat → Nat → Int32 → Int32 → Int32 → Int32 → zo_O → Option zo_R) (K74 : Nat → Nat → Int32 → Int32 → Int32 → Int32 → Nat → Option zo_T → Int32 → zo_O → Option zo_R) (hK9 : ∀ (x1 : Nat) (x2 : Nat) (x3 : Int32) (x4 : Int32) (x5 : Int32) (x6 : Int32) (Ω : zo_O) (res : zo_R), K9 x1 x2 x3 x4 x5 x6 Ω = some res → TW Y res Ω 9 [(0, vr 0 0), (1, vr 20 x1), (2, vr 2 x2), (3, vi x3), (4, vi x4), (5, vi x5), (6, vi x6)] []) (hK74 : ∀ (x1 : Nat) (x2 : Nat) (x3 : Int32) (x4 : Int32) (x5 : Int32) (x6 : Int32) (x7 : Nat) (x8 : Option zo_T) (x9 : Int32) (Ω : zo_O) (res : zo_R), K74 x1 x2 x3 x4 x5 x6 x7 x8 x9 Ω = some res → TW Y res Ω 74 [(0, vr 0 0), (1, vr 20 x1), (2, vr 2 x2), (3, vi x3), (4, vi x4), (5, vi x5), (6, vi x6), (7, vr 3 x7), (8, vo x8), (9, vi x9)] []) (x1 : Nat) (x2 : Nat) (x3 : Int32) (x4 : Int32) (x5 : Int32) (x6 : Int32) (x7 : Nat) (x8 : Option zo_T) (x9 : Int32) (Ω : zo_O) (res : zo_R) (h : fn_X1_findGroups_114 N K9 K74 x1 x2 x3 x4 x5 x6 x7 x8 x9 Ω = some res) : TW Y res Ω 114 [(0, vr 0 0), (1, vr 20 x1), (2, vr 2 x2), (3, vi x3), (4, vi x4), (5, vi x5), (6, vi x6), (7, vr 3 x7), (8, vo x8), (9, vi x9)] [] := by
  unfold fn_X1_findGroups_114 at h
  refine zo_iinc hY 1 dX1_findGroups_114 (by decide) (by decide) 9 rfl rfl (ls' := [(9, vi (x9 + 1)), (0, vr 0 0), (1, vr 20 x1), (2, vr 2 x2), (3, vi x3), (4, vi x4), (5, vi x5), (6, vi x6), (7, vr 3 x7), (8, vo x8)]) rfl ?_
  refine zo_goto hY 74 dX1_findGroups_117 (by decide) ?_
  refine zo_sub [1, 2, 3, 4, 5, 6, 7, 8, 9, 0] rfl ?_
  exact hK74 x1 x2 x3 x4 x5 x6 x7 x8 (x9 + 1) Ω _ h
def fn_X1_findGroups_164 (N : Nat) (K9 : Nat → Nat → Int32 → Int32 → Int32 → Int32 → zo_O → Option zo_R) (x1 : Nat) (x2 : Nat) (x3 : Int32) (x4 : Int32) (x5 : Int32) (x6 : Int32) (Ω : zo_O) : Option zo_R :=
  K9 x1 x2 x3 x4 x5 (x6 + 1) Ω
theorem ct_X1_findGroups_164 {Y : zo_Y} (hY : zo_Gd Y cX1_findGroups 10 RX1 7) (hJ : zo_JC (zo_J Y)) (hCon : ∀ Ω, zo_J Y Ω → zo_Con Ω) (hr : zo_rt Y (Option.none : Option Jvm.ClassFile.FieldType)) (N : Nat) (K9 : Nat → Nat → Int32 → Int32 → Int32 → Int32 → zo_O → Option zo_R) (hK9 : ∀ (x1 : Nat) (x2 : Nat) (x3 : Int32) (x4 : Int32) (x5 : Int32) (x6 : Int32) (Ω : zo_O) (res : zo_R), K9 x1 x2 x3 x4 x5 x6 Ω = some res → TW Y res Ω 9 [(0, vr 0 0), (1, vr 20 x1), (2, vr 2 x2), (3, vi x3), (4, vi x4), (5, vi x5), (6, vi x6)] []) (x1 : Nat) (x2 : Nat) (x3 : Int32) (x4 : Int32) (x5 : Int32) (x6 : Int32) (Ω : zo_O) (res : zo_R) (h : fn_X1_findGroups_164 N K9 x1 x2 x3 x4 x5 x6 Ω = some res) : TW Y res Ω 164 [(0, vr 0 0), (1, vr 20 x1), (2, vr 2 x2), (3, vi x3), (4, vi x4), (5, vi x5), (6, vi x6)] [] := by
  unfold fn_X1_findGroups_164 at h
  refine zo_iinc hY 1 dX1_findGroups_164 (by decide) (by decide) 6 rfl rfl (ls' := [(6, vi (x6 + 1)), (0, vr 0 0), (1, vr 20 x1), (2, vr 2 x2), (3, vi x3), (4, vi x4), (5, vi x5)]) rfl ?_
  refine zo_goto hY 9 dX1_findGroups_167 (by decide) ?_
  refine zo_sub [1, 2, 3, 4, 5, 6, 0] rfl ?_
  exact hK9 x1 x2 x3 x4 x5 (x6 + 1) Ω _ h
def fn_X1_findGroups_147 (N : Nat) (K9 : Nat → Nat → Int32 → Int32 → Int32 → Int32 → zo_O → Option zo_R) (x1 : Nat) (x2 : Nat) (x3 : Int32) (x4 : Int32) (x5 : Int32) (x6 : Int32) (x7 : Nat) (x8 : Nat) (Ω : zo_O) : Option zo_R :=
  ci (fn_X1_least N x7 Ω) fun r2 Ω1 =>
  ci (fn_X1_most N x7 Ω1) fun r4 Ω3 =>
  cv (fn_X18_has N x8 r2 r4 Ω3) fun Ω5 =>
  fn_X1_findGroups_164 N K9 x1 x2 x3 x4 x5 x6 Ω5
theorem ct_X1_findGroups_147 {Y : zo_Y} (hY : zo_Gd Y cX1_findGroups 10 RX1 7) (hJ : zo_JC (zo_J Y)) (hCon : ∀ Ω, zo_J Y Ω → zo_Con Ω) (hr : zo_rt Y (Option.none : Option Jvm.ClassFile.FieldType)) (N : Nat) (K9 : Nat → Nat → Int32 → Int32 → Int32 → Int32 → zo_O → Option zo_R) (hK9 : ∀ (x1 : Nat) (x2 : Nat) (x3 : Int32) (x4 : Int32) (x5 : Int32) (x6 : Int32) (Ω : zo_O) (res : zo_R), K9 x1 x2 x3 x4 x5 x6 Ω = some res → TW Y res Ω 9 [(0, vr 0 0), (1, vr 20 x1), (2, vr 2 x2), (3, vi x3), (4, vi x4), (5, vi x5), (6, vi x6)] []) (x1 : Nat) (x2 : Nat) (x3 : Int32) (x4 : Int32) (x5 : Int32) (x6 : Int32) (x7 : Nat) (x8 : Nat) (Ω : zo_O) (res : zo_R) (h : fn_X1_findGroups_147 N K9 x1 x2 x3 x4 x5 x6 x7 x8 Ω = some res) : TW Y res Ω 147 [(0, vr 0 0), (1, vr 20 x1), (2, vr 2 x2), (3, vi x3), (4, vi x4), (5, vi x5), (6, vi x6), (7, vr 3 x7), (8, vr 15 x8)] [] := by
  unfold fn_X1_findGroups_147 at h
  refine zo_aload hY dX1_findGroups_147 8 rfl ?_
  refine zo_aload_n hY dX1_findGroups_149 rfl 0 rfl ?_
  refine zo_aload hY dX1_findGroups_150 7 rfl ?_
  refine zo_callV hY (fun q hq => mt_X1_least hJ hCon N x7 Ω q hq) (by decide) (by decide) (by decide) ⟨rfl, cn_X1_least⟩ rfl q877 q879 qs21 q78 q880 (Nat.le_of_ble_eq_true rfl) dX1_findGroups_152 rfl h (ci_k (fun r2 Ω1 res h => ?_))
  refine zo_aload_n hY dX1_findGroups_155 rfl 0 rfl ?_
  refine zo_aload hY dX1_findGroups_156 7 rfl ?_
  refine zo_callV hY (fun q hq => mt_X1_most hJ hCon N x7 Ω1 q hq) (by decide) (by decide) (by decide) ⟨rfl, cn_X1_most⟩ rfl q882 q884 qs22 q78 q885 (Nat.le_of_ble_eq_true rfl) dX1_findGroups_158 rfl h (ci_k (fun r4 Ω3 res h => ?_))
  refine zo_callV hY (fun q hq => mt_X18_has hJ hCon N x8 r2 r4 Ω3 q hq) (by decide) (by decide) (by decide) ⟨rfl, cn_X18_has⟩ rfl q964 q965 q966 q111 q967 (Nat.le_of_ble_eq_true rfl) dX1_findGroups_161 rfl h (cv_k (fun Ω5 res h => ?_))
  refine zo_sub [0, 1, 2, 3, 4, 5, 6] rfl ?_
  exact ct_X1_findGroups_164 hY hJ hCon hr N K9 hK9 x1 x2 x3 x4 x5 x6 Ω5 _ h
def bd_X1_findGroups_74 (N : Nat) (K9 : Nat → Nat → Int32 → Int32 → Int32 → Int32 → zo_O → Option zo_R) (K74 : Nat → Nat → Int32 → Int32 → Int32 → Int32 → Nat → Option zo_T → Int32 → zo_O → Option zo_R) (x1 : Nat) (x2 : Nat) (x3 : Int32) (x4 : Int32) (x5 : Int32) (x6 : Int32) (x7 : Nat) (x8 : Option zo_T) (x9 : Int32) (Ω : zo_O) : Option zo_R :=
  ci (fn_J2_size N x1 Ω) fun r2 Ω1 =>
  if r2 ≤ x9 then (
    cn x8 15 (
      ad 1 4 <| lt (nw Ω1 15 0) fun Ω5 =>
      cv (fn_X18_init N (gC Ω1 15) x2 (gI Ω5 3 x7 5) Ω5) fun Ω6 =>
      ci (fn_J2_add N x1 (some (15, gC Ω1 15)) Ω6) fun r8 Ω7 =>
      fn_X1_findGroups_147 N K9 x1 x2 x3 x4 x5 x6 x7 (gC Ω1 15) Ω7
      ) fun n4 =>
    fn_X1_findGroups_147 N K9 x1 x2 x3 x4 x5 x6 x7 n4 Ω1
    ) else
  cr (fn_J2_get N x1 x9 Ω1) fun r11 Ω10 =>
  bk r11 15 fun j12 =>
  if gI Ω10 15 j12 1 = gI Ω10 3 x7 5 then (
    cr (fn_J2_get N x1 x9 Ω10) fun r15 Ω14 =>
    bk r15 15 fun j16 =>
    fn_X1_findGroups_114 N K9 K74 x1 x2 x3 x4 x5 x6 x7 (some (15, j16)) x9 Ω14
    ) else
  fn_X1_findGroups_114 N K9 K74 x1 x2 x3 x4 x5 x6 x7 x8 x9 Ω10
theorem cb_X1_findGroups_74 {Y : zo_Y} (hY : zo_Gd Y cX1_findGroups 10 RX1 7) (hJ : zo_JC (zo_J Y)) (hCon : ∀ Ω, zo_J Y Ω → zo_Con Ω) (hr : zo_rt Y (Option.none : Option Jvm.ClassFile.FieldType)) (N : Nat) (K9 : Nat → Nat → Int32 → Int32 → Int32 → Int32 → zo_O → Option zo_R) (K74 : Nat → Nat → Int32 → Int32 → Int32 → Int32 → Nat → Option zo_T → Int32 → zo_O → Option zo_R) (hK9 : ∀ (x1 : Nat) (x2 : Nat) (x3 : Int32) (x4 : Int32) (x5 : Int32) (x6 : Int32) (Ω : zo_O) (res : zo_R), K9 x1 x2 x3 x4 x5 x6 Ω = some res → TW Y res Ω 9 [(0, vr 0 0), (1, vr 20 x1), (2, vr 2 x2), (3, vi x3), (4, vi x4), (5, vi x5), (6, vi x6)] []) (hK74 : ∀ (x1 : Nat) (x2 : Nat) (x3 : Int32) (x4 : Int32) (x5 : Int32) (x6 : Int32) (x7 : Nat) (x8 : Option zo_T) (x9 : Int32) (Ω : zo_O) (res : zo_R), K74 x1 x2 x3 x4 x5 x6 x7 x8 x9 Ω = some res → TW Y res Ω 74 [(0, vr 0 0), (1, vr 20 x1), (2, vr 2 x2), (3, vi x3), (4, vi x4), (5, vi x5), (6, vi x6), (7, vr 3 x7), (8, vo x8), (9, vi x9)] []) (x1 : Nat) (x2 : Nat) (x3 : Int32) (x4 : Int32) (x5 : Int32) (x6 : Int32) (x7 : Nat) (x8 : Option zo_T) (x9 : Int32) (Ω : zo_O) (res : zo_R) (h : bd_X1_findGroups_74 N K9 K74 x1 x2 x3 x4 x5 x6 x7 x8 x9 Ω = some res) : TW Y res Ω 74 [(0, vr 0 0), (1, vr 20 x1), (2, vr 2 x2), (3, vi x3), (4, vi x4), (5, vi x5), (6, vi x6), (7, vr 3 x7), (8, vo x8), (9, vi x9)] [] := by
  unfold bd_X1_findGroups_74 at h
  refine zo_iload hY dX1_findGroups_74 9 rfl ?_
  refine zo_aload_n hY dX1_findGroups_76 rfl 1 rfl ?_
  refine zo_callV hY (fun q hq => mt_J2_size hJ hCon N x1 Ω q hq) (by decide) (by decide) (by decide) ⟨rfl, cn_J2_size⟩ rfl q245 q246 q247 q81 q248 (Nat.le_of_ble_eq_true rfl) dX1_findGroups_77 rfl h (ci_k (fun r2 Ω1 res h => ?_))
  refine zo_icmp_ge hY 120 dX1_findGroups_80 (by decide) h (fun c3 h => ?_) (fun c3 h => ?_)
  · refine zo_aload hY dX1_findGroups_120 8 rfl ?_
    refine zo_ifnonnull hY (K := 15) 147 dX1_findGroups_122 (by decide) h (fun e9 h => ?_) (fun n4 e9 h => ?_)
    · refine zo_new hY hJ (k := 15) (by decide) (Or.inl rfl) rfl q938 q939 q111 dX1_findGroups_125 h (fun Ω5 res h => ?_)
      refine zo_dup hY dX1_findGroups_128 (Or.inr ⟨_, rfl⟩) ?_
      refine zo_aload_n hY dX1_findGroups_129 rfl 2 rfl ?_
      refine zo_aload hY dX1_findGroups_130 7 rfl ?_
      refine zo_getI hY LX1_144_3 rfl dX1_findGroups_132 ?_
      refine zo_callI hY (fun q hq => mt_X18_init hJ hCon N (gC Ω1 15) x2 (gI Ω5 3 x7 5) Ω5 q hq) (by decide) (by decide) cn_X18_init rfl rfl q940 q941 q111 q942 (Nat.le_of_ble_eq_true rfl) dX1_findGroups_135 rfl h (cv_k (fun Ω6 res h => ?_))
      refine zo_astore hY dX1_findGroups_138 (by decide) rfl (ls' := [(8, vr 15 (gC Ω1 15)), (0, vr 0 0), (1, vr 20 x1), (2, vr 2 x2), (3, vi x3), (4, vi x4), (5, vi x5), (6, vi x6), (7, vr 3 x7), (9, vi x9)]) rfl ?_
      refine zo_aload_n hY dX1_findGroups_140 rfl 2 rfl ?_
      refine zo_aload hY dX1_findGroups_141 0 rfl ?_
      refine zo_callV hY (fun q hq => mt_J2_add hJ hCon N x1 (some (15, gC Ω1 15)) Ω6 q hq) (by decide) (by decide) (by decide) ⟨rfl, cn_J2_add⟩ rfl q284 q285 q286 q81 q287 (Nat.le_of_ble_eq_true rfl) dX1_findGroups_143 rfl h (ci_k (fun r8 Ω7 res h => ?_))
      refine zo_pop hY dX1_findGroups_146 (Or.inl rfl) ?_
      refine zo_sub [1, 2, 3, 4, 5, 6, 7, 8, 0] rfl ?_
      exact ct_X1_findGroups_147 hY hJ hCon hr N K9 hK9 x1 x2 x3 x4 x5 x6 x7 (gC Ω1 15) Ω7 _ h
    · rw [e9]
      refine zo_sub [0, 1, 2, 3, 4, 5, 6, 7, 8] rfl ?_
      exact ct_X1_findGroups_147 hY hJ hCon hr N K9 hK9 x1 x2 x3 x4 x5 x6 x7 n4 Ω1 _ h
  · refine zo_aload_n hY dX1_findGroups_83 rfl 1 rfl ?_
    refine zo_iload hY dX1_findGroups_84 9 rfl ?_
    refine zo_callV hY (fun q hq => mt_J2_get hJ hCon N x1 x9 Ω1 q hq) (by decide) (by decide) (by decide) ⟨rfl, cn_J2_get⟩ rfl q368 q369 q370 q81 q371 (Nat.le_of_ble_eq_true rfl) dX1_findGroups_86 rfl h (cr_k (fun r11 Ω10 res h => ?_))
    refine zo_castK hY (by decide) q938 (Or.inl rfl) dX1_findGroups_89 h (fun j12 h => ?_)
    refine zo_getI hY LX1_274_15 rfl dX1_findGroups_92 ?_
    refine zo_aload hY dX1_findGroups_95 7 rfl ?_
    refine zo_getI hY LX1_144_3 rfl dX1_findGroups_97 ?_
    refine zo_icmp_ne hY 114 dX1_findGroups_100 (by decide) h (fun c13 h => ?_) (fun c13 h => ?_)
    · refine zo_aload_n hY dX1_findGroups_103 rfl 1 rfl ?_
      refine zo_iload hY dX1_findGroups_104 9 rfl ?_
      refine zo_callV hY (fun q hq => mt_J2_get hJ hCon N x1 x9 Ω10 q hq) (by decide) (by decide) (by decide) ⟨rfl, cn_J2_get⟩ rfl q368 q369 q370 q81 q371 (Nat.le_of_ble_eq_true rfl) dX1_findGroups_106 rfl h (cr_k (fun r15 Ω14 res h => ?_))
      refine zo_castK hY (by decide) q938 (Or.inl rfl) dX1_findGroups_109 h (fun j16 h => ?_)
      refine zo_astore hY dX1_findGroups_112 (by decide) rfl (ls' := [(8, vr 15 j16), (0, vr 0 0), (1, vr 20 x1), (2, vr 2 x2), (3, vi x3), (4, vi x4), (5, vi x5), (6, vi x6), (7, vr 3 x7), (9, vi x9)]) rfl ?_
      refine zo_sub [1, 2, 3, 4, 5, 6, 7, 8, 0, 9] rfl ?_
      exact ct_X1_findGroups_114 hY hJ hCon hr N K9 K74 hK9 hK74 x1 x2 x3 x4 x5 x6 x7 (some (15, j16)) x9 Ω14 _ h
    · exact ct_X1_findGroups_114 hY hJ hCon hr N K9 K74 hK9 hK74 x1 x2 x3 x4 x5 x6 x7 x8 x9 Ω10 _ h
def fn_X1_findGroups_74 (N : Nat) (K9 : Nat → Nat → Int32 → Int32 → Int32 → Int32 → zo_O → Option zo_R) : Nat → Nat → Nat → Int32 → Int32 → Int32 → Int32 → Nat → Option zo_T → Int32 → zo_O → Option zo_R
  | 0, _, _, _, _, _, _, _, _, _, _ => none
  | n + 1, x1, x2, x3, x4, x5, x6, x7, x8, x9, Ω => bd_X1_findGroups_74 N K9 (fn_X1_findGroups_74 N K9 n) x1 x2 x3 x4 x5 x6 x7 x8 x9 Ω
theorem ct_X1_findGroups_74 {Y : zo_Y} (hY : zo_Gd Y cX1_findGroups 10 RX1 7) (hJ : zo_JC (zo_J Y)) (hCon : ∀ Ω, zo_J Y Ω → zo_Con Ω) (hr : zo_rt Y (Option.none : Option Jvm.ClassFile.FieldType)) (N : Nat) (K9 : Nat → Nat → Int32 → Int32 → Int32 → Int32 → zo_O → Option zo_R) (hK9 : ∀ (x1 : Nat) (x2 : Nat) (x3 : Int32) (x4 : Int32) (x5 : Int32) (x6 : Int32) (Ω : zo_O) (res : zo_R), K9 x1 x2 x3 x4 x5 x6 Ω = some res → TW Y res Ω 9 [(0, vr 0 0), (1, vr 20 x1), (2, vr 2 x2), (3, vi x3), (4, vi x4), (5, vi x5), (6, vi x6)] []) : ∀ (n : Nat) (x1 : Nat) (x2 : Nat) (x3 : Int32) (x4 : Int32) (x5 : Int32) (x6 : Int32) (x7 : Nat) (x8 : Option zo_T) (x9 : Int32) (Ω : zo_O) (res : zo_R), fn_X1_findGroups_74 N K9 n x1 x2 x3 x4 x5 x6 x7 x8 x9 Ω = some res → TW Y res Ω 74 [(0, vr 0 0), (1, vr 20 x1), (2, vr 2 x2), (3, vi x3), (4, vi x4), (5, vi x5), (6, vi x6), (7, vr 3 x7), (8, vo x8), (9, vi x9)] [] := by
  intro n
  induction n with
  | zero => intro x1 x2 x3 x4 x5 x6 x7 x8 x9 Ω res h; exact nomatch (show (none : Option zo_R) = some res from h)
  | succ n ih => intro x1 x2 x3 x4 x5 x6 x7 x8 x9 Ω res h; exact cb_X1_findGroups_74 hY hJ hCon hr N K9 (fn_X1_findGroups_74 N K9 n) hK9 ih x1 x2 x3 x4 x5 x6 x7 x8 x9 Ω res h
def bd_X1_findGroups_9 (N : Nat)  (K9 : Nat → Nat → Int32 → Int32 → Int32 → Int32 → zo_O → Option zo_R) (x1 : Nat) (x2 : Nat) (x3 : Int32) (x4 : Int32) (x5 : Int32) (x6 : Int32) (Ω : zo_O) : Option zo_R :=
  ci (fn_J2_size N 1 Ω) fun r2 Ω1 =>
  if r2 ≤ x6 then (
    rV Ω1
    ) else
  cr (fn_J2_get N 1 x6 Ω1) fun r5 Ω4 =>
  bk r5 3 fun j6 =>
  bk (gR Ω4 3 j6 6) 2 fun j7 =>
  if j7 = x2 then (
    if gI Ω4 3 j6 1 = x3 then (
      ci (fn_X1_isUsed N j6 x4 Ω4) fun r11 Ω10 =>
      if r11 = 0 then (
        fn_X1_findGroups_164 N K9 x1 x2 x3 x4 x5 x6 Ω10
        ) else
      fn_X1_findGroups_74 N K9 N x1 x2 x3 x4 x5 x6 j6 none x5 Ω10
      ) else
    fn_X1_findGroups_164 N K9 x1 x2 x3 x4 x5 x6 Ω4
    ) else
  fn_X1_findGroups_164 N K9 x1 x2 x3 x4 x5 x6 Ω4
theorem cb_X1_findGroups_9 {Y : zo_Y} (hY : zo_Gd Y cX1_findGroups 10 RX1 7) (hJ : zo_JC (zo_J Y)) (hCon : ∀ Ω, zo_J Y Ω → zo_Con Ω) (hr : zo_rt Y (Option.none : Option Jvm.ClassFile.FieldType)) (N : Nat)  (K9 : Nat → Nat → Int32 → Int32 → Int32 → Int32 → zo_O → Option zo_R)  (hK9 : ∀ (x1 : Nat) (x2 : Nat) (x3 : Int32) (x4 : Int32) (x5 : Int32) (x6 : Int32) (Ω : zo_O) (res : zo_R), K9 x1 x2 x3 x4 x5 x6 Ω = some res → TW Y res Ω 9 [(0, vr 0 0), (1, vr 20 x1), (2, vr 2 x2), (3, vi x3), (4, vi x4), (5, vi x5), (6, vi x6)] []) (x1 : Nat) (x2 : Nat) (x3 : Int32) (x4 : Int32) (x5 : Int32) (x6 : Int32) (Ω : zo_O) (res : zo_R) (h : bd_X1_findGroups_9 N  K9 x1 x2 x3 x4 x5 x6 Ω = some res) : TW Y res Ω 9 [(0, vr 0 0), (1, vr 20 x1), (2, vr 2 x2), (3, vi x3), (4, vi x4), (5, vi x5), (6, vi x6)] [] := by
  unfold bd_X1_findGroups_9 at h
  refine zo_iload hY dX1_findGroups_9 6 rfl ?_
  refine zo_aload_n hY dX1_findGroups_11 rfl 0 rfl ?_
  refine zo_getC hY LX1_20_0 rfl (fun Ω q => (hCon Ω q).1 1 _ rfl) dX1_findGroups_12 ?_
  refine zo_callV hY (fun q hq => mt_J2_size hJ hCon N 1 Ω q hq) (by decide) (by decide) (by decide) ⟨rfl, cn_J2_size⟩ rfl q245 q246 q247 q81 q248 (Nat.le_of_ble_eq_true rfl) dX1_findGroups_15 rfl h (ci_k (fun r2 Ω1 res h => ?_))
  refine zo_icmp_ge hY 170 dX1_findGroups_18 (by decide) h (fun c3 h => ?_) (fun c3 h => ?_)
  · exact zo_vret hY hr dX1_findGroups_170 h
  · refine zo_aload_n hY dX1_findGroups_21 rfl 0 rfl ?_
    refine zo_getC hY LX1_20_0 rfl (fun Ω q => (hCon Ω q).1 1 _ rfl) dX1_findGroups_22 ?_
    refine zo_iload hY dX1_findGroups_25 6 rfl ?_
    refine zo_callV hY (fun q hq => mt_J2_get hJ hCon N 1 x6 Ω1 q hq) (by decide) (by decide) (by decide) ⟨rfl, cn_J2_get⟩ rfl q368 q369 q370 q81 q371 (Nat.le_of_ble_eq_true rfl) dX1_findGroups_27 rfl h (cr_k (fun r5 Ω4 res h => ?_))
    refine zo_castK hY (by decide) q366 (Or.inl rfl) dX1_findGroups_30 h (fun j6 h => ?_)
    refine zo_astore hY dX1_findGroups_33 (by decide) rfl (ls' := [(7, vr 3 j6), (0, vr 0 0), (1, vr 20 x1), (2, vr 2 x2), (3, vi x3), (4, vi x4), (5, vi x5), (6, vi x6)]) rfl ?_
    refine zo_aload hY dX1_findGroups_35 0 rfl ?_
    refine zo_getK hY LX1_137_3 rfl dX1_findGroups_37 h (fun j7 h => ?_)
    refine zo_aload_n hY dX1_findGroups_40 rfl 3 rfl ?_
    refine zo_acmp_ne hY (by decide) 164 dX1_findGroups_41 (by decide) h (fun c8 h => ?_) (fun c8 h => ?_)
    · refine zo_aload hY dX1_findGroups_44 0 rfl ?_
      refine zo_getI hY LX1_141_3 rfl dX1_findGroups_46 ?_
      refine zo_iload_n hY dX1_findGroups_49 rfl 4 rfl ?_
      refine zo_icmp_ne hY 164 dX1_findGroups_50 (by decide) h (fun c9 h => ?_) (fun c9 h => ?_)
      · refine zo_aload_n hY dX1_findGroups_53 rfl 1 rfl ?_
        refine zo_aload hY dX1_findGroups_54 0 rfl ?_
        refine zo_iload hY dX1_findGroups_56 5 rfl ?_
        refine zo_callV hY (fun q hq => mt_X1_isUsed hJ hCon N j6 x4 Ω4 q hq) (by decide) (by decide) (by decide) ⟨rfl, cn_X1_isUsed⟩ rfl q832 q834 qs19 q78 q835 (Nat.le_of_ble_eq_true rfl) dX1_findGroups_58 rfl h (ci_k (fun r11 Ω10 res h => ?_))
        refine zo_if_ne hY 67 dX1_findGroups_61 (by decide) h (fun c12 h => ?_) (fun c12 h => ?_)
        · refine zo_goto hY 164 dX1_findGroups_64 (by decide) ?_
          refine zo_sub [1, 2, 3, 4, 5, 6, 7] rfl ?_
          exact ct_X1_findGroups_164 hY hJ hCon hr N K9 hK9 x1 x2 x3 x4 x5 x6 Ω10 _ h
        · refine zo_null hY dX1_findGroups_67 ?_
          refine zo_astore hY dX1_findGroups_68 (by decide) rfl (ls' := [(8, vo none), (7, vr 3 j6), (0, vr 0 0), (1, vr 20 x1), (2, vr 2 x2), (3, vi x3), (4, vi x4), (5, vi x5), (6, vi x6)]) rfl ?_
          refine zo_iload hY dX1_findGroups_70 7 rfl ?_
          refine zo_istore hY dX1_findGroups_72 (by decide) rfl (ls' := [(9, vi x5), (8, vo none), (7, vr 3 j6), (0, vr 0 0), (1, vr 20 x1), (2, vr 2 x2), (3, vi x3), (4, vi x4), (5, vi x5), (6, vi x6)]) rfl ?_
          refine zo_sub [3, 4, 5, 6, 7, 8, 9, 2, 1, 0] rfl ?_
          exact ct_X1_findGroups_74 hY hJ hCon hr N K9 hK9 N x1 x2 x3 x4 x5 x6 j6 none x5 Ω10 _ h
      · refine zo_sub [1, 2, 3, 4, 5, 6, 7] rfl ?_
        exact ct_X1_findGroups_164 hY hJ hCon hr N K9 hK9 x1 x2 x3 x4 x5 x6 Ω4 _ h
    · refine zo_sub [1, 2, 3, 4, 5, 6, 7] rfl ?_
      exact ct_X1_findGroups_164 hY hJ hCon hr N K9 hK9 x1 x2 x3 x4 x5 x6 Ω4 _ h
def fn_X1_findGroups_9 (N : Nat)  : Nat → Nat → Nat → Int32 → Int32 → Int32 → Int32 → zo_O → Option zo_R
  | 0, _, _, _, _, _, _, _ => none
  | n + 1, x1, x2, x3, x4, x5, x6, Ω => bd_X1_findGroups_9 N  (fn_X1_findGroups_9 N  n) x1 x2 x3 x4 x5 x6 Ω
theorem ct_X1_findGroups_9 {Y : zo_Y} (hY : zo_Gd Y cX1_findGroups 10 RX1 7) (hJ : zo_JC (zo_J Y)) (hCon : ∀ Ω, zo_J Y Ω → zo_Con Ω) (hr : zo_rt Y (Option.none : Option Jvm.ClassFile.FieldType)) (N : Nat)   : ∀ (n : Nat) (x1 : Nat) (x2 : Nat) (x3 : Int32) (x4 : Int32) (x5 : Int32) (x6 : Int32) (Ω : zo_O) (res : zo_R), fn_X1_findGroups_9 N  n x1 x2 x3 x4 x5 x6 Ω = some res → TW Y res Ω 9 [(0, vr 0 0), (1, vr 20 x1), (2, vr 2 x2), (3, vi x3), (4, vi x4), (5, vi x5), (6, vi x6)] [] := by
  intro n
  induction n with
  | zero => intro x1 x2 x3 x4 x5 x6 Ω res h; exact nomatch (show (none : Option zo_R) = some res from h)
  | succ n ih => intro x1 x2 x3 x4 x5 x6 Ω res h; exact cb_X1_findGroups_9 hY hJ hCon hr N  (fn_X1_findGroups_9 N  n)  ih x1 x2 x3 x4 x5 x6 Ω res h
def fn_X1_findGroups (N : Nat) (x1 : Nat) (x2 : Nat) (x3 : Int32) (x4 : Int32) (Ω : zo_O) : Option zo_R :=
  ci (fn_J2_size N x1 Ω) fun r2 Ω1 =>
  fn_X1_findGroups_9 N N x1 x2 x3 x4 r2 0 Ω1
theorem mt_X1_findGroups {G : zo_G} {J : zo_O → Prop} (hJ : zo_JC J) (hCon : ∀ Ω, J Ω → zo_Con Ω) (N : Nat) (x1 : Nat) (x2 : Nat) (x3 : Int32) (x4 : Int32) (Ω : zo_O) (res : zo_R) (h : fn_X1_findGroups N x1 x2 x3 x4 Ω = some res) : zo_MT G J yX1_findGroups cX1_findGroups 10 (Option.none : Option Jvm.ClassFile.FieldType) 7 [vr 0 0, vr 20 x1, vr 2 x2, vi x3, vi x4] Ω res := by
  refine zo_enter (by decide) rfl (Nat.le_of_ble_eq_true rfl) (fun Y hY eJ hr hmn => ?_)
  subst eJ
  show TW Y res Ω 0 [(0, vr 0 0), (1, vr 20 x1), (2, vr 2 x2), (3, vi x3), (4, vi x4)] []
  unfold fn_X1_findGroups at h
  refine zo_aload_n hY dX1_findGroups_0 rfl 1 rfl ?_
  refine zo_callV hY (fun q hq => mt_J2_size hJ hCon N x1 Ω q hq) (by decide) (by decide) (by decide) ⟨rfl, cn_J2_size⟩ rfl q245 q246 q247 q81 q248 (Nat.le_of_ble_eq_true rfl) dX1_findGroups_1 rfl h (ci_k (fun r2 Ω1 res h => ?_))
  refine zo_istore hY dX1_findGroups_4 (by decide) rfl (ls' := [(5, vi r2), (0, vr 0 0), (1, vr 20 x1), (2, vr 2 x2), (3, vi x3), (4, vi x4)]) rfl ?_
  refine zo_iconst hY 0 (by decide) dX1_findGroups_6 ?_
  refine zo_istore hY dX1_findGroups_7 (by decide) rfl (ls' := [(6, vi 0), (5, vi r2), (0, vr 0 0), (1, vr 20 x1), (2, vr 2 x2), (3, vi x3), (4, vi x4)]) rfl ?_
  refine zo_sub [2, 3, 4, 5, 6, 1, 0] rfl ?_
  exact ct_X1_findGroups_9 hY hJ hCon hr N N x1 x2 x3 x4 r2 0 Ω1 _ h
theorem dX19_init_0 : decode cX19_init 0 = .ok (.aload_n 0, 1) := by decide +kernel
theorem dX19_init_1 : decode cX19_init 1 = .ok (.invokespecial 1, 3) := by decide +kernel
theorem dX19_init_4 : decode cX19_init 4 = .ok (.aload_n 0, 1) := by decide +kernel
theorem dX19_init_5 : decode cX19_init 5 = .ok (.iload_n 1, 1) := by decide +kernel
theorem dX19_init_6 : decode cX19_init 6 = .ok (.putfield 7, 3) := by decide +kernel
theorem dX19_init_9 : decode cX19_init 9 = .ok (.aload_n 0, 1) := by decide +kernel
theorem dX19_init_10 : decode cX19_init 10 = .ok (.iload_n 2, 1) := by decide +kernel
theorem dX19_init_11 : decode cX19_init 11 = .ok (.putfield 13, 3) := by decide +kernel
theorem dX19_init_14 : decode cX19_init 14 = .ok (.aload_n 0, 1) := by decide +kernel
theorem dX19_init_15 : decode cX19_init 15 = .ok (.iload_n 3, 1) := by decide +kernel
theorem dX19_init_16 : decode cX19_init 16 = .ok (.putfield 16, 3) := by decide +kernel
theorem dX19_init_19 : decode cX19_init 19 = .ok (.return_, 1) := by decide +kernel
def fn_X19_init_16 (N : Nat) (x0 : Nat) (x1 : Int32) (x2 : Int32) (x3 : Int32) (Ω : zo_O) : Option zo_R :=
  lt (sI Ω 16 x0 0 x1) fun Ω1 =>
  lt (sI Ω1 16 x0 1 x2) fun Ω2 =>
  lt (sI Ω2 16 x0 2 x3) fun Ω3 =>
  rV Ω3
theorem mt_X19_init_16 {G : zo_G} {J : zo_O → Prop} (hJ : zo_JC J) (hCon : ∀ Ω, J Ω → zo_Con Ω) (N : Nat) (x0 : Nat) (x1 : Int32) (x2 : Int32) (x3 : Int32) (Ω : zo_O) (res : zo_R) (h : fn_X19_init_16 N x0 x1 x2 x3 Ω = some res) : zo_MT G J yX19_init cX19_init 4 (Option.none : Option Jvm.ClassFile.FieldType) 1 [vr 16 x0, vi x1, vi x2, vi x3] Ω res := by
  refine zo_enter (by decide) rfl (Nat.le_of_ble_eq_true rfl) (fun Y hY eJ hr hmn => ?_)
  subst eJ
  have hmn := hmn rfl
  show TW Y res Ω 0 [(0, vr 16 x0), (1, vi x1), (2, vi x2), (3, vi x3)] []
  unfold fn_X19_init_16 at h
  refine zo_aload_n hY dX19_init_0 rfl 0 rfl ?_
  refine zo_oini hY (by decide) q981 (fun ρ => zo_room8 (Nat.le_of_ble_eq_true rfl)) dX19_init_1 ?_
  refine zo_aload_n hY dX19_init_4 rfl 0 rfl ?_
  refine zo_iload_n hY dX19_init_5 rfl 1 rfl ?_
  refine zo_putI hY hJ LX19_7_16 rfl (Or.inr ⟨rfl, hmn, rfl, _, q982, Or.inl rfl⟩) dX19_init_6 h (fun Ω1 h => ?_)
  refine zo_aload_n hY dX19_init_9 rfl 0 rfl ?_
  refine zo_iload_n hY dX19_init_10 rfl 2 rfl ?_
  refine zo_putI hY hJ LX19_13_16 rfl (Or.inr ⟨rfl, hmn, rfl, _, q988, Or.inl rfl⟩) dX19_init_11 h (fun Ω2 h => ?_)
  refine zo_aload_n hY dX19_init_14 rfl 0 rfl ?_
  refine zo_iload_n hY dX19_init_15 rfl 3 rfl ?_
  refine zo_putI hY hJ LX19_16_16 rfl (Or.inr ⟨rfl, hmn, rfl, _, q994, Or.inl rfl⟩) dX19_init_16 h (fun Ω3 h => ?_)
  exact zo_vret hY hr dX19_init_19 h
theorem dX20_init_0 : decode cX20_init 0 = .ok (.aload_n 0, 1) := by decide +kernel
theorem dX20_init_1 : decode cX20_init 1 = .ok (.iload_n 1, 1) := by decide +kernel
theorem dX20_init_2 : decode cX20_init 2 = .ok (.iload_n 2, 1) := by decide +kernel
theorem dX20_init_3 : decode cX20_init 3 = .ok (.iload_n 3, 1) := by decide +kernel
theorem dX20_init_4 : decode cX20_init 4 = .ok (.invokespecial 1, 3) := by decide +kernel
theorem dX20_init_7 : decode cX20_init 7 = .ok (.return_, 1) := by decide +kernel
def fn_X20_init (N : Nat) (x0 : Nat) (x1 : Int32) (x2 : Int32) (x3 : Int32) (Ω : zo_O) : Option zo_R :=
  cv (fn_X19_init_16 N x0 x1 x2 x3 Ω) fun Ω1 =>
  rV Ω1
theorem mt_X20_init {G : zo_G} {J : zo_O → Prop} (hJ : zo_JC J) (hCon : ∀ Ω, J Ω → zo_Con Ω) (N : Nat) (x0 : Nat) (x1 : Int32) (x2 : Int32) (x3 : Int32) (Ω : zo_O) (res : zo_R) (h : fn_X20_init N x0 x1 x2 x3 Ω = some res) : zo_MT G J yX20_init cX20_init 4 (Option.none : Option Jvm.ClassFile.FieldType) 2 [vr 16 x0, vi x1, vi x2, vi x3] Ω res := by
  refine zo_enter (by decide) rfl (Nat.le_of_ble_eq_true rfl) (fun Y hY eJ hr hmn => ?_)
  subst eJ
  show TW Y res Ω 0 [(0, vr 16 x0), (1, vi x1), (2, vi x2), (3, vi x3)] []
  unfold fn_X20_init at h
  refine zo_aload_n hY dX20_init_0 rfl 0 rfl ?_
  refine zo_iload_n hY dX20_init_1 rfl 1 rfl ?_
  refine zo_iload_n hY dX20_init_2 rfl 2 rfl ?_
  refine zo_iload_n hY dX20_init_3 rfl 3 rfl ?_
  refine zo_callI hY (fun q hq => mt_X19_init_16 hJ hCon N x0 x1 x2 x3 Ω q hq) (by decide) (by decide) cn_X19_init rfl rfl q978 q979 q112 q980 (Nat.le_of_ble_eq_true rfl) dX20_init_4 rfl h (cv_k (fun Ω1 res h => ?_))
  exact zo_vret hY hr dX20_init_7 h
def fn_X19_init_17 (N : Nat) (x0 : Nat) (x1 : Int32) (x2 : Int32) (x3 : Int32) (Ω : zo_O) : Option zo_R :=
  lt (sI Ω 17 x0 0 x1) fun Ω1 =>
  lt (sI Ω1 17 x0 1 x2) fun Ω2 =>
  lt (sI Ω2 17 x0 2 x3) fun Ω3 =>
  rV Ω3
theorem mt_X19_init_17 {G : zo_G} {J : zo_O → Prop} (hJ : zo_JC J) (hCon : ∀ Ω, J Ω → zo_Con Ω) (N : Nat) (x0 : Nat) (x1 : Int32) (x2 : Int32) (x3 : Int32) (Ω : zo_O) (res : zo_R) (h : fn_X19_init_17 N x0 x1 x2 x3 Ω = some res) : zo_MT G J yX19_init cX19_init 4 (Option.none : Option Jvm.ClassFile.FieldType) 1 [vr 17 x0, vi x1, vi x2, vi x3] Ω res := by
  refine zo_enter (by decide) rfl (Nat.le_of_ble_eq_true rfl) (fun Y hY eJ hr hmn => ?_)
  subst eJ
  have hmn := hmn rfl
  show TW Y res Ω 0 [(0, vr 17 x0), (1, vi x1), (2, vi x2), (3, vi x3)] []
  unfold fn_X19_init_17 at h
  refine zo_aload_n hY dX19_init_0 rfl 0 rfl ?_
  refine zo_oini hY (by decide) q981 (fun ρ => zo_room8 (Nat.le_of_ble_eq_true rfl)) dX19_init_1 ?_
  refine zo_aload_n hY dX19_init_4 rfl 0 rfl ?_
  refine zo_iload_n hY dX19_init_5 rfl 1 rfl ?_
  refine zo_putI hY hJ LX19_7_17 rfl (Or.inr ⟨rfl, hmn, rfl, _, q982, Or.inl rfl⟩) dX19_init_6 h (fun Ω1 h => ?_)
  refine zo_aload_n hY dX19_init_9 rfl 0 rfl ?_
  refine zo_iload_n hY dX19_init_10 rfl 2 rfl ?_
  refine zo_putI hY hJ LX19_13_17 rfl (Or.inr ⟨rfl, hmn, rfl, _, q988, Or.inl rfl⟩) dX19_init_11 h (fun Ω2 h => ?_)
  refine zo_aload_n hY dX19_init_14 rfl 0 rfl ?_
  refine zo_iload_n hY dX19_init_15 rfl 3 rfl ?_
  refine zo_putI hY hJ LX19_16_17 rfl (Or.inr ⟨rfl, hmn, rfl, _, q994, Or.inl rfl⟩) dX19_init_16 h (fun Ω3 h => ?_)
  exact zo_vret hY hr dX19_init_19 h
theorem dX21_init_0 : decode cX21_init 0 = .ok (.aload_n 0, 1) := by decide +kernel
theorem dX21_init_1 : decode cX21_init 1 = .ok (.iload_n 1, 1) := by decide +kernel
theorem dX21_init_2 : decode cX21_init 2 = .ok (.iload_n 2, 1) := by decide +kernel
theorem dX21_init_3 : decode cX21_init 3 = .ok (.iload_n 3, 1) := by decide +kernel
theorem dX21_init_4 : decode cX21_init 4 = .ok (.invokespecial 1, 3) := by decide +kernel
theorem dX21_init_7 : decode cX21_init 7 = .ok (.return_, 1) := by decide +kernel
def fn_X21_init (N : Nat) (x0 : Nat) (x1 : Int32) (x2 : Int32) (x3 : Int32) (Ω : zo_O) : Option zo_R :=
  cv (fn_X19_init_17 N x0 x1 x2 x3 Ω) fun Ω1 =>
  rV Ω1
theorem mt_X21_init {G : zo_G} {J : zo_O → Prop} (hJ : zo_JC J) (hCon : ∀ Ω, J Ω → zo_Con Ω) (N : Nat) (x0 : Nat) (x1 : Int32) (x2 : Int32) (x3 : Int32) (Ω : zo_O) (res : zo_R) (h : fn_X21_init N x0 x1 x2 x3 Ω = some res) : zo_MT G J yX21_init cX21_init 4 (Option.none : Option Jvm.ClassFile.FieldType) 2 [vr 17 x0, vi x1, vi x2, vi x3] Ω res := by
  refine zo_enter (by decide) rfl (Nat.le_of_ble_eq_true rfl) (fun Y hY eJ hr hmn => ?_)
  subst eJ
  show TW Y res Ω 0 [(0, vr 17 x0), (1, vi x1), (2, vi x2), (3, vi x3)] []
  unfold fn_X21_init at h
  refine zo_aload_n hY dX21_init_0 rfl 0 rfl ?_
  refine zo_iload_n hY dX21_init_1 rfl 1 rfl ?_
  refine zo_iload_n hY dX21_init_2 rfl 2 rfl ?_
  refine zo_iload_n hY dX21_init_3 rfl 3 rfl ?_
  refine zo_callI hY (fun q hq => mt_X19_init_17 hJ hCon N x0 x1 x2 x3 Ω q hq) (by decide) (by decide) cn_X19_init rfl rfl q1020 q979 q112 q980 (Nat.le_of_ble_eq_true rfl) dX21_init_4 rfl h (cv_k (fun Ω1 res h => ?_))
  exact zo_vret hY hr dX21_init_7 h
theorem dX17_asks_0 : decode cX17_asks 0 = .ok (.aload_n 1, 1) := by decide +kernel
theorem dX17_asks_1 : decode cX17_asks 1 = .ok (.getfield 34, 3) := by decide +kernel
theorem dX17_asks_4 : decode cX17_asks 4 = .ok (.aload_n 1, 1) := by decide +kernel
theorem dX17_asks_5 : decode cX17_asks 5 = .ok (.getfield 39, 3) := by decide +kernel
theorem dX17_asks_8 : decode cX17_asks 8 = .ok (.getfield 42, 3) := by decide +kernel
theorem dX17_asks_11 : decode cX17_asks 11 = .ok (.isub, 1) := by decide +kernel
theorem dX17_asks_12 : decode cX17_asks 12 = .ok (.istore 4, 2) := by decide +kernel
theorem dX17_asks_14 : decode cX17_asks 14 = .ok (.aload_n 1, 1) := by decide +kernel
theorem dX17_asks_15 : decode cX17_asks 15 = .ok (.getfield 39, 3) := by decide +kernel
theorem dX17_asks_18 : decode cX17_asks 18 = .ok (.getfield 45, 3) := by decide +kernel
theorem dX17_asks_21 : decode cX17_asks 21 = .ok (.istore 5, 2) := by decide +kernel
theorem dX17_asks_23 : decode cX17_asks 23 = .ok (.iload 4, 2) := by decide +kernel
theorem dX17_asks_25 : decode cX17_asks 25 = .ok (.ifCond .ge 4, 3) := by decide +kernel
theorem dX17_asks_28 : decode cX17_asks 28 = .ok (.return_, 1) := by decide +kernel
theorem dX17_asks_29 : decode cX17_asks 29 = .ok (.iload 4, 2) := by decide +kernel
theorem dX17_asks_31 : decode cX17_asks 31 = .ok (.sipush 800, 3) := by decide +kernel
theorem dX17_asks_34 : decode cX17_asks 34 = .ok (.if_icmp .gt 26, 3) := by decide +kernel
theorem dX17_asks_37 : decode cX17_asks 37 = .ok (.aload_n 0, 1) := by decide +kernel
theorem dX17_asks_38 : decode cX17_asks 38 = .ok (.getfield 18, 3) := by decide +kernel
theorem dX17_asks_41 : decode cX17_asks 41 = .ok (.new 48, 3) := by decide +kernel
theorem dX17_asks_44 : decode cX17_asks 44 = .ok (.dup, 1) := by decide +kernel
theorem dX17_asks_45 : decode cX17_asks 45 = .ok (.iload 5, 2) := by decide +kernel
theorem dX17_asks_47 : decode cX17_asks 47 = .ok (.iload 4, 2) := by decide +kernel
theorem dX17_asks_49 : decode cX17_asks 49 = .ok (.aload_n 1, 1) := by decide +kernel
theorem dX17_asks_50 : decode cX17_asks 50 = .ok (.getfield 50, 3) := by decide +kernel
theorem dX17_asks_53 : decode cX17_asks 53 = .ok (.invokespecial 53, 3) := by decide +kernel
theorem dX17_asks_56 : decode cX17_asks 56 = .ok (.invokevirtual 56, 3) := by decide +kernel
theorem dX17_asks_59 : decode cX17_asks 59 = .ok (.pop, 1) := by decide +kernel
theorem dX17_asks_60 : decode cX17_asks 60 = .ok (.iload 4, 2) := by decide +kernel
theorem dX17_asks_62 : decode cX17_asks 62 = .ok (.aload_n 0, 1) := by decide +kernel
theorem dX17_asks_63 : decode cX17_asks 63 = .ok (.getfield 3, 3) := by decide +kernel
theorem dX17_asks_66 : decode cX17_asks 66 = .ok (.getfield 60, 3) := by decide +kernel
theorem dX17_asks_69 : decode cX17_asks 69 = .ok (.iload_n 2, 1) := by decide +kernel
theorem dX17_asks_70 : decode cX17_asks 70 = .ok (.iaload, 1) := by decide +kernel
theorem dX17_asks_71 : decode cX17_asks 71 = .ok (.isub, 1) := by decide +kernel
theorem dX17_asks_72 : decode cX17_asks 72 = .ok (.istore 6, 2) := by decide +kernel
theorem dX17_asks_74 : decode cX17_asks 74 = .ok (.aload_n 0, 1) := by decide +kernel
theorem dX17_asks_75 : decode cX17_asks 75 = .ok (.getfield 3, 3) := by decide +kernel
theorem dX17_asks_78 : decode cX17_asks 78 = .ok (.iload 5, 2) := by decide +kernel
theorem dX17_asks_80 : decode cX17_asks 80 = .ok (.iload_n 2, 1) := by decide +kernel
theorem dX17_asks_81 : decode cX17_asks 81 = .ok (.iload_n 3, 1) := by decide +kernel
theorem dX17_asks_82 : decode cX17_asks 82 = .ok (.invokevirtual 64, 3) := by decide +kernel
theorem dX17_asks_85 : decode cX17_asks 85 = .ok (.aload_n 0, 1) := by decide +kernel
theorem dX17_asks_86 : decode cX17_asks 86 = .ok (.getfield 3, 3) := by decide +kernel
theorem dX17_asks_89 : decode cX17_asks 89 = .ok (.getfield 68, 3) := by decide +kernel
theorem dX17_asks_92 : decode cX17_asks 92 = .ok (.if_icmp .lt 39, 3) := by decide +kernel
theorem dX17_asks_95 : decode cX17_asks 95 = .ok (.iload 6, 2) := by decide +kernel
theorem dX17_asks_97 : decode cX17_asks 97 = .ok (.ifCond .lt 34, 3) := by decide +kernel
theorem dX17_asks_100 : decode cX17_asks 100 = .ok (.iload 6, 2) := by decide +kernel
theorem dX17_asks_102 : decode cX17_asks 102 = .ok (.sipush 800, 3) := by decide +kernel
theorem dX17_asks_105 : decode cX17_asks 105 = .ok (.if_icmp .gt 26, 3) := by decide +kernel
theorem dX17_asks_108 : decode cX17_asks 108 = .ok (.aload_n 0, 1) := by decide +kernel
theorem dX17_asks_109 : decode cX17_asks 109 = .ok (.getfield 22, 3) := by decide +kernel
theorem dX17_asks_112 : decode cX17_asks 112 = .ok (.new 71, 3) := by decide +kernel
theorem dX17_asks_115 : decode cX17_asks 115 = .ok (.dup, 1) := by decide +kernel
theorem dX17_asks_116 : decode cX17_asks 116 = .ok (.iload 5, 2) := by decide +kernel
theorem dX17_asks_118 : decode cX17_asks 118 = .ok (.iload 6, 2) := by decide +kernel
theorem dX17_asks_120 : decode cX17_asks 120 = .ok (.aload_n 1, 1) := by decide +kernel
theorem dX17_asks_121 : decode cX17_asks 121 = .ok (.getfield 73, 3) := by decide +kernel
theorem dX17_asks_124 : decode cX17_asks 124 = .ok (.invokespecial 76, 3) := by decide +kernel
theorem dX17_asks_127 : decode cX17_asks 127 = .ok (.invokevirtual 56, 3) := by decide +kernel
theorem dX17_asks_130 : decode cX17_asks 130 = .ok (.pop, 1) := by decide +kernel
theorem dX17_asks_131 : decode cX17_asks 131 = .ok (.return_, 1) := by decide +kernel
def fn_X17_asks_131 (N : Nat)   (Ω : zo_O) : Option zo_R :=
  rV Ω
theorem ct_X17_asks_131 {Y : zo_Y} (hY : zo_Gd Y cX17_asks 7 RX17 7) (hJ : zo_JC (zo_J Y)) (hCon : ∀ Ω, zo_J Y Ω → zo_Con Ω) (hr : zo_rt Y (Option.none : Option Jvm.ClassFile.FieldType)) (N : Nat)    (Ω : zo_O) (res : zo_R) (h : fn_X17_asks_131 N   Ω = some res) : TW Y res Ω 131 [] [] := by
  unfold fn_X17_asks_131 at h
  exact zo_vret hY hr dX17_asks_131 h
def fn_X17_asks_60 (N : Nat)  (x0 : Nat) (x1 : Nat) (x2 : Int32) (x3 : Int32) (x4 : Int32) (x5 : Int32) (Ω : zo_O) : Option zo_R :=
  gd (gR Ω 14 x0 3 = some (0, 0)) <|
  ix x2 3 fun j1 =>
  li (x4 - (gI Ω 43 0 j1)) fun y2 =>
  gd (gR Ω 14 x0 3 = some (0, 0)) <|
  ci (fn_X1_lookedAt N x5 x2 x3 Ω) fun r4 Ω3 =>
  gd (gR Ω3 14 x0 3 = some (0, 0)) <|
  if r4 < gI Ω3 0 0 11 then (
    fn_X17_asks_131 N Ω3
    ) else
  if y2 < 0 then (
    fn_X17_asks_131 N Ω3
    ) else
  if 800 < y2 then (
    fn_X17_asks_131 N Ω3
    ) else
  bk (gR Ω3 14 x0 1) 20 fun j8 =>
  ad 1 3 <| lt (nw Ω3 17 0) fun Ω9 =>
  cv (fn_X21_init N (gC Ω3 17) x5 y2 (gI Ω9 15 x1 3) Ω9) fun Ω10 =>
  ci (fn_J2_add N j8 (some (17, gC Ω3 17)) Ω10) fun r12 Ω11 =>
  fn_X17_asks_131 N Ω11
theorem ct_X17_asks_60 {Y : zo_Y} (hY : zo_Gd Y cX17_asks 7 RX17 7) (hJ : zo_JC (zo_J Y)) (hCon : ∀ Ω, zo_J Y Ω → zo_Con Ω) (hr : zo_rt Y (Option.none : Option Jvm.ClassFile.FieldType)) (N : Nat)   (x0 : Nat) (x1 : Nat) (x2 : Int32) (x3 : Int32) (x4 : Int32) (x5 : Int32) (Ω : zo_O) (res : zo_R) (h : fn_X17_asks_60 N  x0 x1 x2 x3 x4 x5 Ω = some res) : TW Y res Ω 60 [(0, vr 14 x0), (1, vr 15 x1), (2, vi x2), (3, vi x3), (4, vi x4), (5, vi x5)] [] := by
  unfold fn_X17_asks_60 at h
  refine zo_iload hY dX17_asks_60 4 rfl ?_
  refine zo_aload_n hY dX17_asks_62 rfl 0 rfl ?_
  refine zo_getG hY LX17_3_14 rfl dX17_asks_63 h (fun h => ?_)
  refine zo_getC hY LX17_60_0 rfl (fun Ω q => (hCon Ω q).1 7 _ rfl) dX17_asks_66 ?_
  refine zo_iload_n hY dX17_asks_69 rfl 2 rfl ?_
  refine zo_ald hY (by decide) (Or.inl ⟨rfl, dX17_asks_70⟩) (fun q => (hCon _ q).2.2.2 43 0 3 rfl) h (fun j1 h => ?_)
  refine zo_isub hY dX17_asks_71 ?_
  refine zo_nmi h (fun y2 h => ?_)
  refine zo_istore hY dX17_asks_72 (by decide) rfl (ls' := [(6, vi y2), (0, vr 14 x0), (1, vr 15 x1), (2, vi x2), (3, vi x3), (4, vi x4), (5, vi x5)]) rfl ?_
  refine zo_aload_n hY dX17_asks_74 rfl 1 rfl ?_
  refine zo_getG hY LX17_3_14 rfl dX17_asks_75 h (fun h => ?_)
  refine zo_iload hY dX17_asks_78 6 rfl ?_
  refine zo_iload_n hY dX17_asks_80 rfl 3 rfl ?_
  refine zo_iload_n hY dX17_asks_81 rfl 4 rfl ?_
  refine zo_callVN hY (fun q hq => mt_X1_lookedAt hJ hCon N x5 x2 x3 Ω q hq) (by decide) (by decide) (by decide) cn_X1_lookedAt rfl q1008 q1010 qs27 q78 q1011 (Nat.le_of_ble_eq_true rfl) dX17_asks_82 rfl h (ci_k (fun r4 Ω3 res h => ?_))
  refine zo_aload_n hY dX17_asks_85 rfl 1 rfl ?_
  refine zo_getG hY LX17_3_14 rfl dX17_asks_86 h (fun h => ?_)
  refine zo_getI hY LX17_68_0 rfl dX17_asks_89 ?_
  refine zo_icmp_lt hY 131 dX17_asks_92 (by decide) h (fun c5 h => ?_) (fun c5 h => ?_)
  · refine zo_sub [] rfl ?_
    exact ct_X17_asks_131 hY hJ hCon hr N Ω3 _ h
  · refine zo_iload hY dX17_asks_95 0 rfl ?_
    refine zo_if_lt hY 131 dX17_asks_97 (by decide) h (fun c6 h => ?_) (fun c6 h => ?_)
    · refine zo_sub [] rfl ?_
      exact ct_X17_asks_131 hY hJ hCon hr N Ω3 _ h
    · refine zo_iload hY dX17_asks_100 0 rfl ?_
      refine zo_sipush hY 800 (by decide) dX17_asks_102 ?_
      refine zo_icmp_gt hY 131 dX17_asks_105 (by decide) h (fun c7 h => ?_) (fun c7 h => ?_)
      · refine zo_sub [] rfl ?_
        exact ct_X17_asks_131 hY hJ hCon hr N Ω3 _ h
      · refine zo_aload_n hY dX17_asks_108 rfl 1 rfl ?_
        refine zo_getK hY LX17_22_14 rfl dX17_asks_109 h (fun j8 h => ?_)
        refine zo_new hY hJ (k := 17) (by decide) (Or.inl rfl) rfl q1015 q1016 q114 dX17_asks_112 h (fun Ω9 res h => ?_)
        refine zo_dup hY dX17_asks_115 (Or.inr ⟨_, rfl⟩) ?_
        refine zo_iload hY dX17_asks_116 6 rfl ?_
        refine zo_iload hY dX17_asks_118 0 rfl ?_
        refine zo_aload_n hY dX17_asks_120 rfl 2 rfl ?_
        refine zo_getI hY LX17_73_15 rfl dX17_asks_121 ?_
        refine zo_callI hY (fun q hq => mt_X21_init hJ hCon N (gC Ω3 17) x5 y2 (gI Ω9 15 x1 3) Ω9 q hq) (by decide) (by decide) cn_X21_init rfl rfl q1017 q1018 q114 q1019 (Nat.le_of_ble_eq_true rfl) dX17_asks_124 rfl h (cv_k (fun Ω10 res h => ?_))
        refine zo_callV hY (fun q hq => mt_J2_add hJ hCon N j8 (some (17, gC Ω3 17)) Ω10 q hq) (by decide) (by decide) (by decide) ⟨rfl, cn_J2_add⟩ rfl q1007 q285 q286 q81 q287 (Nat.le_of_ble_eq_true rfl) dX17_asks_127 rfl h (ci_k (fun r12 Ω11 res h => ?_))
        refine zo_pop hY dX17_asks_130 (Or.inl rfl) ?_
        refine zo_sub [] rfl ?_
        exact ct_X17_asks_131 hY hJ hCon hr N Ω11 _ h
def fn_X17_asks (N : Nat) (x0 : Nat) (x1 : Nat) (x2 : Int32) (x3 : Int32) (Ω : zo_O) : Option zo_R :=
  bk (gR Ω 15 x1 0) 2 fun j1 =>
  li ((gI Ω 15 x1 1) - (gI Ω 2 j1 5)) fun y2 =>
  bk (gR Ω 15 x1 0) 2 fun j3 =>
  li (gI Ω 2 j3 1) fun y4 =>
  if 0 ≤ y2 then (
    if 800 < y2 then (
      fn_X17_asks_60 N x0 x1 x2 x3 y2 y4 Ω
      ) else
    bk (gR Ω 14 x0 0) 20 fun j7 =>
    ad 1 3 <| lt (nw Ω 16 0) fun Ω8 =>
    cv (fn_X20_init N (gC Ω 16) y4 y2 (gI Ω8 15 x1 2) Ω8) fun Ω9 =>
    ci (fn_J2_add N j7 (some (16, gC Ω 16)) Ω9) fun r11 Ω10 =>
    fn_X17_asks_60 N x0 x1 x2 x3 y2 y4 Ω10
    ) else
  rV Ω
theorem mt_X17_asks {G : zo_G} {J : zo_O → Prop} (hJ : zo_JC J) (hCon : ∀ Ω, J Ω → zo_Con Ω) (N : Nat) (x0 : Nat) (x1 : Nat) (x2 : Int32) (x3 : Int32) (Ω : zo_O) (res : zo_R) (h : fn_X17_asks N x0 x1 x2 x3 Ω = some res) : zo_MT G J yX17_asks cX17_asks 7 (Option.none : Option Jvm.ClassFile.FieldType) 7 [vr 14 x0, vr 15 x1, vi x2, vi x3] Ω res := by
  refine zo_enter (by decide) rfl (Nat.le_of_ble_eq_true rfl) (fun Y hY eJ hr hmn => ?_)
  subst eJ
  show TW Y res Ω 0 [(0, vr 14 x0), (1, vr 15 x1), (2, vi x2), (3, vi x3)] []
  unfold fn_X17_asks at h
  refine zo_aload_n hY dX17_asks_0 rfl 1 rfl ?_
  refine zo_getI hY LX17_34_15 rfl dX17_asks_1 ?_
  refine zo_aload_n hY dX17_asks_4 rfl 1 rfl ?_
  refine zo_getK hY LX17_39_15 rfl dX17_asks_5 h (fun j1 h => ?_)
  refine zo_getI hY LX17_42_2 rfl dX17_asks_8 ?_
  refine zo_isub hY dX17_asks_11 ?_
  refine zo_nmi h (fun y2 h => ?_)
  refine zo_istore hY dX17_asks_12 (by decide) rfl (ls' := [(4, vi y2), (0, vr 14 x0), (1, vr 15 x1), (2, vi x2), (3, vi x3)]) rfl ?_
  refine zo_aload_n hY dX17_asks_14 rfl 2 rfl ?_
  refine zo_getK hY LX17_39_15 rfl dX17_asks_15 h (fun j3 h => ?_)
  refine zo_getI hY LX17_45_2 rfl dX17_asks_18 ?_
  refine zo_nmi h (fun y4 h => ?_)
  refine zo_istore hY dX17_asks_21 (by decide) rfl (ls' := [(5, vi y4), (4, vi y2), (0, vr 14 x0), (1, vr 15 x1), (2, vi x2), (3, vi x3)]) rfl ?_
  refine zo_iload hY dX17_asks_23 1 rfl ?_
  refine zo_if_ge hY 29 dX17_asks_25 (by decide) h (fun c5 h => ?_) (fun c5 h => ?_)
  · refine zo_iload hY dX17_asks_29 1 rfl ?_
    refine zo_sipush hY 800 (by decide) dX17_asks_31 ?_
    refine zo_icmp_gt hY 60 dX17_asks_34 (by decide) h (fun c6 h => ?_) (fun c6 h => ?_)
    · refine zo_sub [2, 3, 4, 5, 1, 0] rfl ?_
      exact ct_X17_asks_60 hY hJ hCon hr N x0 x1 x2 x3 y2 y4 Ω _ h
    · refine zo_aload_n hY dX17_asks_37 rfl 2 rfl ?_
      refine zo_getK hY LX17_18_14 rfl dX17_asks_38 h (fun j7 h => ?_)
      refine zo_new hY hJ (k := 16) (by decide) (Or.inl rfl) rfl q973 q974 q113 dX17_asks_41 h (fun Ω8 res h => ?_)
      refine zo_dup hY dX17_asks_44 (Or.inr ⟨_, rfl⟩) ?_
      refine zo_iload hY dX17_asks_45 0 rfl ?_
      refine zo_iload hY dX17_asks_47 1 rfl ?_
      refine zo_aload_n hY dX17_asks_49 rfl 3 rfl ?_
      refine zo_getI hY LX17_50_15 rfl dX17_asks_50 ?_
      refine zo_callI hY (fun q hq => mt_X20_init hJ hCon N (gC Ω 16) y4 y2 (gI Ω8 15 x1 2) Ω8 q hq) (by decide) (by decide) cn_X20_init rfl rfl q975 q976 q113 q977 (Nat.le_of_ble_eq_true rfl) dX17_asks_53 rfl h (cv_k (fun Ω9 res h => ?_))
      refine zo_callV hY (fun q hq => mt_J2_add hJ hCon N j7 (some (16, gC Ω 16)) Ω9 q hq) (by decide) (by decide) (by decide) ⟨rfl, cn_J2_add⟩ rfl q1007 q285 q286 q81 q287 (Nat.le_of_ble_eq_true rfl) dX17_asks_56 rfl h (ci_k (fun r11 Ω10 res h => ?_))
      refine zo_pop hY dX17_asks_59 (Or.inl rfl) ?_
      refine zo_sub [2, 3, 4, 5, 1, 0] rfl ?_
      exact ct_X17_asks_60 hY hJ hCon hr N x0 x1 x2 x3 y2 y4 Ω10 _ h
  · exact zo_vret hY hr dX17_asks_28 h
theorem dX1_begins_0 : decode cX1_begins 0 = .ok (.aload_n 0, 1) := by decide +kernel
theorem dX1_begins_1 : decode cX1_begins 1 = .ok (.iload_n 1, 1) := by decide +kernel
theorem dX1_begins_2 : decode cX1_begins 2 = .ok (.invokevirtual 230, 3) := by decide +kernel
theorem dX1_begins_5 : decode cX1_begins 5 = .ok (.iconst 0, 1) := by decide +kernel
theorem dX1_begins_6 : decode cX1_begins 6 = .ok (.istore_n 2, 1) := by decide +kernel
theorem dX1_begins_7 : decode cX1_begins 7 = .ok (.iload_n 2, 1) := by decide +kernel
theorem dX1_begins_8 : decode cX1_begins 8 = .ok (.aload_n 0, 1) := by decide +kernel
theorem dX1_begins_9 : decode cX1_begins 9 = .ok (.getfield 69, 3) := by decide +kernel
theorem dX1_begins_12 : decode cX1_begins 12 = .ok (.arraylength, 1) := by decide +kernel
theorem dX1_begins_13 : decode cX1_begins 13 = .ok (.if_icmp .ge 16, 3) := by decide +kernel
theorem dX1_begins_16 : decode cX1_begins 16 = .ok (.aload_n 0, 1) := by decide +kernel
theorem dX1_begins_17 : decode cX1_begins 17 = .ok (.getfield 69, 3) := by decide +kernel
theorem dX1_begins_20 : decode cX1_begins 20 = .ok (.iload_n 2, 1) := by decide +kernel
theorem dX1_begins_21 : decode cX1_begins 21 = .ok (.aconst_null, 1) := by decide +kernel
theorem dX1_begins_22 : decode cX1_begins 22 = .ok (.aastore, 1) := by decide +kernel
theorem dX1_begins_23 : decode cX1_begins 23 = .ok (.iinc 2 1, 3) := by decide +kernel
theorem dX1_begins_26 : decode cX1_begins 26 = .ok (.goto (-19), 3) := by decide +kernel
theorem dX1_begins_29 : decode cX1_begins 29 = .ok (.return_, 1) := by decide +kernel
def bd_X1_begins_7 (N : Nat)  (K7 : Int32 → zo_O → Option zo_R) (x2 : Int32) (Ω : zo_O) : Option zo_R :=
  if nI 18 ≤ x2 then (
    rV Ω
    ) else
  ix x2 18 fun j2 => lt (sR Ω 39 0 j2 none) fun Ω3 =>
  K7 (x2 + 1) Ω3
theorem cb_X1_begins_7 {Y : zo_Y} (hY : zo_Gd Y cX1_begins 3 RX1 4) (hJ : zo_JC (zo_J Y)) (hCon : ∀ Ω, zo_J Y Ω → zo_Con Ω) (hr : zo_rt Y (Option.none : Option Jvm.ClassFile.FieldType)) (N : Nat)  (K7 : Int32 → zo_O → Option zo_R)  (hK7 : ∀ (x2 : Int32) (Ω : zo_O) (res : zo_R), K7 x2 Ω = some res → TW Y res Ω 7 [(0, vr 0 0), (2, vi x2)] []) (x2 : Int32) (Ω : zo_O) (res : zo_R) (h : bd_X1_begins_7 N  K7 x2 Ω = some res) : TW Y res Ω 7 [(0, vr 0 0), (2, vi x2)] [] := by
  unfold bd_X1_begins_7 at h
  refine zo_iload_n hY dX1_begins_7 rfl 1 rfl ?_
  refine zo_aload_n hY dX1_begins_8 rfl 0 rfl ?_
  refine zo_getC hY LX1_69_0 rfl (fun Ω q => (hCon Ω q).1 18 _ rfl) dX1_begins_9 ?_
  refine zo_alen hY (by decide) (by decide) (fun q => (hCon _ q).2.2.2 39 0 18 rfl) dX1_begins_12 ?_
  refine zo_icmp_ge hY 29 dX1_begins_13 (by decide) h (fun c1 h => ?_) (fun c1 h => ?_)
  · exact zo_vret hY hr dX1_begins_29 h
  · refine zo_aload_n hY dX1_begins_16 rfl 0 rfl ?_
    refine zo_getC hY LX1_69_0 rfl (fun Ω q => (hCon Ω q).1 18 _ rfl) dX1_begins_17 ?_
    refine zo_iload_n hY dX1_begins_20 rfl 1 rfl ?_
    refine zo_null hY dX1_begins_21 ?_
    refine zo_astR hY hJ (K := 14) (by decide) (by decide) ⟨rfl, fun _ => rfl⟩ (by decide) rfl (Or.inl rfl) dX1_begins_22 (fun q => (hCon _ q).2.2.2 39 0 18 rfl) h (fun j2 Ω3 h => ?_)
    refine zo_iinc hY 1 dX1_begins_23 (by decide) (by decide) 1 rfl rfl (ls' := [(2, vi (x2 + 1)), (0, vr 0 0)]) rfl ?_
    refine zo_goto hY 7 dX1_begins_26 (by decide) ?_
    refine zo_sub [1, 0] rfl ?_
    exact hK7 (x2 + 1) Ω3 _ h
def fn_X1_begins_7 (N : Nat)  : Nat → Int32 → zo_O → Option zo_R
  | 0, _, _ => none
  | n + 1, x2, Ω => bd_X1_begins_7 N  (fn_X1_begins_7 N  n) x2 Ω
theorem ct_X1_begins_7 {Y : zo_Y} (hY : zo_Gd Y cX1_begins 3 RX1 4) (hJ : zo_JC (zo_J Y)) (hCon : ∀ Ω, zo_J Y Ω → zo_Con Ω) (hr : zo_rt Y (Option.none : Option Jvm.ClassFile.FieldType)) (N : Nat)   : ∀ (n : Nat) (x2 : Int32) (Ω : zo_O) (res : zo_R), fn_X1_begins_7 N  n x2 Ω = some res → TW Y res Ω 7 [(0, vr 0 0), (2, vi x2)] [] := by
  intro n
  induction n with
  | zero => intro x2 Ω res h; exact nomatch (show (none : Option zo_R) = some res from h)
  | succ n ih => intro x2 Ω res h; exact cb_X1_begins_7 hY hJ hCon hr N  (fn_X1_begins_7 N  n)  ih x2 Ω res h
def fn_X1_begins (N : Nat) (x1 : Int32) (Ω : zo_O) : Option zo_R :=
  cv (fn_X1_findHabits N x1 Ω) fun Ω1 =>
  fn_X1_begins_7 N N 0 Ω1
theorem mt_X1_begins {G : zo_G} {J : zo_O → Prop} (hJ : zo_JC J) (hCon : ∀ Ω, J Ω → zo_Con Ω) (N : Nat) (x1 : Int32) (Ω : zo_O) (res : zo_R) (h : fn_X1_begins N x1 Ω = some res) : zo_MT G J yX1_begins cX1_begins 3 (Option.none : Option Jvm.ClassFile.FieldType) 4 [vr 0 0, vi x1] Ω res := by
  refine zo_enter (by decide) rfl (Nat.le_of_ble_eq_true rfl) (fun Y hY eJ hr hmn => ?_)
  subst eJ
  show TW Y res Ω 0 [(0, vr 0 0), (1, vi x1)] []
  unfold fn_X1_begins at h
  refine zo_aload_n hY dX1_begins_0 rfl 0 rfl ?_
  refine zo_iload_n hY dX1_begins_1 rfl 1 rfl ?_
  refine zo_callV hY (fun q hq => mt_X1_findHabits hJ hCon N x1 Ω q hq) (by decide) (by decide) (by decide) ⟨rfl, cn_X1_findHabits⟩ rfl q820 q822 qs18 q78 q823 (Nat.le_of_ble_eq_true rfl) dX1_begins_2 rfl h (cv_k (fun Ω1 res h => ?_))
  refine zo_iconst hY 0 (by decide) dX1_begins_5 ?_
  refine zo_istore_n hY dX1_begins_6 rfl (by decide) rfl (ls' := [(2, vi 0), (0, vr 0 0), (1, vi x1)]) rfl ?_
  refine zo_sub [1, 0] rfl ?_
  exact ct_X1_begins_7 hY hJ hCon hr N N 0 Ω1 _ h
theorem dX17_init_0 : decode cX17_init 0 = .ok (.aload_n 0, 1) := by decide +kernel
theorem dX17_init_1 : decode cX17_init 1 = .ok (.aload_n 1, 1) := by decide +kernel
theorem dX17_init_2 : decode cX17_init 2 = .ok (.putfield 3, 3) := by decide +kernel
theorem dX17_init_5 : decode cX17_init 5 = .ok (.aload_n 0, 1) := by decide +kernel
theorem dX17_init_6 : decode cX17_init 6 = .ok (.invokespecial 9, 3) := by decide +kernel
theorem dX17_init_9 : decode cX17_init 9 = .ok (.aload_n 0, 1) := by decide +kernel
theorem dX17_init_10 : decode cX17_init 10 = .ok (.new 15, 3) := by decide +kernel
theorem dX17_init_13 : decode cX17_init 13 = .ok (.dup, 1) := by decide +kernel
theorem dX17_init_14 : decode cX17_init 14 = .ok (.invokespecial 17, 3) := by decide +kernel
theorem dX17_init_17 : decode cX17_init 17 = .ok (.putfield 18, 3) := by decide +kernel
theorem dX17_init_20 : decode cX17_init 20 = .ok (.aload_n 0, 1) := by decide +kernel
theorem dX17_init_21 : decode cX17_init 21 = .ok (.new 15, 3) := by decide +kernel
theorem dX17_init_24 : decode cX17_init 24 = .ok (.dup, 1) := by decide +kernel
theorem dX17_init_25 : decode cX17_init 25 = .ok (.invokespecial 17, 3) := by decide +kernel
theorem dX17_init_28 : decode cX17_init 28 = .ok (.putfield 22, 3) := by decide +kernel
theorem dX17_init_31 : decode cX17_init 31 = .ok (.return_, 1) := by decide +kernel
def fn_X17_init (N : Nat) (x0 : Nat) (Ω : zo_O) : Option zo_R :=
  lt (sR Ω 14 x0 3 (some (0, 0))) fun Ω1 =>
  ad 1 3 <| lt (nw Ω1 20 0) fun Ω2 =>
  lt (sR Ω2 14 x0 0 (some (20, gC Ω1 20))) fun Ω3 =>
  ad 1 3 <| lt (nw Ω3 20 0) fun Ω4 =>
  lt (sR Ω4 14 x0 1 (some (20, gC Ω3 20))) fun Ω5 =>
  rV Ω5
theorem mt_X17_init {G : zo_G} {J : zo_O → Prop} (hJ : zo_JC J) (hCon : ∀ Ω, J Ω → zo_Con Ω) (N : Nat) (x0 : Nat) (Ω : zo_O) (res : zo_R) (h : fn_X17_init N x0 Ω = some res) : zo_MT G J yX17_init cX17_init 2 (Option.none : Option Jvm.ClassFile.FieldType) 5 [vr 14 x0, vr 0 0] Ω res := by
  refine zo_enter (by decide) rfl (Nat.le_of_ble_eq_true rfl) (fun Y hY eJ hr hmn => ?_)
  subst eJ
  have hmn := hmn rfl
  show TW Y res Ω 0 [(0, vr 14 x0), (1, vr 0 0)] []
  unfold fn_X17_init at h
  refine zo_aload_n hY dX17_init_0 rfl 0 rfl ?_
  refine zo_aload_n hY dX17_init_1 rfl 1 rfl ?_
  refine zo_putR hY hJ LX17_3_14 rfl (Or.inl rfl) (Or.inr ⟨rfl, hmn, rfl, _, q913, Or.inl rfl⟩) dX17_init_2 h (fun Ω1 h => ?_)
  refine zo_aload_n hY dX17_init_5 rfl 0 rfl ?_
  refine zo_oini hY (by decide) q906 (fun ρ => zo_room8 (Nat.le_of_ble_eq_true rfl)) dX17_init_6 ?_
  refine zo_aload_n hY dX17_init_9 rfl 0 rfl ?_
  refine zo_newL hY hJ (by decide) q907 q908 (Nat.le_of_ble_eq_true rfl) dX17_init_10 dX17_init_13 dX17_init_14 h (fun Ω2 res h => ?_)
  refine zo_putR hY hJ LX17_18_14 rfl (Or.inl rfl) (Or.inr ⟨rfl, hmn, rfl, _, q909, Or.inl rfl⟩) dX17_init_17 h (fun Ω3 h => ?_)
  refine zo_aload_n hY dX17_init_20 rfl 0 rfl ?_
  refine zo_newL hY hJ (by decide) q907 q908 (Nat.le_of_ble_eq_true rfl) dX17_init_21 dX17_init_24 dX17_init_25 h (fun Ω4 res h => ?_)
  refine zo_putR hY hJ LX17_22_14 rfl (Or.inl rfl) (Or.inr ⟨rfl, hmn, rfl, _, q910, Or.inl rfl⟩) dX17_init_28 h (fun Ω5 h => ?_)
  exact zo_vret hY hr dX17_init_31 h
theorem dX4_isDated_0 : decode cX4_isDated 0 = .ok (.aload_n 0, 1) := by decide +kernel
theorem dX4_isDated_1 : decode cX4_isDated 1 = .ok (.getfield 24, 3) := by decide +kernel
theorem dX4_isDated_4 : decode cX4_isDated 4 = .ok (.iconst (-1), 1) := by decide +kernel
theorem dX4_isDated_5 : decode cX4_isDated 5 = .ok (.if_icmp .eq 7, 3) := by decide +kernel
theorem dX4_isDated_8 : decode cX4_isDated 8 = .ok (.iconst 1, 1) := by decide +kernel
theorem dX4_isDated_9 : decode cX4_isDated 9 = .ok (.goto 4, 3) := by decide +kernel
theorem dX4_isDated_12 : decode cX4_isDated 12 = .ok (.iconst 0, 1) := by decide +kernel
theorem dX4_isDated_13 : decode cX4_isDated 13 = .ok (.ireturn, 1) := by decide +kernel
def fn_X4_isDated_13 (N : Nat)  (s0 : Int32) (Ω : zo_O) : Option zo_R :=
  rZ s0 Ω
theorem ct_X4_isDated_13 {Y : zo_Y} (hY : zo_Gd Y cX4_isDated 1 RX4 0) (hJ : zo_JC (zo_J Y)) (hCon : ∀ Ω, zo_J Y Ω → zo_Con Ω) (hr : zo_rt Y (Option.some Jvm.ClassFile.FieldType.boolean)) (N : Nat)   (s0 : Int32) (Ω : zo_O) (res : zo_R) (h : fn_X4_isDated_13 N  s0 Ω = some res) : TW Y res Ω 13 [] [vi s0] := by
  unfold fn_X4_isDated_13 at h
  exact zo_zret hY hr dX4_isDated_13 h
def fn_X4_isDated (N : Nat) (x0 : Nat) (Ω : zo_O) : Option zo_R :=
  if gI Ω 2 x0 5 = (-1) then (
    fn_X4_isDated_13 N 0 Ω
    ) else
  fn_X4_isDated_13 N 1 Ω
theorem mt_X4_isDated {G : zo_G} {J : zo_O → Prop} (hJ : zo_JC J) (hCon : ∀ Ω, J Ω → zo_Con Ω) (N : Nat) (x0 : Nat) (Ω : zo_O) (res : zo_R) (h : fn_X4_isDated N x0 Ω = some res) : zo_MT G J yX4_isDated cX4_isDated 1 (Option.some Jvm.ClassFile.FieldType.boolean) 0 [vr 2 x0] Ω res := by
  refine zo_enter (by decide) rfl (Nat.le_of_ble_eq_true rfl) (fun Y hY eJ hr hmn => ?_)
  subst eJ
  show TW Y res Ω 0 [(0, vr 2 x0)] []
  unfold fn_X4_isDated at h
  refine zo_aload_n hY dX4_isDated_0 rfl 0 rfl ?_
  refine zo_getI hY LX4_24_2 rfl dX4_isDated_1 ?_
  refine zo_iconst hY (-1) (by decide) dX4_isDated_4 ?_
  refine zo_icmp_eq hY 12 dX4_isDated_5 (by decide) h (fun c1 h => ?_) (fun c1 h => ?_)
  · refine zo_iconst hY 0 (by decide) dX4_isDated_12 ?_
    refine zo_sub [] rfl ?_
    exact ct_X4_isDated_13 hY hJ hCon hr N 0 Ω _ h
  · refine zo_iconst hY 1 (by decide) dX4_isDated_8 ?_
    refine zo_goto hY 13 dX4_isDated_9 (by decide) ?_
    refine zo_sub [] rfl ?_
    exact ct_X4_isDated_13 hY hJ hCon hr N 1 Ω _ h
theorem dX4_isLike_0 : decode cX4_isLike 0 = .ok (.aload_n 0, 1) := by decide +kernel
theorem dX4_isLike_1 : decode cX4_isLike 1 = .ok (.getfield 15, 3) := by decide +kernel
theorem dX4_isLike_4 : decode cX4_isLike 4 = .ok (.iload_n 1, 1) := by decide +kernel
theorem dX4_isLike_5 : decode cX4_isLike 5 = .ok (.if_icmp .ne 15, 3) := by decide +kernel
theorem dX4_isLike_8 : decode cX4_isLike 8 = .ok (.aload_n 0, 1) := by decide +kernel
theorem dX4_isLike_9 : decode cX4_isLike 9 = .ok (.getfield 18, 3) := by decide +kernel
theorem dX4_isLike_12 : decode cX4_isLike 12 = .ok (.iload_n 2, 1) := by decide +kernel
theorem dX4_isLike_13 : decode cX4_isLike 13 = .ok (.if_icmp .ne 7, 3) := by decide +kernel
theorem dX4_isLike_16 : decode cX4_isLike 16 = .ok (.iconst 1, 1) := by decide +kernel
theorem dX4_isLike_17 : decode cX4_isLike 17 = .ok (.goto 4, 3) := by decide +kernel
theorem dX4_isLike_20 : decode cX4_isLike 20 = .ok (.iconst 0, 1) := by decide +kernel
theorem dX4_isLike_21 : decode cX4_isLike 21 = .ok (.ireturn, 1) := by decide +kernel
def fn_X4_isLike_21 (N : Nat)  (s0 : Int32) (Ω : zo_O) : Option zo_R :=
  rZ s0 Ω
theorem ct_X4_isLike_21 {Y : zo_Y} (hY : zo_Gd Y cX4_isLike 3 RX4 0) (hJ : zo_JC (zo_J Y)) (hCon : ∀ Ω, zo_J Y Ω → zo_Con Ω) (hr : zo_rt Y (Option.some Jvm.ClassFile.FieldType.boolean)) (N : Nat)   (s0 : Int32) (Ω : zo_O) (res : zo_R) (h : fn_X4_isLike_21 N  s0 Ω = some res) : TW Y res Ω 21 [] [vi s0] := by
  unfold fn_X4_isLike_21 at h
  exact zo_zret hY hr dX4_isLike_21 h
def fn_X4_isLike_20 (N : Nat)   (Ω : zo_O) : Option zo_R :=
  fn_X4_isLike_21 N 0 Ω
theorem ct_X4_isLike_20 {Y : zo_Y} (hY : zo_Gd Y cX4_isLike 3 RX4 0) (hJ : zo_JC (zo_J Y)) (hCon : ∀ Ω, zo_J Y Ω → zo_Con Ω) (hr : zo_rt Y (Option.some Jvm.ClassFile.FieldType.boolean)) (N : Nat)    (Ω : zo_O) (res : zo_R) (h : fn_X4_isLike_20 N   Ω = some res) : TW Y res Ω 20 [] [] := by
  unfold fn_X4_isLike_20 at h
  refine zo_iconst hY 0 (by decide) dX4_isLike_20 ?_
  exact ct_X4_isLike_21 hY hJ hCon hr N 0 Ω _ h
def fn_X4_isLike (N : Nat) (x0 : Nat) (x1 : Int32) (x2 : Int32) (Ω : zo_O) : Option zo_R :=
  if gI Ω 2 x0 2 = x1 then (
    if gI Ω 2 x0 3 = x2 then (
      fn_X4_isLike_21 N 1 Ω
      ) else
    fn_X4_isLike_20 N Ω
    ) else
  fn_X4_isLike_20 N Ω
theorem mt_X4_isLike {G : zo_G} {J : zo_O → Prop} (hJ : zo_JC J) (hCon : ∀ Ω, J Ω → zo_Con Ω) (N : Nat) (x0 : Nat) (x1 : Int32) (x2 : Int32) (Ω : zo_O) (res : zo_R) (h : fn_X4_isLike N x0 x1 x2 Ω = some res) : zo_MT G J yX4_isLike cX4_isLike 3 (Option.some Jvm.ClassFile.FieldType.boolean) 0 [vr 2 x0, vi x1, vi x2] Ω res := by
  refine zo_enter (by decide) rfl (Nat.le_of_ble_eq_true rfl) (fun Y hY eJ hr hmn => ?_)
  subst eJ
  show TW Y res Ω 0 [(0, vr 2 x0), (1, vi x1), (2, vi x2)] []
  unfold fn_X4_isLike at h
  refine zo_aload_n hY dX4_isLike_0 rfl 0 rfl ?_
  refine zo_getI hY LX4_15_2 rfl dX4_isLike_1 ?_
  refine zo_iload_n hY dX4_isLike_4 rfl 1 rfl ?_
  refine zo_icmp_ne hY 20 dX4_isLike_5 (by decide) h (fun c1 h => ?_) (fun c1 h => ?_)
  · refine zo_aload_n hY dX4_isLike_8 rfl 0 rfl ?_
    refine zo_getI hY LX4_18_2 rfl dX4_isLike_9 ?_
    refine zo_iload_n hY dX4_isLike_12 rfl 2 rfl ?_
    refine zo_icmp_ne hY 20 dX4_isLike_13 (by decide) h (fun c2 h => ?_) (fun c2 h => ?_)
    · refine zo_iconst hY 1 (by decide) dX4_isLike_16 ?_
      refine zo_goto hY 21 dX4_isLike_17 (by decide) ?_
      refine zo_sub [] rfl ?_
      exact ct_X4_isLike_21 hY hJ hCon hr N 1 Ω _ h
    · refine zo_sub [] rfl ?_
      exact ct_X4_isLike_20 hY hJ hCon hr N Ω _ h
  · refine zo_sub [] rfl ?_
    exact ct_X4_isLike_20 hY hJ hCon hr N Ω _ h
theorem dX1_curve_0 : decode cX1_curve 0 = .ok (.iload_n 1, 1) := by decide +kernel
theorem dX1_curve_1 : decode cX1_curve 1 = .ok (.iconst 2, 1) := by decide +kernel
theorem dX1_curve_2 : decode cX1_curve 2 = .ok (.imul, 1) := by decide +kernel
theorem dX1_curve_3 : decode cX1_curve 3 = .ok (.iload_n 2, 1) := by decide +kernel
theorem dX1_curve_4 : decode cX1_curve 4 = .ok (.iadd, 1) := by decide +kernel
theorem dX1_curve_5 : decode cX1_curve 5 = .ok (.iconst 3, 1) := by decide +kernel
theorem dX1_curve_6 : decode cX1_curve 6 = .ok (.imul, 1) := by decide +kernel
theorem dX1_curve_7 : decode cX1_curve 7 = .ok (.iload_n 3, 1) := by decide +kernel
theorem dX1_curve_8 : decode cX1_curve 8 = .ok (.iadd, 1) := by decide +kernel
theorem dX1_curve_9 : decode cX1_curve 9 = .ok (.istore 5, 2) := by decide +kernel
theorem dX1_curve_11 : decode cX1_curve 11 = .ok (.aload_n 0, 1) := by decide +kernel
theorem dX1_curve_12 : decode cX1_curve 12 = .ok (.getfield 69, 3) := by decide +kernel
theorem dX1_curve_15 : decode cX1_curve 15 = .ok (.iload 5, 2) := by decide +kernel
theorem dX1_curve_17 : decode cX1_curve 17 = .ok (.aaload, 1) := by decide +kernel
theorem dX1_curve_18 : decode cX1_curve 18 = .ok (.ifnull 11, 3) := by decide +kernel
theorem dX1_curve_21 : decode cX1_curve 21 = .ok (.aload_n 0, 1) := by decide +kernel
theorem dX1_curve_22 : decode cX1_curve 22 = .ok (.getfield 69, 3) := by decide +kernel
theorem dX1_curve_25 : decode cX1_curve 25 = .ok (.iload 5, 2) := by decide +kernel
theorem dX1_curve_27 : decode cX1_curve 27 = .ok (.aaload, 1) := by decide +kernel
theorem dX1_curve_28 : decode cX1_curve 28 = .ok (.areturn, 1) := by decide +kernel
theorem dX1_curve_29 : decode cX1_curve 29 = .ok (.new 67, 3) := by decide +kernel
theorem dX1_curve_32 : decode cX1_curve 32 = .ok (.dup, 1) := by decide +kernel
theorem dX1_curve_33 : decode cX1_curve 33 = .ok (.aload_n 0, 1) := by decide +kernel
theorem dX1_curve_34 : decode cX1_curve 34 = .ok (.invokespecial 282, 3) := by decide +kernel
theorem dX1_curve_37 : decode cX1_curve 37 = .ok (.astore 6, 2) := by decide +kernel
theorem dX1_curve_39 : decode cX1_curve 39 = .ok (.new 13, 3) := by decide +kernel
theorem dX1_curve_42 : decode cX1_curve 42 = .ok (.dup, 1) := by decide +kernel
theorem dX1_curve_43 : decode cX1_curve 43 = .ok (.invokespecial 15, 3) := by decide +kernel
theorem dX1_curve_46 : decode cX1_curve 46 = .ok (.astore 7, 2) := by decide +kernel
theorem dX1_curve_48 : decode cX1_curve 48 = .ok (.iconst 0, 1) := by decide +kernel
theorem dX1_curve_49 : decode cX1_curve 49 = .ok (.istore 8, 2) := by decide +kernel
theorem dX1_curve_51 : decode cX1_curve 51 = .ok (.iload 8, 2) := by decide +kernel
theorem dX1_curve_53 : decode cX1_curve 53 = .ok (.aload_n 0, 1) := by decide +kernel
theorem dX1_curve_54 : decode cX1_curve 54 = .ok (.getfield 16, 3) := by decide +kernel
theorem dX1_curve_57 : decode cX1_curve 57 = .ok (.invokevirtual 85, 3) := by decide +kernel
theorem dX1_curve_60 : decode cX1_curve 60 = .ok (.if_icmp .ge 71, 3) := by decide +kernel
theorem dX1_curve_63 : decode cX1_curve 63 = .ok (.aload_n 0, 1) := by decide +kernel
theorem dX1_curve_64 : decode cX1_curve 64 = .ok (.getfield 16, 3) := by decide +kernel
theorem dX1_curve_67 : decode cX1_curve 67 = .ok (.iload 8, 2) := by decide +kernel
theorem dX1_curve_69 : decode cX1_curve 69 = .ok (.invokevirtual 116, 3) := by decide +kernel
theorem dX1_curve_72 : decode cX1_curve 72 = .ok (.checkcast 93, 3) := by decide +kernel
theorem dX1_curve_75 : decode cX1_curve 75 = .ok (.astore 9, 2) := by decide +kernel
theorem dX1_curve_77 : decode cX1_curve 77 = .ok (.aload 9, 2) := by decide +kernel
theorem dX1_curve_79 : decode cX1_curve 79 = .ok (.invokevirtual 283, 3) := by decide +kernel
theorem dX1_curve_82 : decode cX1_curve 82 = .ok (.ifCond .eq 43, 3) := by decide +kernel
theorem dX1_curve_85 : decode cX1_curve 85 = .ok (.aload 9, 2) := by decide +kernel
theorem dX1_curve_87 : decode cX1_curve 87 = .ok (.iload 4, 2) := by decide +kernel
theorem dX1_curve_89 : decode cX1_curve 89 = .ok (.invokevirtual 156, 3) := by decide +kernel
theorem dX1_curve_92 : decode cX1_curve 92 = .ok (.ifCond .eq 33, 3) := by decide +kernel
theorem dX1_curve_95 : decode cX1_curve 95 = .ok (.aload 9, 2) := by decide +kernel
theorem dX1_curve_97 : decode cX1_curve 97 = .ok (.iload_n 2, 1) := by decide +kernel
theorem dX1_curve_98 : decode cX1_curve 98 = .ok (.iload_n 3, 1) := by decide +kernel
theorem dX1_curve_99 : decode cX1_curve 99 = .ok (.invokevirtual 286, 3) := by decide +kernel
theorem dX1_curve_102 : decode cX1_curve 102 = .ok (.ifCond .eq 23, 3) := by decide +kernel
theorem dX1_curve_105 : decode cX1_curve 105 = .ok (.iload 8, 2) := by decide +kernel
theorem dX1_curve_107 : decode cX1_curve 107 = .ok (.aload_n 0, 1) := by decide +kernel
theorem dX1_curve_108 : decode cX1_curve 108 = .ok (.getfield 73, 3) := by decide +kernel
theorem dX1_curve_111 : decode cX1_curve 111 = .ok (.if_icmp .eq 14, 3) := by decide +kernel
theorem dX1_curve_114 : decode cX1_curve 114 = .ok (.aload_n 0, 1) := by decide +kernel
theorem dX1_curve_115 : decode cX1_curve 115 = .ok (.aload 7, 2) := by decide +kernel
theorem dX1_curve_117 : decode cX1_curve 117 = .ok (.aload 9, 2) := by decide +kernel
theorem dX1_curve_119 : decode cX1_curve 119 = .ok (.iload_n 1, 1) := by decide +kernel
theorem dX1_curve_120 : decode cX1_curve 120 = .ok (.iload 4, 2) := by decide +kernel
theorem dX1_curve_122 : decode cX1_curve 122 = .ok (.invokevirtual 290, 3) := by decide +kernel
theorem dX1_curve_125 : decode cX1_curve 125 = .ok (.iinc 8 1, 3) := by decide +kernel
theorem dX1_curve_128 : decode cX1_curve 128 = .ok (.goto (-77), 3) := by decide +kernel
theorem dX1_curve_131 : decode cX1_curve 131 = .ok (.iconst 0, 1) := by decide +kernel
theorem dX1_curve_132 : decode cX1_curve 132 = .ok (.istore 8, 2) := by decide +kernel
theorem dX1_curve_134 : decode cX1_curve 134 = .ok (.iload 8, 2) := by decide +kernel
theorem dX1_curve_136 : decode cX1_curve 136 = .ok (.aload 7, 2) := by decide +kernel
theorem dX1_curve_138 : decode cX1_curve 138 = .ok (.invokevirtual 85, 3) := by decide +kernel
theorem dX1_curve_141 : decode cX1_curve 141 = .ok (.if_icmp .ge 27, 3) := by decide +kernel
theorem dX1_curve_144 : decode cX1_curve 144 = .ok (.aload 6, 2) := by decide +kernel
theorem dX1_curve_146 : decode cX1_curve 146 = .ok (.aload 7, 2) := by decide +kernel
theorem dX1_curve_148 : decode cX1_curve 148 = .ok (.iload 8, 2) := by decide +kernel
theorem dX1_curve_150 : decode cX1_curve 150 = .ok (.invokevirtual 116, 3) := by decide +kernel
theorem dX1_curve_153 : decode cX1_curve 153 = .ok (.checkcast 272, 3) := by decide +kernel
theorem dX1_curve_156 : decode cX1_curve 156 = .ok (.iload_n 1, 1) := by decide +kernel
theorem dX1_curve_157 : decode cX1_curve 157 = .ok (.iload 4, 2) := by decide +kernel
theorem dX1_curve_159 : decode cX1_curve 159 = .ok (.invokevirtual 294, 3) := by decide +kernel
theorem dX1_curve_162 : decode cX1_curve 162 = .ok (.iinc 8 1, 3) := by decide +kernel
theorem dX1_curve_165 : decode cX1_curve 165 = .ok (.goto (-31), 3) := by decide +kernel
theorem dX1_curve_168 : decode cX1_curve 168 = .ok (.aload 6, 2) := by decide +kernel
theorem dX1_curve_170 : decode cX1_curve 170 = .ok (.invokevirtual 298, 3) := by decide +kernel
theorem dX1_curve_173 : decode cX1_curve 173 = .ok (.aload_n 0, 1) := by decide +kernel
theorem dX1_curve_174 : decode cX1_curve 174 = .ok (.getfield 69, 3) := by decide +kernel
theorem dX1_curve_177 : decode cX1_curve 177 = .ok (.iload 5, 2) := by decide +kernel
theorem dX1_curve_179 : decode cX1_curve 179 = .ok (.aload 6, 2) := by decide +kernel
theorem dX1_curve_181 : decode cX1_curve 181 = .ok (.aastore, 1) := by decide +kernel
theorem dX1_curve_182 : decode cX1_curve 182 = .ok (.aload 6, 2) := by decide +kernel
theorem dX1_curve_184 : decode cX1_curve 184 = .ok (.areturn, 1) := by decide +kernel
def fn_X1_curve_125 (N : Nat) (K51 : Int32 → Int32 → Int32 → Int32 → Int32 → Nat → Nat → Int32 → zo_O → Option zo_R) (x1 : Int32) (x2 : Int32) (x3 : Int32) (x4 : Int32) (x5 : Int32) (x6 : Nat) (x7 : Nat) (x8 : Int32) (Ω : zo_O) : Option zo_R :=
  K51 x1 x2 x3 x4 x5 x6 x7 (x8 + 1) Ω
theorem ct_X1_curve_125 {Y : zo_Y} (hY : zo_Gd Y cX1_curve 10 RX1 8) (hJ : zo_JC (zo_J Y)) (hCon : ∀ Ω, zo_J Y Ω → zo_Con Ω) (hr : zo_rt Y (Option.some (Jvm.ClassFile.FieldType.object "LichenTable$Curve"))) (N : Nat) (K51 : Int32 → Int32 → Int32 → Int32 → Int32 → Nat → Nat → Int32 → zo_O → Option zo_R) (hK51 : ∀ (x1 : Int32) (x2 : Int32) (x3 : Int32) (x4 : Int32) (x5 : Int32) (x6 : Nat) (x7 : Nat) (x8 : Int32) (Ω : zo_O) (res : zo_R), K51 x1 x2 x3 x4 x5 x6 x7 x8 Ω = some res → TW Y res Ω 51 [(0, vr 0 0), (1, vi x1), (2, vi x2), (3, vi x3), (4, vi x4), (5, vi x5), (6, vr 14 x6), (7, vr 20 x7), (8, vi x8)] []) (x1 : Int32) (x2 : Int32) (x3 : Int32) (x4 : Int32) (x5 : Int32) (x6 : Nat) (x7 : Nat) (x8 : Int32) (Ω : zo_O) (res : zo_R) (h : fn_X1_curve_125 N K51 x1 x2 x3 x4 x5 x6 x7 x8 Ω = some res) : TW Y res Ω 125 [(0, vr 0 0), (1, vi x1), (2, vi x2), (3, vi x3), (4, vi x4), (5, vi x5), (6, vr 14 x6), (7, vr 20 x7), (8, vi x8)] [] := by
  unfold fn_X1_curve_125 at h
  refine zo_iinc hY 1 dX1_curve_125 (by decide) (by decide) 8 rfl rfl (ls' := [(8, vi (x8 + 1)), (0, vr 0 0), (1, vi x1), (2, vi x2), (3, vi x3), (4, vi x4), (5, vi x5), (6, vr 14 x6), (7, vr 20 x7)]) rfl ?_
  refine zo_goto hY 51 dX1_curve_128 (by decide) ?_
  refine zo_sub [1, 2, 3, 4, 5, 6, 7, 8, 0] rfl ?_
  exact hK51 x1 x2 x3 x4 x5 x6 x7 (x8 + 1) Ω _ h
def bd_X1_curve_134 (N : Nat)  (K134 : Int32 → Int32 → Int32 → Nat → Nat → Int32 → zo_O → Option zo_R) (x1 : Int32) (x4 : Int32) (x5 : Int32) (x6 : Nat) (x7 : Nat) (x8 : Int32) (Ω : zo_O) : Option zo_R :=
  ci (fn_J2_size N x7 Ω) fun r2 Ω1 =>
  if r2 ≤ x8 then (
    cv (fn_X17_strikes N x6 Ω1) fun Ω4 =>
    ix x5 18 fun j5 => lt (sR Ω4 39 0 j5 (some (14, x6))) fun Ω6 =>
    rR (some (14, x6)) Ω6
    ) else
  cr (fn_J2_get N x7 x8 Ω1) fun r8 Ω7 =>
  bk r8 15 fun j9 =>
  cv (fn_X17_asks N x6 j9 x1 x4 Ω7) fun Ω10 =>
  K134 x1 x4 x5 x6 x7 (x8 + 1) Ω10
theorem cb_X1_curve_134 {Y : zo_Y} (hY : zo_Gd Y cX1_curve 10 RX1 8) (hJ : zo_JC (zo_J Y)) (hCon : ∀ Ω, zo_J Y Ω → zo_Con Ω) (hr : zo_rt Y (Option.some (Jvm.ClassFile.FieldType.object "LichenTable$Curve"))) (N : Nat)  (K134 : Int32 → Int32 → Int32 → Nat → Nat → Int32 → zo_O → Option zo_R)  (hK134 : ∀ (x1 : Int32) (x4 : Int32) (x5 : Int32) (x6 : Nat) (x7 : Nat) (x8 : Int32) (Ω : zo_O) (res : zo_R), K134 x1 x4 x5 x6 x7 x8 Ω = some res → TW Y res Ω 134 [(0, vr 0 0), (1, vi x1), (4, vi x4), (5, vi x5), (6, vr 14 x6), (7, vr 20 x7), (8, vi x8)] []) (x1 : Int32) (x4 : Int32) (x5 : Int32) (x6 : Nat) (x7 : Nat) (x8 : Int32) (Ω : zo_O) (res : zo_R) (h : bd_X1_curve_134 N  K134 x1 x4 x5 x6 x7 x8 Ω = some res) : TW Y res Ω 134 [(0, vr 0 0), (1, vi x1), (4, vi x4), (5, vi x5), (6, vr 14 x6), (7, vr 20 x7), (8, vi x8)] [] := by
  unfold bd_X1_curve_134 at h
  refine zo_iload hY dX1_curve_134 6 rfl ?_
  refine zo_aload hY dX1_curve_136 5 rfl ?_
  refine zo_callV hY (fun q hq => mt_J2_size hJ hCon N x7 Ω q hq) (by decide) (by decide) (by decide) ⟨rfl, cn_J2_size⟩ rfl q245 q246 q247 q81 q248 (Nat.le_of_ble_eq_true rfl) dX1_curve_138 rfl h (ci_k (fun r2 Ω1 res h => ?_))
  refine zo_icmp_ge hY 168 dX1_curve_141 (by decide) h (fun c3 h => ?_) (fun c3 h => ?_)
  · refine zo_aload hY dX1_curve_168 4 rfl ?_
    refine zo_callV hY (fun q hq => mt_X17_strikes hJ hCon N x6 Ω1 q hq) (by decide) (by decide) (by decide) ⟨rfl, cn_X17_strikes⟩ rfl q1025 q1026 q1027 q110 q1028 (Nat.le_of_ble_eq_true rfl) dX1_curve_170 rfl h (cv_k (fun Ω4 res h => ?_))
    refine zo_aload_n hY dX1_curve_173 rfl 0 rfl ?_
    refine zo_getC hY LX1_69_0 rfl (fun Ω q => (hCon Ω q).1 18 _ rfl) dX1_curve_174 ?_
    refine zo_iload hY dX1_curve_177 3 rfl ?_
    refine zo_aload hY dX1_curve_179 4 rfl ?_
    refine zo_astR hY hJ (K := 14) (by decide) (by decide) ⟨rfl, fun _ => rfl⟩ (by decide) rfl (Or.inr ⟨_, rfl⟩) dX1_curve_181 (fun q => (hCon _ q).2.2.2 39 0 18 rfl) h (fun j5 Ω6 h => ?_)
    refine zo_aload hY dX1_curve_182 4 rfl ?_
    exact zo_aret hY hr (Or.inl ⟨_, rfl⟩) dX1_curve_184 h
  · refine zo_aload hY dX1_curve_144 4 rfl ?_
    refine zo_aload hY dX1_curve_146 5 rfl ?_
    refine zo_iload hY dX1_curve_148 6 rfl ?_
    refine zo_callV hY (fun q hq => mt_J2_get hJ hCon N x7 x8 Ω1 q hq) (by decide) (by decide) (by decide) ⟨rfl, cn_J2_get⟩ rfl q368 q369 q370 q81 q371 (Nat.le_of_ble_eq_true rfl) dX1_curve_150 rfl h (cr_k (fun r8 Ω7 res h => ?_))
    refine zo_castK hY (by decide) q938 (Or.inl rfl) dX1_curve_153 h (fun j9 h => ?_)
    refine zo_iload_n hY dX1_curve_156 rfl 1 rfl ?_
    refine zo_iload hY dX1_curve_157 2 rfl ?_
    refine zo_callV hY (fun q hq => mt_X17_asks hJ hCon N x6 j9 x1 x4 Ω7 q hq) (by decide) (by decide) (by decide) ⟨rfl, cn_X17_asks⟩ rfl q969 q970 q971 q110 q972 (Nat.le_of_ble_eq_true rfl) dX1_curve_159 rfl h (cv_k (fun Ω10 res h => ?_))
    refine zo_iinc hY 1 dX1_curve_162 (by decide) (by decide) 6 rfl rfl (ls' := [(8, vi (x8 + 1)), (0, vr 0 0), (1, vi x1), (4, vi x4), (5, vi x5), (6, vr 14 x6), (7, vr 20 x7)]) rfl ?_
    refine zo_goto hY 134 dX1_curve_165 (by decide) ?_
    refine zo_sub [1, 2, 3, 4, 5, 6, 0] rfl ?_
    exact hK134 x1 x4 x5 x6 x7 (x8 + 1) Ω10 _ h
def fn_X1_curve_134 (N : Nat)  : Nat → Int32 → Int32 → Int32 → Nat → Nat → Int32 → zo_O → Option zo_R
  | 0, _, _, _, _, _, _, _ => none
  | n + 1, x1, x4, x5, x6, x7, x8, Ω => bd_X1_curve_134 N  (fn_X1_curve_134 N  n) x1 x4 x5 x6 x7 x8 Ω
theorem ct_X1_curve_134 {Y : zo_Y} (hY : zo_Gd Y cX1_curve 10 RX1 8) (hJ : zo_JC (zo_J Y)) (hCon : ∀ Ω, zo_J Y Ω → zo_Con Ω) (hr : zo_rt Y (Option.some (Jvm.ClassFile.FieldType.object "LichenTable$Curve"))) (N : Nat)   : ∀ (n : Nat) (x1 : Int32) (x4 : Int32) (x5 : Int32) (x6 : Nat) (x7 : Nat) (x8 : Int32) (Ω : zo_O) (res : zo_R), fn_X1_curve_134 N  n x1 x4 x5 x6 x7 x8 Ω = some res → TW Y res Ω 134 [(0, vr 0 0), (1, vi x1), (4, vi x4), (5, vi x5), (6, vr 14 x6), (7, vr 20 x7), (8, vi x8)] [] := by
  intro n
  induction n with
  | zero => intro x1 x4 x5 x6 x7 x8 Ω res h; exact nomatch (show (none : Option zo_R) = some res from h)
  | succ n ih => intro x1 x4 x5 x6 x7 x8 Ω res h; exact cb_X1_curve_134 hY hJ hCon hr N  (fn_X1_curve_134 N  n)  ih x1 x4 x5 x6 x7 x8 Ω res h
def bd_X1_curve_51 (N : Nat)  (K51 : Int32 → Int32 → Int32 → Int32 → Int32 → Nat → Nat → Int32 → zo_O → Option zo_R) (x1 : Int32) (x2 : Int32) (x3 : Int32) (x4 : Int32) (x5 : Int32) (x6 : Nat) (x7 : Nat) (x8 : Int32) (Ω : zo_O) : Option zo_R :=
  ci (fn_J2_size N 0 Ω) fun r2 Ω1 =>
  if r2 ≤ x8 then (
    fn_X1_curve_134 N N x1 x4 x5 x6 x7 0 Ω1
    ) else
  cr (fn_J2_get N 0 x8 Ω1) fun r5 Ω4 =>
  bk r5 2 fun j6 =>
  ci (fn_X4_isDated N j6 Ω4) fun r8 Ω7 =>
  if r8 = 0 then (
    fn_X1_curve_125 N K51 x1 x2 x3 x4 x5 x6 x7 x8 Ω7
    ) else
  ci (fn_X3_isBy_2 N j6 x4 Ω7) fun r11 Ω10 =>
  if r11 = 0 then (
    fn_X1_curve_125 N K51 x1 x2 x3 x4 x5 x6 x7 x8 Ω10
    ) else
  ci (fn_X4_isLike N j6 x2 x3 Ω10) fun r14 Ω13 =>
  if r14 = 0 then (
    fn_X1_curve_125 N K51 x1 x2 x3 x4 x5 x6 x7 x8 Ω13
    ) else
  if x8 = gI Ω13 0 0 19 then (
    fn_X1_curve_125 N K51 x1 x2 x3 x4 x5 x6 x7 x8 Ω13
    ) else
  cv (fn_X1_findGroups N x7 j6 x1 x4 Ω13) fun Ω17 =>
  fn_X1_curve_125 N K51 x1 x2 x3 x4 x5 x6 x7 x8 Ω17
theorem cb_X1_curve_51 {Y : zo_Y} (hY : zo_Gd Y cX1_curve 10 RX1 8) (hJ : zo_JC (zo_J Y)) (hCon : ∀ Ω, zo_J Y Ω → zo_Con Ω) (hr : zo_rt Y (Option.some (Jvm.ClassFile.FieldType.object "LichenTable$Curve"))) (N : Nat)  (K51 : Int32 → Int32 → Int32 → Int32 → Int32 → Nat → Nat → Int32 → zo_O → Option zo_R)  (hK51 : ∀ (x1 : Int32) (x2 : Int32) (x3 : Int32) (x4 : Int32) (x5 : Int32) (x6 : Nat) (x7 : Nat) (x8 : Int32) (Ω : zo_O) (res : zo_R), K51 x1 x2 x3 x4 x5 x6 x7 x8 Ω = some res → TW Y res Ω 51 [(0, vr 0 0), (1, vi x1), (2, vi x2), (3, vi x3), (4, vi x4), (5, vi x5), (6, vr 14 x6), (7, vr 20 x7), (8, vi x8)] []) (x1 : Int32) (x2 : Int32) (x3 : Int32) (x4 : Int32) (x5 : Int32) (x6 : Nat) (x7 : Nat) (x8 : Int32) (Ω : zo_O) (res : zo_R) (h : bd_X1_curve_51 N  K51 x1 x2 x3 x4 x5 x6 x7 x8 Ω = some res) : TW Y res Ω 51 [(0, vr 0 0), (1, vi x1), (2, vi x2), (3, vi x3), (4, vi x4), (5, vi x5), (6, vr 14 x6), (7, vr 20 x7), (8, vi x8)] [] := by
  unfold bd_X1_curve_51 at h
  refine zo_iload hY dX1_curve_51 8 rfl ?_
  refine zo_aload_n hY dX1_curve_53 rfl 0 rfl ?_
  refine zo_getC hY LX1_16_0 rfl (fun Ω q => (hCon Ω q).1 0 _ rfl) dX1_curve_54 ?_
  refine zo_callV hY (fun q hq => mt_J2_size hJ hCon N 0 Ω q hq) (by decide) (by decide) (by decide) ⟨rfl, cn_J2_size⟩ rfl q245 q246 q247 q81 q248 (Nat.le_of_ble_eq_true rfl) dX1_curve_57 rfl h (ci_k (fun r2 Ω1 res h => ?_))
  refine zo_icmp_ge hY 131 dX1_curve_60 (by decide) h (fun c3 h => ?_) (fun c3 h => ?_)
  · refine zo_iconst hY 0 (by decide) dX1_curve_131 ?_
    refine zo_istore hY dX1_curve_132 (by decide) rfl (ls' := [(8, vi 0), (0, vr 0 0), (1, vi x1), (2, vi x2), (3, vi x3), (4, vi x4), (5, vi x5), (6, vr 14 x6), (7, vr 20 x7)]) rfl ?_
    refine zo_sub [1, 2, 5, 6, 7, 8, 0] rfl ?_
    exact ct_X1_curve_134 hY hJ hCon hr N N x1 x4 x5 x6 x7 0 Ω1 _ h
  · refine zo_aload_n hY dX1_curve_63 rfl 0 rfl ?_
    refine zo_getC hY LX1_16_0 rfl (fun Ω q => (hCon Ω q).1 0 _ rfl) dX1_curve_64 ?_
    refine zo_iload hY dX1_curve_67 8 rfl ?_
    refine zo_callV hY (fun q hq => mt_J2_get hJ hCon N 0 x8 Ω1 q hq) (by decide) (by decide) (by decide) ⟨rfl, cn_J2_get⟩ rfl q368 q369 q370 q81 q371 (Nat.le_of_ble_eq_true rfl) dX1_curve_69 rfl h (cr_k (fun r5 Ω4 res h => ?_))
    refine zo_castK hY (by decide) q249 (Or.inl rfl) dX1_curve_72 h (fun j6 h => ?_)
    refine zo_astore hY dX1_curve_75 (by decide) rfl (ls' := [(9, vr 2 j6), (0, vr 0 0), (1, vi x1), (2, vi x2), (3, vi x3), (4, vi x4), (5, vi x5), (6, vr 14 x6), (7, vr 20 x7), (8, vi x8)]) rfl ?_
    refine zo_aload hY dX1_curve_77 0 rfl ?_
    refine zo_callV hY (fun q hq => mt_X4_isDated hJ hCon N j6 Ω4 q hq) (by decide) (by decide) (by decide) ⟨rfl, cn_X4_isDated⟩ rfl q923 q924 q925 q84 q926 (Nat.le_of_ble_eq_true rfl) dX1_curve_79 rfl h (ci_k (fun r8 Ω7 res h => ?_))
    refine zo_if_eq hY 125 dX1_curve_82 (by decide) h (fun c9 h => ?_) (fun c9 h => ?_)
    · refine zo_sub [1, 2, 3, 4, 5, 6, 7, 8, 9] rfl ?_
      exact ct_X1_curve_125 hY hJ hCon hr N K51 hK51 x1 x2 x3 x4 x5 x6 x7 x8 Ω7 _ h
    · refine zo_aload hY dX1_curve_85 0 rfl ?_
      refine zo_iload hY dX1_curve_87 5 rfl ?_
      refine zo_callU hY (fun q hq => mt_X3_isBy_2 hJ hCon N j6 x4 Ω7 q hq) (by decide) (by decide) (by decide) cn_X3_isBy rfl rfl q927 q928 q929 q829 q83 q830 (Nat.le_of_ble_eq_true rfl) dX1_curve_89 rfl h (ci_k (fun r11 Ω10 res h => ?_))
      refine zo_if_eq hY 125 dX1_curve_92 (by decide) h (fun c12 h => ?_) (fun c12 h => ?_)
      · refine zo_sub [1, 2, 3, 4, 5, 6, 7, 8, 9] rfl ?_
        exact ct_X1_curve_125 hY hJ hCon hr N K51 hK51 x1 x2 x3 x4 x5 x6 x7 x8 Ω10 _ h
      · refine zo_aload hY dX1_curve_95 0 rfl ?_
        refine zo_iload_n hY dX1_curve_97 rfl 3 rfl ?_
        refine zo_iload_n hY dX1_curve_98 rfl 4 rfl ?_
        refine zo_callV hY (fun q hq => mt_X4_isLike hJ hCon N j6 x2 x3 Ω10 q hq) (by decide) (by decide) (by decide) ⟨rfl, cn_X4_isLike⟩ rfl q930 q931 q932 q84 q933 (Nat.le_of_ble_eq_true rfl) dX1_curve_99 rfl h (ci_k (fun r14 Ω13 res h => ?_))
        refine zo_if_eq hY 125 dX1_curve_102 (by decide) h (fun c15 h => ?_) (fun c15 h => ?_)
        · refine zo_sub [1, 2, 3, 4, 5, 6, 7, 8, 9] rfl ?_
          exact ct_X1_curve_125 hY hJ hCon hr N K51 hK51 x1 x2 x3 x4 x5 x6 x7 x8 Ω13 _ h
        · refine zo_iload hY dX1_curve_105 9 rfl ?_
          refine zo_aload_n hY dX1_curve_107 rfl 1 rfl ?_
          refine zo_getI hY LX1_73_0 rfl dX1_curve_108 ?_
          refine zo_icmp_eq hY 125 dX1_curve_111 (by decide) h (fun c16 h => ?_) (fun c16 h => ?_)
          · refine zo_sub [1, 2, 3, 4, 5, 6, 7, 8, 9] rfl ?_
            exact ct_X1_curve_125 hY hJ hCon hr N K51 hK51 x1 x2 x3 x4 x5 x6 x7 x8 Ω13 _ h
          · refine zo_aload_n hY dX1_curve_114 rfl 1 rfl ?_
            refine zo_aload hY dX1_curve_115 8 rfl ?_
            refine zo_aload hY dX1_curve_117 0 rfl ?_
            refine zo_iload_n hY dX1_curve_119 rfl 2 rfl ?_
            refine zo_iload hY dX1_curve_120 5 rfl ?_
            refine zo_callV hY (fun q hq => mt_X1_findGroups hJ hCon N x7 j6 x1 x4 Ω13 q hq) (by decide) (by decide) (by decide) ⟨rfl, cn_X1_findGroups⟩ rfl q934 q936 qs26 q78 q937 (Nat.le_of_ble_eq_true rfl) dX1_curve_122 rfl h (cv_k (fun Ω17 res h => ?_))
            refine zo_sub [1, 2, 3, 4, 5, 6, 7, 8, 9] rfl ?_
            exact ct_X1_curve_125 hY hJ hCon hr N K51 hK51 x1 x2 x3 x4 x5 x6 x7 x8 Ω17 _ h
def fn_X1_curve_51 (N : Nat)  : Nat → Int32 → Int32 → Int32 → Int32 → Int32 → Nat → Nat → Int32 → zo_O → Option zo_R
  | 0, _, _, _, _, _, _, _, _, _ => none
  | n + 1, x1, x2, x3, x4, x5, x6, x7, x8, Ω => bd_X1_curve_51 N  (fn_X1_curve_51 N  n) x1 x2 x3 x4 x5 x6 x7 x8 Ω
theorem ct_X1_curve_51 {Y : zo_Y} (hY : zo_Gd Y cX1_curve 10 RX1 8) (hJ : zo_JC (zo_J Y)) (hCon : ∀ Ω, zo_J Y Ω → zo_Con Ω) (hr : zo_rt Y (Option.some (Jvm.ClassFile.FieldType.object "LichenTable$Curve"))) (N : Nat)   : ∀ (n : Nat) (x1 : Int32) (x2 : Int32) (x3 : Int32) (x4 : Int32) (x5 : Int32) (x6 : Nat) (x7 : Nat) (x8 : Int32) (Ω : zo_O) (res : zo_R), fn_X1_curve_51 N  n x1 x2 x3 x4 x5 x6 x7 x8 Ω = some res → TW Y res Ω 51 [(0, vr 0 0), (1, vi x1), (2, vi x2), (3, vi x3), (4, vi x4), (5, vi x5), (6, vr 14 x6), (7, vr 20 x7), (8, vi x8)] [] := by
  intro n
  induction n with
  | zero => intro x1 x2 x3 x4 x5 x6 x7 x8 Ω res h; exact nomatch (show (none : Option zo_R) = some res from h)
  | succ n ih => intro x1 x2 x3 x4 x5 x6 x7 x8 Ω res h; exact cb_X1_curve_51 hY hJ hCon hr N  (fn_X1_curve_51 N  n)  ih x1 x2 x3 x4 x5 x6 x7 x8 Ω res h
def fn_X1_curve (N : Nat) (x1 : Int32) (x2 : Int32) (x3 : Int32) (x4 : Int32) (Ω : zo_O) : Option zo_R :=
  li ((((x1 * 2) + x2) * 3) + x3) fun y1 =>
  ix y1 18 fun j2 =>
  cn (gR Ω 39 0 j2) 14 (
    ad 1 4 <| lt (nw Ω 14 0) fun Ω4 =>
    cv (fn_X17_init N (gC Ω 14) Ω4) fun Ω5 =>
    ad 1 3 <| lt (nw Ω5 20 0) fun Ω6 =>
    fn_X1_curve_51 N N x1 x2 x3 x4 y1 (gC Ω 14) (gC Ω5 20) 0 Ω6
    ) fun n3 =>
  ix y1 18 fun j7 =>
  rR (gR Ω 39 0 j7) Ω
theorem mt_X1_curve {G : zo_G} {J : zo_O → Prop} (hJ : zo_JC J) (hCon : ∀ Ω, J Ω → zo_Con Ω) (N : Nat) (x1 : Int32) (x2 : Int32) (x3 : Int32) (x4 : Int32) (Ω : zo_O) (res : zo_R) (h : fn_X1_curve N x1 x2 x3 x4 Ω = some res) : zo_MT G J yX1_curve cX1_curve 10 (Option.some (Jvm.ClassFile.FieldType.object "LichenTable$Curve")) 8 [vr 0 0, vi x1, vi x2, vi x3, vi x4] Ω res := by
  refine zo_enter (by decide) rfl (Nat.le_of_ble_eq_true rfl) (fun Y hY eJ hr hmn => ?_)
  subst eJ
  show TW Y res Ω 0 [(0, vr 0 0), (1, vi x1), (2, vi x2), (3, vi x3), (4, vi x4)] []
  unfold fn_X1_curve at h
  refine zo_iload_n hY dX1_curve_0 rfl 1 rfl ?_
  refine zo_iconst hY 2 (by decide) dX1_curve_1 ?_
  refine zo_imul hY dX1_curve_2 ?_
  refine zo_iload_n hY dX1_curve_3 rfl 2 rfl ?_
  refine zo_iadd hY dX1_curve_4 ?_
  refine zo_iconst hY 3 (by decide) dX1_curve_5 ?_
  refine zo_imul hY dX1_curve_6 ?_
  refine zo_iload_n hY dX1_curve_7 rfl 3 rfl ?_
  refine zo_iadd hY dX1_curve_8 ?_
  refine zo_nmi h (fun y1 h => ?_)
  refine zo_istore hY dX1_curve_9 (by decide) rfl (ls' := [(5, vi y1), (0, vr 0 0), (1, vi x1), (2, vi x2), (3, vi x3), (4, vi x4)]) rfl ?_
  refine zo_aload_n hY dX1_curve_11 rfl 1 rfl ?_
  refine zo_getC hY LX1_69_0 rfl (fun Ω q => (hCon Ω q).1 18 _ rfl) dX1_curve_12 ?_
  refine zo_iload hY dX1_curve_15 0 rfl ?_
  refine zo_aldR hY (by decide) (by decide) rfl dX1_curve_17 (fun q => (hCon _ q).2.2.2 39 0 18 rfl) h (fun j2 h => ?_)
  refine zo_ifnull hY (K := 14) 29 dX1_curve_18 (by decide) h (fun e8 h => ?_) (fun n3 e8 h => ?_)
  · refine zo_new hY hJ (k := 14) (by decide) (Or.inl rfl) rfl q154 q902 q110 dX1_curve_29 h (fun Ω4 res h => ?_)
    refine zo_dup hY dX1_curve_32 (Or.inr ⟨_, rfl⟩) ?_
    refine zo_aload_n hY dX1_curve_33 rfl 1 rfl ?_
    refine zo_callIN hY (fun q hq => mt_X17_init hJ hCon N (gC Ω 14) Ω4 q hq) (by decide) (by decide) cn_X17_init rfl rfl q903 q904 q110 q905 (Nat.le_of_ble_eq_true rfl) dX1_curve_34 rfl h (cv_k (fun Ω5 res h => ?_))
    refine zo_astore hY dX1_curve_37 (by decide) rfl (ls' := [(6, vr 14 (gC Ω 14)), (5, vi y1), (0, vr 0 0), (1, vi x1), (2, vi x2), (3, vi x3), (4, vi x4)]) rfl ?_
    refine zo_newL hY hJ (by decide) q126 q128 (Nat.le_of_ble_eq_true rfl) dX1_curve_39 dX1_curve_42 dX1_curve_43 h (fun Ω6 res h => ?_)
    refine zo_astore hY dX1_curve_46 (by decide) rfl (ls' := [(7, vr 20 (gC Ω5 20)), (6, vr 14 (gC Ω 14)), (5, vi y1), (0, vr 0 0), (1, vi x1), (2, vi x2), (3, vi x3), (4, vi x4)]) rfl ?_
    refine zo_iconst hY 0 (by decide) dX1_curve_48 ?_
    refine zo_istore hY dX1_curve_49 (by decide) rfl (ls' := [(8, vi 0), (7, vr 20 (gC Ω5 20)), (6, vr 14 (gC Ω 14)), (5, vi y1), (0, vr 0 0), (1, vi x1), (2, vi x2), (3, vi x3), (4, vi x4)]) rfl ?_
    refine zo_sub [4, 5, 6, 7, 8, 3, 2, 1, 0] rfl ?_
    exact ct_X1_curve_51 hY hJ hCon hr N N x1 x2 x3 x4 y1 (gC Ω 14) (gC Ω5 20) 0 Ω6 _ h
  · skip
    refine zo_aload_n hY dX1_curve_21 rfl 1 rfl ?_
    refine zo_getC hY LX1_69_0 rfl (fun Ω q => (hCon Ω q).1 18 _ rfl) dX1_curve_22 ?_
    refine zo_iload hY dX1_curve_25 0 rfl ?_
    refine zo_aldR hY (by decide) (by decide) rfl dX1_curve_27 (fun q => (hCon _ q).2.2.2 39 0 18 rfl) h (fun j7 h => ?_)
    exact zo_aret hY hr (Or.inl ⟨_, rfl⟩) dX1_curve_28 h
theorem dX1_isClass_0 : decode cX1_isClass 0 = .ok (.iload_n 1, 1) := by decide +kernel
theorem dX1_isClass_1 : decode cX1_isClass 1 = .ok (.invokestatic 108, 3) := by decide +kernel
theorem dX1_isClass_4 : decode cX1_isClass 4 = .ok (.ifCond .eq 34, 3) := by decide +kernel
theorem dX1_isClass_7 : decode cX1_isClass 7 = .ok (.iload_n 2, 1) := by decide +kernel
theorem dX1_isClass_8 : decode cX1_isClass 8 = .ok (.iconst 0, 1) := by decide +kernel
theorem dX1_isClass_9 : decode cX1_isClass 9 = .ok (.iconst 1, 1) := by decide +kernel
theorem dX1_isClass_10 : decode cX1_isClass 10 = .ok (.invokestatic 3, 3) := by decide +kernel
theorem dX1_isClass_13 : decode cX1_isClass 13 = .ok (.ifCond .eq 25, 3) := by decide +kernel
theorem dX1_isClass_16 : decode cX1_isClass 16 = .ok (.iload_n 3, 1) := by decide +kernel
theorem dX1_isClass_17 : decode cX1_isClass 17 = .ok (.iconst 0, 1) := by decide +kernel
theorem dX1_isClass_18 : decode cX1_isClass 18 = .ok (.iconst 2, 1) := by decide +kernel
theorem dX1_isClass_19 : decode cX1_isClass 19 = .ok (.invokestatic 3, 3) := by decide +kernel
theorem dX1_isClass_22 : decode cX1_isClass 22 = .ok (.ifCond .eq 16, 3) := by decide +kernel
theorem dX1_isClass_25 : decode cX1_isClass 25 = .ok (.aload_n 0, 1) := by decide +kernel
theorem dX1_isClass_26 : decode cX1_isClass 26 = .ok (.iload 4, 2) := by decide +kernel
theorem dX1_isClass_28 : decode cX1_isClass 28 = .ok (.invokevirtual 153, 3) := by decide +kernel
theorem dX1_isClass_31 : decode cX1_isClass 31 = .ok (.ifCond .eq 7, 3) := by decide +kernel
theorem dX1_isClass_34 : decode cX1_isClass 34 = .ok (.iconst 1, 1) := by decide +kernel
theorem dX1_isClass_35 : decode cX1_isClass 35 = .ok (.goto 4, 3) := by decide +kernel
theorem dX1_isClass_38 : decode cX1_isClass 38 = .ok (.iconst 0, 1) := by decide +kernel
theorem dX1_isClass_39 : decode cX1_isClass 39 = .ok (.ireturn, 1) := by decide +kernel
def fn_X1_isClass_39 (N : Nat)  (s0 : Int32) (Ω : zo_O) : Option zo_R :=
  rZ s0 Ω
theorem ct_X1_isClass_39 {Y : zo_Y} (hY : zo_Gd Y cX1_isClass 5 RX1 2) (hJ : zo_JC (zo_J Y)) (hCon : ∀ Ω, zo_J Y Ω → zo_Con Ω) (hr : zo_rt Y (Option.some Jvm.ClassFile.FieldType.boolean)) (N : Nat)   (s0 : Int32) (Ω : zo_O) (res : zo_R) (h : fn_X1_isClass_39 N  s0 Ω = some res) : TW Y res Ω 39 [] [vi s0] := by
  unfold fn_X1_isClass_39 at h
  exact zo_zret hY hr dX1_isClass_39 h
def fn_X1_isClass_38 (N : Nat)   (Ω : zo_O) : Option zo_R :=
  fn_X1_isClass_39 N 0 Ω
theorem ct_X1_isClass_38 {Y : zo_Y} (hY : zo_Gd Y cX1_isClass 5 RX1 2) (hJ : zo_JC (zo_J Y)) (hCon : ∀ Ω, zo_J Y Ω → zo_Con Ω) (hr : zo_rt Y (Option.some Jvm.ClassFile.FieldType.boolean)) (N : Nat)    (Ω : zo_O) (res : zo_R) (h : fn_X1_isClass_38 N   Ω = some res) : TW Y res Ω 38 [] [] := by
  unfold fn_X1_isClass_38 at h
  refine zo_iconst hY 0 (by decide) dX1_isClass_38 ?_
  exact ct_X1_isClass_39 hY hJ hCon hr N 0 Ω _ h
def fn_X1_isClass (N : Nat) (x1 : Int32) (x2 : Int32) (x3 : Int32) (x4 : Int32) (Ω : zo_O) : Option zo_R :=
  ci (fn_X1_isKind N x1 Ω) fun r2 Ω1 =>
  if r2 = 0 then (
    fn_X1_isClass_38 N Ω1
    ) else
  ci (fn_X1_in N x2 0 1 Ω1) fun r5 Ω4 =>
  if r5 = 0 then (
    fn_X1_isClass_38 N Ω4
    ) else
  ci (fn_X1_in N x3 0 2 Ω4) fun r8 Ω7 =>
  if r8 = 0 then (
    fn_X1_isClass_38 N Ω7
    ) else
  ci (fn_X1_isKnown N x4 Ω7) fun r11 Ω10 =>
  if r11 = 0 then (
    fn_X1_isClass_38 N Ω10
    ) else
  fn_X1_isClass_39 N 1 Ω10
theorem mt_X1_isClass {G : zo_G} {J : zo_O → Prop} (hJ : zo_JC J) (hCon : ∀ Ω, J Ω → zo_Con Ω) (N : Nat) (x1 : Int32) (x2 : Int32) (x3 : Int32) (x4 : Int32) (Ω : zo_O) (res : zo_R) (h : fn_X1_isClass N x1 x2 x3 x4 Ω = some res) : zo_MT G J yX1_isClass cX1_isClass 5 (Option.some Jvm.ClassFile.FieldType.boolean) 2 [vr 0 0, vi x1, vi x2, vi x3, vi x4] Ω res := by
  refine zo_enter (by decide) rfl (Nat.le_of_ble_eq_true rfl) (fun Y hY eJ hr hmn => ?_)
  subst eJ
  show TW Y res Ω 0 [(0, vr 0 0), (1, vi x1), (2, vi x2), (3, vi x3), (4, vi x4)] []
  unfold fn_X1_isClass at h
  refine zo_iload_n hY dX1_isClass_0 rfl 1 rfl ?_
  refine zo_callS hY (fun q hq => mt_X1_isKind hJ hCon N x1 Ω q hq) (by decide) (by decide) cn_X1_isKind rfl q360 q361 q78 q362 (Nat.le_of_ble_eq_true rfl) dX1_isClass_1 rfl h (ci_k (fun r2 Ω1 res h => ?_))
  refine zo_if_eq hY 38 dX1_isClass_4 (by decide) h (fun c3 h => ?_) (fun c3 h => ?_)
  · refine zo_sub [] rfl ?_
    exact ct_X1_isClass_38 hY hJ hCon hr N Ω1 _ h
  · refine zo_iload_n hY dX1_isClass_7 rfl 2 rfl ?_
    refine zo_iconst hY 0 (by decide) dX1_isClass_8 ?_
    refine zo_iconst hY 1 (by decide) dX1_isClass_9 ?_
    refine zo_callS hY (fun q hq => mt_X1_in hJ hCon N x2 0 1 Ω1 q hq) (by decide) (by decide) cn_X1_in rfl q239 q240 q78 q241 (Nat.le_of_ble_eq_true rfl) dX1_isClass_10 rfl h (ci_k (fun r5 Ω4 res h => ?_))
    refine zo_if_eq hY 38 dX1_isClass_13 (by decide) h (fun c6 h => ?_) (fun c6 h => ?_)
    · refine zo_sub [] rfl ?_
      exact ct_X1_isClass_38 hY hJ hCon hr N Ω4 _ h
    · refine zo_iload_n hY dX1_isClass_16 rfl 3 rfl ?_
      refine zo_iconst hY 0 (by decide) dX1_isClass_17 ?_
      refine zo_iconst hY 2 (by decide) dX1_isClass_18 ?_
      refine zo_callS hY (fun q hq => mt_X1_in hJ hCon N x3 0 2 Ω4 q hq) (by decide) (by decide) cn_X1_in rfl q239 q240 q78 q241 (Nat.le_of_ble_eq_true rfl) dX1_isClass_19 rfl h (ci_k (fun r8 Ω7 res h => ?_))
      refine zo_if_eq hY 38 dX1_isClass_22 (by decide) h (fun c9 h => ?_) (fun c9 h => ?_)
      · refine zo_sub [] rfl ?_
        exact ct_X1_isClass_38 hY hJ hCon hr N Ω7 _ h
      · refine zo_aload_n hY dX1_isClass_25 rfl 0 rfl ?_
        refine zo_iload hY dX1_isClass_26 4 rfl ?_
        refine zo_callV hY (fun q hq => mt_X1_isKnown hJ hCon N x4 Ω7 q hq) (by decide) (by decide) (by decide) ⟨rfl, cn_X1_isKnown⟩ rfl q816 q818 qs17 q78 q819 (Nat.le_of_ble_eq_true rfl) dX1_isClass_28 rfl h (ci_k (fun r11 Ω10 res h => ?_))
        refine zo_if_eq hY 38 dX1_isClass_31 (by decide) h (fun c12 h => ?_) (fun c12 h => ?_)
        · refine zo_sub [] rfl ?_
          exact ct_X1_isClass_38 hY hJ hCon hr N Ω10 _ h
        · refine zo_iconst hY 1 (by decide) dX1_isClass_34 ?_
          refine zo_goto hY 39 dX1_isClass_35 (by decide) ?_
          refine zo_sub [] rfl ?_
          exact ct_X1_isClass_39 hY hJ hCon hr N 1 Ω10 _ h
theorem dX1_struck_0 : decode cX1_struck 0 = .ok (.aload_n 0, 1) := by decide +kernel
theorem dX1_struck_1 : decode cX1_struck 1 = .ok (.iload_n 1, 1) := by decide +kernel
theorem dX1_struck_2 : decode cX1_struck 2 = .ok (.iload_n 2, 1) := by decide +kernel
theorem dX1_struck_3 : decode cX1_struck 3 = .ok (.iload_n 3, 1) := by decide +kernel
theorem dX1_struck_4 : decode cX1_struck 4 = .ok (.iload 4, 2) := by decide +kernel
theorem dX1_struck_6 : decode cX1_struck 6 = .ok (.invokevirtual 301, 3) := by decide +kernel
theorem dX1_struck_9 : decode cX1_struck 9 = .ok (.ifCond .ne 5, 3) := by decide +kernel
theorem dX1_struck_12 : decode cX1_struck 12 = .ok (.iconst (-1), 1) := by decide +kernel
theorem dX1_struck_13 : decode cX1_struck 13 = .ok (.ireturn, 1) := by decide +kernel
theorem dX1_struck_14 : decode cX1_struck 14 = .ok (.aload_n 0, 1) := by decide +kernel
theorem dX1_struck_15 : decode cX1_struck 15 = .ok (.iload 4, 2) := by decide +kernel
theorem dX1_struck_17 : decode cX1_struck 17 = .ok (.invokevirtual 305, 3) := by decide +kernel
theorem dX1_struck_20 : decode cX1_struck 20 = .ok (.aload_n 0, 1) := by decide +kernel
theorem dX1_struck_21 : decode cX1_struck 21 = .ok (.iload_n 1, 1) := by decide +kernel
theorem dX1_struck_22 : decode cX1_struck 22 = .ok (.iload_n 2, 1) := by decide +kernel
theorem dX1_struck_23 : decode cX1_struck 23 = .ok (.iload_n 3, 1) := by decide +kernel
theorem dX1_struck_24 : decode cX1_struck 24 = .ok (.iload 4, 2) := by decide +kernel
theorem dX1_struck_26 : decode cX1_struck 26 = .ok (.invokevirtual 308, 3) := by decide +kernel
theorem dX1_struck_29 : decode cX1_struck 29 = .ok (.getfield 312, 3) := by decide +kernel
theorem dX1_struck_32 : decode cX1_struck 32 = .ok (.ireturn, 1) := by decide +kernel
def fn_X1_struck (N : Nat) (x1 : Int32) (x2 : Int32) (x3 : Int32) (x4 : Int32) (Ω : zo_O) : Option zo_R :=
  ci (fn_X1_isClass N x1 x2 x3 x4 Ω) fun r2 Ω1 =>
  if r2 = 0 then (
    rI ((-1)) Ω1
    ) else
  cv (fn_X1_begins N x4 Ω1) fun Ω4 =>
  ck (fn_X1_curve N x1 x2 x3 x4 Ω4) 14 fun r6 Ω5 =>
  rI (gI Ω5 14 r6 2) Ω5
theorem mt_X1_struck {G : zo_G} {J : zo_O → Prop} (hJ : zo_JC J) (hCon : ∀ Ω, J Ω → zo_Con Ω) (N : Nat) (x1 : Int32) (x2 : Int32) (x3 : Int32) (x4 : Int32) (Ω : zo_O) (res : zo_R) (h : fn_X1_struck N x1 x2 x3 x4 Ω = some res) : zo_MT G J yX1_struck cX1_struck 5 (Option.some Jvm.ClassFile.FieldType.int) 9 [vr 0 0, vi x1, vi x2, vi x3, vi x4] Ω res := by
  refine zo_enter (by decide) rfl (Nat.le_of_ble_eq_true rfl) (fun Y hY eJ hr hmn => ?_)
  subst eJ
  show TW Y res Ω 0 [(0, vr 0 0), (1, vi x1), (2, vi x2), (3, vi x3), (4, vi x4)] []
  unfold fn_X1_struck at h
  refine zo_aload_n hY dX1_struck_0 rfl 0 rfl ?_
  refine zo_iload_n hY dX1_struck_1 rfl 1 rfl ?_
  refine zo_iload_n hY dX1_struck_2 rfl 2 rfl ?_
  refine zo_iload_n hY dX1_struck_3 rfl 3 rfl ?_
  refine zo_iload hY dX1_struck_4 4 rfl ?_
  refine zo_callV hY (fun q hq => mt_X1_isClass hJ hCon N x1 x2 x3 x4 Ω q hq) (by decide) (by decide) (by decide) ⟨rfl, cn_X1_isClass⟩ rfl q890 q892 qs23 q78 q893 (Nat.le_of_ble_eq_true rfl) dX1_struck_6 rfl h (ci_k (fun r2 Ω1 res h => ?_))
  refine zo_if_ne hY 14 dX1_struck_9 (by decide) h (fun c3 h => ?_) (fun c3 h => ?_)
  · refine zo_iconst hY (-1) (by decide) dX1_struck_12 ?_
    exact zo_iret hY hr dX1_struck_13 h
  · refine zo_aload_n hY dX1_struck_14 rfl 0 rfl ?_
    refine zo_iload hY dX1_struck_15 4 rfl ?_
    refine zo_callV hY (fun q hq => mt_X1_begins hJ hCon N x4 Ω1 q hq) (by decide) (by decide) (by decide) ⟨rfl, cn_X1_begins⟩ rfl q894 q896 qs24 q78 q897 (Nat.le_of_ble_eq_true rfl) dX1_struck_17 rfl h (cv_k (fun Ω4 res h => ?_))
    refine zo_aload_n hY dX1_struck_20 rfl 0 rfl ?_
    refine zo_iload_n hY dX1_struck_21 rfl 1 rfl ?_
    refine zo_iload_n hY dX1_struck_22 rfl 2 rfl ?_
    refine zo_iload_n hY dX1_struck_23 rfl 3 rfl ?_
    refine zo_iload hY dX1_struck_24 4 rfl ?_
    refine zo_callV hY (fun q hq => mt_X1_curve hJ hCon N x1 x2 x3 x4 Ω4 q hq) (by decide) (by decide) (by decide) ⟨rfl, cn_X1_curve⟩ rfl q898 q900 qs25 q78 q901 (Nat.le_of_ble_eq_true rfl) dX1_struck_26 rfl h (ck_k (fun r6 Ω5 res h => ?_))
    refine zo_getI hY LX1_312_14 rfl dX1_struck_29 ?_
    exact zo_iret hY hr dX1_struck_32 h
theorem dX1_size_0 : decode cX1_size 0 = .ok (.aload_n 0, 1) := by decide +kernel
theorem dX1_size_1 : decode cX1_size 1 = .ok (.iload_n 1, 1) := by decide +kernel
theorem dX1_size_2 : decode cX1_size 2 = .ok (.iload_n 2, 1) := by decide +kernel
theorem dX1_size_3 : decode cX1_size 3 = .ok (.iload_n 3, 1) := by decide +kernel
theorem dX1_size_4 : decode cX1_size 4 = .ok (.iload 4, 2) := by decide +kernel
theorem dX1_size_6 : decode cX1_size 6 = .ok (.invokevirtual 301, 3) := by decide +kernel
theorem dX1_size_9 : decode cX1_size 9 = .ok (.ifCond .eq 25, 3) := by decide +kernel
theorem dX1_size_12 : decode cX1_size 12 = .ok (.iload 5, 2) := by decide +kernel
theorem dX1_size_14 : decode cX1_size 14 = .ok (.iconst 0, 1) := by decide +kernel
theorem dX1_size_15 : decode cX1_size 15 = .ok (.sipush 800, 3) := by decide +kernel
theorem dX1_size_18 : decode cX1_size 18 = .ok (.invokestatic 3, 3) := by decide +kernel
theorem dX1_size_21 : decode cX1_size 21 = .ok (.ifCond .eq 13, 3) := by decide +kernel
theorem dX1_size_24 : decode cX1_size 24 = .ok (.iload 6, 2) := by decide +kernel
theorem dX1_size_26 : decode cX1_size 26 = .ok (.iconst 0, 1) := by decide +kernel
theorem dX1_size_27 : decode cX1_size 27 = .ok (.iconst 1, 1) := by decide +kernel
theorem dX1_size_28 : decode cX1_size 28 = .ok (.invokestatic 3, 3) := by decide +kernel
theorem dX1_size_31 : decode cX1_size 31 = .ok (.ifCond .ne 5, 3) := by decide +kernel
theorem dX1_size_34 : decode cX1_size 34 = .ok (.iconst (-1), 1) := by decide +kernel
theorem dX1_size_35 : decode cX1_size 35 = .ok (.ireturn, 1) := by decide +kernel
theorem dX1_size_36 : decode cX1_size 36 = .ok (.aload_n 0, 1) := by decide +kernel
theorem dX1_size_37 : decode cX1_size 37 = .ok (.iload 4, 2) := by decide +kernel
theorem dX1_size_39 : decode cX1_size 39 = .ok (.invokevirtual 305, 3) := by decide +kernel
theorem dX1_size_42 : decode cX1_size 42 = .ok (.aload_n 0, 1) := by decide +kernel
theorem dX1_size_43 : decode cX1_size 43 = .ok (.iload_n 1, 1) := by decide +kernel
theorem dX1_size_44 : decode cX1_size 44 = .ok (.iload_n 2, 1) := by decide +kernel
theorem dX1_size_45 : decode cX1_size 45 = .ok (.iload_n 3, 1) := by decide +kernel
theorem dX1_size_46 : decode cX1_size 46 = .ok (.iload 4, 2) := by decide +kernel
theorem dX1_size_48 : decode cX1_size 48 = .ok (.invokevirtual 308, 3) := by decide +kernel
theorem dX1_size_51 : decode cX1_size 51 = .ok (.astore 7, 2) := by decide +kernel
theorem dX1_size_53 : decode cX1_size 53 = .ok (.iload 6, 2) := by decide +kernel
theorem dX1_size_55 : decode cX1_size 55 = .ok (.ifCond .ne 13, 3) := by decide +kernel
theorem dX1_size_58 : decode cX1_size 58 = .ok (.aload 7, 2) := by decide +kernel
theorem dX1_size_60 : decode cX1_size 60 = .ok (.iload 5, 2) := by decide +kernel
theorem dX1_size_62 : decode cX1_size 62 = .ok (.invokevirtual 315, 3) := by decide +kernel
theorem dX1_size_65 : decode cX1_size 65 = .ok (.goto 10, 3) := by decide +kernel
theorem dX1_size_68 : decode cX1_size 68 = .ok (.aload 7, 2) := by decide +kernel
theorem dX1_size_70 : decode cX1_size 70 = .ok (.iload 5, 2) := by decide +kernel
theorem dX1_size_72 : decode cX1_size 72 = .ok (.invokevirtual 318, 3) := by decide +kernel
theorem dX1_size_75 : decode cX1_size 75 = .ok (.ireturn, 1) := by decide +kernel
def fn_X1_size_34 (N : Nat)   (Ω : zo_O) : Option zo_R :=
  rI ((-1)) Ω
theorem ct_X1_size_34 {Y : zo_Y} (hY : zo_Gd Y cX1_size 8 RX1 9) (hJ : zo_JC (zo_J Y)) (hCon : ∀ Ω, zo_J Y Ω → zo_Con Ω) (hr : zo_rt Y (Option.some Jvm.ClassFile.FieldType.int)) (N : Nat)    (Ω : zo_O) (res : zo_R) (h : fn_X1_size_34 N   Ω = some res) : TW Y res Ω 34 [] [] := by
  unfold fn_X1_size_34 at h
  refine zo_iconst hY (-1) (by decide) dX1_size_34 ?_
  exact zo_iret hY hr dX1_size_35 h
def fn_X1_size_75 (N : Nat)  (s0 : Int32) (Ω : zo_O) : Option zo_R :=
  rI s0 Ω
theorem ct_X1_size_75 {Y : zo_Y} (hY : zo_Gd Y cX1_size 8 RX1 9) (hJ : zo_JC (zo_J Y)) (hCon : ∀ Ω, zo_J Y Ω → zo_Con Ω) (hr : zo_rt Y (Option.some Jvm.ClassFile.FieldType.int)) (N : Nat)   (s0 : Int32) (Ω : zo_O) (res : zo_R) (h : fn_X1_size_75 N  s0 Ω = some res) : TW Y res Ω 75 [] [vi s0] := by
  unfold fn_X1_size_75 at h
  exact zo_iret hY hr dX1_size_75 h
def fn_X1_size (N : Nat) (x1 : Int32) (x2 : Int32) (x3 : Int32) (x4 : Int32) (x5 : Int32) (x6 : Int32) (Ω : zo_O) : Option zo_R :=
  ci (fn_X1_isClass N x1 x2 x3 x4 Ω) fun r2 Ω1 =>
  if r2 = 0 then (
    fn_X1_size_34 N Ω1
    ) else
  ci (fn_X1_in N x5 0 800 Ω1) fun r5 Ω4 =>
  if r5 = 0 then (
    fn_X1_size_34 N Ω4
    ) else
  ci (fn_X1_in N x6 0 1 Ω4) fun r8 Ω7 =>
  if r8 = 0 then (
    fn_X1_size_34 N Ω7
    ) else
  cv (fn_X1_begins N x4 Ω7) fun Ω10 =>
  ck (fn_X1_curve N x1 x2 x3 x4 Ω10) 14 fun r12 Ω11 =>
  if x6 = 0 then (
    ci (fn_X17_least N r12 x5 Ω11) fun r15 Ω14 =>
    fn_X1_size_75 N r15 Ω14
    ) else
  ci (fn_X17_greatest N r12 x5 Ω11) fun r17 Ω16 =>
  fn_X1_size_75 N r17 Ω16
theorem mt_X1_size {G : zo_G} {J : zo_O → Prop} (hJ : zo_JC J) (hCon : ∀ Ω, J Ω → zo_Con Ω) (N : Nat) (x1 : Int32) (x2 : Int32) (x3 : Int32) (x4 : Int32) (x5 : Int32) (x6 : Int32) (Ω : zo_O) (res : zo_R) (h : fn_X1_size N x1 x2 x3 x4 x5 x6 Ω = some res) : zo_MT G J yX1_size cX1_size 8 (Option.some Jvm.ClassFile.FieldType.int) 9 [vr 0 0, vi x1, vi x2, vi x3, vi x4, vi x5, vi x6] Ω res := by
  refine zo_enter (by decide) rfl (Nat.le_of_ble_eq_true rfl) (fun Y hY eJ hr hmn => ?_)
  subst eJ
  show TW Y res Ω 0 [(0, vr 0 0), (1, vi x1), (2, vi x2), (3, vi x3), (4, vi x4), (5, vi x5), (6, vi x6)] []
  unfold fn_X1_size at h
  refine zo_aload_n hY dX1_size_0 rfl 0 rfl ?_
  refine zo_iload_n hY dX1_size_1 rfl 1 rfl ?_
  refine zo_iload_n hY dX1_size_2 rfl 2 rfl ?_
  refine zo_iload_n hY dX1_size_3 rfl 3 rfl ?_
  refine zo_iload hY dX1_size_4 4 rfl ?_
  refine zo_callV hY (fun q hq => mt_X1_isClass hJ hCon N x1 x2 x3 x4 Ω q hq) (by decide) (by decide) (by decide) ⟨rfl, cn_X1_isClass⟩ rfl q890 q892 qs23 q78 q893 (Nat.le_of_ble_eq_true rfl) dX1_size_6 rfl h (ci_k (fun r2 Ω1 res h => ?_))
  refine zo_if_eq hY 34 dX1_size_9 (by decide) h (fun c3 h => ?_) (fun c3 h => ?_)
  · refine zo_sub [] rfl ?_
    exact ct_X1_size_34 hY hJ hCon hr N Ω1 _ h
  · refine zo_iload hY dX1_size_12 5 rfl ?_
    refine zo_iconst hY 0 (by decide) dX1_size_14 ?_
    refine zo_sipush hY 800 (by decide) dX1_size_15 ?_
    refine zo_callS hY (fun q hq => mt_X1_in hJ hCon N x5 0 800 Ω1 q hq) (by decide) (by decide) cn_X1_in rfl q239 q240 q78 q241 (Nat.le_of_ble_eq_true rfl) dX1_size_18 rfl h (ci_k (fun r5 Ω4 res h => ?_))
    refine zo_if_eq hY 34 dX1_size_21 (by decide) h (fun c6 h => ?_) (fun c6 h => ?_)
    · refine zo_sub [] rfl ?_
      exact ct_X1_size_34 hY hJ hCon hr N Ω4 _ h
    · refine zo_iload hY dX1_size_24 6 rfl ?_
      refine zo_iconst hY 0 (by decide) dX1_size_26 ?_
      refine zo_iconst hY 1 (by decide) dX1_size_27 ?_
      refine zo_callS hY (fun q hq => mt_X1_in hJ hCon N x6 0 1 Ω4 q hq) (by decide) (by decide) cn_X1_in rfl q239 q240 q78 q241 (Nat.le_of_ble_eq_true rfl) dX1_size_28 rfl h (ci_k (fun r8 Ω7 res h => ?_))
      refine zo_if_ne hY 36 dX1_size_31 (by decide) h (fun c9 h => ?_) (fun c9 h => ?_)
      · refine zo_sub [] rfl ?_
        exact ct_X1_size_34 hY hJ hCon hr N Ω7 _ h
      · refine zo_aload_n hY dX1_size_36 rfl 0 rfl ?_
        refine zo_iload hY dX1_size_37 4 rfl ?_
        refine zo_callV hY (fun q hq => mt_X1_begins hJ hCon N x4 Ω7 q hq) (by decide) (by decide) (by decide) ⟨rfl, cn_X1_begins⟩ rfl q894 q896 qs24 q78 q897 (Nat.le_of_ble_eq_true rfl) dX1_size_39 rfl h (cv_k (fun Ω10 res h => ?_))
        refine zo_aload_n hY dX1_size_42 rfl 0 rfl ?_
        refine zo_iload_n hY dX1_size_43 rfl 1 rfl ?_
        refine zo_iload_n hY dX1_size_44 rfl 2 rfl ?_
        refine zo_iload_n hY dX1_size_45 rfl 3 rfl ?_
        refine zo_iload hY dX1_size_46 4 rfl ?_
        refine zo_callV hY (fun q hq => mt_X1_curve hJ hCon N x1 x2 x3 x4 Ω10 q hq) (by decide) (by decide) (by decide) ⟨rfl, cn_X1_curve⟩ rfl q898 q900 qs25 q78 q901 (Nat.le_of_ble_eq_true rfl) dX1_size_48 rfl h (ck_k (fun r12 Ω11 res h => ?_))
        refine zo_astore hY dX1_size_51 (by decide) rfl (ls' := [(7, vr 14 r12), (0, vr 0 0), (1, vi x1), (2, vi x2), (3, vi x3), (4, vi x4), (5, vi x5), (6, vi x6)]) rfl ?_
        refine zo_iload hY dX1_size_53 7 rfl ?_
        refine zo_if_ne hY 68 dX1_size_55 (by decide) h (fun c13 h => ?_) (fun c13 h => ?_)
        · refine zo_aload hY dX1_size_58 0 rfl ?_
          refine zo_iload hY dX1_size_60 6 rfl ?_
          refine zo_callV hY (fun q hq => mt_X17_least hJ hCon N r12 x5 Ω11 q hq) (by decide) (by decide) (by decide) ⟨rfl, cn_X17_least⟩ rfl q1053 q1054 q1055 q110 q1056 (Nat.le_of_ble_eq_true rfl) dX1_size_62 rfl h (ci_k (fun r15 Ω14 res h => ?_))
          refine zo_goto hY 75 dX1_size_65 (by decide) ?_
          refine zo_sub [] rfl ?_
          exact ct_X1_size_75 hY hJ hCon hr N r15 Ω14 _ h
        · refine zo_aload hY dX1_size_68 0 rfl ?_
          refine zo_iload hY dX1_size_70 6 rfl ?_
          refine zo_callV hY (fun q hq => mt_X17_greatest hJ hCon N r12 x5 Ω11 q hq) (by decide) (by decide) (by decide) ⟨rfl, cn_X17_greatest⟩ rfl q1063 q1064 q1065 q110 q1066 (Nat.le_of_ble_eq_true rfl) dX1_size_72 rfl h (ci_k (fun r17 Ω16 res h => ?_))
          refine zo_sub [] rfl ?_
          exact ct_X1_size_75 hY hJ hCon hr N r17 Ω16 _ h
theorem dX22_init_0 : decode cX22_init 0 = .ok (.aload_n 0, 1) := by decide +kernel
theorem dX22_init_1 : decode cX22_init 1 = .ok (.invokespecial 3, 3) := by decide +kernel
theorem dX22_init_4 : decode cX22_init 4 = .ok (.aload_n 0, 1) := by decide +kernel
theorem dX22_init_5 : decode cX22_init 5 = .ok (.sipush 1000, 3) := by decide +kernel
theorem dX22_init_8 : decode cX22_init 8 = .ok (.putfield 9, 3) := by decide +kernel
theorem dX22_init_11 : decode cX22_init 11 = .ok (.aload_n 0, 1) := by decide +kernel
theorem dX22_init_12 : decode cX22_init 12 = .ok (.sipush 2100, 3) := by decide +kernel
theorem dX22_init_15 : decode cX22_init 15 = .ok (.putfield 15, 3) := by decide +kernel
theorem dX22_init_18 : decode cX22_init 18 = .ok (.return_, 1) := by decide +kernel
def fn_X22_init (N : Nat) (x0 : Nat) (Ω : zo_O) : Option zo_R :=
  lt (sI Ω 18 x0 0 1000) fun Ω1 =>
  lt (sI Ω1 18 x0 1 2100) fun Ω2 =>
  rV Ω2
theorem mt_X22_init {G : zo_G} {J : zo_O → Prop} (hJ : zo_JC J) (hCon : ∀ Ω, J Ω → zo_Con Ω) (N : Nat) (x0 : Nat) (Ω : zo_O) (res : zo_R) (h : fn_X22_init N x0 Ω = some res) : zo_MT G J yX22_init cX22_init 1 (Option.none : Option Jvm.ClassFile.FieldType) 1 [vr 18 x0] Ω res := by
  refine zo_enter (by decide) rfl (Nat.le_of_ble_eq_true rfl) (fun Y hY eJ hr hmn => ?_)
  subst eJ
  show TW Y res Ω 0 [(0, vr 18 x0)] []
  unfold fn_X22_init at h
  refine zo_aload_n hY dX22_init_0 rfl 0 rfl ?_
  refine zo_oini hY (by decide) q1092 (fun ρ => zo_room8 (Nat.le_of_ble_eq_true rfl)) dX22_init_1 ?_
  refine zo_aload_n hY dX22_init_4 rfl 0 rfl ?_
  refine zo_sipush hY 1000 (by decide) dX22_init_5 ?_
  refine zo_putI hY hJ LX22_9_18 rfl (Or.inl rfl) dX22_init_8 h (fun Ω1 h => ?_)
  refine zo_aload_n hY dX22_init_11 rfl 0 rfl ?_
  refine zo_sipush hY 2100 (by decide) dX22_init_12 ?_
  refine zo_putI hY hJ LX22_15_18 rfl (Or.inl rfl) dX22_init_15 h (fun Ω2 h => ?_)
  exact zo_vret hY hr dX22_init_18 h
theorem dX22_within_0 : decode cX22_within 0 = .ok (.aload_n 0, 1) := by decide +kernel
theorem dX22_within_1 : decode cX22_within 1 = .ok (.aload_n 0, 1) := by decide +kernel
theorem dX22_within_2 : decode cX22_within 2 = .ok (.getfield 9, 3) := by decide +kernel
theorem dX22_within_5 : decode cX22_within 5 = .ok (.iload_n 1, 1) := by decide +kernel
theorem dX22_within_6 : decode cX22_within 6 = .ok (.invokestatic 18, 3) := by decide +kernel
theorem dX22_within_9 : decode cX22_within 9 = .ok (.putfield 9, 3) := by decide +kernel
theorem dX22_within_12 : decode cX22_within 12 = .ok (.aload_n 0, 1) := by decide +kernel
theorem dX22_within_13 : decode cX22_within 13 = .ok (.aload_n 0, 1) := by decide +kernel
theorem dX22_within_14 : decode cX22_within 14 = .ok (.getfield 15, 3) := by decide +kernel
theorem dX22_within_17 : decode cX22_within 17 = .ok (.iload_n 2, 1) := by decide +kernel
theorem dX22_within_18 : decode cX22_within 18 = .ok (.invokestatic 24, 3) := by decide +kernel
theorem dX22_within_21 : decode cX22_within 21 = .ok (.putfield 15, 3) := by decide +kernel
theorem dX22_within_24 : decode cX22_within 24 = .ok (.return_, 1) := by decide +kernel
def fn_X22_within (N : Nat) (x0 : Nat) (x1 : Int32) (x2 : Int32) (Ω : zo_O) : Option zo_R :=
  lt (sI Ω 18 x0 0 (mx (gI Ω 18 x0 0) x1)) fun Ω1 =>
  lt (sI Ω1 18 x0 1 (mn (gI Ω1 18 x0 1) x2)) fun Ω2 =>
  rV Ω2
theorem mt_X22_within {G : zo_G} {J : zo_O → Prop} (hJ : zo_JC J) (hCon : ∀ Ω, J Ω → zo_Con Ω) (N : Nat) (x0 : Nat) (x1 : Int32) (x2 : Int32) (Ω : zo_O) (res : zo_R) (h : fn_X22_within N x0 x1 x2 Ω = some res) : zo_MT G J yX22_within cX22_within 3 (Option.none : Option Jvm.ClassFile.FieldType) 1 [vr 18 x0, vi x1, vi x2] Ω res := by
  refine zo_enter (by decide) rfl (Nat.le_of_ble_eq_true rfl) (fun Y hY eJ hr hmn => ?_)
  subst eJ
  show TW Y res Ω 0 [(0, vr 18 x0), (1, vi x1), (2, vi x2)] []
  unfold fn_X22_within at h
  refine zo_aload_n hY dX22_within_0 rfl 0 rfl ?_
  refine zo_aload_n hY dX22_within_1 rfl 0 rfl ?_
  refine zo_getI hY LX22_9_18 rfl dX22_within_2 ?_
  refine zo_iload_n hY dX22_within_5 rfl 1 rfl ?_
  refine zo_mmax hY (by decide) q1111 (Nat.le_of_ble_eq_true rfl) dX22_within_6 ?_
  refine zo_putI hY hJ LX22_9_18 rfl (Or.inl rfl) dX22_within_9 h (fun Ω1 h => ?_)
  refine zo_aload_n hY dX22_within_12 rfl 0 rfl ?_
  refine zo_aload_n hY dX22_within_13 rfl 0 rfl ?_
  refine zo_getI hY LX22_15_18 rfl dX22_within_14 ?_
  refine zo_iload_n hY dX22_within_17 rfl 2 rfl ?_
  refine zo_mmin hY (by decide) q1112 (Nat.le_of_ble_eq_true rfl) dX22_within_18 ?_
  refine zo_putI hY hJ LX22_15_18 rfl (Or.inl rfl) dX22_within_21 h (fun Ω2 h => ?_)
  exact zo_vret hY hr dX22_within_24 h
def fn_X3_isBy_6_13 (N : Nat)  (s0 : Int32) (Ω : zo_O) : Option zo_R :=
  rZ s0 Ω
theorem ct_X3_isBy_6_13 {Y : zo_Y} (hY : zo_Gd Y cX3_isBy 2 RX3 0) (hJ : zo_JC (zo_J Y)) (hCon : ∀ Ω, zo_J Y Ω → zo_Con Ω) (hr : zo_rt Y (Option.some Jvm.ClassFile.FieldType.boolean)) (N : Nat)   (s0 : Int32) (Ω : zo_O) (res : zo_R) (h : fn_X3_isBy_6_13 N  s0 Ω = some res) : TW Y res Ω 13 [] [vi s0] := by
  unfold fn_X3_isBy_6_13 at h
  exact zo_zret hY hr dX3_isBy_13 h
def fn_X3_isBy_6 (N : Nat) (x0 : Nat) (x1 : Int32) (Ω : zo_O) : Option zo_R :=
  if x1 < gI Ω 6 x0 0 then (
    fn_X3_isBy_6_13 N 0 Ω
    ) else
  fn_X3_isBy_6_13 N 1 Ω
theorem mt_X3_isBy_6 {G : zo_G} {J : zo_O → Prop} (hJ : zo_JC J) (hCon : ∀ Ω, J Ω → zo_Con Ω) (N : Nat) (x0 : Nat) (x1 : Int32) (Ω : zo_O) (res : zo_R) (h : fn_X3_isBy_6 N x0 x1 Ω = some res) : zo_MT G J yX3_isBy cX3_isBy 2 (Option.some Jvm.ClassFile.FieldType.boolean) 0 [vr 6 x0, vi x1] Ω res := by
  refine zo_enter (by decide) rfl (Nat.le_of_ble_eq_true rfl) (fun Y hY eJ hr hmn => ?_)
  subst eJ
  show TW Y res Ω 0 [(0, vr 6 x0), (1, vi x1)] []
  unfold fn_X3_isBy_6 at h
  refine zo_aload_n hY dX3_isBy_0 rfl 0 rfl ?_
  refine zo_getI hY LX3_7_6 rfl dX3_isBy_1 ?_
  refine zo_iload_n hY dX3_isBy_4 rfl 1 rfl ?_
  refine zo_icmp_gt hY 12 dX3_isBy_5 (by decide) h (fun c1 h => ?_) (fun c1 h => ?_)
  · refine zo_iconst hY 0 (by decide) dX3_isBy_12 ?_
    refine zo_sub [] rfl ?_
    exact ct_X3_isBy_6_13 hY hJ hCon hr N 0 Ω _ h
  · refine zo_iconst hY 1 (by decide) dX3_isBy_8 ?_
    refine zo_goto hY 13 dX3_isBy_9 (by decide) ?_
    refine zo_sub [] rfl ?_
    exact ct_X3_isBy_6_13 hY hJ hCon hr N 1 Ω _ h
theorem dX1_spanBy_0 : decode cX1_spanBy 0 = .ok (.new 76, 3) := by decide +kernel
theorem dX1_spanBy_3 : decode cX1_spanBy 3 = .ok (.dup, 1) := by decide +kernel
theorem dX1_spanBy_4 : decode cX1_spanBy 4 = .ok (.invokespecial 321, 3) := by decide +kernel
theorem dX1_spanBy_7 : decode cX1_spanBy 7 = .ok (.astore_n 3, 1) := by decide +kernel
theorem dX1_spanBy_8 : decode cX1_spanBy 8 = .ok (.iconst 0, 1) := by decide +kernel
theorem dX1_spanBy_9 : decode cX1_spanBy 9 = .ok (.istore 4, 2) := by decide +kernel
theorem dX1_spanBy_11 : decode cX1_spanBy 11 = .ok (.iload 4, 2) := by decide +kernel
theorem dX1_spanBy_13 : decode cX1_spanBy 13 = .ok (.iconst 3, 1) := by decide +kernel
theorem dX1_spanBy_14 : decode cX1_spanBy 14 = .ok (.if_icmp .ge 166, 3) := by decide +kernel
theorem dX1_spanBy_17 : decode cX1_spanBy 17 = .ok (.new 13, 3) := by decide +kernel
theorem dX1_spanBy_20 : decode cX1_spanBy 20 = .ok (.dup, 1) := by decide +kernel
theorem dX1_spanBy_21 : decode cX1_spanBy 21 = .ok (.invokespecial 15, 3) := by decide +kernel
theorem dX1_spanBy_24 : decode cX1_spanBy 24 = .ok (.astore 5, 2) := by decide +kernel
theorem dX1_spanBy_26 : decode cX1_spanBy 26 = .ok (.aload_n 0, 1) := by decide +kernel
theorem dX1_spanBy_27 : decode cX1_spanBy 27 = .ok (.aload 5, 2) := by decide +kernel
theorem dX1_spanBy_29 : decode cX1_spanBy 29 = .ok (.aload_n 1, 1) := by decide +kernel
theorem dX1_spanBy_30 : decode cX1_spanBy 30 = .ok (.iload 4, 2) := by decide +kernel
theorem dX1_spanBy_32 : decode cX1_spanBy 32 = .ok (.iload_n 2, 1) := by decide +kernel
theorem dX1_spanBy_33 : decode cX1_spanBy 33 = .ok (.invokevirtual 290, 3) := by decide +kernel
theorem dX1_spanBy_36 : decode cX1_spanBy 36 = .ok (.iconst 0, 1) := by decide +kernel
theorem dX1_spanBy_37 : decode cX1_spanBy 37 = .ok (.istore 6, 2) := by decide +kernel
theorem dX1_spanBy_39 : decode cX1_spanBy 39 = .ok (.iload 6, 2) := by decide +kernel
theorem dX1_spanBy_41 : decode cX1_spanBy 41 = .ok (.aload 5, 2) := by decide +kernel
theorem dX1_spanBy_43 : decode cX1_spanBy 43 = .ok (.invokevirtual 85, 3) := by decide +kernel
theorem dX1_spanBy_46 : decode cX1_spanBy 46 = .ok (.if_icmp .ge 128, 3) := by decide +kernel
theorem dX1_spanBy_49 : decode cX1_spanBy 49 = .ok (.aload 5, 2) := by decide +kernel
theorem dX1_spanBy_51 : decode cX1_spanBy 51 = .ok (.iload 6, 2) := by decide +kernel
theorem dX1_spanBy_53 : decode cX1_spanBy 53 = .ok (.invokevirtual 116, 3) := by decide +kernel
theorem dX1_spanBy_56 : decode cX1_spanBy 56 = .ok (.checkcast 272, 3) := by decide +kernel
theorem dX1_spanBy_59 : decode cX1_spanBy 59 = .ok (.astore 7, 2) := by decide +kernel
theorem dX1_spanBy_61 : decode cX1_spanBy 61 = .ok (.aload_n 0, 1) := by decide +kernel
theorem dX1_spanBy_62 : decode cX1_spanBy 62 = .ok (.iload 4, 2) := by decide +kernel
theorem dX1_spanBy_64 : decode cX1_spanBy 64 = .ok (.aload_n 1, 1) := by decide +kernel
theorem dX1_spanBy_65 : decode cX1_spanBy 65 = .ok (.getfield 177, 3) := by decide +kernel
theorem dX1_spanBy_68 : decode cX1_spanBy 68 = .ok (.aload_n 1, 1) := by decide +kernel
theorem dX1_spanBy_69 : decode cX1_spanBy 69 = .ok (.getfield 180, 3) := by decide +kernel
theorem dX1_spanBy_72 : decode cX1_spanBy 72 = .ok (.iload_n 2, 1) := by decide +kernel
theorem dX1_spanBy_73 : decode cX1_spanBy 73 = .ok (.invokevirtual 308, 3) := by decide +kernel
theorem dX1_spanBy_76 : decode cX1_spanBy 76 = .ok (.astore 8, 2) := by decide +kernel
theorem dX1_spanBy_78 : decode cX1_spanBy 78 = .ok (.aload 8, 2) := by decide +kernel
theorem dX1_spanBy_80 : decode cX1_spanBy 80 = .ok (.aload 7, 2) := by decide +kernel
theorem dX1_spanBy_82 : decode cX1_spanBy 82 = .ok (.getfield 322, 3) := by decide +kernel
theorem dX1_spanBy_85 : decode cX1_spanBy 85 = .ok (.invokevirtual 324, 3) := by decide +kernel
theorem dX1_spanBy_88 : decode cX1_spanBy 88 = .ok (.istore 9, 2) := by decide +kernel
theorem dX1_spanBy_90 : decode cX1_spanBy 90 = .ok (.aload_n 3, 1) := by decide +kernel
theorem dX1_spanBy_91 : decode cX1_spanBy 91 = .ok (.sipush 1000, 3) := by decide +kernel
theorem dX1_spanBy_94 : decode cX1_spanBy 94 = .ok (.iload 9, 2) := by decide +kernel
theorem dX1_spanBy_96 : decode cX1_spanBy 96 = .ok (.sipush 800, 3) := by decide +kernel
theorem dX1_spanBy_99 : decode cX1_spanBy 99 = .ok (.if_icmp .le 9, 3) := by decide +kernel
theorem dX1_spanBy_102 : decode cX1_spanBy 102 = .ok (.sipush 999, 3) := by decide +kernel
theorem dX1_spanBy_105 : decode cX1_spanBy 105 = .ok (.goto 11, 3) := by decide +kernel
theorem dX1_spanBy_108 : decode cX1_spanBy 108 = .ok (.aload 7, 2) := by decide +kernel
theorem dX1_spanBy_110 : decode cX1_spanBy 110 = .ok (.getfield 274, 3) := by decide +kernel
theorem dX1_spanBy_113 : decode cX1_spanBy 113 = .ok (.iload 9, 2) := by decide +kernel
theorem dX1_spanBy_115 : decode cX1_spanBy 115 = .ok (.isub, 1) := by decide +kernel
theorem dX1_spanBy_116 : decode cX1_spanBy 116 = .ok (.invokevirtual 327, 3) := by decide +kernel
theorem dX1_spanBy_119 : decode cX1_spanBy 119 = .ok (.aload_n 0, 1) := by decide +kernel
theorem dX1_spanBy_120 : decode cX1_spanBy 120 = .ok (.aload_n 1, 1) := by decide +kernel
theorem dX1_spanBy_121 : decode cX1_spanBy 121 = .ok (.getfield 159, 3) := by decide +kernel
theorem dX1_spanBy_124 : decode cX1_spanBy 124 = .ok (.iload 4, 2) := by decide +kernel
theorem dX1_spanBy_126 : decode cX1_spanBy 126 = .ok (.iload_n 2, 1) := by decide +kernel
theorem dX1_spanBy_127 : decode cX1_spanBy 127 = .ok (.invokevirtual 330, 3) := by decide +kernel
theorem dX1_spanBy_130 : decode cX1_spanBy 130 = .ok (.aload_n 0, 1) := by decide +kernel
theorem dX1_spanBy_131 : decode cX1_spanBy 131 = .ok (.getfield 49, 3) := by decide +kernel
theorem dX1_spanBy_134 : decode cX1_spanBy 134 = .ok (.if_icmp .lt 34, 3) := by decide +kernel
theorem dX1_spanBy_137 : decode cX1_spanBy 137 = .ok (.aload_n 3, 1) := by decide +kernel
theorem dX1_spanBy_138 : decode cX1_spanBy 138 = .ok (.aload 7, 2) := by decide +kernel
theorem dX1_spanBy_140 : decode cX1_spanBy 140 = .ok (.getfield 274, 3) := by decide +kernel
theorem dX1_spanBy_143 : decode cX1_spanBy 143 = .ok (.aload 8, 2) := by decide +kernel
theorem dX1_spanBy_145 : decode cX1_spanBy 145 = .ok (.aload 7, 2) := by decide +kernel
theorem dX1_spanBy_147 : decode cX1_spanBy 147 = .ok (.getfield 334, 3) := by decide +kernel
theorem dX1_spanBy_150 : decode cX1_spanBy 150 = .ok (.invokevirtual 336, 3) := by decide +kernel
theorem dX1_spanBy_153 : decode cX1_spanBy 153 = .ok (.isub, 1) := by decide +kernel
theorem dX1_spanBy_154 : decode cX1_spanBy 154 = .ok (.aload_n 0, 1) := by decide +kernel
theorem dX1_spanBy_155 : decode cX1_spanBy 155 = .ok (.getfield 38, 3) := by decide +kernel
theorem dX1_spanBy_158 : decode cX1_spanBy 158 = .ok (.iload 4, 2) := by decide +kernel
theorem dX1_spanBy_160 : decode cX1_spanBy 160 = .ok (.iaload, 1) := by decide +kernel
theorem dX1_spanBy_161 : decode cX1_spanBy 161 = .ok (.isub, 1) := by decide +kernel
theorem dX1_spanBy_162 : decode cX1_spanBy 162 = .ok (.sipush 2100, 3) := by decide +kernel
theorem dX1_spanBy_165 : decode cX1_spanBy 165 = .ok (.invokevirtual 327, 3) := by decide +kernel
theorem dX1_spanBy_168 : decode cX1_spanBy 168 = .ok (.iinc 6 1, 3) := by decide +kernel
theorem dX1_spanBy_171 : decode cX1_spanBy 171 = .ok (.goto (-132), 3) := by decide +kernel
theorem dX1_spanBy_174 : decode cX1_spanBy 174 = .ok (.iinc 4 1, 3) := by decide +kernel
theorem dX1_spanBy_177 : decode cX1_spanBy 177 = .ok (.goto (-166), 3) := by decide +kernel
theorem dX1_spanBy_180 : decode cX1_spanBy 180 = .ok (.iconst 0, 1) := by decide +kernel
theorem dX1_spanBy_181 : decode cX1_spanBy 181 = .ok (.istore 4, 2) := by decide +kernel
theorem dX1_spanBy_183 : decode cX1_spanBy 183 = .ok (.iload 4, 2) := by decide +kernel
theorem dX1_spanBy_185 : decode cX1_spanBy 185 = .ok (.aload_n 0, 1) := by decide +kernel
theorem dX1_spanBy_186 : decode cX1_spanBy 186 = .ok (.getfield 29, 3) := by decide +kernel
theorem dX1_spanBy_189 : decode cX1_spanBy 189 = .ok (.invokevirtual 85, 3) := by decide +kernel
theorem dX1_spanBy_192 : decode cX1_spanBy 192 = .ok (.if_icmp .ge 58, 3) := by decide +kernel
theorem dX1_spanBy_195 : decode cX1_spanBy 195 = .ok (.aload_n 0, 1) := by decide +kernel
theorem dX1_spanBy_196 : decode cX1_spanBy 196 = .ok (.getfield 29, 3) := by decide +kernel
theorem dX1_spanBy_199 : decode cX1_spanBy 199 = .ok (.iload 4, 2) := by decide +kernel
theorem dX1_spanBy_201 : decode cX1_spanBy 201 = .ok (.invokevirtual 116, 3) := by decide +kernel
theorem dX1_spanBy_204 : decode cX1_spanBy 204 = .ok (.checkcast 131, 3) := by decide +kernel
theorem dX1_spanBy_207 : decode cX1_spanBy 207 = .ok (.astore 5, 2) := by decide +kernel
theorem dX1_spanBy_209 : decode cX1_spanBy 209 = .ok (.aload 5, 2) := by decide +kernel
theorem dX1_spanBy_211 : decode cX1_spanBy 211 = .ok (.getfield 339, 3) := by decide +kernel
theorem dX1_spanBy_214 : decode cX1_spanBy 214 = .ok (.aload_n 1, 1) := by decide +kernel
theorem dX1_spanBy_215 : decode cX1_spanBy 215 = .ok (.getfield 159, 3) := by decide +kernel
theorem dX1_spanBy_218 : decode cX1_spanBy 218 = .ok (.if_icmp .ne 26, 3) := by decide +kernel
theorem dX1_spanBy_221 : decode cX1_spanBy 221 = .ok (.aload 5, 2) := by decide +kernel
theorem dX1_spanBy_223 : decode cX1_spanBy 223 = .ok (.iload_n 2, 1) := by decide +kernel
theorem dX1_spanBy_224 : decode cX1_spanBy 224 = .ok (.invokevirtual 340, 3) := by decide +kernel
theorem dX1_spanBy_227 : decode cX1_spanBy 227 = .ok (.ifCond .eq 17, 3) := by decide +kernel
theorem dX1_spanBy_230 : decode cX1_spanBy 230 = .ok (.aload_n 3, 1) := by decide +kernel
theorem dX1_spanBy_231 : decode cX1_spanBy 231 = .ok (.aload 5, 2) := by decide +kernel
theorem dX1_spanBy_233 : decode cX1_spanBy 233 = .ok (.getfield 341, 3) := by decide +kernel
theorem dX1_spanBy_236 : decode cX1_spanBy 236 = .ok (.aload 5, 2) := by decide +kernel
theorem dX1_spanBy_238 : decode cX1_spanBy 238 = .ok (.getfield 344, 3) := by decide +kernel
theorem dX1_spanBy_241 : decode cX1_spanBy 241 = .ok (.invokevirtual 327, 3) := by decide +kernel
theorem dX1_spanBy_244 : decode cX1_spanBy 244 = .ok (.iinc 4 1, 3) := by decide +kernel
theorem dX1_spanBy_247 : decode cX1_spanBy 247 = .ok (.goto (-64), 3) := by decide +kernel
theorem dX1_spanBy_250 : decode cX1_spanBy 250 = .ok (.aload_n 3, 1) := by decide +kernel
theorem dX1_spanBy_251 : decode cX1_spanBy 251 = .ok (.areturn, 1) := by decide +kernel
def fn_X1_spanBy_168 (N : Nat) (K11 : Nat → Int32 → Nat → Int32 → zo_O → Option zo_R) (K39 : Nat → Int32 → Nat → Int32 → Nat → Int32 → zo_O → Option zo_R) (x1 : Nat) (x2 : Int32) (x3 : Nat) (x4 : Int32) (x5 : Nat) (x6 : Int32) (Ω : zo_O) : Option zo_R :=
  K39 x1 x2 x3 x4 x5 (x6 + 1) Ω
theorem ct_X1_spanBy_168 {Y : zo_Y} (hY : zo_Gd Y cX1_spanBy 10 RX1 9) (hJ : zo_JC (zo_J Y)) (hCon : ∀ Ω, zo_J Y Ω → zo_Con Ω) (hr : zo_rt Y (Option.some (Jvm.ClassFile.FieldType.object "LichenTable$Span"))) (N : Nat) (K11 : Nat → Int32 → Nat → Int32 → zo_O → Option zo_R) (K39 : Nat → Int32 → Nat → Int32 → Nat → Int32 → zo_O → Option zo_R) (hK11 : ∀ (x1 : Nat) (x2 : Int32) (x3 : Nat) (x4 : Int32) (Ω : zo_O) (res : zo_R), K11 x1 x2 x3 x4 Ω = some res → TW Y res Ω 11 [(0, vr 0 0), (1, vr 2 x1), (2, vi x2), (3, vr 18 x3), (4, vi x4)] []) (hK39 : ∀ (x1 : Nat) (x2 : Int32) (x3 : Nat) (x4 : Int32) (x5 : Nat) (x6 : Int32) (Ω : zo_O) (res : zo_R), K39 x1 x2 x3 x4 x5 x6 Ω = some res → TW Y res Ω 39 [(0, vr 0 0), (1, vr 2 x1), (2, vi x2), (3, vr 18 x3), (4, vi x4), (5, vr 20 x5), (6, vi x6)] []) (x1 : Nat) (x2 : Int32) (x3 : Nat) (x4 : Int32) (x5 : Nat) (x6 : Int32) (Ω : zo_O) (res : zo_R) (h : fn_X1_spanBy_168 N K11 K39 x1 x2 x3 x4 x5 x6 Ω = some res) : TW Y res Ω 168 [(0, vr 0 0), (1, vr 2 x1), (2, vi x2), (3, vr 18 x3), (4, vi x4), (5, vr 20 x5), (6, vi x6)] [] := by
  unfold fn_X1_spanBy_168 at h
  refine zo_iinc hY 1 dX1_spanBy_168 (by decide) (by decide) 6 rfl rfl (ls' := [(6, vi (x6 + 1)), (0, vr 0 0), (1, vr 2 x1), (2, vi x2), (3, vr 18 x3), (4, vi x4), (5, vr 20 x5)]) rfl ?_
  refine zo_goto hY 39 dX1_spanBy_171 (by decide) ?_
  refine zo_sub [1, 2, 3, 4, 5, 6, 0] rfl ?_
  exact hK39 x1 x2 x3 x4 x5 (x6 + 1) Ω _ h
def fn_X1_spanBy_116 (N : Nat) (K11 : Nat → Int32 → Nat → Int32 → zo_O → Option zo_R) (K39 : Nat → Int32 → Nat → Int32 → Nat → Int32 → zo_O → Option zo_R) (x1 : Nat) (x2 : Int32) (x3 : Nat) (x4 : Int32) (x5 : Nat) (x6 : Int32) (x7 : Nat) (x8 : Nat) (s0 : Int32) (s1 : Int32) (s2 : Nat) (Ω : zo_O) : Option zo_R :=
  cv (fn_X22_within N s2 s1 s0 Ω) fun Ω1 =>
  ci (fn_X1_lookedAt N (gI Ω1 2 x1 1) x4 x2 Ω1) fun r3 Ω2 =>
  if r3 < gI Ω2 0 0 11 then (
    fn_X1_spanBy_168 N K11 K39 x1 x2 x3 x4 x5 x6 Ω2
    ) else
  ci (fn_X17_lastAge N x8 (gI Ω2 15 x7 3) Ω2) fun r6 Ω5 =>
  ix x4 3 fun j7 =>
  cv (fn_X22_within N x3 (((gI Ω2 15 x7 1) - r6) - (gI Ω5 43 0 j7)) 2100 Ω5) fun Ω8 =>
  fn_X1_spanBy_168 N K11 K39 x1 x2 x3 x4 x5 x6 Ω8
theorem ct_X1_spanBy_116 {Y : zo_Y} (hY : zo_Gd Y cX1_spanBy 10 RX1 9) (hJ : zo_JC (zo_J Y)) (hCon : ∀ Ω, zo_J Y Ω → zo_Con Ω) (hr : zo_rt Y (Option.some (Jvm.ClassFile.FieldType.object "LichenTable$Span"))) (N : Nat) (K11 : Nat → Int32 → Nat → Int32 → zo_O → Option zo_R) (K39 : Nat → Int32 → Nat → Int32 → Nat → Int32 → zo_O → Option zo_R) (hK11 : ∀ (x1 : Nat) (x2 : Int32) (x3 : Nat) (x4 : Int32) (Ω : zo_O) (res : zo_R), K11 x1 x2 x3 x4 Ω = some res → TW Y res Ω 11 [(0, vr 0 0), (1, vr 2 x1), (2, vi x2), (3, vr 18 x3), (4, vi x4)] []) (hK39 : ∀ (x1 : Nat) (x2 : Int32) (x3 : Nat) (x4 : Int32) (x5 : Nat) (x6 : Int32) (Ω : zo_O) (res : zo_R), K39 x1 x2 x3 x4 x5 x6 Ω = some res → TW Y res Ω 39 [(0, vr 0 0), (1, vr 2 x1), (2, vi x2), (3, vr 18 x3), (4, vi x4), (5, vr 20 x5), (6, vi x6)] []) (x1 : Nat) (x2 : Int32) (x3 : Nat) (x4 : Int32) (x5 : Nat) (x6 : Int32) (x7 : Nat) (x8 : Nat) (s0 : Int32) (s1 : Int32) (s2 : Nat) (Ω : zo_O) (res : zo_R) (h : fn_X1_spanBy_116 N K11 K39 x1 x2 x3 x4 x5 x6 x7 x8 s0 s1 s2 Ω = some res) : TW Y res Ω 116 [(0, vr 0 0), (1, vr 2 x1), (2, vi x2), (3, vr 18 x3), (4, vi x4), (5, vr 20 x5), (6, vi x6), (7, vr 15 x7), (8, vr 14 x8)] [vi s0, vi s1, vr 18 s2] := by
  unfold fn_X1_spanBy_116 at h
  refine zo_callV hY (fun q hq => mt_X22_within hJ hCon N s2 s1 s0 Ω q hq) (by decide) (by decide) (by decide) ⟨rfl, cn_X22_within⟩ rfl q1107 q1108 q1109 q116 q1110 (Nat.le_of_ble_eq_true rfl) dX1_spanBy_116 rfl h (cv_k (fun Ω1 res h => ?_))
  refine zo_aload_n hY dX1_spanBy_119 rfl 0 rfl ?_
  refine zo_aload_n hY dX1_spanBy_120 rfl 1 rfl ?_
  refine zo_getI hY LX1_159_2 rfl dX1_spanBy_121 ?_
  refine zo_iload hY dX1_spanBy_124 4 rfl ?_
  refine zo_iload_n hY dX1_spanBy_126 rfl 2 rfl ?_
  refine zo_callV hY (fun q hq => mt_X1_lookedAt hJ hCon N (gI Ω1 2 x1 1) x4 x2 Ω1 q hq) (by decide) (by decide) (by decide) ⟨rfl, cn_X1_lookedAt⟩ rfl q1113 q1010 qs27 q78 q1011 (Nat.le_of_ble_eq_true rfl) dX1_spanBy_127 rfl h (ci_k (fun r3 Ω2 res h => ?_))
  refine zo_aload_n hY dX1_spanBy_130 rfl 0 rfl ?_
  refine zo_getI hY LX1_49_0 rfl dX1_spanBy_131 ?_
  refine zo_icmp_lt hY 168 dX1_spanBy_134 (by decide) h (fun c4 h => ?_) (fun c4 h => ?_)
  · refine zo_sub [0, 1, 2, 3, 4, 5, 6] rfl ?_
    exact ct_X1_spanBy_168 hY hJ hCon hr N K11 K39 hK11 hK39 x1 x2 x3 x4 x5 x6 Ω2 _ h
  · refine zo_aload_n hY dX1_spanBy_137 rfl 3 rfl ?_
    refine zo_aload hY dX1_spanBy_138 7 rfl ?_
    refine zo_getI hY LX1_274_15 rfl dX1_spanBy_140 ?_
    refine zo_aload hY dX1_spanBy_143 8 rfl ?_
    refine zo_aload hY dX1_spanBy_145 7 rfl ?_
    refine zo_getI hY LX1_334_15 rfl dX1_spanBy_147 ?_
    refine zo_callV hY (fun q hq => mt_X17_lastAge hJ hCon N x8 (gI Ω2 15 x7 3) Ω2 q hq) (by decide) (by decide) (by decide) ⟨rfl, cn_X17_lastAge⟩ rfl q1114 q1115 q1116 q110 q1117 (Nat.le_of_ble_eq_true rfl) dX1_spanBy_150 rfl h (ci_k (fun r6 Ω5 res h => ?_))
    refine zo_isub hY dX1_spanBy_153 ?_
    refine zo_aload_n hY dX1_spanBy_154 rfl 0 rfl ?_
    refine zo_getC hY LX1_38_0 rfl (fun Ω q => (hCon Ω q).1 7 _ rfl) dX1_spanBy_155 ?_
    refine zo_iload hY dX1_spanBy_158 4 rfl ?_
    refine zo_ald hY (by decide) (Or.inl ⟨rfl, dX1_spanBy_160⟩) (fun q => (hCon _ q).2.2.2 43 0 3 rfl) h (fun j7 h => ?_)
    refine zo_isub hY dX1_spanBy_161 ?_
    refine zo_sipush hY 2100 (by decide) dX1_spanBy_162 ?_
    refine zo_callV hY (fun q hq => mt_X22_within hJ hCon N x3 (((gI Ω2 15 x7 1) - r6) - (gI Ω5 43 0 j7)) 2100 Ω5 q hq) (by decide) (by decide) (by decide) ⟨rfl, cn_X22_within⟩ rfl q1107 q1108 q1109 q116 q1110 (Nat.le_of_ble_eq_true rfl) dX1_spanBy_165 rfl h (cv_k (fun Ω8 res h => ?_))
    refine zo_sub [0, 1, 2, 3, 4, 5, 6] rfl ?_
    exact ct_X1_spanBy_168 hY hJ hCon hr N K11 K39 hK11 hK39 x1 x2 x3 x4 x5 x6 Ω8 _ h
def bd_X1_spanBy_39 (N : Nat) (K11 : Nat → Int32 → Nat → Int32 → zo_O → Option zo_R) (K39 : Nat → Int32 → Nat → Int32 → Nat → Int32 → zo_O → Option zo_R) (x1 : Nat) (x2 : Int32) (x3 : Nat) (x4 : Int32) (x5 : Nat) (x6 : Int32) (Ω : zo_O) : Option zo_R :=
  ci (fn_J2_size N x5 Ω) fun r2 Ω1 =>
  if r2 ≤ x6 then (
    K11 x1 x2 x3 (x4 + 1) Ω1
    ) else
  cr (fn_J2_get N x5 x6 Ω1) fun r5 Ω4 =>
  bk r5 15 fun j6 =>
  ck (fn_X1_curve N x4 (gI Ω4 2 x1 2) (gI Ω4 2 x1 3) x2 Ω4) 14 fun r8 Ω7 =>
  ci (fn_X17_firstAge N r8 (gI Ω7 15 j6 2) Ω7) fun r10 Ω9 =>
  if r10 ≤ 800 then (
    fn_X1_spanBy_116 N K11 K39 x1 x2 x3 x4 x5 x6 j6 r8 ((gI Ω9 15 j6 1) - r10) 1000 x3 Ω9
    ) else
  fn_X1_spanBy_116 N K11 K39 x1 x2 x3 x4 x5 x6 j6 r8 999 1000 x3 Ω9
theorem cb_X1_spanBy_39 {Y : zo_Y} (hY : zo_Gd Y cX1_spanBy 10 RX1 9) (hJ : zo_JC (zo_J Y)) (hCon : ∀ Ω, zo_J Y Ω → zo_Con Ω) (hr : zo_rt Y (Option.some (Jvm.ClassFile.FieldType.object "LichenTable$Span"))) (N : Nat) (K11 : Nat → Int32 → Nat → Int32 → zo_O → Option zo_R) (K39 : Nat → Int32 → Nat → Int32 → Nat → Int32 → zo_O → Option zo_R) (hK11 : ∀ (x1 : Nat) (x2 : Int32) (x3 : Nat) (x4 : Int32) (Ω : zo_O) (res : zo_R), K11 x1 x2 x3 x4 Ω = some res → TW Y res Ω 11 [(0, vr 0 0), (1, vr 2 x1), (2, vi x2), (3, vr 18 x3), (4, vi x4)] []) (hK39 : ∀ (x1 : Nat) (x2 : Int32) (x3 : Nat) (x4 : Int32) (x5 : Nat) (x6 : Int32) (Ω : zo_O) (res : zo_R), K39 x1 x2 x3 x4 x5 x6 Ω = some res → TW Y res Ω 39 [(0, vr 0 0), (1, vr 2 x1), (2, vi x2), (3, vr 18 x3), (4, vi x4), (5, vr 20 x5), (6, vi x6)] []) (x1 : Nat) (x2 : Int32) (x3 : Nat) (x4 : Int32) (x5 : Nat) (x6 : Int32) (Ω : zo_O) (res : zo_R) (h : bd_X1_spanBy_39 N K11 K39 x1 x2 x3 x4 x5 x6 Ω = some res) : TW Y res Ω 39 [(0, vr 0 0), (1, vr 2 x1), (2, vi x2), (3, vr 18 x3), (4, vi x4), (5, vr 20 x5), (6, vi x6)] [] := by
  unfold bd_X1_spanBy_39 at h
  refine zo_iload hY dX1_spanBy_39 6 rfl ?_
  refine zo_aload hY dX1_spanBy_41 5 rfl ?_
  refine zo_callV hY (fun q hq => mt_J2_size hJ hCon N x5 Ω q hq) (by decide) (by decide) (by decide) ⟨rfl, cn_J2_size⟩ rfl q245 q246 q247 q81 q248 (Nat.le_of_ble_eq_true rfl) dX1_spanBy_43 rfl h (ci_k (fun r2 Ω1 res h => ?_))
  refine zo_icmp_ge hY 174 dX1_spanBy_46 (by decide) h (fun c3 h => ?_) (fun c3 h => ?_)
  · refine zo_iinc hY 1 dX1_spanBy_174 (by decide) (by decide) 4 rfl rfl (ls' := [(4, vi (x4 + 1)), (0, vr 0 0), (1, vr 2 x1), (2, vi x2), (3, vr 18 x3), (5, vr 20 x5), (6, vi x6)]) rfl ?_
    refine zo_goto hY 11 dX1_spanBy_177 (by decide) ?_
    refine zo_sub [1, 2, 3, 4, 0] rfl ?_
    exact hK11 x1 x2 x3 (x4 + 1) Ω1 _ h
  · refine zo_aload hY dX1_spanBy_49 5 rfl ?_
    refine zo_iload hY dX1_spanBy_51 6 rfl ?_
    refine zo_callV hY (fun q hq => mt_J2_get hJ hCon N x5 x6 Ω1 q hq) (by decide) (by decide) (by decide) ⟨rfl, cn_J2_get⟩ rfl q368 q369 q370 q81 q371 (Nat.le_of_ble_eq_true rfl) dX1_spanBy_53 rfl h (cr_k (fun r5 Ω4 res h => ?_))
    refine zo_castK hY (by decide) q938 (Or.inl rfl) dX1_spanBy_56 h (fun j6 h => ?_)
    refine zo_astore hY dX1_spanBy_59 (by decide) rfl (ls' := [(7, vr 15 j6), (0, vr 0 0), (1, vr 2 x1), (2, vi x2), (3, vr 18 x3), (4, vi x4), (5, vr 20 x5), (6, vi x6)]) rfl ?_
    refine zo_aload_n hY dX1_spanBy_61 rfl 1 rfl ?_
    refine zo_iload hY dX1_spanBy_62 5 rfl ?_
    refine zo_aload_n hY dX1_spanBy_64 rfl 2 rfl ?_
    refine zo_getI hY LX1_177_2 rfl dX1_spanBy_65 ?_
    refine zo_aload_n hY dX1_spanBy_68 rfl 2 rfl ?_
    refine zo_getI hY LX1_180_2 rfl dX1_spanBy_69 ?_
    refine zo_iload_n hY dX1_spanBy_72 rfl 3 rfl ?_
    refine zo_callV hY (fun q hq => mt_X1_curve hJ hCon N x4 (gI Ω4 2 x1 2) (gI Ω4 2 x1 3) x2 Ω4 q hq) (by decide) (by decide) (by decide) ⟨rfl, cn_X1_curve⟩ rfl q898 q900 qs25 q78 q901 (Nat.le_of_ble_eq_true rfl) dX1_spanBy_73 rfl h (ck_k (fun r8 Ω7 res h => ?_))
    refine zo_astore hY dX1_spanBy_76 (by decide) rfl (ls' := [(8, vr 14 r8), (7, vr 15 j6), (0, vr 0 0), (1, vr 2 x1), (2, vi x2), (3, vr 18 x3), (4, vi x4), (5, vr 20 x5), (6, vi x6)]) rfl ?_
    refine zo_aload hY dX1_spanBy_78 0 rfl ?_
    refine zo_aload hY dX1_spanBy_80 1 rfl ?_
    refine zo_getI hY LX1_322_15 rfl dX1_spanBy_82 ?_
    refine zo_callV hY (fun q hq => mt_X17_firstAge hJ hCon N r8 (gI Ω7 15 j6 2) Ω7 q hq) (by decide) (by decide) (by decide) ⟨rfl, cn_X17_firstAge⟩ rfl q1102 q1103 q1104 q110 q1105 (Nat.le_of_ble_eq_true rfl) dX1_spanBy_85 rfl h (ci_k (fun r10 Ω9 res h => ?_))
    refine zo_istore hY dX1_spanBy_88 (by decide) rfl (ls' := [(9, vi r10), (8, vr 14 r8), (7, vr 15 j6), (0, vr 0 0), (1, vr 2 x1), (2, vi x2), (3, vr 18 x3), (4, vi x4), (5, vr 20 x5), (6, vi x6)]) rfl ?_
    refine zo_aload_n hY dX1_spanBy_90 rfl 6 rfl ?_
    refine zo_sipush hY 1000 (by decide) dX1_spanBy_91 ?_
    refine zo_iload hY dX1_spanBy_94 0 rfl ?_
    refine zo_sipush hY 800 (by decide) dX1_spanBy_96 ?_
    refine zo_icmp_le hY 108 dX1_spanBy_99 (by decide) h (fun c11 h => ?_) (fun c11 h => ?_)
    · refine zo_aload hY dX1_spanBy_108 2 rfl ?_
      refine zo_getI hY LX1_274_15 rfl dX1_spanBy_110 ?_
      refine zo_iload hY dX1_spanBy_113 0 rfl ?_
      refine zo_isub hY dX1_spanBy_115 ?_
      refine zo_sub [3, 4, 5, 6, 7, 8, 9, 2, 1] rfl ?_
      exact ct_X1_spanBy_116 hY hJ hCon hr N K11 K39 hK11 hK39 x1 x2 x3 x4 x5 x6 j6 r8 ((gI Ω9 15 j6 1) - r10) 1000 x3 Ω9 _ h
    · refine zo_sipush hY 999 (by decide) dX1_spanBy_102 ?_
      refine zo_goto hY 116 dX1_spanBy_105 (by decide) ?_
      refine zo_sub [3, 4, 5, 6, 7, 8, 9, 2, 1] rfl ?_
      exact ct_X1_spanBy_116 hY hJ hCon hr N K11 K39 hK11 hK39 x1 x2 x3 x4 x5 x6 j6 r8 999 1000 x3 Ω9 _ h
def fn_X1_spanBy_39 (N : Nat) (K11 : Nat → Int32 → Nat → Int32 → zo_O → Option zo_R) : Nat → Nat → Int32 → Nat → Int32 → Nat → Int32 → zo_O → Option zo_R
  | 0, _, _, _, _, _, _, _ => none
  | n + 1, x1, x2, x3, x4, x5, x6, Ω => bd_X1_spanBy_39 N K11 (fn_X1_spanBy_39 N K11 n) x1 x2 x3 x4 x5 x6 Ω
theorem ct_X1_spanBy_39 {Y : zo_Y} (hY : zo_Gd Y cX1_spanBy 10 RX1 9) (hJ : zo_JC (zo_J Y)) (hCon : ∀ Ω, zo_J Y Ω → zo_Con Ω) (hr : zo_rt Y (Option.some (Jvm.ClassFile.FieldType.object "LichenTable$Span"))) (N : Nat) (K11 : Nat → Int32 → Nat → Int32 → zo_O → Option zo_R) (hK11 : ∀ (x1 : Nat) (x2 : Int32) (x3 : Nat) (x4 : Int32) (Ω : zo_O) (res : zo_R), K11 x1 x2 x3 x4 Ω = some res → TW Y res Ω 11 [(0, vr 0 0), (1, vr 2 x1), (2, vi x2), (3, vr 18 x3), (4, vi x4)] []) : ∀ (n : Nat) (x1 : Nat) (x2 : Int32) (x3 : Nat) (x4 : Int32) (x5 : Nat) (x6 : Int32) (Ω : zo_O) (res : zo_R), fn_X1_spanBy_39 N K11 n x1 x2 x3 x4 x5 x6 Ω = some res → TW Y res Ω 39 [(0, vr 0 0), (1, vr 2 x1), (2, vi x2), (3, vr 18 x3), (4, vi x4), (5, vr 20 x5), (6, vi x6)] [] := by
  intro n
  induction n with
  | zero => intro x1 x2 x3 x4 x5 x6 Ω res h; exact nomatch (show (none : Option zo_R) = some res from h)
  | succ n ih => intro x1 x2 x3 x4 x5 x6 Ω res h; exact cb_X1_spanBy_39 hY hJ hCon hr N K11 (fn_X1_spanBy_39 N K11 n) hK11 ih x1 x2 x3 x4 x5 x6 Ω res h
def fn_X1_spanBy_244 (N : Nat) (K183 : Nat → Int32 → Nat → Int32 → zo_O → Option zo_R) (x1 : Nat) (x2 : Int32) (x3 : Nat) (x4 : Int32) (Ω : zo_O) : Option zo_R :=
  K183 x1 x2 x3 (x4 + 1) Ω
theorem ct_X1_spanBy_244 {Y : zo_Y} (hY : zo_Gd Y cX1_spanBy 10 RX1 9) (hJ : zo_JC (zo_J Y)) (hCon : ∀ Ω, zo_J Y Ω → zo_Con Ω) (hr : zo_rt Y (Option.some (Jvm.ClassFile.FieldType.object "LichenTable$Span"))) (N : Nat) (K183 : Nat → Int32 → Nat → Int32 → zo_O → Option zo_R) (hK183 : ∀ (x1 : Nat) (x2 : Int32) (x3 : Nat) (x4 : Int32) (Ω : zo_O) (res : zo_R), K183 x1 x2 x3 x4 Ω = some res → TW Y res Ω 183 [(0, vr 0 0), (1, vr 2 x1), (2, vi x2), (3, vr 18 x3), (4, vi x4)] []) (x1 : Nat) (x2 : Int32) (x3 : Nat) (x4 : Int32) (Ω : zo_O) (res : zo_R) (h : fn_X1_spanBy_244 N K183 x1 x2 x3 x4 Ω = some res) : TW Y res Ω 244 [(0, vr 0 0), (1, vr 2 x1), (2, vi x2), (3, vr 18 x3), (4, vi x4)] [] := by
  unfold fn_X1_spanBy_244 at h
  refine zo_iinc hY 1 dX1_spanBy_244 (by decide) (by decide) 4 rfl rfl (ls' := [(4, vi (x4 + 1)), (0, vr 0 0), (1, vr 2 x1), (2, vi x2), (3, vr 18 x3)]) rfl ?_
  refine zo_goto hY 183 dX1_spanBy_247 (by decide) ?_
  refine zo_sub [1, 2, 3, 4, 0] rfl ?_
  exact hK183 x1 x2 x3 (x4 + 1) Ω _ h
def bd_X1_spanBy_183 (N : Nat)  (K183 : Nat → Int32 → Nat → Int32 → zo_O → Option zo_R) (x1 : Nat) (x2 : Int32) (x3 : Nat) (x4 : Int32) (Ω : zo_O) : Option zo_R :=
  ci (fn_J2_size N 4 Ω) fun r2 Ω1 =>
  if r2 ≤ x4 then (
    rR (some (18, x3)) Ω1
    ) else
  cr (fn_J2_get N 4 x4 Ω1) fun r5 Ω4 =>
  bk r5 6 fun j6 =>
  if gI Ω4 6 j6 1 = gI Ω4 2 x1 1 then (
    ci (fn_X3_isBy_6 N j6 x2 Ω4) fun r9 Ω8 =>
    if r9 = 0 then (
      fn_X1_spanBy_244 N K183 x1 x2 x3 x4 Ω8
      ) else
    cv (fn_X22_within N x3 (gI Ω8 6 j6 2) (gI Ω8 6 j6 3) Ω8) fun Ω11 =>
    fn_X1_spanBy_244 N K183 x1 x2 x3 x4 Ω11
    ) else
  fn_X1_spanBy_244 N K183 x1 x2 x3 x4 Ω4
theorem cb_X1_spanBy_183 {Y : zo_Y} (hY : zo_Gd Y cX1_spanBy 10 RX1 9) (hJ : zo_JC (zo_J Y)) (hCon : ∀ Ω, zo_J Y Ω → zo_Con Ω) (hr : zo_rt Y (Option.some (Jvm.ClassFile.FieldType.object "LichenTable$Span"))) (N : Nat)  (K183 : Nat → Int32 → Nat → Int32 → zo_O → Option zo_R)  (hK183 : ∀ (x1 : Nat) (x2 : Int32) (x3 : Nat) (x4 : Int32) (Ω : zo_O) (res : zo_R), K183 x1 x2 x3 x4 Ω = some res → TW Y res Ω 183 [(0, vr 0 0), (1, vr 2 x1), (2, vi x2), (3, vr 18 x3), (4, vi x4)] []) (x1 : Nat) (x2 : Int32) (x3 : Nat) (x4 : Int32) (Ω : zo_O) (res : zo_R) (h : bd_X1_spanBy_183 N  K183 x1 x2 x3 x4 Ω = some res) : TW Y res Ω 183 [(0, vr 0 0), (1, vr 2 x1), (2, vi x2), (3, vr 18 x3), (4, vi x4)] [] := by
  unfold bd_X1_spanBy_183 at h
  refine zo_iload hY dX1_spanBy_183 4 rfl ?_
  refine zo_aload_n hY dX1_spanBy_185 rfl 0 rfl ?_
  refine zo_getC hY LX1_29_0 rfl (fun Ω q => (hCon Ω q).1 4 _ rfl) dX1_spanBy_186 ?_
  refine zo_callV hY (fun q hq => mt_J2_size hJ hCon N 4 Ω q hq) (by decide) (by decide) (by decide) ⟨rfl, cn_J2_size⟩ rfl q245 q246 q247 q81 q248 (Nat.le_of_ble_eq_true rfl) dX1_spanBy_189 rfl h (ci_k (fun r2 Ω1 res h => ?_))
  refine zo_icmp_ge hY 250 dX1_spanBy_192 (by decide) h (fun c3 h => ?_) (fun c3 h => ?_)
  · refine zo_aload_n hY dX1_spanBy_250 rfl 3 rfl ?_
    exact zo_aret hY hr (Or.inl ⟨_, rfl⟩) dX1_spanBy_251 h
  · refine zo_aload_n hY dX1_spanBy_195 rfl 0 rfl ?_
    refine zo_getC hY LX1_29_0 rfl (fun Ω q => (hCon Ω q).1 4 _ rfl) dX1_spanBy_196 ?_
    refine zo_iload hY dX1_spanBy_199 4 rfl ?_
    refine zo_callV hY (fun q hq => mt_J2_get hJ hCon N 4 x4 Ω1 q hq) (by decide) (by decide) (by decide) ⟨rfl, cn_J2_get⟩ rfl q368 q369 q370 q81 q371 (Nat.le_of_ble_eq_true rfl) dX1_spanBy_201 rfl h (cr_k (fun r5 Ω4 res h => ?_))
    refine zo_castK hY (by decide) q468 (Or.inl rfl) dX1_spanBy_204 h (fun j6 h => ?_)
    refine zo_astore hY dX1_spanBy_207 (by decide) rfl (ls' := [(5, vr 6 j6), (0, vr 0 0), (1, vr 2 x1), (2, vi x2), (3, vr 18 x3), (4, vi x4)]) rfl ?_
    refine zo_aload hY dX1_spanBy_209 0 rfl ?_
    refine zo_getI hY LX1_339_6 rfl dX1_spanBy_211 ?_
    refine zo_aload_n hY dX1_spanBy_214 rfl 2 rfl ?_
    refine zo_getI hY LX1_159_2 rfl dX1_spanBy_215 ?_
    refine zo_icmp_ne hY 244 dX1_spanBy_218 (by decide) h (fun c7 h => ?_) (fun c7 h => ?_)
    · refine zo_aload hY dX1_spanBy_221 0 rfl ?_
      refine zo_iload_n hY dX1_spanBy_223 rfl 3 rfl ?_
      refine zo_callU hY (fun q hq => mt_X3_isBy_6 hJ hCon N j6 x2 Ω4 q hq) (by decide) (by decide) (by decide) cn_X3_isBy rfl rfl q1119 q1120 q1121 q829 q83 q830 (Nat.le_of_ble_eq_true rfl) dX1_spanBy_224 rfl h (ci_k (fun r9 Ω8 res h => ?_))
      refine zo_if_eq hY 244 dX1_spanBy_227 (by decide) h (fun c10 h => ?_) (fun c10 h => ?_)
      · refine zo_sub [1, 2, 3, 4, 5] rfl ?_
        exact ct_X1_spanBy_244 hY hJ hCon hr N K183 hK183 x1 x2 x3 x4 Ω8 _ h
      · refine zo_aload_n hY dX1_spanBy_230 rfl 4 rfl ?_
        refine zo_aload hY dX1_spanBy_231 0 rfl ?_
        refine zo_getI hY LX1_341_6 rfl dX1_spanBy_233 ?_
        refine zo_aload hY dX1_spanBy_236 0 rfl ?_
        refine zo_getI hY LX1_344_6 rfl dX1_spanBy_238 ?_
        refine zo_callV hY (fun q hq => mt_X22_within hJ hCon N x3 (gI Ω8 6 j6 2) (gI Ω8 6 j6 3) Ω8 q hq) (by decide) (by decide) (by decide) ⟨rfl, cn_X22_within⟩ rfl q1107 q1108 q1109 q116 q1110 (Nat.le_of_ble_eq_true rfl) dX1_spanBy_241 rfl h (cv_k (fun Ω11 res h => ?_))
        refine zo_sub [1, 2, 3, 4, 5] rfl ?_
        exact ct_X1_spanBy_244 hY hJ hCon hr N K183 hK183 x1 x2 x3 x4 Ω11 _ h
    · refine zo_sub [1, 2, 3, 4, 5] rfl ?_
      exact ct_X1_spanBy_244 hY hJ hCon hr N K183 hK183 x1 x2 x3 x4 Ω4 _ h
def fn_X1_spanBy_183 (N : Nat)  : Nat → Nat → Int32 → Nat → Int32 → zo_O → Option zo_R
  | 0, _, _, _, _, _ => none
  | n + 1, x1, x2, x3, x4, Ω => bd_X1_spanBy_183 N  (fn_X1_spanBy_183 N  n) x1 x2 x3 x4 Ω
theorem ct_X1_spanBy_183 {Y : zo_Y} (hY : zo_Gd Y cX1_spanBy 10 RX1 9) (hJ : zo_JC (zo_J Y)) (hCon : ∀ Ω, zo_J Y Ω → zo_Con Ω) (hr : zo_rt Y (Option.some (Jvm.ClassFile.FieldType.object "LichenTable$Span"))) (N : Nat)   : ∀ (n : Nat) (x1 : Nat) (x2 : Int32) (x3 : Nat) (x4 : Int32) (Ω : zo_O) (res : zo_R), fn_X1_spanBy_183 N  n x1 x2 x3 x4 Ω = some res → TW Y res Ω 183 [(0, vr 0 0), (1, vr 2 x1), (2, vi x2), (3, vr 18 x3), (4, vi x4)] [] := by
  intro n
  induction n with
  | zero => intro x1 x2 x3 x4 Ω res h; exact nomatch (show (none : Option zo_R) = some res from h)
  | succ n ih => intro x1 x2 x3 x4 Ω res h; exact cb_X1_spanBy_183 hY hJ hCon hr N  (fn_X1_spanBy_183 N  n)  ih x1 x2 x3 x4 Ω res h
def bd_X1_spanBy_11 (N : Nat)  (K11 : Nat → Int32 → Nat → Int32 → zo_O → Option zo_R) (x1 : Nat) (x2 : Int32) (x3 : Nat) (x4 : Int32) (Ω : zo_O) : Option zo_R :=
  if 3 ≤ x4 then (
    fn_X1_spanBy_183 N N x1 x2 x3 0 Ω
    ) else
  ad 1 3 <| lt (nw Ω 20 0) fun Ω2 =>
  cv (fn_X1_findGroups N (gC Ω 20) x1 x4 x2 Ω2) fun Ω3 =>
  fn_X1_spanBy_39 N K11 N x1 x2 x3 x4 (gC Ω 20) 0 Ω3
theorem cb_X1_spanBy_11 {Y : zo_Y} (hY : zo_Gd Y cX1_spanBy 10 RX1 9) (hJ : zo_JC (zo_J Y)) (hCon : ∀ Ω, zo_J Y Ω → zo_Con Ω) (hr : zo_rt Y (Option.some (Jvm.ClassFile.FieldType.object "LichenTable$Span"))) (N : Nat)  (K11 : Nat → Int32 → Nat → Int32 → zo_O → Option zo_R)  (hK11 : ∀ (x1 : Nat) (x2 : Int32) (x3 : Nat) (x4 : Int32) (Ω : zo_O) (res : zo_R), K11 x1 x2 x3 x4 Ω = some res → TW Y res Ω 11 [(0, vr 0 0), (1, vr 2 x1), (2, vi x2), (3, vr 18 x3), (4, vi x4)] []) (x1 : Nat) (x2 : Int32) (x3 : Nat) (x4 : Int32) (Ω : zo_O) (res : zo_R) (h : bd_X1_spanBy_11 N  K11 x1 x2 x3 x4 Ω = some res) : TW Y res Ω 11 [(0, vr 0 0), (1, vr 2 x1), (2, vi x2), (3, vr 18 x3), (4, vi x4)] [] := by
  unfold bd_X1_spanBy_11 at h
  refine zo_iload hY dX1_spanBy_11 4 rfl ?_
  refine zo_iconst hY 3 (by decide) dX1_spanBy_13 ?_
  refine zo_icmp_ge hY 180 dX1_spanBy_14 (by decide) h (fun c1 h => ?_) (fun c1 h => ?_)
  · refine zo_iconst hY 0 (by decide) dX1_spanBy_180 ?_
    refine zo_istore hY dX1_spanBy_181 (by decide) rfl (ls' := [(4, vi 0), (0, vr 0 0), (1, vr 2 x1), (2, vi x2), (3, vr 18 x3)]) rfl ?_
    refine zo_sub [1, 2, 3, 4, 0] rfl ?_
    exact ct_X1_spanBy_183 hY hJ hCon hr N N x1 x2 x3 0 Ω _ h
  · refine zo_newL hY hJ (by decide) q126 q128 (Nat.le_of_ble_eq_true rfl) dX1_spanBy_17 dX1_spanBy_20 dX1_spanBy_21 h (fun Ω2 res h => ?_)
    refine zo_astore hY dX1_spanBy_24 (by decide) rfl (ls' := [(5, vr 20 (gC Ω 20)), (0, vr 0 0), (1, vr 2 x1), (2, vi x2), (3, vr 18 x3), (4, vi x4)]) rfl ?_
    refine zo_aload_n hY dX1_spanBy_26 rfl 1 rfl ?_
    refine zo_aload hY dX1_spanBy_27 0 rfl ?_
    refine zo_aload_n hY dX1_spanBy_29 rfl 2 rfl ?_
    refine zo_iload hY dX1_spanBy_30 5 rfl ?_
    refine zo_iload_n hY dX1_spanBy_32 rfl 3 rfl ?_
    refine zo_callV hY (fun q hq => mt_X1_findGroups hJ hCon N (gC Ω 20) x1 x4 x2 Ω2 q hq) (by decide) (by decide) (by decide) ⟨rfl, cn_X1_findGroups⟩ rfl q934 q936 qs26 q78 q937 (Nat.le_of_ble_eq_true rfl) dX1_spanBy_33 rfl h (cv_k (fun Ω3 res h => ?_))
    refine zo_iconst hY 0 (by decide) dX1_spanBy_36 ?_
    refine zo_istore hY dX1_spanBy_37 (by decide) rfl (ls' := [(6, vi 0), (5, vr 20 (gC Ω 20)), (0, vr 0 0), (1, vr 2 x1), (2, vi x2), (3, vr 18 x3), (4, vi x4)]) rfl ?_
    refine zo_sub [2, 3, 4, 5, 6, 1, 0] rfl ?_
    exact ct_X1_spanBy_39 hY hJ hCon hr N K11 hK11 N x1 x2 x3 x4 (gC Ω 20) 0 Ω3 _ h
def fn_X1_spanBy_11 (N : Nat)  : Nat → Nat → Int32 → Nat → Int32 → zo_O → Option zo_R
  | 0, _, _, _, _, _ => none
  | n + 1, x1, x2, x3, x4, Ω => bd_X1_spanBy_11 N  (fn_X1_spanBy_11 N  n) x1 x2 x3 x4 Ω
theorem ct_X1_spanBy_11 {Y : zo_Y} (hY : zo_Gd Y cX1_spanBy 10 RX1 9) (hJ : zo_JC (zo_J Y)) (hCon : ∀ Ω, zo_J Y Ω → zo_Con Ω) (hr : zo_rt Y (Option.some (Jvm.ClassFile.FieldType.object "LichenTable$Span"))) (N : Nat)   : ∀ (n : Nat) (x1 : Nat) (x2 : Int32) (x3 : Nat) (x4 : Int32) (Ω : zo_O) (res : zo_R), fn_X1_spanBy_11 N  n x1 x2 x3 x4 Ω = some res → TW Y res Ω 11 [(0, vr 0 0), (1, vr 2 x1), (2, vi x2), (3, vr 18 x3), (4, vi x4)] [] := by
  intro n
  induction n with
  | zero => intro x1 x2 x3 x4 Ω res h; exact nomatch (show (none : Option zo_R) = some res from h)
  | succ n ih => intro x1 x2 x3 x4 Ω res h; exact cb_X1_spanBy_11 hY hJ hCon hr N  (fn_X1_spanBy_11 N  n)  ih x1 x2 x3 x4 Ω res h
def fn_X1_spanBy (N : Nat) (x1 : Nat) (x2 : Int32) (Ω : zo_O) : Option zo_R :=
  ad 1 2 <| lt (nw Ω 18 0) fun Ω1 =>
  cv (fn_X22_init N (gC Ω 18) Ω1) fun Ω2 =>
  fn_X1_spanBy_11 N N x1 x2 (gC Ω 18) 0 Ω2
theorem mt_X1_spanBy {G : zo_G} {J : zo_O → Prop} (hJ : zo_JC J) (hCon : ∀ Ω, J Ω → zo_Con Ω) (N : Nat) (x1 : Nat) (x2 : Int32) (Ω : zo_O) (res : zo_R) (h : fn_X1_spanBy N x1 x2 Ω = some res) : zo_MT G J yX1_spanBy cX1_spanBy 10 (Option.some (Jvm.ClassFile.FieldType.object "LichenTable$Span")) 9 [vr 0 0, vr 2 x1, vi x2] Ω res := by
  refine zo_enter (by decide) rfl (Nat.le_of_ble_eq_true rfl) (fun Y hY eJ hr hmn => ?_)
  subst eJ
  show TW Y res Ω 0 [(0, vr 0 0), (1, vr 2 x1), (2, vi x2)] []
  unfold fn_X1_spanBy at h
  refine zo_new hY hJ (k := 18) (by decide) (Or.inl rfl) rfl q156 q1088 q116 dX1_spanBy_0 h (fun Ω1 res h => ?_)
  refine zo_dup hY dX1_spanBy_3 (Or.inr ⟨_, rfl⟩) ?_
  refine zo_callIN hY (fun q hq => mt_X22_init hJ hCon N (gC Ω 18) Ω1 q hq) (by decide) (by decide) cn_X22_init rfl rfl q1089 q1090 q116 q1091 (Nat.le_of_ble_eq_true rfl) dX1_spanBy_4 rfl h (cv_k (fun Ω2 res h => ?_))
  refine zo_astore_n hY dX1_spanBy_7 rfl (by decide) rfl (ls' := [(3, vr 18 (gC Ω 18)), (0, vr 0 0), (1, vr 2 x1), (2, vi x2)]) rfl ?_
  refine zo_iconst hY 0 (by decide) dX1_spanBy_8 ?_
  refine zo_istore hY dX1_spanBy_9 (by decide) rfl (ls' := [(4, vi 0), (3, vr 18 (gC Ω 18)), (0, vr 0 0), (1, vr 2 x1), (2, vi x2)]) rfl ?_
  refine zo_sub [2, 3, 4, 1, 0] rfl ?_
  exact ct_X1_spanBy_11 hY hJ hCon hr N N x1 x2 (gC Ω 18) 0 Ω2 _ h
theorem dX1_spanOf_0 : decode cX1_spanOf 0 = .ok (.aload_n 1, 1) := by decide +kernel
theorem dX1_spanOf_1 : decode cX1_spanOf 1 = .ok (.invokevirtual 283, 3) := by decide +kernel
theorem dX1_spanOf_4 : decode cX1_spanOf 4 = .ok (.ifCond .ne 10, 3) := by decide +kernel
theorem dX1_spanOf_7 : decode cX1_spanOf 7 = .ok (.aload_n 0, 1) := by decide +kernel
theorem dX1_spanOf_8 : decode cX1_spanOf 8 = .ok (.aload_n 1, 1) := by decide +kernel
theorem dX1_spanOf_9 : decode cX1_spanOf 9 = .ok (.iload_n 2, 1) := by decide +kernel
theorem dX1_spanOf_10 : decode cX1_spanOf 10 = .ok (.invokevirtual 347, 3) := by decide +kernel
theorem dX1_spanOf_13 : decode cX1_spanOf 13 = .ok (.areturn, 1) := by decide +kernel
theorem dX1_spanOf_14 : decode cX1_spanOf 14 = .ok (.new 76, 3) := by decide +kernel
theorem dX1_spanOf_17 : decode cX1_spanOf 17 = .ok (.dup, 1) := by decide +kernel
theorem dX1_spanOf_18 : decode cX1_spanOf 18 = .ok (.invokespecial 321, 3) := by decide +kernel
theorem dX1_spanOf_21 : decode cX1_spanOf 21 = .ok (.astore_n 3, 1) := by decide +kernel
theorem dX1_spanOf_22 : decode cX1_spanOf 22 = .ok (.aload_n 3, 1) := by decide +kernel
theorem dX1_spanOf_23 : decode cX1_spanOf 23 = .ok (.aload_n 1, 1) := by decide +kernel
theorem dX1_spanOf_24 : decode cX1_spanOf 24 = .ok (.getfield 351, 3) := by decide +kernel
theorem dX1_spanOf_27 : decode cX1_spanOf 27 = .ok (.aload_n 1, 1) := by decide +kernel
theorem dX1_spanOf_28 : decode cX1_spanOf 28 = .ok (.getfield 351, 3) := by decide +kernel
theorem dX1_spanOf_31 : decode cX1_spanOf 31 = .ok (.invokevirtual 327, 3) := by decide +kernel
theorem dX1_spanOf_34 : decode cX1_spanOf 34 = .ok (.aload_n 3, 1) := by decide +kernel
theorem dX1_spanOf_35 : decode cX1_spanOf 35 = .ok (.areturn, 1) := by decide +kernel
def fn_X1_spanOf (N : Nat) (x1 : Nat) (x2 : Int32) (Ω : zo_O) : Option zo_R :=
  ci (fn_X4_isDated N x1 Ω) fun r2 Ω1 =>
  if r2 = 0 then (
    ck (fn_X1_spanBy N x1 x2 Ω1) 18 fun r5 Ω4 =>
    rR (some (18, r5)) Ω4
    ) else
  ad 1 2 <| lt (nw Ω1 18 0) fun Ω6 =>
  cv (fn_X22_init N (gC Ω1 18) Ω6) fun Ω7 =>
  cv (fn_X22_within N (gC Ω1 18) (gI Ω7 2 x1 5) (gI Ω7 2 x1 5) Ω7) fun Ω8 =>
  rR (some (18, gC Ω1 18)) Ω8
theorem mt_X1_spanOf {G : zo_G} {J : zo_O → Prop} (hJ : zo_JC J) (hCon : ∀ Ω, J Ω → zo_Con Ω) (N : Nat) (x1 : Nat) (x2 : Int32) (Ω : zo_O) (res : zo_R) (h : fn_X1_spanOf N x1 x2 Ω = some res) : zo_MT G J yX1_spanOf cX1_spanOf 4 (Option.some (Jvm.ClassFile.FieldType.object "LichenTable$Span")) 10 [vr 0 0, vr 2 x1, vi x2] Ω res := by
  refine zo_enter (by decide) rfl (Nat.le_of_ble_eq_true rfl) (fun Y hY eJ hr hmn => ?_)
  subst eJ
  show TW Y res Ω 0 [(0, vr 0 0), (1, vr 2 x1), (2, vi x2)] []
  unfold fn_X1_spanOf at h
  refine zo_aload_n hY dX1_spanOf_0 rfl 1 rfl ?_
  refine zo_callV hY (fun q hq => mt_X4_isDated hJ hCon N x1 Ω q hq) (by decide) (by decide) (by decide) ⟨rfl, cn_X4_isDated⟩ rfl q923 q924 q925 q84 q926 (Nat.le_of_ble_eq_true rfl) dX1_spanOf_1 rfl h (ci_k (fun r2 Ω1 res h => ?_))
  refine zo_if_ne hY 14 dX1_spanOf_4 (by decide) h (fun c3 h => ?_) (fun c3 h => ?_)
  · refine zo_aload_n hY dX1_spanOf_7 rfl 0 rfl ?_
    refine zo_aload_n hY dX1_spanOf_8 rfl 1 rfl ?_
    refine zo_iload_n hY dX1_spanOf_9 rfl 2 rfl ?_
    refine zo_callV hY (fun q hq => mt_X1_spanBy hJ hCon N x1 x2 Ω1 q hq) (by decide) (by decide) (by decide) ⟨rfl, cn_X1_spanBy⟩ rfl q1084 q1086 qs33 q78 q1087 (Nat.le_of_ble_eq_true rfl) dX1_spanOf_10 rfl h (ck_k (fun r5 Ω4 res h => ?_))
    exact zo_aret hY hr (Or.inl ⟨_, rfl⟩) dX1_spanOf_13 h
  · refine zo_new hY hJ (k := 18) (by decide) (Or.inl rfl) rfl q156 q1088 q116 dX1_spanOf_14 h (fun Ω6 res h => ?_)
    refine zo_dup hY dX1_spanOf_17 (Or.inr ⟨_, rfl⟩) ?_
    refine zo_callIN hY (fun q hq => mt_X22_init hJ hCon N (gC Ω1 18) Ω6 q hq) (by decide) (by decide) cn_X22_init rfl rfl q1089 q1090 q116 q1091 (Nat.le_of_ble_eq_true rfl) dX1_spanOf_18 rfl h (cv_k (fun Ω7 res h => ?_))
    refine zo_astore_n hY dX1_spanOf_21 rfl (by decide) rfl (ls' := [(3, vr 18 (gC Ω1 18)), (0, vr 0 0), (1, vr 2 x1), (2, vi x2)]) rfl ?_
    refine zo_aload_n hY dX1_spanOf_22 rfl 0 rfl ?_
    refine zo_aload_n hY dX1_spanOf_23 rfl 2 rfl ?_
    refine zo_getI hY LX1_351_2 rfl dX1_spanOf_24 ?_
    refine zo_aload_n hY dX1_spanOf_27 rfl 2 rfl ?_
    refine zo_getI hY LX1_351_2 rfl dX1_spanOf_28 ?_
    refine zo_callV hY (fun q hq => mt_X22_within hJ hCon N (gC Ω1 18) (gI Ω7 2 x1 5) (gI Ω7 2 x1 5) Ω7 q hq) (by decide) (by decide) (by decide) ⟨rfl, cn_X22_within⟩ rfl q1107 q1108 q1109 q116 q1110 (Nat.le_of_ble_eq_true rfl) dX1_spanOf_31 rfl h (cv_k (fun Ω8 res h => ?_))
    refine zo_aload_n hY dX1_spanOf_34 rfl 0 rfl ?_
    exact zo_aret hY hr (Or.inl ⟨_, rfl⟩) dX1_spanOf_35 h
theorem dX22_isNone_0 : decode cX22_isNone 0 = .ok (.aload_n 0, 1) := by decide +kernel
theorem dX22_isNone_1 : decode cX22_isNone 1 = .ok (.getfield 9, 3) := by decide +kernel
theorem dX22_isNone_4 : decode cX22_isNone 4 = .ok (.aload_n 0, 1) := by decide +kernel
theorem dX22_isNone_5 : decode cX22_isNone 5 = .ok (.getfield 15, 3) := by decide +kernel
theorem dX22_isNone_8 : decode cX22_isNone 8 = .ok (.if_icmp .le 7, 3) := by decide +kernel
theorem dX22_isNone_11 : decode cX22_isNone 11 = .ok (.iconst 1, 1) := by decide +kernel
theorem dX22_isNone_12 : decode cX22_isNone 12 = .ok (.goto 4, 3) := by decide +kernel
theorem dX22_isNone_15 : decode cX22_isNone 15 = .ok (.iconst 0, 1) := by decide +kernel
theorem dX22_isNone_16 : decode cX22_isNone 16 = .ok (.ireturn, 1) := by decide +kernel
def fn_X22_isNone_16 (N : Nat)  (s0 : Int32) (Ω : zo_O) : Option zo_R :=
  rZ s0 Ω
theorem ct_X22_isNone_16 {Y : zo_Y} (hY : zo_Gd Y cX22_isNone 1 RX22 0) (hJ : zo_JC (zo_J Y)) (hCon : ∀ Ω, zo_J Y Ω → zo_Con Ω) (hr : zo_rt Y (Option.some Jvm.ClassFile.FieldType.boolean)) (N : Nat)   (s0 : Int32) (Ω : zo_O) (res : zo_R) (h : fn_X22_isNone_16 N  s0 Ω = some res) : TW Y res Ω 16 [] [vi s0] := by
  unfold fn_X22_isNone_16 at h
  exact zo_zret hY hr dX22_isNone_16 h
def fn_X22_isNone (N : Nat) (x0 : Nat) (Ω : zo_O) : Option zo_R :=
  if gI Ω 18 x0 0 ≤ gI Ω 18 x0 1 then (
    fn_X22_isNone_16 N 0 Ω
    ) else
  fn_X22_isNone_16 N 1 Ω
theorem mt_X22_isNone {G : zo_G} {J : zo_O → Prop} (hJ : zo_JC J) (hCon : ∀ Ω, J Ω → zo_Con Ω) (N : Nat) (x0 : Nat) (Ω : zo_O) (res : zo_R) (h : fn_X22_isNone N x0 Ω = some res) : zo_MT G J yX22_isNone cX22_isNone 1 (Option.some Jvm.ClassFile.FieldType.boolean) 0 [vr 18 x0] Ω res := by
  refine zo_enter (by decide) rfl (Nat.le_of_ble_eq_true rfl) (fun Y hY eJ hr hmn => ?_)
  subst eJ
  show TW Y res Ω 0 [(0, vr 18 x0)] []
  unfold fn_X22_isNone at h
  refine zo_aload_n hY dX22_isNone_0 rfl 0 rfl ?_
  refine zo_getI hY LX22_9_18 rfl dX22_isNone_1 ?_
  refine zo_aload_n hY dX22_isNone_4 rfl 0 rfl ?_
  refine zo_getI hY LX22_15_18 rfl dX22_isNone_5 ?_
  refine zo_icmp_le hY 15 dX22_isNone_8 (by decide) h (fun c1 h => ?_) (fun c1 h => ?_)
  · refine zo_iconst hY 0 (by decide) dX22_isNone_15 ?_
    refine zo_sub [] rfl ?_
    exact ct_X22_isNone_16 hY hJ hCon hr N 0 Ω _ h
  · refine zo_iconst hY 1 (by decide) dX22_isNone_11 ?_
    refine zo_goto hY 16 dX22_isNone_12 (by decide) ?_
    refine zo_sub [] rfl ?_
    exact ct_X22_isNone_16 hY hJ hCon hr N 1 Ω _ h
theorem dX1_span_0 : decode cX1_span 0 = .ok (.aload_n 0, 1) := by decide +kernel
theorem dX1_span_1 : decode cX1_span 1 = .ok (.iload_n 1, 1) := by decide +kernel
theorem dX1_span_2 : decode cX1_span 2 = .ok (.iload_n 2, 1) := by decide +kernel
theorem dX1_span_3 : decode cX1_span 3 = .ok (.invokevirtual 352, 3) := by decide +kernel
theorem dX1_span_6 : decode cX1_span 6 = .ok (.ifCond .eq 12, 3) := by decide +kernel
theorem dX1_span_9 : decode cX1_span 9 = .ok (.iload_n 3, 1) := by decide +kernel
theorem dX1_span_10 : decode cX1_span 10 = .ok (.iconst 0, 1) := by decide +kernel
theorem dX1_span_11 : decode cX1_span 11 = .ok (.iconst 1, 1) := by decide +kernel
theorem dX1_span_12 : decode cX1_span 12 = .ok (.invokestatic 3, 3) := by decide +kernel
theorem dX1_span_15 : decode cX1_span 15 = .ok (.ifCond .ne 5, 3) := by decide +kernel
theorem dX1_span_18 : decode cX1_span 18 = .ok (.iconst (-1), 1) := by decide +kernel
theorem dX1_span_19 : decode cX1_span 19 = .ok (.ireturn, 1) := by decide +kernel
theorem dX1_span_20 : decode cX1_span 20 = .ok (.aload_n 0, 1) := by decide +kernel
theorem dX1_span_21 : decode cX1_span 21 = .ok (.iload_n 2, 1) := by decide +kernel
theorem dX1_span_22 : decode cX1_span 22 = .ok (.invokevirtual 305, 3) := by decide +kernel
theorem dX1_span_25 : decode cX1_span 25 = .ok (.aload_n 0, 1) := by decide +kernel
theorem dX1_span_26 : decode cX1_span 26 = .ok (.aload_n 0, 1) := by decide +kernel
theorem dX1_span_27 : decode cX1_span 27 = .ok (.getfield 16, 3) := by decide +kernel
theorem dX1_span_30 : decode cX1_span 30 = .ok (.iload_n 1, 1) := by decide +kernel
theorem dX1_span_31 : decode cX1_span 31 = .ok (.invokevirtual 116, 3) := by decide +kernel
theorem dX1_span_34 : decode cX1_span 34 = .ok (.checkcast 93, 3) := by decide +kernel
theorem dX1_span_37 : decode cX1_span 37 = .ok (.iload_n 2, 1) := by decide +kernel
theorem dX1_span_38 : decode cX1_span 38 = .ok (.invokevirtual 355, 3) := by decide +kernel
theorem dX1_span_41 : decode cX1_span 41 = .ok (.astore 4, 2) := by decide +kernel
theorem dX1_span_43 : decode cX1_span 43 = .ok (.aload 4, 2) := by decide +kernel
theorem dX1_span_45 : decode cX1_span 45 = .ok (.invokevirtual 358, 3) := by decide +kernel
theorem dX1_span_48 : decode cX1_span 48 = .ok (.ifCond .eq 8, 3) := by decide +kernel
theorem dX1_span_51 : decode cX1_span 51 = .ok (.bipush (-2), 2) := by decide +kernel
theorem dX1_span_53 : decode cX1_span 53 = .ok (.goto 20, 3) := by decide +kernel
theorem dX1_span_56 : decode cX1_span 56 = .ok (.iload_n 3, 1) := by decide +kernel
theorem dX1_span_57 : decode cX1_span 57 = .ok (.ifCond .ne 11, 3) := by decide +kernel
theorem dX1_span_60 : decode cX1_span 60 = .ok (.aload 4, 2) := by decide +kernel
theorem dX1_span_62 : decode cX1_span 62 = .ok (.getfield 361, 3) := by decide +kernel
theorem dX1_span_65 : decode cX1_span 65 = .ok (.goto 8, 3) := by decide +kernel
theorem dX1_span_68 : decode cX1_span 68 = .ok (.aload 4, 2) := by decide +kernel
theorem dX1_span_70 : decode cX1_span 70 = .ok (.getfield 362, 3) := by decide +kernel
theorem dX1_span_73 : decode cX1_span 73 = .ok (.ireturn, 1) := by decide +kernel
def fn_X1_span_18 (N : Nat)   (Ω : zo_O) : Option zo_R :=
  rI ((-1)) Ω
theorem ct_X1_span_18 {Y : zo_Y} (hY : zo_Gd Y cX1_span 5 RX1 11) (hJ : zo_JC (zo_J Y)) (hCon : ∀ Ω, zo_J Y Ω → zo_Con Ω) (hr : zo_rt Y (Option.some Jvm.ClassFile.FieldType.int)) (N : Nat)    (Ω : zo_O) (res : zo_R) (h : fn_X1_span_18 N   Ω = some res) : TW Y res Ω 18 [] [] := by
  unfold fn_X1_span_18 at h
  refine zo_iconst hY (-1) (by decide) dX1_span_18 ?_
  exact zo_iret hY hr dX1_span_19 h
def fn_X1_span_73 (N : Nat)  (s0 : Int32) (Ω : zo_O) : Option zo_R :=
  rI s0 Ω
theorem ct_X1_span_73 {Y : zo_Y} (hY : zo_Gd Y cX1_span 5 RX1 11) (hJ : zo_JC (zo_J Y)) (hCon : ∀ Ω, zo_J Y Ω → zo_Con Ω) (hr : zo_rt Y (Option.some Jvm.ClassFile.FieldType.int)) (N : Nat)   (s0 : Int32) (Ω : zo_O) (res : zo_R) (h : fn_X1_span_73 N  s0 Ω = some res) : TW Y res Ω 73 [] [vi s0] := by
  unfold fn_X1_span_73 at h
  exact zo_iret hY hr dX1_span_73 h
def fn_X1_span (N : Nat) (x1 : Int32) (x2 : Int32) (x3 : Int32) (Ω : zo_O) : Option zo_R :=
  ci (fn_X1_isThere N x1 x2 Ω) fun r2 Ω1 =>
  if r2 = 0 then (
    fn_X1_span_18 N Ω1
    ) else
  ci (fn_X1_in N x3 0 1 Ω1) fun r5 Ω4 =>
  if r5 = 0 then (
    fn_X1_span_18 N Ω4
    ) else
  cv (fn_X1_begins N x2 Ω4) fun Ω7 =>
  cr (fn_J2_get N 0 x1 Ω7) fun r9 Ω8 =>
  bk r9 2 fun j10 =>
  ck (fn_X1_spanOf N j10 x2 Ω8) 18 fun r12 Ω11 =>
  ci (fn_X22_isNone N r12 Ω11) fun r14 Ω13 =>
  if r14 = 0 then (
    if x3 = 0 then (
      fn_X1_span_73 N (gI Ω13 18 r12 0) Ω13
      ) else
    fn_X1_span_73 N (gI Ω13 18 r12 1) Ω13
    ) else
  fn_X1_span_73 N ((-2)) Ω13
theorem mt_X1_span {G : zo_G} {J : zo_O → Prop} (hJ : zo_JC J) (hCon : ∀ Ω, J Ω → zo_Con Ω) (N : Nat) (x1 : Int32) (x2 : Int32) (x3 : Int32) (Ω : zo_O) (res : zo_R) (h : fn_X1_span N x1 x2 x3 Ω = some res) : zo_MT G J yX1_span cX1_span 5 (Option.some Jvm.ClassFile.FieldType.int) 11 [vr 0 0, vi x1, vi x2, vi x3] Ω res := by
  refine zo_enter (by decide) rfl (Nat.le_of_ble_eq_true rfl) (fun Y hY eJ hr hmn => ?_)
  subst eJ
  show TW Y res Ω 0 [(0, vr 0 0), (1, vi x1), (2, vi x2), (3, vi x3)] []
  unfold fn_X1_span at h
  refine zo_aload_n hY dX1_span_0 rfl 0 rfl ?_
  refine zo_iload_n hY dX1_span_1 rfl 1 rfl ?_
  refine zo_iload_n hY dX1_span_2 rfl 2 rfl ?_
  refine zo_callV hY (fun q hq => mt_X1_isThere hJ hCon N x1 x2 Ω q hq) (by decide) (by decide) (by decide) ⟨rfl, cn_X1_isThere⟩ rfl q1076 q1078 qs31 q78 q1079 (Nat.le_of_ble_eq_true rfl) dX1_span_3 rfl h (ci_k (fun r2 Ω1 res h => ?_))
  refine zo_if_eq hY 18 dX1_span_6 (by decide) h (fun c3 h => ?_) (fun c3 h => ?_)
  · refine zo_sub [] rfl ?_
    exact ct_X1_span_18 hY hJ hCon hr N Ω1 _ h
  · refine zo_iload_n hY dX1_span_9 rfl 3 rfl ?_
    refine zo_iconst hY 0 (by decide) dX1_span_10 ?_
    refine zo_iconst hY 1 (by decide) dX1_span_11 ?_
    refine zo_callS hY (fun q hq => mt_X1_in hJ hCon N x3 0 1 Ω1 q hq) (by decide) (by decide) cn_X1_in rfl q239 q240 q78 q241 (Nat.le_of_ble_eq_true rfl) dX1_span_12 rfl h (ci_k (fun r5 Ω4 res h => ?_))
    refine zo_if_ne hY 20 dX1_span_15 (by decide) h (fun c6 h => ?_) (fun c6 h => ?_)
    · refine zo_sub [] rfl ?_
      exact ct_X1_span_18 hY hJ hCon hr N Ω4 _ h
    · refine zo_aload_n hY dX1_span_20 rfl 0 rfl ?_
      refine zo_iload_n hY dX1_span_21 rfl 2 rfl ?_
      refine zo_callV hY (fun q hq => mt_X1_begins hJ hCon N x2 Ω4 q hq) (by decide) (by decide) (by decide) ⟨rfl, cn_X1_begins⟩ rfl q894 q896 qs24 q78 q897 (Nat.le_of_ble_eq_true rfl) dX1_span_22 rfl h (cv_k (fun Ω7 res h => ?_))
      refine zo_aload_n hY dX1_span_25 rfl 0 rfl ?_
      refine zo_aload_n hY dX1_span_26 rfl 0 rfl ?_
      refine zo_getC hY LX1_16_0 rfl (fun Ω q => (hCon Ω q).1 0 _ rfl) dX1_span_27 ?_
      refine zo_iload_n hY dX1_span_30 rfl 1 rfl ?_
      refine zo_callV hY (fun q hq => mt_J2_get hJ hCon N 0 x1 Ω7 q hq) (by decide) (by decide) (by decide) ⟨rfl, cn_J2_get⟩ rfl q368 q369 q370 q81 q371 (Nat.le_of_ble_eq_true rfl) dX1_span_31 rfl h (cr_k (fun r9 Ω8 res h => ?_))
      refine zo_castK hY (by decide) q249 (Or.inl rfl) dX1_span_34 h (fun j10 h => ?_)
      refine zo_iload_n hY dX1_span_37 rfl 2 rfl ?_
      refine zo_callV hY (fun q hq => mt_X1_spanOf hJ hCon N j10 x2 Ω8 q hq) (by decide) (by decide) (by decide) ⟨rfl, cn_X1_spanOf⟩ rfl q1080 q1082 qs32 q78 q1083 (Nat.le_of_ble_eq_true rfl) dX1_span_38 rfl h (ck_k (fun r12 Ω11 res h => ?_))
      refine zo_astore hY dX1_span_41 (by decide) rfl (ls' := [(4, vr 18 r12), (0, vr 0 0), (1, vi x1), (2, vi x2), (3, vi x3)]) rfl ?_
      refine zo_aload hY dX1_span_43 0 rfl ?_
      refine zo_callV hY (fun q hq => mt_X22_isNone hJ hCon N r12 Ω11 q hq) (by decide) (by decide) (by decide) ⟨rfl, cn_X22_isNone⟩ rfl q1122 q1123 q1124 q116 q1125 (Nat.le_of_ble_eq_true rfl) dX1_span_45 rfl h (ci_k (fun r14 Ω13 res h => ?_))
      refine zo_if_eq hY 56 dX1_span_48 (by decide) h (fun c15 h => ?_) (fun c15 h => ?_)
      · refine zo_iload_n hY dX1_span_56 rfl 4 rfl ?_
        refine zo_if_ne hY 68 dX1_span_57 (by decide) h (fun c16 h => ?_) (fun c16 h => ?_)
        · refine zo_aload hY dX1_span_60 0 rfl ?_
          refine zo_getI hY LX1_361_18 rfl dX1_span_62 ?_
          refine zo_goto hY 73 dX1_span_65 (by decide) ?_
          refine zo_sub [] rfl ?_
          exact ct_X1_span_73 hY hJ hCon hr N (gI Ω13 18 r12 0) Ω13 _ h
        · refine zo_aload hY dX1_span_68 0 rfl ?_
          refine zo_getI hY LX1_362_18 rfl dX1_span_70 ?_
          refine zo_sub [] rfl ?_
          exact ct_X1_span_73 hY hJ hCon hr N (gI Ω13 18 r12 1) Ω13 _ h
      · refine zo_bipush hY (-2) (by decide) dX1_span_51 ?_
        refine zo_goto hY 73 dX1_span_53 (by decide) ?_
        refine zo_sub [] rfl ?_
        exact ct_X1_span_73 hY hJ hCon hr N ((-2)) Ω13 _ h
