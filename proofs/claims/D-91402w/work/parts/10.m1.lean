set_option maxRecDepth 100000
theorem cn_X2_within : zo_Cn yX2_within 3 := ⟨by decide, by decide, by decide +kernel⟩
theorem LX2_194_1 : zo_FL RX2 194 1 2 := ⟨by decide, by decide, by decide, Or.inl ⟨_, q1273, Or.inl rfl⟩⟩
theorem LX2_200_1 : zo_FL RX2 200 1 1 := ⟨by decide, by decide, by decide, Or.inl ⟨_, q1272, Or.inl rfl⟩⟩
theorem LX2_197_1 : zo_FL RX2 197 1 8 := ⟨by decide, by decide, by decide, Or.inl ⟨_, q1279, Or.inl rfl⟩⟩
theorem LX2_187_1 : zo_FL RX2 187 1 0 := ⟨by decide, by decide, by decide, Or.inl ⟨_, q1271, Or.inl rfl⟩⟩
theorem cn_X2_isYear : zo_Cn yX2_isYear 1 := ⟨by decide, by decide, by decide +kernel⟩
theorem LX2_7_1 : zo_FL RX2 7 1 3 := ⟨by decide, by decide, by decide, Or.inl ⟨_, q1274, Or.inl rfl⟩⟩
theorem LX2_13_1 : zo_FL RX2 13 1 4 := ⟨by decide, by decide, by decide, Or.inl ⟨_, q1275, Or.inl rfl⟩⟩
theorem LX2_16_1 : zo_FL RX2 16 1 5 := ⟨by decide, by decide, by decide, Or.inl ⟨_, q1276, Or.inl rfl⟩⟩
theorem LX2_19_1 : zo_FL RX2 19 1 6 := ⟨by decide, by decide, by decide, Or.inl ⟨_, q1277, Or.inl rfl⟩⟩
theorem LX2_22_1 : zo_FL RX2 22 1 7 := ⟨by decide, by decide, by decide, Or.inl ⟨_, q1278, Or.inl rfl⟩⟩
theorem cn_X2_isSite : zo_Cn yX2_isSite 1 := ⟨by decide, by decide, by decide +kernel⟩
theorem cn_X2_isKind : zo_Cn yX2_isKind 1 := ⟨by decide, by decide, by decide +kernel⟩
theorem cn_X2_isSize : zo_Cn yX2_isSize 1 := ⟨by decide, by decide, by decide +kernel⟩
theorem LX2_25_1 : zo_FL RX2 25 1 9 := ⟨by decide, by decide, by decide, Or.inl ⟨_, q1280, Or.inl rfl⟩⟩
theorem LX2_28_1 : zo_FL RX2 28 1 10 := ⟨by decide, by decide, by decide, Or.inl ⟨_, q1281, Or.inl rfl⟩⟩
theorem LX2_31_1 : zo_FL RX2 31 1 11 := ⟨by decide, by decide, by decide, Or.inl ⟨_, q1282, Or.inl rfl⟩⟩
theorem LX2_34_1 : zo_FL RX2 34 1 12 := ⟨by decide, by decide, by decide, Or.inl ⟨_, q1283, Or.inl rfl⟩⟩
theorem LX2_37_1 : zo_FL RX2 37 1 13 := ⟨by decide, by decide, by decide, Or.inl ⟨_, q1284, Or.inl rfl⟩⟩
theorem LX2_40_1 : zo_FL RX2 40 1 14 := ⟨by decide, by decide, by decide, Or.inl ⟨_, q1285, Or.inl rfl⟩⟩
theorem LX2_43_1 : zo_FL RX2 43 1 15 := ⟨by decide, by decide, by decide, Or.inl ⟨_, q1286, Or.inl rfl⟩⟩
theorem LX2_47_1 : zo_FL RX2 47 1 16 := ⟨by decide, by decide, by decide, Or.inl ⟨_, q1287, Or.inl rfl⟩⟩
theorem LX2_216_1 : zo_FL RX2 216 1 17 := ⟨by decide, by decide, by decide, Or.inl ⟨_, q1288, Or.inl rfl⟩⟩
theorem LX2_50_1 : zo_FL RX2 50 1 18 := ⟨by decide, by decide, by decide, Or.inl ⟨_, q1289, Or.inl rfl⟩⟩
theorem LX2_53_1 : zo_FL RX2 53 1 19 := ⟨by decide, by decide, by decide, Or.inl ⟨_, q1290, Or.inl rfl⟩⟩
theorem LX2_56_1 : zo_FL RX2 56 1 20 := ⟨by decide, by decide, by decide, Or.inl ⟨_, q1291, Or.inl rfl⟩⟩
theorem LX2_59_1 : zo_FL RX2 59 1 21 := ⟨by decide, by decide, by decide, Or.inl ⟨_, q1292, Or.inl rfl⟩⟩
theorem LX2_219_1 : zo_FL RX2 219 1 22 := ⟨by decide, by decide, by decide, Or.inl ⟨_, q1293, Or.inl rfl⟩⟩
theorem LX2_62_1 : zo_FL RX2 62 1 23 := ⟨by decide, by decide, by decide, Or.inl ⟨_, q1294, Or.inl rfl⟩⟩
theorem LX2_65_1 : zo_FL RX2 65 1 24 := ⟨by decide, by decide, by decide, Or.inl ⟨_, q1295, Or.inl rfl⟩⟩
theorem LX2_68_1 : zo_FL RX2 68 1 25 := ⟨by decide, by decide, by decide, Or.inl ⟨_, q1296, Or.inl rfl⟩⟩
theorem LX2_71_1 : zo_FL RX2 71 1 26 := ⟨by decide, by decide, by decide, Or.inl ⟨_, q1297, Or.inl rfl⟩⟩
theorem LX2_222_1 : zo_FL RX2 222 1 27 := ⟨by decide, by decide, by decide, Or.inl ⟨_, q1298, Or.inl rfl⟩⟩
theorem LX2_74_1 : zo_FL RX2 74 1 28 := ⟨by decide, by decide, by decide, Or.inl ⟨_, q1299, Or.inl rfl⟩⟩
theorem LX2_77_1 : zo_FL RX2 77 1 29 := ⟨by decide, by decide, by decide, Or.inl ⟨_, q1300, Or.inl rfl⟩⟩
theorem LX2_80_1 : zo_FL RX2 80 1 30 := ⟨by decide, by decide, by decide, Or.inl ⟨_, q1301, Or.inl rfl⟩⟩
theorem LX2_83_1 : zo_FL RX2 83 1 31 := ⟨by decide, by decide, by decide, Or.inl ⟨_, q1302, Or.inl rfl⟩⟩
theorem LX2_225_1 : zo_FL RX2 225 1 32 := ⟨by decide, by decide, by decide, Or.inl ⟨_, q1303, Or.inl rfl⟩⟩
theorem LX2_86_1 : zo_FL RX2 86 1 33 := ⟨by decide, by decide, by decide, Or.inl ⟨_, q1304, Or.inl rfl⟩⟩
theorem LX2_89_1 : zo_FL RX2 89 1 34 := ⟨by decide, by decide, by decide, Or.inl ⟨_, q1305, Or.inl rfl⟩⟩
theorem LX2_92_1 : zo_FL RX2 92 1 35 := ⟨by decide, by decide, by decide, Or.inl ⟨_, q1306, Or.inl rfl⟩⟩
theorem LX2_95_1 : zo_FL RX2 95 1 36 := ⟨by decide, by decide, by decide, Or.inl ⟨_, q1307, Or.inl rfl⟩⟩
theorem cn_X2_isCircle : zo_Cn yX2_isCircle 1 := ⟨by decide, by decide, by decide +kernel⟩
theorem LX2_231_1 : zo_FL RX2 231 1 37 := ⟨by decide, by decide, by decide, Or.inl ⟨_, q1308, Or.inl rfl⟩⟩
theorem LX2_98_1 : zo_FL RX2 98 1 38 := ⟨by decide, by decide, by decide, Or.inl ⟨_, q1309, Or.inl rfl⟩⟩
theorem LX2_101_1 : zo_FL RX2 101 1 39 := ⟨by decide, by decide, by decide, Or.inl ⟨_, q1310, Or.inl rfl⟩⟩
theorem LX2_104_1 : zo_FL RX2 104 1 40 := ⟨by decide, by decide, by decide, Or.inl ⟨_, q1311, Or.inl rfl⟩⟩
theorem dX2_within_0 : decode cX2_within 0 = .ok (.iload_n 0, 1) := by decide +kernel
theorem dX2_within_1 : decode cX2_within 1 = .ok (.iload_n 1, 1) := by decide +kernel
theorem dX2_within_2 : decode cX2_within 2 = .ok (.if_icmp .lt 12, 3) := by decide +kernel
theorem dX2_within_5 : decode cX2_within 5 = .ok (.iload_n 0, 1) := by decide +kernel
theorem dX2_within_6 : decode cX2_within 6 = .ok (.iload_n 2, 1) := by decide +kernel
theorem dX2_within_7 : decode cX2_within 7 = .ok (.if_icmp .gt 7, 3) := by decide +kernel
theorem dX2_within_10 : decode cX2_within 10 = .ok (.iconst 1, 1) := by decide +kernel
theorem dX2_within_11 : decode cX2_within 11 = .ok (.goto 4, 3) := by decide +kernel
theorem dX2_within_14 : decode cX2_within 14 = .ok (.iconst 0, 1) := by decide +kernel
theorem dX2_within_15 : decode cX2_within 15 = .ok (.ireturn, 1) := by decide +kernel
def fn_X2_within_15 (N : Nat)  (s0 : Int32) (Ω : zo_O) : Option zo_R :=
  rZ s0 Ω
theorem ct_X2_within_15 {Y : zo_Y} (hY : zo_Gd Y cX2_within 3 RX2 0) (hJ : zo_JC (zo_J Y)) (hCon : ∀ Ω, zo_J Y Ω → zo_Con Ω) (hr : zo_rt Y (Option.some Jvm.ClassFile.FieldType.boolean)) (N : Nat)   (s0 : Int32) (Ω : zo_O) (res : zo_R) (h : fn_X2_within_15 N  s0 Ω = some res) : TW Y res Ω 15 [] [vi s0] := by
  unfold fn_X2_within_15 at h
  exact zo_zret hY hr dX2_within_15 h
def fn_X2_within_14 (N : Nat)   (Ω : zo_O) : Option zo_R :=
  fn_X2_within_15 N 0 Ω
theorem ct_X2_within_14 {Y : zo_Y} (hY : zo_Gd Y cX2_within 3 RX2 0) (hJ : zo_JC (zo_J Y)) (hCon : ∀ Ω, zo_J Y Ω → zo_Con Ω) (hr : zo_rt Y (Option.some Jvm.ClassFile.FieldType.boolean)) (N : Nat)    (Ω : zo_O) (res : zo_R) (h : fn_X2_within_14 N   Ω = some res) : TW Y res Ω 14 [] [] := by
  unfold fn_X2_within_14 at h
  refine zo_iconst hY 0 (by decide) dX2_within_14 ?_
  exact ct_X2_within_15 hY hJ hCon hr N 0 Ω _ h
def fn_X2_within (N : Nat) (x0 : Int32) (x1 : Int32) (x2 : Int32) (Ω : zo_O) : Option zo_R :=
  if x0 < x1 then (
    fn_X2_within_14 N Ω
    ) else
  if x2 < x0 then (
    fn_X2_within_14 N Ω
    ) else
  fn_X2_within_15 N 1 Ω
theorem mt_X2_within {G : zo_G} {J : zo_O → Prop} (hJ : zo_JC J) (hCon : ∀ Ω, J Ω → zo_Con Ω) (N : Nat) (x0 : Int32) (x1 : Int32) (x2 : Int32) (Ω : zo_O) (res : zo_R) (h : fn_X2_within N x0 x1 x2 Ω = some res) : zo_MT G J yX2_within cX2_within 3 (Option.some Jvm.ClassFile.FieldType.boolean) 0 [vi x0, vi x1, vi x2] Ω res := by
  refine zo_enter (by decide) rfl (Nat.le_of_ble_eq_true rfl) (fun Y hY eJ hr hmn => ?_)
  subst eJ
  show TW Y res Ω 0 [(0, vi x0), (1, vi x1), (2, vi x2)] []
  unfold fn_X2_within at h
  refine zo_iload_n hY dX2_within_0 rfl 0 rfl ?_
  refine zo_iload_n hY dX2_within_1 rfl 1 rfl ?_
  refine zo_icmp_lt hY 14 dX2_within_2 (by decide) h (fun c1 h => ?_) (fun c1 h => ?_)
  · refine zo_sub [] rfl ?_
    exact ct_X2_within_14 hY hJ hCon hr N Ω _ h
  · refine zo_iload_n hY dX2_within_5 rfl 0 rfl ?_
    refine zo_iload_n hY dX2_within_6 rfl 2 rfl ?_
    refine zo_icmp_gt hY 14 dX2_within_7 (by decide) h (fun c2 h => ?_) (fun c2 h => ?_)
    · refine zo_sub [] rfl ?_
      exact ct_X2_within_14 hY hJ hCon hr N Ω _ h
    · refine zo_iconst hY 1 (by decide) dX2_within_10 ?_
      refine zo_goto hY 15 dX2_within_11 (by decide) ?_
      refine zo_sub [] rfl ?_
      exact ct_X2_within_15 hY hJ hCon hr N 1 Ω _ h
theorem dX2_isYear_0 : decode cX2_isYear 0 = .ok (.iload_n 0, 1) := by decide +kernel
theorem dX2_isYear_1 : decode cX2_isYear 1 = .ok (.sipush 1000, 3) := by decide +kernel
theorem dX2_isYear_4 : decode cX2_isYear 4 = .ok (.sipush 2100, 3) := by decide +kernel
theorem dX2_isYear_7 : decode cX2_isYear 7 = .ok (.invokestatic 190, 3) := by decide +kernel
theorem dX2_isYear_10 : decode cX2_isYear 10 = .ok (.ireturn, 1) := by decide +kernel
def fn_X2_isYear (N : Nat) (x0 : Int32) (Ω : zo_O) : Option zo_R :=
  ci (fn_X2_within N x0 1000 2100 Ω) fun r2 Ω1 =>
  rZ r2 Ω1
theorem mt_X2_isYear {G : zo_G} {J : zo_O → Prop} (hJ : zo_JC J) (hCon : ∀ Ω, J Ω → zo_Con Ω) (N : Nat) (x0 : Int32) (Ω : zo_O) (res : zo_R) (h : fn_X2_isYear N x0 Ω = some res) : zo_MT G J yX2_isYear cX2_isYear 1 (Option.some Jvm.ClassFile.FieldType.boolean) 1 [vi x0] Ω res := by
  refine zo_enter (by decide) rfl (Nat.le_of_ble_eq_true rfl) (fun Y hY eJ hr hmn => ?_)
  subst eJ
  show TW Y res Ω 0 [(0, vi x0)] []
  unfold fn_X2_isYear at h
  refine zo_iload_n hY dX2_isYear_0 rfl 0 rfl ?_
  refine zo_sipush hY 1000 (by decide) dX2_isYear_1 ?_
  refine zo_sipush hY 2100 (by decide) dX2_isYear_4 ?_
  refine zo_callS hY (fun q hq => mt_X2_within hJ hCon N x0 1000 2100 Ω q hq) (by decide) (by decide) cn_X2_within rfl q1521 q1522 q82 q1523 (Nat.le_of_ble_eq_true rfl) dX2_isYear_7 rfl h (ci_k (fun r2 Ω1 res h => ?_))
  exact zo_zret hY hr dX2_isYear_10 h
theorem dX2_isSite_0 : decode cX2_isSite 0 = .ok (.iload_n 1, 1) := by decide +kernel
theorem dX2_isSite_1 : decode cX2_isSite 1 = .ok (.iconst 0, 1) := by decide +kernel
theorem dX2_isSite_2 : decode cX2_isSite 2 = .ok (.aload_n 0, 1) := by decide +kernel
theorem dX2_isSite_3 : decode cX2_isSite 3 = .ok (.getfield 194, 3) := by decide +kernel
theorem dX2_isSite_6 : decode cX2_isSite 6 = .ok (.iconst 1, 1) := by decide +kernel
theorem dX2_isSite_7 : decode cX2_isSite 7 = .ok (.isub, 1) := by decide +kernel
theorem dX2_isSite_8 : decode cX2_isSite 8 = .ok (.invokestatic 190, 3) := by decide +kernel
theorem dX2_isSite_11 : decode cX2_isSite 11 = .ok (.ireturn, 1) := by decide +kernel
def fn_X2_isSite (N : Nat) (x1 : Int32) (Ω : zo_O) : Option zo_R :=
  ci (fn_X2_within N x1 0 ((gI Ω 1 0 2) - 1) Ω) fun r2 Ω1 =>
  rZ r2 Ω1
theorem mt_X2_isSite {G : zo_G} {J : zo_O → Prop} (hJ : zo_JC J) (hCon : ∀ Ω, J Ω → zo_Con Ω) (N : Nat) (x1 : Int32) (Ω : zo_O) (res : zo_R) (h : fn_X2_isSite N x1 Ω = some res) : zo_MT G J yX2_isSite cX2_isSite 2 (Option.some Jvm.ClassFile.FieldType.boolean) 1 [vr 1 0, vi x1] Ω res := by
  refine zo_enter (by decide) rfl (Nat.le_of_ble_eq_true rfl) (fun Y hY eJ hr hmn => ?_)
  subst eJ
  show TW Y res Ω 0 [(0, vr 1 0), (1, vi x1)] []
  unfold fn_X2_isSite at h
  refine zo_iload_n hY dX2_isSite_0 rfl 1 rfl ?_
  refine zo_iconst hY 0 (by decide) dX2_isSite_1 ?_
  refine zo_aload_n hY dX2_isSite_2 rfl 0 rfl ?_
  refine zo_getI hY LX2_194_1 rfl dX2_isSite_3 ?_
  refine zo_iconst hY 1 (by decide) dX2_isSite_6 ?_
  refine zo_isub hY dX2_isSite_7 ?_
  refine zo_callS hY (fun q hq => mt_X2_within hJ hCon N x1 0 ((gI Ω 1 0 2) - 1) Ω q hq) (by decide) (by decide) cn_X2_within rfl q1521 q1522 q82 q1523 (Nat.le_of_ble_eq_true rfl) dX2_isSite_8 rfl h (ci_k (fun r2 Ω1 res h => ?_))
  exact zo_zret hY hr dX2_isSite_11 h
theorem dX2_isKnown_0 : decode cX2_isKnown 0 = .ok (.iload_n 1, 1) := by decide +kernel
theorem dX2_isKnown_1 : decode cX2_isKnown 1 = .ok (.iconst 0, 1) := by decide +kernel
theorem dX2_isKnown_2 : decode cX2_isKnown 2 = .ok (.aload_n 0, 1) := by decide +kernel
theorem dX2_isKnown_3 : decode cX2_isKnown 3 = .ok (.getfield 200, 3) := by decide +kernel
theorem dX2_isKnown_6 : decode cX2_isKnown 6 = .ok (.invokestatic 190, 3) := by decide +kernel
theorem dX2_isKnown_9 : decode cX2_isKnown 9 = .ok (.ireturn, 1) := by decide +kernel
def fn_X2_isKnown (N : Nat) (x1 : Int32) (Ω : zo_O) : Option zo_R :=
  ci (fn_X2_within N x1 0 (gI Ω 1 0 1) Ω) fun r2 Ω1 =>
  rZ r2 Ω1
theorem mt_X2_isKnown {G : zo_G} {J : zo_O → Prop} (hJ : zo_JC J) (hCon : ∀ Ω, J Ω → zo_Con Ω) (N : Nat) (x1 : Int32) (Ω : zo_O) (res : zo_R) (h : fn_X2_isKnown N x1 Ω = some res) : zo_MT G J yX2_isKnown cX2_isKnown 2 (Option.some Jvm.ClassFile.FieldType.boolean) 1 [vr 1 0, vi x1] Ω res := by
  refine zo_enter (by decide) rfl (Nat.le_of_ble_eq_true rfl) (fun Y hY eJ hr hmn => ?_)
  subst eJ
  show TW Y res Ω 0 [(0, vr 1 0), (1, vi x1)] []
  unfold fn_X2_isKnown at h
  refine zo_iload_n hY dX2_isKnown_0 rfl 1 rfl ?_
  refine zo_iconst hY 0 (by decide) dX2_isKnown_1 ?_
  refine zo_aload_n hY dX2_isKnown_2 rfl 0 rfl ?_
  refine zo_getI hY LX2_200_1 rfl dX2_isKnown_3 ?_
  refine zo_callS hY (fun q hq => mt_X2_within hJ hCon N x1 0 (gI Ω 1 0 1) Ω q hq) (by decide) (by decide) cn_X2_within rfl q1521 q1522 q82 q1523 (Nat.le_of_ble_eq_true rfl) dX2_isKnown_6 rfl h (ci_k (fun r2 Ω1 res h => ?_))
  exact zo_zret hY hr dX2_isKnown_9 h
theorem dX2_isKind_0 : decode cX2_isKind 0 = .ok (.iload_n 0, 1) := by decide +kernel
theorem dX2_isKind_1 : decode cX2_isKind 1 = .ok (.iconst 0, 1) := by decide +kernel
theorem dX2_isKind_2 : decode cX2_isKind 2 = .ok (.iconst 2, 1) := by decide +kernel
theorem dX2_isKind_3 : decode cX2_isKind 3 = .ok (.invokestatic 190, 3) := by decide +kernel
theorem dX2_isKind_6 : decode cX2_isKind 6 = .ok (.ireturn, 1) := by decide +kernel
def fn_X2_isKind (N : Nat) (x0 : Int32) (Ω : zo_O) : Option zo_R :=
  ci (fn_X2_within N x0 0 2 Ω) fun r2 Ω1 =>
  rZ r2 Ω1
theorem mt_X2_isKind {G : zo_G} {J : zo_O → Prop} (hJ : zo_JC J) (hCon : ∀ Ω, J Ω → zo_Con Ω) (N : Nat) (x0 : Int32) (Ω : zo_O) (res : zo_R) (h : fn_X2_isKind N x0 Ω = some res) : zo_MT G J yX2_isKind cX2_isKind 1 (Option.some Jvm.ClassFile.FieldType.boolean) 1 [vi x0] Ω res := by
  refine zo_enter (by decide) rfl (Nat.le_of_ble_eq_true rfl) (fun Y hY eJ hr hmn => ?_)
  subst eJ
  show TW Y res Ω 0 [(0, vi x0)] []
  unfold fn_X2_isKind at h
  refine zo_iload_n hY dX2_isKind_0 rfl 0 rfl ?_
  refine zo_iconst hY 0 (by decide) dX2_isKind_1 ?_
  refine zo_iconst hY 2 (by decide) dX2_isKind_2 ?_
  refine zo_callS hY (fun q hq => mt_X2_within hJ hCon N x0 0 2 Ω q hq) (by decide) (by decide) cn_X2_within rfl q1521 q1522 q82 q1523 (Nat.le_of_ble_eq_true rfl) dX2_isKind_3 rfl h (ci_k (fun r2 Ω1 res h => ?_))
  exact zo_zret hY hr dX2_isKind_6 h
theorem dX2_isSize_0 : decode cX2_isSize 0 = .ok (.iload_n 0, 1) := by decide +kernel
theorem dX2_isSize_1 : decode cX2_isSize 1 = .ok (.iconst 1, 1) := by decide +kernel
theorem dX2_isSize_2 : decode cX2_isSize 2 = .ok (.sipush 2000, 3) := by decide +kernel
theorem dX2_isSize_5 : decode cX2_isSize 5 = .ok (.invokestatic 190, 3) := by decide +kernel
theorem dX2_isSize_8 : decode cX2_isSize 8 = .ok (.ireturn, 1) := by decide +kernel
def fn_X2_isSize (N : Nat) (x0 : Int32) (Ω : zo_O) : Option zo_R :=
  ci (fn_X2_within N x0 1 2000 Ω) fun r2 Ω1 =>
  rZ r2 Ω1
theorem mt_X2_isSize {G : zo_G} {J : zo_O → Prop} (hJ : zo_JC J) (hCon : ∀ Ω, J Ω → zo_Con Ω) (N : Nat) (x0 : Int32) (Ω : zo_O) (res : zo_R) (h : fn_X2_isSize N x0 Ω = some res) : zo_MT G J yX2_isSize cX2_isSize 1 (Option.some Jvm.ClassFile.FieldType.boolean) 1 [vi x0] Ω res := by
  refine zo_enter (by decide) rfl (Nat.le_of_ble_eq_true rfl) (fun Y hY eJ hr hmn => ?_)
  subst eJ
  show TW Y res Ω 0 [(0, vi x0)] []
  unfold fn_X2_isSize at h
  refine zo_iload_n hY dX2_isSize_0 rfl 0 rfl ?_
  refine zo_iconst hY 1 (by decide) dX2_isSize_1 ?_
  refine zo_sipush hY 2000 (by decide) dX2_isSize_2 ?_
  refine zo_callS hY (fun q hq => mt_X2_within hJ hCon N x0 1 2000 Ω q hq) (by decide) (by decide) cn_X2_within rfl q1521 q1522 q82 q1523 (Nat.le_of_ble_eq_true rfl) dX2_isSize_5 rfl h (ci_k (fun r2 Ω1 res h => ?_))
  exact zo_zret hY hr dX2_isSize_8 h
theorem dX2_isCircle_0 : decode cX2_isCircle 0 = .ok (.iload_n 1, 1) := by decide +kernel
theorem dX2_isCircle_1 : decode cX2_isCircle 1 = .ok (.iconst 0, 1) := by decide +kernel
theorem dX2_isCircle_2 : decode cX2_isCircle 2 = .ok (.aload_n 0, 1) := by decide +kernel
theorem dX2_isCircle_3 : decode cX2_isCircle 3 = .ok (.getfield 197, 3) := by decide +kernel
theorem dX2_isCircle_6 : decode cX2_isCircle 6 = .ok (.iconst 1, 1) := by decide +kernel
theorem dX2_isCircle_7 : decode cX2_isCircle 7 = .ok (.isub, 1) := by decide +kernel
theorem dX2_isCircle_8 : decode cX2_isCircle 8 = .ok (.invokestatic 190, 3) := by decide +kernel
theorem dX2_isCircle_11 : decode cX2_isCircle 11 = .ok (.ireturn, 1) := by decide +kernel
def fn_X2_isCircle (N : Nat) (x1 : Int32) (Ω : zo_O) : Option zo_R :=
  ci (fn_X2_within N x1 0 ((gI Ω 1 0 8) - 1) Ω) fun r2 Ω1 =>
  rZ r2 Ω1
theorem mt_X2_isCircle {G : zo_G} {J : zo_O → Prop} (hJ : zo_JC J) (hCon : ∀ Ω, J Ω → zo_Con Ω) (N : Nat) (x1 : Int32) (Ω : zo_O) (res : zo_R) (h : fn_X2_isCircle N x1 Ω = some res) : zo_MT G J yX2_isCircle cX2_isCircle 2 (Option.some Jvm.ClassFile.FieldType.boolean) 1 [vr 1 0, vi x1] Ω res := by
  refine zo_enter (by decide) rfl (Nat.le_of_ble_eq_true rfl) (fun Y hY eJ hr hmn => ?_)
  subst eJ
  show TW Y res Ω 0 [(0, vr 1 0), (1, vi x1)] []
  unfold fn_X2_isCircle at h
  refine zo_iload_n hY dX2_isCircle_0 rfl 1 rfl ?_
  refine zo_iconst hY 0 (by decide) dX2_isCircle_1 ?_
  refine zo_aload_n hY dX2_isCircle_2 rfl 0 rfl ?_
  refine zo_getI hY LX2_197_1 rfl dX2_isCircle_3 ?_
  refine zo_iconst hY 1 (by decide) dX2_isCircle_6 ?_
  refine zo_isub hY dX2_isCircle_7 ?_
  refine zo_callS hY (fun q hq => mt_X2_within hJ hCon N x1 0 ((gI Ω 1 0 8) - 1) Ω q hq) (by decide) (by decide) cn_X2_within rfl q1521 q1522 q82 q1523 (Nat.le_of_ble_eq_true rfl) dX2_isCircle_8 rfl h (ci_k (fun r2 Ω1 res h => ?_))
  exact zo_zret hY hr dX2_isCircle_11 h
theorem dX2_thrown_0 : decode cX2_thrown 0 = .ok (.aload_n 0, 1) := by decide +kernel
theorem dX2_thrown_1 : decode cX2_thrown 1 = .ok (.getfield 187, 3) := by decide +kernel
theorem dX2_thrown_4 : decode cX2_thrown 4 = .ok (.ireturn, 1) := by decide +kernel
def fn_X2_thrown (N : Nat)  (Ω : zo_O) : Option zo_R :=
  rI (gI Ω 1 0 0) Ω
theorem mt_X2_thrown {G : zo_G} {J : zo_O → Prop} (hJ : zo_JC J) (hCon : ∀ Ω, J Ω → zo_Con Ω) (N : Nat)  (Ω : zo_O) (res : zo_R) (h : fn_X2_thrown N  Ω = some res) : zo_MT G J yX2_thrown cX2_thrown 1 (Option.some Jvm.ClassFile.FieldType.int) 0 [vr 1 0] Ω res := by
  refine zo_enter (by decide) rfl (Nat.le_of_ble_eq_true rfl) (fun Y hY eJ hr hmn => ?_)
  subst eJ
  show TW Y res Ω 0 [(0, vr 1 0)] []
  unfold fn_X2_thrown at h
  refine zo_aload_n hY dX2_thrown_0 rfl 0 rfl ?_
  refine zo_getI hY LX2_187_1 rfl dX2_thrown_1 ?_
  exact zo_iret hY hr dX2_thrown_4 h
theorem dX2_site_0 : decode cX2_site 0 = .ok (.aload_n 0, 1) := by decide +kernel
theorem dX2_site_1 : decode cX2_site 1 = .ok (.iconst 0, 1) := by decide +kernel
theorem dX2_site_2 : decode cX2_site 2 = .ok (.putfield 187, 3) := by decide +kernel
theorem dX2_site_5 : decode cX2_site 5 = .ok (.iload_n 1, 1) := by decide +kernel
theorem dX2_site_6 : decode cX2_site 6 = .ok (.iconst 0, 1) := by decide +kernel
theorem dX2_site_7 : decode cX2_site 7 = .ok (.iconst 1, 1) := by decide +kernel
theorem dX2_site_8 : decode cX2_site 8 = .ok (.invokestatic 190, 3) := by decide +kernel
theorem dX2_site_11 : decode cX2_site 11 = .ok (.ifCond .eq 46, 3) := by decide +kernel
theorem dX2_site_14 : decode cX2_site 14 = .ok (.iload_n 2, 1) := by decide +kernel
theorem dX2_site_15 : decode cX2_site 15 = .ok (.iconst 0, 1) := by decide +kernel
theorem dX2_site_16 : decode cX2_site 16 = .ok (.iconst 2, 1) := by decide +kernel
theorem dX2_site_17 : decode cX2_site 17 = .ok (.invokestatic 190, 3) := by decide +kernel
theorem dX2_site_20 : decode cX2_site 20 = .ok (.ifCond .eq 37, 3) := by decide +kernel
theorem dX2_site_23 : decode cX2_site 23 = .ok (.iload_n 3, 1) := by decide +kernel
theorem dX2_site_24 : decode cX2_site 24 = .ok (.iconst 0, 1) := by decide +kernel
theorem dX2_site_25 : decode cX2_site 25 = .ok (.sipush 999, 3) := by decide +kernel
theorem dX2_site_28 : decode cX2_site 28 = .ok (.invokestatic 190, 3) := by decide +kernel
theorem dX2_site_31 : decode cX2_site 31 = .ok (.ifCond .eq 26, 3) := by decide +kernel
theorem dX2_site_34 : decode cX2_site 34 = .ok (.iload 4, 2) := by decide +kernel
theorem dX2_site_36 : decode cX2_site 36 = .ok (.iconst (-1), 1) := by decide +kernel
theorem dX2_site_37 : decode cX2_site 37 = .ok (.if_icmp .eq 11, 3) := by decide +kernel
theorem dX2_site_40 : decode cX2_site 40 = .ok (.iload 4, 2) := by decide +kernel
theorem dX2_site_42 : decode cX2_site 42 = .ok (.invokestatic 203, 3) := by decide +kernel
theorem dX2_site_45 : decode cX2_site 45 = .ok (.ifCond .eq 12, 3) := by decide +kernel
theorem dX2_site_48 : decode cX2_site 48 = .ok (.aload_n 0, 1) := by decide +kernel
theorem dX2_site_49 : decode cX2_site 49 = .ok (.getfield 194, 3) := by decide +kernel
theorem dX2_site_52 : decode cX2_site 52 = .ok (.bipush 14, 2) := by decide +kernel
theorem dX2_site_54 : decode cX2_site 54 = .ok (.if_icmp .ne 5, 3) := by decide +kernel
theorem dX2_site_57 : decode cX2_site 57 = .ok (.iconst (-1), 1) := by decide +kernel
theorem dX2_site_58 : decode cX2_site 58 = .ok (.ireturn, 1) := by decide +kernel
theorem dX2_site_59 : decode cX2_site 59 = .ok (.aload_n 0, 1) := by decide +kernel
theorem dX2_site_60 : decode cX2_site 60 = .ok (.getfield 7, 3) := by decide +kernel
theorem dX2_site_63 : decode cX2_site 63 = .ok (.aload_n 0, 1) := by decide +kernel
theorem dX2_site_64 : decode cX2_site 64 = .ok (.getfield 194, 3) := by decide +kernel
theorem dX2_site_67 : decode cX2_site 67 = .ok (.iload_n 1, 1) := by decide +kernel
theorem dX2_site_68 : decode cX2_site 68 = .ok (.iastore, 1) := by decide +kernel
theorem dX2_site_69 : decode cX2_site 69 = .ok (.aload_n 0, 1) := by decide +kernel
theorem dX2_site_70 : decode cX2_site 70 = .ok (.getfield 13, 3) := by decide +kernel
theorem dX2_site_73 : decode cX2_site 73 = .ok (.aload_n 0, 1) := by decide +kernel
theorem dX2_site_74 : decode cX2_site 74 = .ok (.getfield 194, 3) := by decide +kernel
theorem dX2_site_77 : decode cX2_site 77 = .ok (.iload_n 2, 1) := by decide +kernel
theorem dX2_site_78 : decode cX2_site 78 = .ok (.iastore, 1) := by decide +kernel
theorem dX2_site_79 : decode cX2_site 79 = .ok (.aload_n 0, 1) := by decide +kernel
theorem dX2_site_80 : decode cX2_site 80 = .ok (.getfield 16, 3) := by decide +kernel
theorem dX2_site_83 : decode cX2_site 83 = .ok (.aload_n 0, 1) := by decide +kernel
theorem dX2_site_84 : decode cX2_site 84 = .ok (.getfield 194, 3) := by decide +kernel
theorem dX2_site_87 : decode cX2_site 87 = .ok (.iload_n 3, 1) := by decide +kernel
theorem dX2_site_88 : decode cX2_site 88 = .ok (.iastore, 1) := by decide +kernel
theorem dX2_site_89 : decode cX2_site 89 = .ok (.aload_n 0, 1) := by decide +kernel
theorem dX2_site_90 : decode cX2_site 90 = .ok (.getfield 19, 3) := by decide +kernel
theorem dX2_site_93 : decode cX2_site 93 = .ok (.aload_n 0, 1) := by decide +kernel
theorem dX2_site_94 : decode cX2_site 94 = .ok (.getfield 194, 3) := by decide +kernel
theorem dX2_site_97 : decode cX2_site 97 = .ok (.iload 4, 2) := by decide +kernel
theorem dX2_site_99 : decode cX2_site 99 = .ok (.iastore, 1) := by decide +kernel
theorem dX2_site_100 : decode cX2_site 100 = .ok (.aload_n 0, 1) := by decide +kernel
theorem dX2_site_101 : decode cX2_site 101 = .ok (.getfield 22, 3) := by decide +kernel
theorem dX2_site_104 : decode cX2_site 104 = .ok (.aload_n 0, 1) := by decide +kernel
theorem dX2_site_105 : decode cX2_site 105 = .ok (.getfield 194, 3) := by decide +kernel
theorem dX2_site_108 : decode cX2_site 108 = .ok (.aload_n 0, 1) := by decide +kernel
theorem dX2_site_109 : decode cX2_site 109 = .ok (.getfield 200, 3) := by decide +kernel
theorem dX2_site_112 : decode cX2_site 112 = .ok (.iastore, 1) := by decide +kernel
theorem dX2_site_113 : decode cX2_site 113 = .ok (.aload_n 0, 1) := by decide +kernel
theorem dX2_site_114 : decode cX2_site 114 = .ok (.dup, 1) := by decide +kernel
theorem dX2_site_115 : decode cX2_site 115 = .ok (.getfield 194, 3) := by decide +kernel
theorem dX2_site_118 : decode cX2_site 118 = .ok (.iconst 1, 1) := by decide +kernel
theorem dX2_site_119 : decode cX2_site 119 = .ok (.iadd, 1) := by decide +kernel
theorem dX2_site_120 : decode cX2_site 120 = .ok (.putfield 194, 3) := by decide +kernel
theorem dX2_site_123 : decode cX2_site 123 = .ok (.aload_n 0, 1) := by decide +kernel
theorem dX2_site_124 : decode cX2_site 124 = .ok (.getfield 194, 3) := by decide +kernel
theorem dX2_site_127 : decode cX2_site 127 = .ok (.iconst 1, 1) := by decide +kernel
theorem dX2_site_128 : decode cX2_site 128 = .ok (.isub, 1) := by decide +kernel
theorem dX2_site_129 : decode cX2_site 129 = .ok (.ireturn, 1) := by decide +kernel
def fn_X2_site_57 (N : Nat)   (Ω : zo_O) : Option zo_R :=
  rI ((-1)) Ω
theorem ct_X2_site_57 {Y : zo_Y} (hY : zo_Gd Y cX2_site 5 RX2 2) (hJ : zo_JC (zo_J Y)) (hCon : ∀ Ω, zo_J Y Ω → zo_Con Ω) (hr : zo_rt Y (Option.some Jvm.ClassFile.FieldType.int)) (N : Nat)    (Ω : zo_O) (res : zo_R) (h : fn_X2_site_57 N   Ω = some res) : TW Y res Ω 57 [] [] := by
  unfold fn_X2_site_57 at h
  refine zo_iconst hY (-1) (by decide) dX2_site_57 ?_
  exact zo_iret hY hr dX2_site_58 h
def fn_X2_site_48 (N : Nat)  (x1 : Int32) (x2 : Int32) (x3 : Int32) (x4 : Int32) (Ω : zo_O) : Option zo_R :=
  if gI Ω 1 0 2 = 14 then (
    fn_X2_site_57 N Ω
    ) else
  ix (gI Ω 1 0 2) 14 fun j2 => lt (sI Ω 32 0 j2 x1) fun Ω3 =>
  ix (gI Ω3 1 0 2) 14 fun j4 => lt (sI Ω3 32 1 j4 x2) fun Ω5 =>
  ix (gI Ω5 1 0 2) 14 fun j6 => lt (sI Ω5 32 2 j6 x3) fun Ω7 =>
  ix (gI Ω7 1 0 2) 14 fun j8 => lt (sI Ω7 32 3 j8 x4) fun Ω9 =>
  ix (gI Ω9 1 0 2) 14 fun j10 => lt (sI Ω9 32 4 j10 (gI Ω9 1 0 1)) fun Ω11 =>
  lt (sI Ω11 1 0 2 ((gI Ω11 1 0 2) + 1)) fun Ω12 =>
  rI ((gI Ω12 1 0 2) - 1) Ω12
theorem ct_X2_site_48 {Y : zo_Y} (hY : zo_Gd Y cX2_site 5 RX2 2) (hJ : zo_JC (zo_J Y)) (hCon : ∀ Ω, zo_J Y Ω → zo_Con Ω) (hr : zo_rt Y (Option.some Jvm.ClassFile.FieldType.int)) (N : Nat)   (x1 : Int32) (x2 : Int32) (x3 : Int32) (x4 : Int32) (Ω : zo_O) (res : zo_R) (h : fn_X2_site_48 N  x1 x2 x3 x4 Ω = some res) : TW Y res Ω 48 [(0, vr 1 0), (1, vi x1), (2, vi x2), (3, vi x3), (4, vi x4)] [] := by
  unfold fn_X2_site_48 at h
  refine zo_aload_n hY dX2_site_48 rfl 0 rfl ?_
  refine zo_getI hY LX2_194_1 rfl dX2_site_49 ?_
  refine zo_bipush hY 14 (by decide) dX2_site_52 ?_
  refine zo_icmp_ne hY 59 dX2_site_54 (by decide) h (fun c1 h => ?_) (fun c1 h => ?_)
  · refine zo_sub [] rfl ?_
    exact ct_X2_site_57 hY hJ hCon hr N Ω _ h
  · refine zo_aload_n hY dX2_site_59 rfl 0 rfl ?_
    refine zo_getC hY LX2_7_1 rfl (fun Ω q => (hCon Ω q).2.1 3 _ rfl) dX2_site_60 ?_
    refine zo_aload_n hY dX2_site_63 rfl 0 rfl ?_
    refine zo_getI hY LX2_194_1 rfl dX2_site_64 ?_
    refine zo_iload_n hY dX2_site_67 rfl 1 rfl ?_
    refine zo_ast hY hJ (by decide) (Or.inl ⟨rfl, rfl, dX2_site_68⟩) (fun q => (hCon _ q).2.2.2 32 0 14 rfl) h (fun j2 Ω3 h => ?_)
    refine zo_aload_n hY dX2_site_69 rfl 0 rfl ?_
    refine zo_getC hY LX2_13_1 rfl (fun Ω q => (hCon Ω q).2.1 4 _ rfl) dX2_site_70 ?_
    refine zo_aload_n hY dX2_site_73 rfl 0 rfl ?_
    refine zo_getI hY LX2_194_1 rfl dX2_site_74 ?_
    refine zo_iload_n hY dX2_site_77 rfl 2 rfl ?_
    refine zo_ast hY hJ (by decide) (Or.inl ⟨rfl, rfl, dX2_site_78⟩) (fun q => (hCon _ q).2.2.2 32 1 14 rfl) h (fun j4 Ω5 h => ?_)
    refine zo_aload_n hY dX2_site_79 rfl 0 rfl ?_
    refine zo_getC hY LX2_16_1 rfl (fun Ω q => (hCon Ω q).2.1 5 _ rfl) dX2_site_80 ?_
    refine zo_aload_n hY dX2_site_83 rfl 0 rfl ?_
    refine zo_getI hY LX2_194_1 rfl dX2_site_84 ?_
    refine zo_iload_n hY dX2_site_87 rfl 3 rfl ?_
    refine zo_ast hY hJ (by decide) (Or.inl ⟨rfl, rfl, dX2_site_88⟩) (fun q => (hCon _ q).2.2.2 32 2 14 rfl) h (fun j6 Ω7 h => ?_)
    refine zo_aload_n hY dX2_site_89 rfl 0 rfl ?_
    refine zo_getC hY LX2_19_1 rfl (fun Ω q => (hCon Ω q).2.1 6 _ rfl) dX2_site_90 ?_
    refine zo_aload_n hY dX2_site_93 rfl 0 rfl ?_
    refine zo_getI hY LX2_194_1 rfl dX2_site_94 ?_
    refine zo_iload hY dX2_site_97 4 rfl ?_
    refine zo_ast hY hJ (by decide) (Or.inl ⟨rfl, rfl, dX2_site_99⟩) (fun q => (hCon _ q).2.2.2 32 3 14 rfl) h (fun j8 Ω9 h => ?_)
    refine zo_aload_n hY dX2_site_100 rfl 0 rfl ?_
    refine zo_getC hY LX2_22_1 rfl (fun Ω q => (hCon Ω q).2.1 7 _ rfl) dX2_site_101 ?_
    refine zo_aload_n hY dX2_site_104 rfl 0 rfl ?_
    refine zo_getI hY LX2_194_1 rfl dX2_site_105 ?_
    refine zo_aload_n hY dX2_site_108 rfl 0 rfl ?_
    refine zo_getI hY LX2_200_1 rfl dX2_site_109 ?_
    refine zo_ast hY hJ (by decide) (Or.inl ⟨rfl, rfl, dX2_site_112⟩) (fun q => (hCon _ q).2.2.2 32 4 14 rfl) h (fun j10 Ω11 h => ?_)
    refine zo_aload_n hY dX2_site_113 rfl 0 rfl ?_
    refine zo_dup hY dX2_site_114 (Or.inr ⟨_, rfl⟩) ?_
    refine zo_getI hY LX2_194_1 rfl dX2_site_115 ?_
    refine zo_iconst hY 1 (by decide) dX2_site_118 ?_
    refine zo_iadd hY dX2_site_119 ?_
    refine zo_putI hY hJ LX2_194_1 rfl (Or.inl rfl) dX2_site_120 h (fun Ω12 h => ?_)
    refine zo_aload_n hY dX2_site_123 rfl 0 rfl ?_
    refine zo_getI hY LX2_194_1 rfl dX2_site_124 ?_
    refine zo_iconst hY 1 (by decide) dX2_site_127 ?_
    refine zo_isub hY dX2_site_128 ?_
    exact zo_iret hY hr dX2_site_129 h
def fn_X2_site (N : Nat) (x1 : Int32) (x2 : Int32) (x3 : Int32) (x4 : Int32) (Ω : zo_O) : Option zo_R :=
  lt (sI Ω 1 0 0 0) fun Ω1 =>
  ci (fn_X2_within N x1 0 1 Ω1) fun r3 Ω2 =>
  if r3 = 0 then (
    fn_X2_site_57 N Ω2
    ) else
  ci (fn_X2_within N x2 0 2 Ω2) fun r6 Ω5 =>
  if r6 = 0 then (
    fn_X2_site_57 N Ω5
    ) else
  ci (fn_X2_within N x3 0 999 Ω5) fun r9 Ω8 =>
  if r9 = 0 then (
    fn_X2_site_57 N Ω8
    ) else
  if x4 = (-1) then (
    fn_X2_site_48 N x1 x2 x3 x4 Ω8
    ) else
  ci (fn_X2_isYear N x4 Ω8) fun r13 Ω12 =>
  if r13 = 0 then (
    fn_X2_site_57 N Ω12
    ) else
  fn_X2_site_48 N x1 x2 x3 x4 Ω12
theorem mt_X2_site {G : zo_G} {J : zo_O → Prop} (hJ : zo_JC J) (hCon : ∀ Ω, J Ω → zo_Con Ω) (N : Nat) (x1 : Int32) (x2 : Int32) (x3 : Int32) (x4 : Int32) (Ω : zo_O) (res : zo_R) (h : fn_X2_site N x1 x2 x3 x4 Ω = some res) : zo_MT G J yX2_site cX2_site 5 (Option.some Jvm.ClassFile.FieldType.int) 2 [vr 1 0, vi x1, vi x2, vi x3, vi x4] Ω res := by
  refine zo_enter (by decide) rfl (Nat.le_of_ble_eq_true rfl) (fun Y hY eJ hr hmn => ?_)
  subst eJ
  show TW Y res Ω 0 [(0, vr 1 0), (1, vi x1), (2, vi x2), (3, vi x3), (4, vi x4)] []
  unfold fn_X2_site at h
  refine zo_aload_n hY dX2_site_0 rfl 0 rfl ?_
  refine zo_iconst hY 0 (by decide) dX2_site_1 ?_
  refine zo_putI hY hJ LX2_187_1 rfl (Or.inl rfl) dX2_site_2 h (fun Ω1 h => ?_)
  refine zo_iload_n hY dX2_site_5 rfl 1 rfl ?_
  refine zo_iconst hY 0 (by decide) dX2_site_6 ?_
  refine zo_iconst hY 1 (by decide) dX2_site_7 ?_
  refine zo_callS hY (fun q hq => mt_X2_within hJ hCon N x1 0 1 Ω1 q hq) (by decide) (by decide) cn_X2_within rfl q1521 q1522 q82 q1523 (Nat.le_of_ble_eq_true rfl) dX2_site_8 rfl h (ci_k (fun r3 Ω2 res h => ?_))
  refine zo_if_eq hY 57 dX2_site_11 (by decide) h (fun c4 h => ?_) (fun c4 h => ?_)
  · refine zo_sub [] rfl ?_
    exact ct_X2_site_57 hY hJ hCon hr N Ω2 _ h
  · refine zo_iload_n hY dX2_site_14 rfl 2 rfl ?_
    refine zo_iconst hY 0 (by decide) dX2_site_15 ?_
    refine zo_iconst hY 2 (by decide) dX2_site_16 ?_
    refine zo_callS hY (fun q hq => mt_X2_within hJ hCon N x2 0 2 Ω2 q hq) (by decide) (by decide) cn_X2_within rfl q1521 q1522 q82 q1523 (Nat.le_of_ble_eq_true rfl) dX2_site_17 rfl h (ci_k (fun r6 Ω5 res h => ?_))
    refine zo_if_eq hY 57 dX2_site_20 (by decide) h (fun c7 h => ?_) (fun c7 h => ?_)
    · refine zo_sub [] rfl ?_
      exact ct_X2_site_57 hY hJ hCon hr N Ω5 _ h
    · refine zo_iload_n hY dX2_site_23 rfl 3 rfl ?_
      refine zo_iconst hY 0 (by decide) dX2_site_24 ?_
      refine zo_sipush hY 999 (by decide) dX2_site_25 ?_
      refine zo_callS hY (fun q hq => mt_X2_within hJ hCon N x3 0 999 Ω5 q hq) (by decide) (by decide) cn_X2_within rfl q1521 q1522 q82 q1523 (Nat.le_of_ble_eq_true rfl) dX2_site_28 rfl h (ci_k (fun r9 Ω8 res h => ?_))
      refine zo_if_eq hY 57 dX2_site_31 (by decide) h (fun c10 h => ?_) (fun c10 h => ?_)
      · refine zo_sub [] rfl ?_
        exact ct_X2_site_57 hY hJ hCon hr N Ω8 _ h
      · refine zo_iload hY dX2_site_34 4 rfl ?_
        refine zo_iconst hY (-1) (by decide) dX2_site_36 ?_
        refine zo_icmp_eq hY 48 dX2_site_37 (by decide) h (fun c11 h => ?_) (fun c11 h => ?_)
        · exact ct_X2_site_48 hY hJ hCon hr N x1 x2 x3 x4 Ω8 _ h
        · refine zo_iload hY dX2_site_40 4 rfl ?_
          refine zo_callS hY (fun q hq => mt_X2_isYear hJ hCon N x4 Ω8 q hq) (by decide) (by decide) cn_X2_isYear rfl q1524 q1525 q82 q1526 (Nat.le_of_ble_eq_true rfl) dX2_site_42 rfl h (ci_k (fun r13 Ω12 res h => ?_))
          refine zo_if_eq hY 57 dX2_site_45 (by decide) h (fun c14 h => ?_) (fun c14 h => ?_)
          · refine zo_sub [] rfl ?_
            exact ct_X2_site_57 hY hJ hCon hr N Ω12 _ h
          · exact ct_X2_site_48 hY hJ hCon hr N x1 x2 x3 x4 Ω12 _ h
theorem dX2_circle_0 : decode cX2_circle 0 = .ok (.aload_n 0, 1) := by decide +kernel
theorem dX2_circle_1 : decode cX2_circle 1 = .ok (.iconst 0, 1) := by decide +kernel
theorem dX2_circle_2 : decode cX2_circle 2 = .ok (.putfield 187, 3) := by decide +kernel
theorem dX2_circle_5 : decode cX2_circle 5 = .ok (.aload_n 0, 1) := by decide +kernel
theorem dX2_circle_6 : decode cX2_circle 6 = .ok (.iload_n 1, 1) := by decide +kernel
theorem dX2_circle_7 : decode cX2_circle 7 = .ok (.invokevirtual 207, 3) := by decide +kernel
theorem dX2_circle_10 : decode cX2_circle 10 = .ok (.ifCond .eq 55, 3) := by decide +kernel
theorem dX2_circle_13 : decode cX2_circle 13 = .ok (.iload_n 2, 1) := by decide +kernel
theorem dX2_circle_14 : decode cX2_circle 14 = .ok (.invokestatic 210, 3) := by decide +kernel
theorem dX2_circle_17 : decode cX2_circle 17 = .ok (.ifCond .eq 48, 3) := by decide +kernel
theorem dX2_circle_20 : decode cX2_circle 20 = .ok (.iload_n 3, 1) := by decide +kernel
theorem dX2_circle_21 : decode cX2_circle 21 = .ok (.iconst 0, 1) := by decide +kernel
theorem dX2_circle_22 : decode cX2_circle 22 = .ok (.iconst 4, 1) := by decide +kernel
theorem dX2_circle_23 : decode cX2_circle 23 = .ok (.invokestatic 190, 3) := by decide +kernel
theorem dX2_circle_26 : decode cX2_circle 26 = .ok (.ifCond .eq 39, 3) := by decide +kernel
theorem dX2_circle_29 : decode cX2_circle 29 = .ok (.iload 4, 2) := by decide +kernel
theorem dX2_circle_31 : decode cX2_circle 31 = .ok (.invokestatic 213, 3) := by decide +kernel
theorem dX2_circle_34 : decode cX2_circle 34 = .ok (.ifCond .eq 31, 3) := by decide +kernel
theorem dX2_circle_37 : decode cX2_circle 37 = .ok (.iload 5, 2) := by decide +kernel
theorem dX2_circle_39 : decode cX2_circle 39 = .ok (.iconst 1, 1) := by decide +kernel
theorem dX2_circle_40 : decode cX2_circle 40 = .ok (.iload 4, 2) := by decide +kernel
theorem dX2_circle_42 : decode cX2_circle 42 = .ok (.invokestatic 190, 3) := by decide +kernel
theorem dX2_circle_45 : decode cX2_circle 45 = .ok (.ifCond .eq 20, 3) := by decide +kernel
theorem dX2_circle_48 : decode cX2_circle 48 = .ok (.iload 6, 2) := by decide +kernel
theorem dX2_circle_50 : decode cX2_circle 50 = .ok (.invokestatic 203, 3) := by decide +kernel
theorem dX2_circle_53 : decode cX2_circle 53 = .ok (.ifCond .eq 12, 3) := by decide +kernel
theorem dX2_circle_56 : decode cX2_circle 56 = .ok (.aload_n 0, 1) := by decide +kernel
theorem dX2_circle_57 : decode cX2_circle 57 = .ok (.getfield 197, 3) := by decide +kernel
theorem dX2_circle_60 : decode cX2_circle 60 = .ok (.bipush 120, 2) := by decide +kernel
theorem dX2_circle_62 : decode cX2_circle 62 = .ok (.if_icmp .ne 5, 3) := by decide +kernel
theorem dX2_circle_65 : decode cX2_circle 65 = .ok (.iconst (-1), 1) := by decide +kernel
theorem dX2_circle_66 : decode cX2_circle 66 = .ok (.ireturn, 1) := by decide +kernel
theorem dX2_circle_67 : decode cX2_circle 67 = .ok (.aload_n 0, 1) := by decide +kernel
theorem dX2_circle_68 : decode cX2_circle 68 = .ok (.getfield 25, 3) := by decide +kernel
theorem dX2_circle_71 : decode cX2_circle 71 = .ok (.aload_n 0, 1) := by decide +kernel
theorem dX2_circle_72 : decode cX2_circle 72 = .ok (.getfield 197, 3) := by decide +kernel
theorem dX2_circle_75 : decode cX2_circle 75 = .ok (.iload_n 1, 1) := by decide +kernel
theorem dX2_circle_76 : decode cX2_circle 76 = .ok (.iastore, 1) := by decide +kernel
theorem dX2_circle_77 : decode cX2_circle 77 = .ok (.aload_n 0, 1) := by decide +kernel
theorem dX2_circle_78 : decode cX2_circle 78 = .ok (.getfield 28, 3) := by decide +kernel
theorem dX2_circle_81 : decode cX2_circle 81 = .ok (.aload_n 0, 1) := by decide +kernel
theorem dX2_circle_82 : decode cX2_circle 82 = .ok (.getfield 197, 3) := by decide +kernel
theorem dX2_circle_85 : decode cX2_circle 85 = .ok (.iload_n 2, 1) := by decide +kernel
theorem dX2_circle_86 : decode cX2_circle 86 = .ok (.iastore, 1) := by decide +kernel
theorem dX2_circle_87 : decode cX2_circle 87 = .ok (.aload_n 0, 1) := by decide +kernel
theorem dX2_circle_88 : decode cX2_circle 88 = .ok (.getfield 31, 3) := by decide +kernel
theorem dX2_circle_91 : decode cX2_circle 91 = .ok (.aload_n 0, 1) := by decide +kernel
theorem dX2_circle_92 : decode cX2_circle 92 = .ok (.getfield 197, 3) := by decide +kernel
theorem dX2_circle_95 : decode cX2_circle 95 = .ok (.iload_n 3, 1) := by decide +kernel
theorem dX2_circle_96 : decode cX2_circle 96 = .ok (.iastore, 1) := by decide +kernel
theorem dX2_circle_97 : decode cX2_circle 97 = .ok (.aload_n 0, 1) := by decide +kernel
theorem dX2_circle_98 : decode cX2_circle 98 = .ok (.getfield 34, 3) := by decide +kernel
theorem dX2_circle_101 : decode cX2_circle 101 = .ok (.aload_n 0, 1) := by decide +kernel
theorem dX2_circle_102 : decode cX2_circle 102 = .ok (.getfield 197, 3) := by decide +kernel
theorem dX2_circle_105 : decode cX2_circle 105 = .ok (.iload 4, 2) := by decide +kernel
theorem dX2_circle_107 : decode cX2_circle 107 = .ok (.iastore, 1) := by decide +kernel
theorem dX2_circle_108 : decode cX2_circle 108 = .ok (.aload_n 0, 1) := by decide +kernel
theorem dX2_circle_109 : decode cX2_circle 109 = .ok (.getfield 37, 3) := by decide +kernel
theorem dX2_circle_112 : decode cX2_circle 112 = .ok (.aload_n 0, 1) := by decide +kernel
theorem dX2_circle_113 : decode cX2_circle 113 = .ok (.getfield 197, 3) := by decide +kernel
theorem dX2_circle_116 : decode cX2_circle 116 = .ok (.iload 5, 2) := by decide +kernel
theorem dX2_circle_118 : decode cX2_circle 118 = .ok (.iastore, 1) := by decide +kernel
theorem dX2_circle_119 : decode cX2_circle 119 = .ok (.aload_n 0, 1) := by decide +kernel
theorem dX2_circle_120 : decode cX2_circle 120 = .ok (.getfield 40, 3) := by decide +kernel
theorem dX2_circle_123 : decode cX2_circle 123 = .ok (.aload_n 0, 1) := by decide +kernel
theorem dX2_circle_124 : decode cX2_circle 124 = .ok (.getfield 197, 3) := by decide +kernel
theorem dX2_circle_127 : decode cX2_circle 127 = .ok (.iload 6, 2) := by decide +kernel
theorem dX2_circle_129 : decode cX2_circle 129 = .ok (.iastore, 1) := by decide +kernel
theorem dX2_circle_130 : decode cX2_circle 130 = .ok (.aload_n 0, 1) := by decide +kernel
theorem dX2_circle_131 : decode cX2_circle 131 = .ok (.getfield 43, 3) := by decide +kernel
theorem dX2_circle_134 : decode cX2_circle 134 = .ok (.aload_n 0, 1) := by decide +kernel
theorem dX2_circle_135 : decode cX2_circle 135 = .ok (.getfield 197, 3) := by decide +kernel
theorem dX2_circle_138 : decode cX2_circle 138 = .ok (.iload 7, 2) := by decide +kernel
theorem dX2_circle_140 : decode cX2_circle 140 = .ok (.bastore, 1) := by decide +kernel
theorem dX2_circle_141 : decode cX2_circle 141 = .ok (.aload_n 0, 1) := by decide +kernel
theorem dX2_circle_142 : decode cX2_circle 142 = .ok (.getfield 47, 3) := by decide +kernel
theorem dX2_circle_145 : decode cX2_circle 145 = .ok (.aload_n 0, 1) := by decide +kernel
theorem dX2_circle_146 : decode cX2_circle 146 = .ok (.getfield 197, 3) := by decide +kernel
theorem dX2_circle_149 : decode cX2_circle 149 = .ok (.aload_n 0, 1) := by decide +kernel
theorem dX2_circle_150 : decode cX2_circle 150 = .ok (.getfield 200, 3) := by decide +kernel
theorem dX2_circle_153 : decode cX2_circle 153 = .ok (.iastore, 1) := by decide +kernel
theorem dX2_circle_154 : decode cX2_circle 154 = .ok (.aload_n 0, 1) := by decide +kernel
theorem dX2_circle_155 : decode cX2_circle 155 = .ok (.dup, 1) := by decide +kernel
theorem dX2_circle_156 : decode cX2_circle 156 = .ok (.getfield 197, 3) := by decide +kernel
theorem dX2_circle_159 : decode cX2_circle 159 = .ok (.iconst 1, 1) := by decide +kernel
theorem dX2_circle_160 : decode cX2_circle 160 = .ok (.iadd, 1) := by decide +kernel
theorem dX2_circle_161 : decode cX2_circle 161 = .ok (.putfield 197, 3) := by decide +kernel
theorem dX2_circle_164 : decode cX2_circle 164 = .ok (.aload_n 0, 1) := by decide +kernel
theorem dX2_circle_165 : decode cX2_circle 165 = .ok (.getfield 197, 3) := by decide +kernel
theorem dX2_circle_168 : decode cX2_circle 168 = .ok (.iconst 1, 1) := by decide +kernel
theorem dX2_circle_169 : decode cX2_circle 169 = .ok (.isub, 1) := by decide +kernel
theorem dX2_circle_170 : decode cX2_circle 170 = .ok (.ireturn, 1) := by decide +kernel
def fn_X2_circle_65 (N : Nat)   (Ω : zo_O) : Option zo_R :=
  rI ((-1)) Ω
theorem ct_X2_circle_65 {Y : zo_Y} (hY : zo_Gd Y cX2_circle 8 RX2 2) (hJ : zo_JC (zo_J Y)) (hCon : ∀ Ω, zo_J Y Ω → zo_Con Ω) (hr : zo_rt Y (Option.some Jvm.ClassFile.FieldType.int)) (N : Nat)    (Ω : zo_O) (res : zo_R) (h : fn_X2_circle_65 N   Ω = some res) : TW Y res Ω 65 [] [] := by
  unfold fn_X2_circle_65 at h
  refine zo_iconst hY (-1) (by decide) dX2_circle_65 ?_
  exact zo_iret hY hr dX2_circle_66 h
def fn_X2_circle (N : Nat) (x1 : Int32) (x2 : Int32) (x3 : Int32) (x4 : Int32) (x5 : Int32) (x6 : Int32) (x7 : Int32) (Ω : zo_O) : Option zo_R :=
  lt (sI Ω 1 0 0 0) fun Ω1 =>
  ci (fn_X2_isSite N x1 Ω1) fun r3 Ω2 =>
  if r3 = 0 then (
    fn_X2_circle_65 N Ω2
    ) else
  ci (fn_X2_isKind N x2 Ω2) fun r6 Ω5 =>
  if r6 = 0 then (
    fn_X2_circle_65 N Ω5
    ) else
  ci (fn_X2_within N x3 0 4 Ω5) fun r9 Ω8 =>
  if r9 = 0 then (
    fn_X2_circle_65 N Ω8
    ) else
  ci (fn_X2_isSize N x4 Ω8) fun r12 Ω11 =>
  if r12 = 0 then (
    fn_X2_circle_65 N Ω11
    ) else
  ci (fn_X2_within N x5 1 x4 Ω11) fun r15 Ω14 =>
  if r15 = 0 then (
    fn_X2_circle_65 N Ω14
    ) else
  ci (fn_X2_isYear N x6 Ω14) fun r18 Ω17 =>
  if r18 = 0 then (
    fn_X2_circle_65 N Ω17
    ) else
  if gI Ω17 1 0 8 = 120 then (
    fn_X2_circle_65 N Ω17
    ) else
  ix (gI Ω17 1 0 8) 120 fun j21 => lt (sI Ω17 32 5 j21 x1) fun Ω22 =>
  ix (gI Ω22 1 0 8) 120 fun j23 => lt (sI Ω22 32 6 j23 x2) fun Ω24 =>
  ix (gI Ω24 1 0 8) 120 fun j25 => lt (sI Ω24 32 7 j25 x3) fun Ω26 =>
  ix (gI Ω26 1 0 8) 120 fun j27 => lt (sI Ω26 32 8 j27 x4) fun Ω28 =>
  ix (gI Ω28 1 0 8) 120 fun j29 => lt (sI Ω28 32 9 j29 x5) fun Ω30 =>
  ix (gI Ω30 1 0 8) 120 fun j31 => lt (sI Ω30 32 10 j31 x6) fun Ω32 =>
  ix (gI Ω32 1 0 8) 120 fun j33 => lt (sI Ω32 33 0 j33 (vp_nar .boolean x7)) fun Ω34 =>
  ix (gI Ω34 1 0 8) 120 fun j35 => lt (sI Ω34 32 11 j35 (gI Ω34 1 0 1)) fun Ω36 =>
  lt (sI Ω36 1 0 8 ((gI Ω36 1 0 8) + 1)) fun Ω37 =>
  rI ((gI Ω37 1 0 8) - 1) Ω37
theorem mt_X2_circle {G : zo_G} {J : zo_O → Prop} (hJ : zo_JC J) (hCon : ∀ Ω, J Ω → zo_Con Ω) (N : Nat) (x1 : Int32) (x2 : Int32) (x3 : Int32) (x4 : Int32) (x5 : Int32) (x6 : Int32) (x7 : Int32) (Ω : zo_O) (res : zo_R) (h : fn_X2_circle N x1 x2 x3 x4 x5 x6 x7 Ω = some res) : zo_MT G J yX2_circle cX2_circle 8 (Option.some Jvm.ClassFile.FieldType.int) 2 [vr 1 0, vi x1, vi x2, vi x3, vi x4, vi x5, vi x6, vi x7] Ω res := by
  refine zo_enter (by decide) rfl (Nat.le_of_ble_eq_true rfl) (fun Y hY eJ hr hmn => ?_)
  subst eJ
  show TW Y res Ω 0 [(0, vr 1 0), (1, vi x1), (2, vi x2), (3, vi x3), (4, vi x4), (5, vi x5), (6, vi x6), (7, vi x7)] []
  unfold fn_X2_circle at h
  refine zo_aload_n hY dX2_circle_0 rfl 0 rfl ?_
  refine zo_iconst hY 0 (by decide) dX2_circle_1 ?_
  refine zo_putI hY hJ LX2_187_1 rfl (Or.inl rfl) dX2_circle_2 h (fun Ω1 h => ?_)
  refine zo_aload_n hY dX2_circle_5 rfl 0 rfl ?_
  refine zo_iload_n hY dX2_circle_6 rfl 1 rfl ?_
  refine zo_callV hY (fun q hq => mt_X2_isSite hJ hCon N x1 Ω1 q hq) (by decide) (by decide) (by decide) ⟨rfl, cn_X2_isSite⟩ rfl q1531 q1533 qs39 q82 q1534 (Nat.le_of_ble_eq_true rfl) dX2_circle_7 rfl h (ci_k (fun r3 Ω2 res h => ?_))
  refine zo_if_eq hY 65 dX2_circle_10 (by decide) h (fun c4 h => ?_) (fun c4 h => ?_)
  · refine zo_sub [] rfl ?_
    exact ct_X2_circle_65 hY hJ hCon hr N Ω2 _ h
  · refine zo_iload_n hY dX2_circle_13 rfl 2 rfl ?_
    refine zo_callS hY (fun q hq => mt_X2_isKind hJ hCon N x2 Ω2 q hq) (by decide) (by decide) cn_X2_isKind rfl q1535 q1536 q82 q1537 (Nat.le_of_ble_eq_true rfl) dX2_circle_14 rfl h (ci_k (fun r6 Ω5 res h => ?_))
    refine zo_if_eq hY 65 dX2_circle_17 (by decide) h (fun c7 h => ?_) (fun c7 h => ?_)
    · refine zo_sub [] rfl ?_
      exact ct_X2_circle_65 hY hJ hCon hr N Ω5 _ h
    · refine zo_iload_n hY dX2_circle_20 rfl 3 rfl ?_
      refine zo_iconst hY 0 (by decide) dX2_circle_21 ?_
      refine zo_iconst hY 4 (by decide) dX2_circle_22 ?_
      refine zo_callS hY (fun q hq => mt_X2_within hJ hCon N x3 0 4 Ω5 q hq) (by decide) (by decide) cn_X2_within rfl q1521 q1522 q82 q1523 (Nat.le_of_ble_eq_true rfl) dX2_circle_23 rfl h (ci_k (fun r9 Ω8 res h => ?_))
      refine zo_if_eq hY 65 dX2_circle_26 (by decide) h (fun c10 h => ?_) (fun c10 h => ?_)
      · refine zo_sub [] rfl ?_
        exact ct_X2_circle_65 hY hJ hCon hr N Ω8 _ h
      · refine zo_iload hY dX2_circle_29 4 rfl ?_
        refine zo_callS hY (fun q hq => mt_X2_isSize hJ hCon N x4 Ω8 q hq) (by decide) (by decide) cn_X2_isSize rfl q1538 q1539 q82 q1540 (Nat.le_of_ble_eq_true rfl) dX2_circle_31 rfl h (ci_k (fun r12 Ω11 res h => ?_))
        refine zo_if_eq hY 65 dX2_circle_34 (by decide) h (fun c13 h => ?_) (fun c13 h => ?_)
        · refine zo_sub [] rfl ?_
          exact ct_X2_circle_65 hY hJ hCon hr N Ω11 _ h
        · refine zo_iload hY dX2_circle_37 5 rfl ?_
          refine zo_iconst hY 1 (by decide) dX2_circle_39 ?_
          refine zo_iload hY dX2_circle_40 4 rfl ?_
          refine zo_callS hY (fun q hq => mt_X2_within hJ hCon N x5 1 x4 Ω11 q hq) (by decide) (by decide) cn_X2_within rfl q1521 q1522 q82 q1523 (Nat.le_of_ble_eq_true rfl) dX2_circle_42 rfl h (ci_k (fun r15 Ω14 res h => ?_))
          refine zo_if_eq hY 65 dX2_circle_45 (by decide) h (fun c16 h => ?_) (fun c16 h => ?_)
          · refine zo_sub [] rfl ?_
            exact ct_X2_circle_65 hY hJ hCon hr N Ω14 _ h
          · refine zo_iload hY dX2_circle_48 6 rfl ?_
            refine zo_callS hY (fun q hq => mt_X2_isYear hJ hCon N x6 Ω14 q hq) (by decide) (by decide) cn_X2_isYear rfl q1524 q1525 q82 q1526 (Nat.le_of_ble_eq_true rfl) dX2_circle_50 rfl h (ci_k (fun r18 Ω17 res h => ?_))
            refine zo_if_eq hY 65 dX2_circle_53 (by decide) h (fun c19 h => ?_) (fun c19 h => ?_)
            · refine zo_sub [] rfl ?_
              exact ct_X2_circle_65 hY hJ hCon hr N Ω17 _ h
            · refine zo_aload_n hY dX2_circle_56 rfl 0 rfl ?_
              refine zo_getI hY LX2_197_1 rfl dX2_circle_57 ?_
              refine zo_bipush hY 120 (by decide) dX2_circle_60 ?_
              refine zo_icmp_ne hY 67 dX2_circle_62 (by decide) h (fun c20 h => ?_) (fun c20 h => ?_)
              · refine zo_sub [] rfl ?_
                exact ct_X2_circle_65 hY hJ hCon hr N Ω17 _ h
              · refine zo_aload_n hY dX2_circle_67 rfl 0 rfl ?_
                refine zo_getC hY LX2_25_1 rfl (fun Ω q => (hCon Ω q).2.1 9 _ rfl) dX2_circle_68 ?_
                refine zo_aload_n hY dX2_circle_71 rfl 0 rfl ?_
                refine zo_getI hY LX2_197_1 rfl dX2_circle_72 ?_
                refine zo_iload_n hY dX2_circle_75 rfl 1 rfl ?_
                refine zo_ast hY hJ (by decide) (Or.inl ⟨rfl, rfl, dX2_circle_76⟩) (fun q => (hCon _ q).2.2.2 32 5 120 rfl) h (fun j21 Ω22 h => ?_)
                refine zo_aload_n hY dX2_circle_77 rfl 0 rfl ?_
                refine zo_getC hY LX2_28_1 rfl (fun Ω q => (hCon Ω q).2.1 10 _ rfl) dX2_circle_78 ?_
                refine zo_aload_n hY dX2_circle_81 rfl 0 rfl ?_
                refine zo_getI hY LX2_197_1 rfl dX2_circle_82 ?_
                refine zo_iload_n hY dX2_circle_85 rfl 2 rfl ?_
                refine zo_ast hY hJ (by decide) (Or.inl ⟨rfl, rfl, dX2_circle_86⟩) (fun q => (hCon _ q).2.2.2 32 6 120 rfl) h (fun j23 Ω24 h => ?_)
                refine zo_aload_n hY dX2_circle_87 rfl 0 rfl ?_
                refine zo_getC hY LX2_31_1 rfl (fun Ω q => (hCon Ω q).2.1 11 _ rfl) dX2_circle_88 ?_
                refine zo_aload_n hY dX2_circle_91 rfl 0 rfl ?_
                refine zo_getI hY LX2_197_1 rfl dX2_circle_92 ?_
                refine zo_iload_n hY dX2_circle_95 rfl 3 rfl ?_
                refine zo_ast hY hJ (by decide) (Or.inl ⟨rfl, rfl, dX2_circle_96⟩) (fun q => (hCon _ q).2.2.2 32 7 120 rfl) h (fun j25 Ω26 h => ?_)
                refine zo_aload_n hY dX2_circle_97 rfl 0 rfl ?_
                refine zo_getC hY LX2_34_1 rfl (fun Ω q => (hCon Ω q).2.1 12 _ rfl) dX2_circle_98 ?_
                refine zo_aload_n hY dX2_circle_101 rfl 0 rfl ?_
                refine zo_getI hY LX2_197_1 rfl dX2_circle_102 ?_
                refine zo_iload hY dX2_circle_105 4 rfl ?_
                refine zo_ast hY hJ (by decide) (Or.inl ⟨rfl, rfl, dX2_circle_107⟩) (fun q => (hCon _ q).2.2.2 32 8 120 rfl) h (fun j27 Ω28 h => ?_)
                refine zo_aload_n hY dX2_circle_108 rfl 0 rfl ?_
                refine zo_getC hY LX2_37_1 rfl (fun Ω q => (hCon Ω q).2.1 13 _ rfl) dX2_circle_109 ?_
                refine zo_aload_n hY dX2_circle_112 rfl 0 rfl ?_
                refine zo_getI hY LX2_197_1 rfl dX2_circle_113 ?_
                refine zo_iload hY dX2_circle_116 5 rfl ?_
                refine zo_ast hY hJ (by decide) (Or.inl ⟨rfl, rfl, dX2_circle_118⟩) (fun q => (hCon _ q).2.2.2 32 9 120 rfl) h (fun j29 Ω30 h => ?_)
                refine zo_aload_n hY dX2_circle_119 rfl 0 rfl ?_
                refine zo_getC hY LX2_40_1 rfl (fun Ω q => (hCon Ω q).2.1 14 _ rfl) dX2_circle_120 ?_
                refine zo_aload_n hY dX2_circle_123 rfl 0 rfl ?_
                refine zo_getI hY LX2_197_1 rfl dX2_circle_124 ?_
                refine zo_iload hY dX2_circle_127 6 rfl ?_
                refine zo_ast hY hJ (by decide) (Or.inl ⟨rfl, rfl, dX2_circle_129⟩) (fun q => (hCon _ q).2.2.2 32 10 120 rfl) h (fun j31 Ω32 h => ?_)
                refine zo_aload_n hY dX2_circle_130 rfl 0 rfl ?_
                refine zo_getC hY LX2_43_1 rfl (fun Ω q => (hCon Ω q).2.1 15 _ rfl) dX2_circle_131 ?_
                refine zo_aload_n hY dX2_circle_134 rfl 0 rfl ?_
                refine zo_getI hY LX2_197_1 rfl dX2_circle_135 ?_
                refine zo_iload hY dX2_circle_138 7 rfl ?_
                refine zo_ast hY hJ (by decide) (Or.inr (Or.inr ⟨rfl, rfl, dX2_circle_140⟩)) (fun q => (hCon _ q).2.2.2 33 0 120 rfl) h (fun j33 Ω34 h => ?_)
                refine zo_aload_n hY dX2_circle_141 rfl 0 rfl ?_
                refine zo_getC hY LX2_47_1 rfl (fun Ω q => (hCon Ω q).2.1 16 _ rfl) dX2_circle_142 ?_
                refine zo_aload_n hY dX2_circle_145 rfl 0 rfl ?_
                refine zo_getI hY LX2_197_1 rfl dX2_circle_146 ?_
                refine zo_aload_n hY dX2_circle_149 rfl 0 rfl ?_
                refine zo_getI hY LX2_200_1 rfl dX2_circle_150 ?_
                refine zo_ast hY hJ (by decide) (Or.inl ⟨rfl, rfl, dX2_circle_153⟩) (fun q => (hCon _ q).2.2.2 32 11 120 rfl) h (fun j35 Ω36 h => ?_)
                refine zo_aload_n hY dX2_circle_154 rfl 0 rfl ?_
                refine zo_dup hY dX2_circle_155 (Or.inr ⟨_, rfl⟩) ?_
                refine zo_getI hY LX2_197_1 rfl dX2_circle_156 ?_
                refine zo_iconst hY 1 (by decide) dX2_circle_159 ?_
                refine zo_iadd hY dX2_circle_160 ?_
                refine zo_putI hY hJ LX2_197_1 rfl (Or.inl rfl) dX2_circle_161 h (fun Ω37 h => ?_)
                refine zo_aload_n hY dX2_circle_164 rfl 0 rfl ?_
                refine zo_getI hY LX2_197_1 rfl dX2_circle_165 ?_
                refine zo_iconst hY 1 (by decide) dX2_circle_168 ?_
                refine zo_isub hY dX2_circle_169 ?_
                exact zo_iret hY hr dX2_circle_170 h
theorem dX2_looked_0 : decode cX2_looked 0 = .ok (.aload_n 0, 1) := by decide +kernel
theorem dX2_looked_1 : decode cX2_looked 1 = .ok (.iconst 0, 1) := by decide +kernel
theorem dX2_looked_2 : decode cX2_looked 2 = .ok (.putfield 187, 3) := by decide +kernel
theorem dX2_looked_5 : decode cX2_looked 5 = .ok (.aload_n 0, 1) := by decide +kernel
theorem dX2_looked_6 : decode cX2_looked 6 = .ok (.iload_n 1, 1) := by decide +kernel
theorem dX2_looked_7 : decode cX2_looked 7 = .ok (.invokevirtual 207, 3) := by decide +kernel
theorem dX2_looked_10 : decode cX2_looked 10 = .ok (.ifCond .eq 30, 3) := by decide +kernel
theorem dX2_looked_13 : decode cX2_looked 13 = .ok (.iload_n 2, 1) := by decide +kernel
theorem dX2_looked_14 : decode cX2_looked 14 = .ok (.invokestatic 210, 3) := by decide +kernel
theorem dX2_looked_17 : decode cX2_looked 17 = .ok (.ifCond .eq 23, 3) := by decide +kernel
theorem dX2_looked_20 : decode cX2_looked 20 = .ok (.iload_n 3, 1) := by decide +kernel
theorem dX2_looked_21 : decode cX2_looked 21 = .ok (.iconst 0, 1) := by decide +kernel
theorem dX2_looked_22 : decode cX2_looked 22 = .ok (.sipush 999, 3) := by decide +kernel
theorem dX2_looked_25 : decode cX2_looked 25 = .ok (.invokestatic 190, 3) := by decide +kernel
theorem dX2_looked_28 : decode cX2_looked 28 = .ok (.ifCond .eq 12, 3) := by decide +kernel
theorem dX2_looked_31 : decode cX2_looked 31 = .ok (.aload_n 0, 1) := by decide +kernel
theorem dX2_looked_32 : decode cX2_looked 32 = .ok (.getfield 216, 3) := by decide +kernel
theorem dX2_looked_35 : decode cX2_looked 35 = .ok (.bipush 100, 2) := by decide +kernel
theorem dX2_looked_37 : decode cX2_looked 37 = .ok (.if_icmp .ne 5, 3) := by decide +kernel
theorem dX2_looked_40 : decode cX2_looked 40 = .ok (.iconst 0, 1) := by decide +kernel
theorem dX2_looked_41 : decode cX2_looked 41 = .ok (.ireturn, 1) := by decide +kernel
theorem dX2_looked_42 : decode cX2_looked 42 = .ok (.aload_n 0, 1) := by decide +kernel
theorem dX2_looked_43 : decode cX2_looked 43 = .ok (.getfield 50, 3) := by decide +kernel
theorem dX2_looked_46 : decode cX2_looked 46 = .ok (.aload_n 0, 1) := by decide +kernel
theorem dX2_looked_47 : decode cX2_looked 47 = .ok (.getfield 216, 3) := by decide +kernel
theorem dX2_looked_50 : decode cX2_looked 50 = .ok (.iload_n 1, 1) := by decide +kernel
theorem dX2_looked_51 : decode cX2_looked 51 = .ok (.iastore, 1) := by decide +kernel
theorem dX2_looked_52 : decode cX2_looked 52 = .ok (.aload_n 0, 1) := by decide +kernel
theorem dX2_looked_53 : decode cX2_looked 53 = .ok (.getfield 53, 3) := by decide +kernel
theorem dX2_looked_56 : decode cX2_looked 56 = .ok (.aload_n 0, 1) := by decide +kernel
theorem dX2_looked_57 : decode cX2_looked 57 = .ok (.getfield 216, 3) := by decide +kernel
theorem dX2_looked_60 : decode cX2_looked 60 = .ok (.iload_n 2, 1) := by decide +kernel
theorem dX2_looked_61 : decode cX2_looked 61 = .ok (.iastore, 1) := by decide +kernel
theorem dX2_looked_62 : decode cX2_looked 62 = .ok (.aload_n 0, 1) := by decide +kernel
theorem dX2_looked_63 : decode cX2_looked 63 = .ok (.getfield 56, 3) := by decide +kernel
theorem dX2_looked_66 : decode cX2_looked 66 = .ok (.aload_n 0, 1) := by decide +kernel
theorem dX2_looked_67 : decode cX2_looked 67 = .ok (.getfield 216, 3) := by decide +kernel
theorem dX2_looked_70 : decode cX2_looked 70 = .ok (.iload_n 3, 1) := by decide +kernel
theorem dX2_looked_71 : decode cX2_looked 71 = .ok (.iastore, 1) := by decide +kernel
theorem dX2_looked_72 : decode cX2_looked 72 = .ok (.aload_n 0, 1) := by decide +kernel
theorem dX2_looked_73 : decode cX2_looked 73 = .ok (.getfield 59, 3) := by decide +kernel
theorem dX2_looked_76 : decode cX2_looked 76 = .ok (.aload_n 0, 1) := by decide +kernel
theorem dX2_looked_77 : decode cX2_looked 77 = .ok (.getfield 216, 3) := by decide +kernel
theorem dX2_looked_80 : decode cX2_looked 80 = .ok (.aload_n 0, 1) := by decide +kernel
theorem dX2_looked_81 : decode cX2_looked 81 = .ok (.getfield 200, 3) := by decide +kernel
theorem dX2_looked_84 : decode cX2_looked 84 = .ok (.iastore, 1) := by decide +kernel
theorem dX2_looked_85 : decode cX2_looked 85 = .ok (.aload_n 0, 1) := by decide +kernel
theorem dX2_looked_86 : decode cX2_looked 86 = .ok (.dup, 1) := by decide +kernel
theorem dX2_looked_87 : decode cX2_looked 87 = .ok (.getfield 216, 3) := by decide +kernel
theorem dX2_looked_90 : decode cX2_looked 90 = .ok (.iconst 1, 1) := by decide +kernel
theorem dX2_looked_91 : decode cX2_looked 91 = .ok (.iadd, 1) := by decide +kernel
theorem dX2_looked_92 : decode cX2_looked 92 = .ok (.putfield 216, 3) := by decide +kernel
theorem dX2_looked_95 : decode cX2_looked 95 = .ok (.iconst 1, 1) := by decide +kernel
theorem dX2_looked_96 : decode cX2_looked 96 = .ok (.ireturn, 1) := by decide +kernel
def fn_X2_looked_40 (N : Nat)   (Ω : zo_O) : Option zo_R :=
  rZ 0 Ω
theorem ct_X2_looked_40 {Y : zo_Y} (hY : zo_Gd Y cX2_looked 4 RX2 2) (hJ : zo_JC (zo_J Y)) (hCon : ∀ Ω, zo_J Y Ω → zo_Con Ω) (hr : zo_rt Y (Option.some Jvm.ClassFile.FieldType.boolean)) (N : Nat)    (Ω : zo_O) (res : zo_R) (h : fn_X2_looked_40 N   Ω = some res) : TW Y res Ω 40 [] [] := by
  unfold fn_X2_looked_40 at h
  refine zo_iconst hY 0 (by decide) dX2_looked_40 ?_
  exact zo_zret hY hr dX2_looked_41 h
def fn_X2_looked (N : Nat) (x1 : Int32) (x2 : Int32) (x3 : Int32) (Ω : zo_O) : Option zo_R :=
  lt (sI Ω 1 0 0 0) fun Ω1 =>
  ci (fn_X2_isSite N x1 Ω1) fun r3 Ω2 =>
  if r3 = 0 then (
    fn_X2_looked_40 N Ω2
    ) else
  ci (fn_X2_isKind N x2 Ω2) fun r6 Ω5 =>
  if r6 = 0 then (
    fn_X2_looked_40 N Ω5
    ) else
  ci (fn_X2_within N x3 0 999 Ω5) fun r9 Ω8 =>
  if r9 = 0 then (
    fn_X2_looked_40 N Ω8
    ) else
  if gI Ω8 1 0 17 = 100 then (
    fn_X2_looked_40 N Ω8
    ) else
  ix (gI Ω8 1 0 17) 100 fun j12 => lt (sI Ω8 32 12 j12 x1) fun Ω13 =>
  ix (gI Ω13 1 0 17) 100 fun j14 => lt (sI Ω13 32 13 j14 x2) fun Ω15 =>
  ix (gI Ω15 1 0 17) 100 fun j16 => lt (sI Ω15 32 14 j16 x3) fun Ω17 =>
  ix (gI Ω17 1 0 17) 100 fun j18 => lt (sI Ω17 32 15 j18 (gI Ω17 1 0 1)) fun Ω19 =>
  lt (sI Ω19 1 0 17 ((gI Ω19 1 0 17) + 1)) fun Ω20 =>
  rZ 1 Ω20
theorem mt_X2_looked {G : zo_G} {J : zo_O → Prop} (hJ : zo_JC J) (hCon : ∀ Ω, J Ω → zo_Con Ω) (N : Nat) (x1 : Int32) (x2 : Int32) (x3 : Int32) (Ω : zo_O) (res : zo_R) (h : fn_X2_looked N x1 x2 x3 Ω = some res) : zo_MT G J yX2_looked cX2_looked 4 (Option.some Jvm.ClassFile.FieldType.boolean) 2 [vr 1 0, vi x1, vi x2, vi x3] Ω res := by
  refine zo_enter (by decide) rfl (Nat.le_of_ble_eq_true rfl) (fun Y hY eJ hr hmn => ?_)
  subst eJ
  show TW Y res Ω 0 [(0, vr 1 0), (1, vi x1), (2, vi x2), (3, vi x3)] []
  unfold fn_X2_looked at h
  refine zo_aload_n hY dX2_looked_0 rfl 0 rfl ?_
  refine zo_iconst hY 0 (by decide) dX2_looked_1 ?_
  refine zo_putI hY hJ LX2_187_1 rfl (Or.inl rfl) dX2_looked_2 h (fun Ω1 h => ?_)
  refine zo_aload_n hY dX2_looked_5 rfl 0 rfl ?_
  refine zo_iload_n hY dX2_looked_6 rfl 1 rfl ?_
  refine zo_callV hY (fun q hq => mt_X2_isSite hJ hCon N x1 Ω1 q hq) (by decide) (by decide) (by decide) ⟨rfl, cn_X2_isSite⟩ rfl q1531 q1533 qs39 q82 q1534 (Nat.le_of_ble_eq_true rfl) dX2_looked_7 rfl h (ci_k (fun r3 Ω2 res h => ?_))
  refine zo_if_eq hY 40 dX2_looked_10 (by decide) h (fun c4 h => ?_) (fun c4 h => ?_)
  · refine zo_sub [] rfl ?_
    exact ct_X2_looked_40 hY hJ hCon hr N Ω2 _ h
  · refine zo_iload_n hY dX2_looked_13 rfl 2 rfl ?_
    refine zo_callS hY (fun q hq => mt_X2_isKind hJ hCon N x2 Ω2 q hq) (by decide) (by decide) cn_X2_isKind rfl q1535 q1536 q82 q1537 (Nat.le_of_ble_eq_true rfl) dX2_looked_14 rfl h (ci_k (fun r6 Ω5 res h => ?_))
    refine zo_if_eq hY 40 dX2_looked_17 (by decide) h (fun c7 h => ?_) (fun c7 h => ?_)
    · refine zo_sub [] rfl ?_
      exact ct_X2_looked_40 hY hJ hCon hr N Ω5 _ h
    · refine zo_iload_n hY dX2_looked_20 rfl 3 rfl ?_
      refine zo_iconst hY 0 (by decide) dX2_looked_21 ?_
      refine zo_sipush hY 999 (by decide) dX2_looked_22 ?_
      refine zo_callS hY (fun q hq => mt_X2_within hJ hCon N x3 0 999 Ω5 q hq) (by decide) (by decide) cn_X2_within rfl q1521 q1522 q82 q1523 (Nat.le_of_ble_eq_true rfl) dX2_looked_25 rfl h (ci_k (fun r9 Ω8 res h => ?_))
      refine zo_if_eq hY 40 dX2_looked_28 (by decide) h (fun c10 h => ?_) (fun c10 h => ?_)
      · refine zo_sub [] rfl ?_
        exact ct_X2_looked_40 hY hJ hCon hr N Ω8 _ h
      · refine zo_aload_n hY dX2_looked_31 rfl 0 rfl ?_
        refine zo_getI hY LX2_216_1 rfl dX2_looked_32 ?_
        refine zo_bipush hY 100 (by decide) dX2_looked_35 ?_
        refine zo_icmp_ne hY 42 dX2_looked_37 (by decide) h (fun c11 h => ?_) (fun c11 h => ?_)
        · refine zo_sub [] rfl ?_
          exact ct_X2_looked_40 hY hJ hCon hr N Ω8 _ h
        · refine zo_aload_n hY dX2_looked_42 rfl 0 rfl ?_
          refine zo_getC hY LX2_50_1 rfl (fun Ω q => (hCon Ω q).2.1 18 _ rfl) dX2_looked_43 ?_
          refine zo_aload_n hY dX2_looked_46 rfl 0 rfl ?_
          refine zo_getI hY LX2_216_1 rfl dX2_looked_47 ?_
          refine zo_iload_n hY dX2_looked_50 rfl 1 rfl ?_
          refine zo_ast hY hJ (by decide) (Or.inl ⟨rfl, rfl, dX2_looked_51⟩) (fun q => (hCon _ q).2.2.2 32 12 100 rfl) h (fun j12 Ω13 h => ?_)
          refine zo_aload_n hY dX2_looked_52 rfl 0 rfl ?_
          refine zo_getC hY LX2_53_1 rfl (fun Ω q => (hCon Ω q).2.1 19 _ rfl) dX2_looked_53 ?_
          refine zo_aload_n hY dX2_looked_56 rfl 0 rfl ?_
          refine zo_getI hY LX2_216_1 rfl dX2_looked_57 ?_
          refine zo_iload_n hY dX2_looked_60 rfl 2 rfl ?_
          refine zo_ast hY hJ (by decide) (Or.inl ⟨rfl, rfl, dX2_looked_61⟩) (fun q => (hCon _ q).2.2.2 32 13 100 rfl) h (fun j14 Ω15 h => ?_)
          refine zo_aload_n hY dX2_looked_62 rfl 0 rfl ?_
          refine zo_getC hY LX2_56_1 rfl (fun Ω q => (hCon Ω q).2.1 20 _ rfl) dX2_looked_63 ?_
          refine zo_aload_n hY dX2_looked_66 rfl 0 rfl ?_
          refine zo_getI hY LX2_216_1 rfl dX2_looked_67 ?_
          refine zo_iload_n hY dX2_looked_70 rfl 3 rfl ?_
          refine zo_ast hY hJ (by decide) (Or.inl ⟨rfl, rfl, dX2_looked_71⟩) (fun q => (hCon _ q).2.2.2 32 14 100 rfl) h (fun j16 Ω17 h => ?_)
          refine zo_aload_n hY dX2_looked_72 rfl 0 rfl ?_
          refine zo_getC hY LX2_59_1 rfl (fun Ω q => (hCon Ω q).2.1 21 _ rfl) dX2_looked_73 ?_
          refine zo_aload_n hY dX2_looked_76 rfl 0 rfl ?_
          refine zo_getI hY LX2_216_1 rfl dX2_looked_77 ?_
          refine zo_aload_n hY dX2_looked_80 rfl 0 rfl ?_
          refine zo_getI hY LX2_200_1 rfl dX2_looked_81 ?_
          refine zo_ast hY hJ (by decide) (Or.inl ⟨rfl, rfl, dX2_looked_84⟩) (fun q => (hCon _ q).2.2.2 32 15 100 rfl) h (fun j18 Ω19 h => ?_)
          refine zo_aload_n hY dX2_looked_85 rfl 0 rfl ?_
          refine zo_dup hY dX2_looked_86 (Or.inr ⟨_, rfl⟩) ?_
          refine zo_getI hY LX2_216_1 rfl dX2_looked_87 ?_
          refine zo_iconst hY 1 (by decide) dX2_looked_90 ?_
          refine zo_iadd hY dX2_looked_91 ?_
          refine zo_putI hY hJ LX2_216_1 rfl (Or.inl rfl) dX2_looked_92 h (fun Ω20 h => ?_)
          refine zo_iconst hY 1 (by decide) dX2_looked_95 ?_
          exact zo_zret hY hr dX2_looked_96 h
theorem dX2_twice_0 : decode cX2_twice 0 = .ok (.aload_n 0, 1) := by decide +kernel
theorem dX2_twice_1 : decode cX2_twice 1 = .ok (.iconst 0, 1) := by decide +kernel
theorem dX2_twice_2 : decode cX2_twice 2 = .ok (.putfield 187, 3) := by decide +kernel
theorem dX2_twice_5 : decode cX2_twice 5 = .ok (.iload_n 1, 1) := by decide +kernel
theorem dX2_twice_6 : decode cX2_twice 6 = .ok (.iconst 0, 1) := by decide +kernel
theorem dX2_twice_7 : decode cX2_twice 7 = .ok (.iconst 4, 1) := by decide +kernel
theorem dX2_twice_8 : decode cX2_twice 8 = .ok (.invokestatic 190, 3) := by decide +kernel
theorem dX2_twice_11 : decode cX2_twice 11 = .ok (.ifCond .eq 41, 3) := by decide +kernel
theorem dX2_twice_14 : decode cX2_twice 14 = .ok (.iload_n 3, 1) := by decide +kernel
theorem dX2_twice_15 : decode cX2_twice 15 = .ok (.iconst 0, 1) := by decide +kernel
theorem dX2_twice_16 : decode cX2_twice 16 = .ok (.iconst 4, 1) := by decide +kernel
theorem dX2_twice_17 : decode cX2_twice 17 = .ok (.invokestatic 190, 3) := by decide +kernel
theorem dX2_twice_20 : decode cX2_twice 20 = .ok (.ifCond .eq 32, 3) := by decide +kernel
theorem dX2_twice_23 : decode cX2_twice 23 = .ok (.iload_n 1, 1) := by decide +kernel
theorem dX2_twice_24 : decode cX2_twice 24 = .ok (.iload_n 3, 1) := by decide +kernel
theorem dX2_twice_25 : decode cX2_twice 25 = .ok (.if_icmp .eq 27, 3) := by decide +kernel
theorem dX2_twice_28 : decode cX2_twice 28 = .ok (.iload_n 2, 1) := by decide +kernel
theorem dX2_twice_29 : decode cX2_twice 29 = .ok (.invokestatic 213, 3) := by decide +kernel
theorem dX2_twice_32 : decode cX2_twice 32 = .ok (.ifCond .eq 20, 3) := by decide +kernel
theorem dX2_twice_35 : decode cX2_twice 35 = .ok (.iload 4, 2) := by decide +kernel
theorem dX2_twice_37 : decode cX2_twice 37 = .ok (.invokestatic 213, 3) := by decide +kernel
theorem dX2_twice_40 : decode cX2_twice 40 = .ok (.ifCond .eq 12, 3) := by decide +kernel
theorem dX2_twice_43 : decode cX2_twice 43 = .ok (.aload_n 0, 1) := by decide +kernel
theorem dX2_twice_44 : decode cX2_twice 44 = .ok (.getfield 219, 3) := by decide +kernel
theorem dX2_twice_47 : decode cX2_twice 47 = .ok (.bipush 40, 2) := by decide +kernel
theorem dX2_twice_49 : decode cX2_twice 49 = .ok (.if_icmp .ne 5, 3) := by decide +kernel
theorem dX2_twice_52 : decode cX2_twice 52 = .ok (.iconst 0, 1) := by decide +kernel
theorem dX2_twice_53 : decode cX2_twice 53 = .ok (.ireturn, 1) := by decide +kernel
theorem dX2_twice_54 : decode cX2_twice 54 = .ok (.aload_n 0, 1) := by decide +kernel
theorem dX2_twice_55 : decode cX2_twice 55 = .ok (.getfield 62, 3) := by decide +kernel
theorem dX2_twice_58 : decode cX2_twice 58 = .ok (.aload_n 0, 1) := by decide +kernel
theorem dX2_twice_59 : decode cX2_twice 59 = .ok (.getfield 219, 3) := by decide +kernel
theorem dX2_twice_62 : decode cX2_twice 62 = .ok (.iload_n 1, 1) := by decide +kernel
theorem dX2_twice_63 : decode cX2_twice 63 = .ok (.iastore, 1) := by decide +kernel
theorem dX2_twice_64 : decode cX2_twice 64 = .ok (.aload_n 0, 1) := by decide +kernel
theorem dX2_twice_65 : decode cX2_twice 65 = .ok (.getfield 65, 3) := by decide +kernel
theorem dX2_twice_68 : decode cX2_twice 68 = .ok (.aload_n 0, 1) := by decide +kernel
theorem dX2_twice_69 : decode cX2_twice 69 = .ok (.getfield 219, 3) := by decide +kernel
theorem dX2_twice_72 : decode cX2_twice 72 = .ok (.iload_n 3, 1) := by decide +kernel
theorem dX2_twice_73 : decode cX2_twice 73 = .ok (.iastore, 1) := by decide +kernel
theorem dX2_twice_74 : decode cX2_twice 74 = .ok (.aload_n 0, 1) := by decide +kernel
theorem dX2_twice_75 : decode cX2_twice 75 = .ok (.getfield 68, 3) := by decide +kernel
theorem dX2_twice_78 : decode cX2_twice 78 = .ok (.aload_n 0, 1) := by decide +kernel
theorem dX2_twice_79 : decode cX2_twice 79 = .ok (.getfield 219, 3) := by decide +kernel
theorem dX2_twice_82 : decode cX2_twice 82 = .ok (.iload_n 2, 1) := by decide +kernel
theorem dX2_twice_83 : decode cX2_twice 83 = .ok (.iload 4, 2) := by decide +kernel
theorem dX2_twice_85 : decode cX2_twice 85 = .ok (.isub, 1) := by decide +kernel
theorem dX2_twice_86 : decode cX2_twice 86 = .ok (.iastore, 1) := by decide +kernel
theorem dX2_twice_87 : decode cX2_twice 87 = .ok (.aload_n 0, 1) := by decide +kernel
theorem dX2_twice_88 : decode cX2_twice 88 = .ok (.getfield 71, 3) := by decide +kernel
theorem dX2_twice_91 : decode cX2_twice 91 = .ok (.aload_n 0, 1) := by decide +kernel
theorem dX2_twice_92 : decode cX2_twice 92 = .ok (.getfield 219, 3) := by decide +kernel
theorem dX2_twice_95 : decode cX2_twice 95 = .ok (.aload_n 0, 1) := by decide +kernel
theorem dX2_twice_96 : decode cX2_twice 96 = .ok (.getfield 200, 3) := by decide +kernel
theorem dX2_twice_99 : decode cX2_twice 99 = .ok (.iastore, 1) := by decide +kernel
theorem dX2_twice_100 : decode cX2_twice 100 = .ok (.aload_n 0, 1) := by decide +kernel
theorem dX2_twice_101 : decode cX2_twice 101 = .ok (.dup, 1) := by decide +kernel
theorem dX2_twice_102 : decode cX2_twice 102 = .ok (.getfield 219, 3) := by decide +kernel
theorem dX2_twice_105 : decode cX2_twice 105 = .ok (.iconst 1, 1) := by decide +kernel
theorem dX2_twice_106 : decode cX2_twice 106 = .ok (.iadd, 1) := by decide +kernel
theorem dX2_twice_107 : decode cX2_twice 107 = .ok (.putfield 219, 3) := by decide +kernel
theorem dX2_twice_110 : decode cX2_twice 110 = .ok (.iconst 1, 1) := by decide +kernel
theorem dX2_twice_111 : decode cX2_twice 111 = .ok (.ireturn, 1) := by decide +kernel
def fn_X2_twice_52 (N : Nat)   (Ω : zo_O) : Option zo_R :=
  rZ 0 Ω
theorem ct_X2_twice_52 {Y : zo_Y} (hY : zo_Gd Y cX2_twice 5 RX2 2) (hJ : zo_JC (zo_J Y)) (hCon : ∀ Ω, zo_J Y Ω → zo_Con Ω) (hr : zo_rt Y (Option.some Jvm.ClassFile.FieldType.boolean)) (N : Nat)    (Ω : zo_O) (res : zo_R) (h : fn_X2_twice_52 N   Ω = some res) : TW Y res Ω 52 [] [] := by
  unfold fn_X2_twice_52 at h
  refine zo_iconst hY 0 (by decide) dX2_twice_52 ?_
  exact zo_zret hY hr dX2_twice_53 h
def fn_X2_twice (N : Nat) (x1 : Int32) (x2 : Int32) (x3 : Int32) (x4 : Int32) (Ω : zo_O) : Option zo_R :=
  lt (sI Ω 1 0 0 0) fun Ω1 =>
  ci (fn_X2_within N x1 0 4 Ω1) fun r3 Ω2 =>
  if r3 = 0 then (
    fn_X2_twice_52 N Ω2
    ) else
  ci (fn_X2_within N x3 0 4 Ω2) fun r6 Ω5 =>
  if r6 = 0 then (
    fn_X2_twice_52 N Ω5
    ) else
  if x1 = x3 then (
    fn_X2_twice_52 N Ω5
    ) else
  ci (fn_X2_isSize N x2 Ω5) fun r10 Ω9 =>
  if r10 = 0 then (
    fn_X2_twice_52 N Ω9
    ) else
  ci (fn_X2_isSize N x4 Ω9) fun r13 Ω12 =>
  if r13 = 0 then (
    fn_X2_twice_52 N Ω12
    ) else
  if gI Ω12 1 0 22 = 40 then (
    fn_X2_twice_52 N Ω12
    ) else
  ix (gI Ω12 1 0 22) 40 fun j16 => lt (sI Ω12 32 16 j16 x1) fun Ω17 =>
  ix (gI Ω17 1 0 22) 40 fun j18 => lt (sI Ω17 32 17 j18 x3) fun Ω19 =>
  ix (gI Ω19 1 0 22) 40 fun j20 => lt (sI Ω19 32 18 j20 (x2 - x4)) fun Ω21 =>
  ix (gI Ω21 1 0 22) 40 fun j22 => lt (sI Ω21 32 19 j22 (gI Ω21 1 0 1)) fun Ω23 =>
  lt (sI Ω23 1 0 22 ((gI Ω23 1 0 22) + 1)) fun Ω24 =>
  rZ 1 Ω24
theorem mt_X2_twice {G : zo_G} {J : zo_O → Prop} (hJ : zo_JC J) (hCon : ∀ Ω, J Ω → zo_Con Ω) (N : Nat) (x1 : Int32) (x2 : Int32) (x3 : Int32) (x4 : Int32) (Ω : zo_O) (res : zo_R) (h : fn_X2_twice N x1 x2 x3 x4 Ω = some res) : zo_MT G J yX2_twice cX2_twice 5 (Option.some Jvm.ClassFile.FieldType.boolean) 2 [vr 1 0, vi x1, vi x2, vi x3, vi x4] Ω res := by
  refine zo_enter (by decide) rfl (Nat.le_of_ble_eq_true rfl) (fun Y hY eJ hr hmn => ?_)
  subst eJ
  show TW Y res Ω 0 [(0, vr 1 0), (1, vi x1), (2, vi x2), (3, vi x3), (4, vi x4)] []
  unfold fn_X2_twice at h
  refine zo_aload_n hY dX2_twice_0 rfl 0 rfl ?_
  refine zo_iconst hY 0 (by decide) dX2_twice_1 ?_
  refine zo_putI hY hJ LX2_187_1 rfl (Or.inl rfl) dX2_twice_2 h (fun Ω1 h => ?_)
  refine zo_iload_n hY dX2_twice_5 rfl 1 rfl ?_
  refine zo_iconst hY 0 (by decide) dX2_twice_6 ?_
  refine zo_iconst hY 4 (by decide) dX2_twice_7 ?_
  refine zo_callS hY (fun q hq => mt_X2_within hJ hCon N x1 0 4 Ω1 q hq) (by decide) (by decide) cn_X2_within rfl q1521 q1522 q82 q1523 (Nat.le_of_ble_eq_true rfl) dX2_twice_8 rfl h (ci_k (fun r3 Ω2 res h => ?_))
  refine zo_if_eq hY 52 dX2_twice_11 (by decide) h (fun c4 h => ?_) (fun c4 h => ?_)
  · refine zo_sub [] rfl ?_
    exact ct_X2_twice_52 hY hJ hCon hr N Ω2 _ h
  · refine zo_iload_n hY dX2_twice_14 rfl 3 rfl ?_
    refine zo_iconst hY 0 (by decide) dX2_twice_15 ?_
    refine zo_iconst hY 4 (by decide) dX2_twice_16 ?_
    refine zo_callS hY (fun q hq => mt_X2_within hJ hCon N x3 0 4 Ω2 q hq) (by decide) (by decide) cn_X2_within rfl q1521 q1522 q82 q1523 (Nat.le_of_ble_eq_true rfl) dX2_twice_17 rfl h (ci_k (fun r6 Ω5 res h => ?_))
    refine zo_if_eq hY 52 dX2_twice_20 (by decide) h (fun c7 h => ?_) (fun c7 h => ?_)
    · refine zo_sub [] rfl ?_
      exact ct_X2_twice_52 hY hJ hCon hr N Ω5 _ h
    · refine zo_iload_n hY dX2_twice_23 rfl 1 rfl ?_
      refine zo_iload_n hY dX2_twice_24 rfl 3 rfl ?_
      refine zo_icmp_eq hY 52 dX2_twice_25 (by decide) h (fun c8 h => ?_) (fun c8 h => ?_)
      · refine zo_sub [] rfl ?_
        exact ct_X2_twice_52 hY hJ hCon hr N Ω5 _ h
      · refine zo_iload_n hY dX2_twice_28 rfl 2 rfl ?_
        refine zo_callS hY (fun q hq => mt_X2_isSize hJ hCon N x2 Ω5 q hq) (by decide) (by decide) cn_X2_isSize rfl q1538 q1539 q82 q1540 (Nat.le_of_ble_eq_true rfl) dX2_twice_29 rfl h (ci_k (fun r10 Ω9 res h => ?_))
        refine zo_if_eq hY 52 dX2_twice_32 (by decide) h (fun c11 h => ?_) (fun c11 h => ?_)
        · refine zo_sub [] rfl ?_
          exact ct_X2_twice_52 hY hJ hCon hr N Ω9 _ h
        · refine zo_iload hY dX2_twice_35 4 rfl ?_
          refine zo_callS hY (fun q hq => mt_X2_isSize hJ hCon N x4 Ω9 q hq) (by decide) (by decide) cn_X2_isSize rfl q1538 q1539 q82 q1540 (Nat.le_of_ble_eq_true rfl) dX2_twice_37 rfl h (ci_k (fun r13 Ω12 res h => ?_))
          refine zo_if_eq hY 52 dX2_twice_40 (by decide) h (fun c14 h => ?_) (fun c14 h => ?_)
          · refine zo_sub [] rfl ?_
            exact ct_X2_twice_52 hY hJ hCon hr N Ω12 _ h
          · refine zo_aload_n hY dX2_twice_43 rfl 0 rfl ?_
            refine zo_getI hY LX2_219_1 rfl dX2_twice_44 ?_
            refine zo_bipush hY 40 (by decide) dX2_twice_47 ?_
            refine zo_icmp_ne hY 54 dX2_twice_49 (by decide) h (fun c15 h => ?_) (fun c15 h => ?_)
            · refine zo_sub [] rfl ?_
              exact ct_X2_twice_52 hY hJ hCon hr N Ω12 _ h
            · refine zo_aload_n hY dX2_twice_54 rfl 0 rfl ?_
              refine zo_getC hY LX2_62_1 rfl (fun Ω q => (hCon Ω q).2.1 23 _ rfl) dX2_twice_55 ?_
              refine zo_aload_n hY dX2_twice_58 rfl 0 rfl ?_
              refine zo_getI hY LX2_219_1 rfl dX2_twice_59 ?_
              refine zo_iload_n hY dX2_twice_62 rfl 1 rfl ?_
              refine zo_ast hY hJ (by decide) (Or.inl ⟨rfl, rfl, dX2_twice_63⟩) (fun q => (hCon _ q).2.2.2 32 16 40 rfl) h (fun j16 Ω17 h => ?_)
              refine zo_aload_n hY dX2_twice_64 rfl 0 rfl ?_
              refine zo_getC hY LX2_65_1 rfl (fun Ω q => (hCon Ω q).2.1 24 _ rfl) dX2_twice_65 ?_
              refine zo_aload_n hY dX2_twice_68 rfl 0 rfl ?_
              refine zo_getI hY LX2_219_1 rfl dX2_twice_69 ?_
              refine zo_iload_n hY dX2_twice_72 rfl 3 rfl ?_
              refine zo_ast hY hJ (by decide) (Or.inl ⟨rfl, rfl, dX2_twice_73⟩) (fun q => (hCon _ q).2.2.2 32 17 40 rfl) h (fun j18 Ω19 h => ?_)
              refine zo_aload_n hY dX2_twice_74 rfl 0 rfl ?_
              refine zo_getC hY LX2_68_1 rfl (fun Ω q => (hCon Ω q).2.1 25 _ rfl) dX2_twice_75 ?_
              refine zo_aload_n hY dX2_twice_78 rfl 0 rfl ?_
              refine zo_getI hY LX2_219_1 rfl dX2_twice_79 ?_
              refine zo_iload_n hY dX2_twice_82 rfl 2 rfl ?_
              refine zo_iload hY dX2_twice_83 4 rfl ?_
              refine zo_isub hY dX2_twice_85 ?_
              refine zo_ast hY hJ (by decide) (Or.inl ⟨rfl, rfl, dX2_twice_86⟩) (fun q => (hCon _ q).2.2.2 32 18 40 rfl) h (fun j20 Ω21 h => ?_)
              refine zo_aload_n hY dX2_twice_87 rfl 0 rfl ?_
              refine zo_getC hY LX2_71_1 rfl (fun Ω q => (hCon Ω q).2.1 26 _ rfl) dX2_twice_88 ?_
              refine zo_aload_n hY dX2_twice_91 rfl 0 rfl ?_
              refine zo_getI hY LX2_219_1 rfl dX2_twice_92 ?_
              refine zo_aload_n hY dX2_twice_95 rfl 0 rfl ?_
              refine zo_getI hY LX2_200_1 rfl dX2_twice_96 ?_
              refine zo_ast hY hJ (by decide) (Or.inl ⟨rfl, rfl, dX2_twice_99⟩) (fun q => (hCon _ q).2.2.2 32 19 40 rfl) h (fun j22 Ω23 h => ?_)
              refine zo_aload_n hY dX2_twice_100 rfl 0 rfl ?_
              refine zo_dup hY dX2_twice_101 (Or.inr ⟨_, rfl⟩) ?_
              refine zo_getI hY LX2_219_1 rfl dX2_twice_102 ?_
              refine zo_iconst hY 1 (by decide) dX2_twice_105 ?_
              refine zo_iadd hY dX2_twice_106 ?_
              refine zo_putI hY hJ LX2_219_1 rfl (Or.inl rfl) dX2_twice_107 h (fun Ω24 h => ?_)
              refine zo_iconst hY 1 (by decide) dX2_twice_110 ?_
              exact zo_zret hY hr dX2_twice_111 h
theorem dX2_witness_0 : decode cX2_witness 0 = .ok (.aload_n 0, 1) := by decide +kernel
theorem dX2_witness_1 : decode cX2_witness 1 = .ok (.iconst 0, 1) := by decide +kernel
theorem dX2_witness_2 : decode cX2_witness 2 = .ok (.putfield 187, 3) := by decide +kernel
theorem dX2_witness_5 : decode cX2_witness 5 = .ok (.aload_n 0, 1) := by decide +kernel
theorem dX2_witness_6 : decode cX2_witness 6 = .ok (.iload_n 1, 1) := by decide +kernel
theorem dX2_witness_7 : decode cX2_witness 7 = .ok (.invokevirtual 207, 3) := by decide +kernel
theorem dX2_witness_10 : decode cX2_witness 10 = .ok (.ifCond .eq 31, 3) := by decide +kernel
theorem dX2_witness_13 : decode cX2_witness 13 = .ok (.iload_n 2, 1) := by decide +kernel
theorem dX2_witness_14 : decode cX2_witness 14 = .ok (.invokestatic 203, 3) := by decide +kernel
theorem dX2_witness_17 : decode cX2_witness 17 = .ok (.ifCond .eq 24, 3) := by decide +kernel
theorem dX2_witness_20 : decode cX2_witness 20 = .ok (.iload_n 3, 1) := by decide +kernel
theorem dX2_witness_21 : decode cX2_witness 21 = .ok (.invokestatic 203, 3) := by decide +kernel
theorem dX2_witness_24 : decode cX2_witness 24 = .ok (.ifCond .eq 17, 3) := by decide +kernel
theorem dX2_witness_27 : decode cX2_witness 27 = .ok (.iload_n 2, 1) := by decide +kernel
theorem dX2_witness_28 : decode cX2_witness 28 = .ok (.iload_n 3, 1) := by decide +kernel
theorem dX2_witness_29 : decode cX2_witness 29 = .ok (.if_icmp .gt 12, 3) := by decide +kernel
theorem dX2_witness_32 : decode cX2_witness 32 = .ok (.aload_n 0, 1) := by decide +kernel
theorem dX2_witness_33 : decode cX2_witness 33 = .ok (.getfield 222, 3) := by decide +kernel
theorem dX2_witness_36 : decode cX2_witness 36 = .ok (.bipush 20, 2) := by decide +kernel
theorem dX2_witness_38 : decode cX2_witness 38 = .ok (.if_icmp .ne 5, 3) := by decide +kernel
theorem dX2_witness_41 : decode cX2_witness 41 = .ok (.iconst 0, 1) := by decide +kernel
theorem dX2_witness_42 : decode cX2_witness 42 = .ok (.ireturn, 1) := by decide +kernel
theorem dX2_witness_43 : decode cX2_witness 43 = .ok (.aload_n 0, 1) := by decide +kernel
theorem dX2_witness_44 : decode cX2_witness 44 = .ok (.getfield 74, 3) := by decide +kernel
theorem dX2_witness_47 : decode cX2_witness 47 = .ok (.aload_n 0, 1) := by decide +kernel
theorem dX2_witness_48 : decode cX2_witness 48 = .ok (.getfield 222, 3) := by decide +kernel
theorem dX2_witness_51 : decode cX2_witness 51 = .ok (.iload_n 1, 1) := by decide +kernel
theorem dX2_witness_52 : decode cX2_witness 52 = .ok (.iastore, 1) := by decide +kernel
theorem dX2_witness_53 : decode cX2_witness 53 = .ok (.aload_n 0, 1) := by decide +kernel
theorem dX2_witness_54 : decode cX2_witness 54 = .ok (.getfield 77, 3) := by decide +kernel
theorem dX2_witness_57 : decode cX2_witness 57 = .ok (.aload_n 0, 1) := by decide +kernel
theorem dX2_witness_58 : decode cX2_witness 58 = .ok (.getfield 222, 3) := by decide +kernel
theorem dX2_witness_61 : decode cX2_witness 61 = .ok (.iload_n 2, 1) := by decide +kernel
theorem dX2_witness_62 : decode cX2_witness 62 = .ok (.iastore, 1) := by decide +kernel
theorem dX2_witness_63 : decode cX2_witness 63 = .ok (.aload_n 0, 1) := by decide +kernel
theorem dX2_witness_64 : decode cX2_witness 64 = .ok (.getfield 80, 3) := by decide +kernel
theorem dX2_witness_67 : decode cX2_witness 67 = .ok (.aload_n 0, 1) := by decide +kernel
theorem dX2_witness_68 : decode cX2_witness 68 = .ok (.getfield 222, 3) := by decide +kernel
theorem dX2_witness_71 : decode cX2_witness 71 = .ok (.iload_n 3, 1) := by decide +kernel
theorem dX2_witness_72 : decode cX2_witness 72 = .ok (.iastore, 1) := by decide +kernel
theorem dX2_witness_73 : decode cX2_witness 73 = .ok (.aload_n 0, 1) := by decide +kernel
theorem dX2_witness_74 : decode cX2_witness 74 = .ok (.getfield 83, 3) := by decide +kernel
theorem dX2_witness_77 : decode cX2_witness 77 = .ok (.aload_n 0, 1) := by decide +kernel
theorem dX2_witness_78 : decode cX2_witness 78 = .ok (.getfield 222, 3) := by decide +kernel
theorem dX2_witness_81 : decode cX2_witness 81 = .ok (.aload_n 0, 1) := by decide +kernel
theorem dX2_witness_82 : decode cX2_witness 82 = .ok (.getfield 200, 3) := by decide +kernel
theorem dX2_witness_85 : decode cX2_witness 85 = .ok (.iastore, 1) := by decide +kernel
theorem dX2_witness_86 : decode cX2_witness 86 = .ok (.aload_n 0, 1) := by decide +kernel
theorem dX2_witness_87 : decode cX2_witness 87 = .ok (.dup, 1) := by decide +kernel
theorem dX2_witness_88 : decode cX2_witness 88 = .ok (.getfield 222, 3) := by decide +kernel
theorem dX2_witness_91 : decode cX2_witness 91 = .ok (.iconst 1, 1) := by decide +kernel
theorem dX2_witness_92 : decode cX2_witness 92 = .ok (.iadd, 1) := by decide +kernel
theorem dX2_witness_93 : decode cX2_witness 93 = .ok (.putfield 222, 3) := by decide +kernel
theorem dX2_witness_96 : decode cX2_witness 96 = .ok (.iconst 1, 1) := by decide +kernel
theorem dX2_witness_97 : decode cX2_witness 97 = .ok (.ireturn, 1) := by decide +kernel
def fn_X2_witness_41 (N : Nat)   (Ω : zo_O) : Option zo_R :=
  rZ 0 Ω
theorem ct_X2_witness_41 {Y : zo_Y} (hY : zo_Gd Y cX2_witness 4 RX2 2) (hJ : zo_JC (zo_J Y)) (hCon : ∀ Ω, zo_J Y Ω → zo_Con Ω) (hr : zo_rt Y (Option.some Jvm.ClassFile.FieldType.boolean)) (N : Nat)    (Ω : zo_O) (res : zo_R) (h : fn_X2_witness_41 N   Ω = some res) : TW Y res Ω 41 [] [] := by
  unfold fn_X2_witness_41 at h
  refine zo_iconst hY 0 (by decide) dX2_witness_41 ?_
  exact zo_zret hY hr dX2_witness_42 h
def fn_X2_witness (N : Nat) (x1 : Int32) (x2 : Int32) (x3 : Int32) (Ω : zo_O) : Option zo_R :=
  lt (sI Ω 1 0 0 0) fun Ω1 =>
  ci (fn_X2_isSite N x1 Ω1) fun r3 Ω2 =>
  if r3 = 0 then (
    fn_X2_witness_41 N Ω2
    ) else
  ci (fn_X2_isYear N x2 Ω2) fun r6 Ω5 =>
  if r6 = 0 then (
    fn_X2_witness_41 N Ω5
    ) else
  ci (fn_X2_isYear N x3 Ω5) fun r9 Ω8 =>
  if r9 = 0 then (
    fn_X2_witness_41 N Ω8
    ) else
  if x3 < x2 then (
    fn_X2_witness_41 N Ω8
    ) else
  if gI Ω8 1 0 27 = 20 then (
    fn_X2_witness_41 N Ω8
    ) else
  ix (gI Ω8 1 0 27) 20 fun j13 => lt (sI Ω8 32 20 j13 x1) fun Ω14 =>
  ix (gI Ω14 1 0 27) 20 fun j15 => lt (sI Ω14 32 21 j15 x2) fun Ω16 =>
  ix (gI Ω16 1 0 27) 20 fun j17 => lt (sI Ω16 32 22 j17 x3) fun Ω18 =>
  ix (gI Ω18 1 0 27) 20 fun j19 => lt (sI Ω18 32 23 j19 (gI Ω18 1 0 1)) fun Ω20 =>
  lt (sI Ω20 1 0 27 ((gI Ω20 1 0 27) + 1)) fun Ω21 =>
  rZ 1 Ω21
theorem mt_X2_witness {G : zo_G} {J : zo_O → Prop} (hJ : zo_JC J) (hCon : ∀ Ω, J Ω → zo_Con Ω) (N : Nat) (x1 : Int32) (x2 : Int32) (x3 : Int32) (Ω : zo_O) (res : zo_R) (h : fn_X2_witness N x1 x2 x3 Ω = some res) : zo_MT G J yX2_witness cX2_witness 4 (Option.some Jvm.ClassFile.FieldType.boolean) 2 [vr 1 0, vi x1, vi x2, vi x3] Ω res := by
  refine zo_enter (by decide) rfl (Nat.le_of_ble_eq_true rfl) (fun Y hY eJ hr hmn => ?_)
  subst eJ
  show TW Y res Ω 0 [(0, vr 1 0), (1, vi x1), (2, vi x2), (3, vi x3)] []
  unfold fn_X2_witness at h
  refine zo_aload_n hY dX2_witness_0 rfl 0 rfl ?_
  refine zo_iconst hY 0 (by decide) dX2_witness_1 ?_
  refine zo_putI hY hJ LX2_187_1 rfl (Or.inl rfl) dX2_witness_2 h (fun Ω1 h => ?_)
  refine zo_aload_n hY dX2_witness_5 rfl 0 rfl ?_
  refine zo_iload_n hY dX2_witness_6 rfl 1 rfl ?_
  refine zo_callV hY (fun q hq => mt_X2_isSite hJ hCon N x1 Ω1 q hq) (by decide) (by decide) (by decide) ⟨rfl, cn_X2_isSite⟩ rfl q1531 q1533 qs39 q82 q1534 (Nat.le_of_ble_eq_true rfl) dX2_witness_7 rfl h (ci_k (fun r3 Ω2 res h => ?_))
  refine zo_if_eq hY 41 dX2_witness_10 (by decide) h (fun c4 h => ?_) (fun c4 h => ?_)
  · refine zo_sub [] rfl ?_
    exact ct_X2_witness_41 hY hJ hCon hr N Ω2 _ h
  · refine zo_iload_n hY dX2_witness_13 rfl 2 rfl ?_
    refine zo_callS hY (fun q hq => mt_X2_isYear hJ hCon N x2 Ω2 q hq) (by decide) (by decide) cn_X2_isYear rfl q1524 q1525 q82 q1526 (Nat.le_of_ble_eq_true rfl) dX2_witness_14 rfl h (ci_k (fun r6 Ω5 res h => ?_))
    refine zo_if_eq hY 41 dX2_witness_17 (by decide) h (fun c7 h => ?_) (fun c7 h => ?_)
    · refine zo_sub [] rfl ?_
      exact ct_X2_witness_41 hY hJ hCon hr N Ω5 _ h
    · refine zo_iload_n hY dX2_witness_20 rfl 3 rfl ?_
      refine zo_callS hY (fun q hq => mt_X2_isYear hJ hCon N x3 Ω5 q hq) (by decide) (by decide) cn_X2_isYear rfl q1524 q1525 q82 q1526 (Nat.le_of_ble_eq_true rfl) dX2_witness_21 rfl h (ci_k (fun r9 Ω8 res h => ?_))
      refine zo_if_eq hY 41 dX2_witness_24 (by decide) h (fun c10 h => ?_) (fun c10 h => ?_)
      · refine zo_sub [] rfl ?_
        exact ct_X2_witness_41 hY hJ hCon hr N Ω8 _ h
      · refine zo_iload_n hY dX2_witness_27 rfl 2 rfl ?_
        refine zo_iload_n hY dX2_witness_28 rfl 3 rfl ?_
        refine zo_icmp_gt hY 41 dX2_witness_29 (by decide) h (fun c11 h => ?_) (fun c11 h => ?_)
        · refine zo_sub [] rfl ?_
          exact ct_X2_witness_41 hY hJ hCon hr N Ω8 _ h
        · refine zo_aload_n hY dX2_witness_32 rfl 0 rfl ?_
          refine zo_getI hY LX2_222_1 rfl dX2_witness_33 ?_
          refine zo_bipush hY 20 (by decide) dX2_witness_36 ?_
          refine zo_icmp_ne hY 43 dX2_witness_38 (by decide) h (fun c12 h => ?_) (fun c12 h => ?_)
          · refine zo_sub [] rfl ?_
            exact ct_X2_witness_41 hY hJ hCon hr N Ω8 _ h
          · refine zo_aload_n hY dX2_witness_43 rfl 0 rfl ?_
            refine zo_getC hY LX2_74_1 rfl (fun Ω q => (hCon Ω q).2.1 28 _ rfl) dX2_witness_44 ?_
            refine zo_aload_n hY dX2_witness_47 rfl 0 rfl ?_
            refine zo_getI hY LX2_222_1 rfl dX2_witness_48 ?_
            refine zo_iload_n hY dX2_witness_51 rfl 1 rfl ?_
            refine zo_ast hY hJ (by decide) (Or.inl ⟨rfl, rfl, dX2_witness_52⟩) (fun q => (hCon _ q).2.2.2 32 20 20 rfl) h (fun j13 Ω14 h => ?_)
            refine zo_aload_n hY dX2_witness_53 rfl 0 rfl ?_
            refine zo_getC hY LX2_77_1 rfl (fun Ω q => (hCon Ω q).2.1 29 _ rfl) dX2_witness_54 ?_
            refine zo_aload_n hY dX2_witness_57 rfl 0 rfl ?_
            refine zo_getI hY LX2_222_1 rfl dX2_witness_58 ?_
            refine zo_iload_n hY dX2_witness_61 rfl 2 rfl ?_
            refine zo_ast hY hJ (by decide) (Or.inl ⟨rfl, rfl, dX2_witness_62⟩) (fun q => (hCon _ q).2.2.2 32 21 20 rfl) h (fun j15 Ω16 h => ?_)
            refine zo_aload_n hY dX2_witness_63 rfl 0 rfl ?_
            refine zo_getC hY LX2_80_1 rfl (fun Ω q => (hCon Ω q).2.1 30 _ rfl) dX2_witness_64 ?_
            refine zo_aload_n hY dX2_witness_67 rfl 0 rfl ?_
            refine zo_getI hY LX2_222_1 rfl dX2_witness_68 ?_
            refine zo_iload_n hY dX2_witness_71 rfl 3 rfl ?_
            refine zo_ast hY hJ (by decide) (Or.inl ⟨rfl, rfl, dX2_witness_72⟩) (fun q => (hCon _ q).2.2.2 32 22 20 rfl) h (fun j17 Ω18 h => ?_)
            refine zo_aload_n hY dX2_witness_73 rfl 0 rfl ?_
            refine zo_getC hY LX2_83_1 rfl (fun Ω q => (hCon Ω q).2.1 31 _ rfl) dX2_witness_74 ?_
            refine zo_aload_n hY dX2_witness_77 rfl 0 rfl ?_
            refine zo_getI hY LX2_222_1 rfl dX2_witness_78 ?_
            refine zo_aload_n hY dX2_witness_81 rfl 0 rfl ?_
            refine zo_getI hY LX2_200_1 rfl dX2_witness_82 ?_
            refine zo_ast hY hJ (by decide) (Or.inl ⟨rfl, rfl, dX2_witness_85⟩) (fun q => (hCon _ q).2.2.2 32 23 20 rfl) h (fun j19 Ω20 h => ?_)
            refine zo_aload_n hY dX2_witness_86 rfl 0 rfl ?_
            refine zo_dup hY dX2_witness_87 (Or.inr ⟨_, rfl⟩) ?_
            refine zo_getI hY LX2_222_1 rfl dX2_witness_88 ?_
            refine zo_iconst hY 1 (by decide) dX2_witness_91 ?_
            refine zo_iadd hY dX2_witness_92 ?_
            refine zo_putI hY hJ LX2_222_1 rfl (Or.inl rfl) dX2_witness_93 h (fun Ω21 h => ?_)
            refine zo_iconst hY 1 (by decide) dX2_witness_96 ?_
            exact zo_zret hY hr dX2_witness_97 h
theorem dX2_order_0 : decode cX2_order 0 = .ok (.aload_n 0, 1) := by decide +kernel
theorem dX2_order_1 : decode cX2_order 1 = .ok (.iconst 0, 1) := by decide +kernel
theorem dX2_order_2 : decode cX2_order 2 = .ok (.putfield 187, 3) := by decide +kernel
theorem dX2_order_5 : decode cX2_order 5 = .ok (.aload_n 0, 1) := by decide +kernel
theorem dX2_order_6 : decode cX2_order 6 = .ok (.iload_n 1, 1) := by decide +kernel
theorem dX2_order_7 : decode cX2_order 7 = .ok (.invokevirtual 207, 3) := by decide +kernel
theorem dX2_order_10 : decode cX2_order 10 = .ok (.ifCond .eq 36, 3) := by decide +kernel
theorem dX2_order_13 : decode cX2_order 13 = .ok (.aload_n 0, 1) := by decide +kernel
theorem dX2_order_14 : decode cX2_order 14 = .ok (.iload_n 2, 1) := by decide +kernel
theorem dX2_order_15 : decode cX2_order 15 = .ok (.invokevirtual 207, 3) := by decide +kernel
theorem dX2_order_18 : decode cX2_order 18 = .ok (.ifCond .eq 28, 3) := by decide +kernel
theorem dX2_order_21 : decode cX2_order 21 = .ok (.iload_n 1, 1) := by decide +kernel
theorem dX2_order_22 : decode cX2_order 22 = .ok (.iload_n 2, 1) := by decide +kernel
theorem dX2_order_23 : decode cX2_order 23 = .ok (.if_icmp .eq 23, 3) := by decide +kernel
theorem dX2_order_26 : decode cX2_order 26 = .ok (.iload_n 3, 1) := by decide +kernel
theorem dX2_order_27 : decode cX2_order 27 = .ok (.iconst 0, 1) := by decide +kernel
theorem dX2_order_28 : decode cX2_order 28 = .ok (.sipush 500, 3) := by decide +kernel
theorem dX2_order_31 : decode cX2_order 31 = .ok (.invokestatic 190, 3) := by decide +kernel
theorem dX2_order_34 : decode cX2_order 34 = .ok (.ifCond .eq 12, 3) := by decide +kernel
theorem dX2_order_37 : decode cX2_order 37 = .ok (.aload_n 0, 1) := by decide +kernel
theorem dX2_order_38 : decode cX2_order 38 = .ok (.getfield 225, 3) := by decide +kernel
theorem dX2_order_41 : decode cX2_order 41 = .ok (.bipush 40, 2) := by decide +kernel
theorem dX2_order_43 : decode cX2_order 43 = .ok (.if_icmp .ne 5, 3) := by decide +kernel
theorem dX2_order_46 : decode cX2_order 46 = .ok (.iconst 0, 1) := by decide +kernel
theorem dX2_order_47 : decode cX2_order 47 = .ok (.ireturn, 1) := by decide +kernel
theorem dX2_order_48 : decode cX2_order 48 = .ok (.aload_n 0, 1) := by decide +kernel
theorem dX2_order_49 : decode cX2_order 49 = .ok (.getfield 86, 3) := by decide +kernel
theorem dX2_order_52 : decode cX2_order 52 = .ok (.aload_n 0, 1) := by decide +kernel
theorem dX2_order_53 : decode cX2_order 53 = .ok (.getfield 225, 3) := by decide +kernel
theorem dX2_order_56 : decode cX2_order 56 = .ok (.iload_n 1, 1) := by decide +kernel
theorem dX2_order_57 : decode cX2_order 57 = .ok (.iastore, 1) := by decide +kernel
theorem dX2_order_58 : decode cX2_order 58 = .ok (.aload_n 0, 1) := by decide +kernel
theorem dX2_order_59 : decode cX2_order 59 = .ok (.getfield 89, 3) := by decide +kernel
theorem dX2_order_62 : decode cX2_order 62 = .ok (.aload_n 0, 1) := by decide +kernel
theorem dX2_order_63 : decode cX2_order 63 = .ok (.getfield 225, 3) := by decide +kernel
theorem dX2_order_66 : decode cX2_order 66 = .ok (.iload_n 2, 1) := by decide +kernel
theorem dX2_order_67 : decode cX2_order 67 = .ok (.iastore, 1) := by decide +kernel
theorem dX2_order_68 : decode cX2_order 68 = .ok (.aload_n 0, 1) := by decide +kernel
theorem dX2_order_69 : decode cX2_order 69 = .ok (.getfield 92, 3) := by decide +kernel
theorem dX2_order_72 : decode cX2_order 72 = .ok (.aload_n 0, 1) := by decide +kernel
theorem dX2_order_73 : decode cX2_order 73 = .ok (.getfield 225, 3) := by decide +kernel
theorem dX2_order_76 : decode cX2_order 76 = .ok (.iload_n 3, 1) := by decide +kernel
theorem dX2_order_77 : decode cX2_order 77 = .ok (.iastore, 1) := by decide +kernel
theorem dX2_order_78 : decode cX2_order 78 = .ok (.aload_n 0, 1) := by decide +kernel
theorem dX2_order_79 : decode cX2_order 79 = .ok (.getfield 95, 3) := by decide +kernel
theorem dX2_order_82 : decode cX2_order 82 = .ok (.aload_n 0, 1) := by decide +kernel
theorem dX2_order_83 : decode cX2_order 83 = .ok (.getfield 225, 3) := by decide +kernel
theorem dX2_order_86 : decode cX2_order 86 = .ok (.aload_n 0, 1) := by decide +kernel
theorem dX2_order_87 : decode cX2_order 87 = .ok (.getfield 200, 3) := by decide +kernel
theorem dX2_order_90 : decode cX2_order 90 = .ok (.iastore, 1) := by decide +kernel
theorem dX2_order_91 : decode cX2_order 91 = .ok (.aload_n 0, 1) := by decide +kernel
theorem dX2_order_92 : decode cX2_order 92 = .ok (.dup, 1) := by decide +kernel
theorem dX2_order_93 : decode cX2_order 93 = .ok (.getfield 225, 3) := by decide +kernel
theorem dX2_order_96 : decode cX2_order 96 = .ok (.iconst 1, 1) := by decide +kernel
theorem dX2_order_97 : decode cX2_order 97 = .ok (.iadd, 1) := by decide +kernel
theorem dX2_order_98 : decode cX2_order 98 = .ok (.putfield 225, 3) := by decide +kernel
theorem dX2_order_101 : decode cX2_order 101 = .ok (.iconst 1, 1) := by decide +kernel
theorem dX2_order_102 : decode cX2_order 102 = .ok (.ireturn, 1) := by decide +kernel
def fn_X2_order_46 (N : Nat)   (Ω : zo_O) : Option zo_R :=
  rZ 0 Ω
theorem ct_X2_order_46 {Y : zo_Y} (hY : zo_Gd Y cX2_order 4 RX2 2) (hJ : zo_JC (zo_J Y)) (hCon : ∀ Ω, zo_J Y Ω → zo_Con Ω) (hr : zo_rt Y (Option.some Jvm.ClassFile.FieldType.boolean)) (N : Nat)    (Ω : zo_O) (res : zo_R) (h : fn_X2_order_46 N   Ω = some res) : TW Y res Ω 46 [] [] := by
  unfold fn_X2_order_46 at h
  refine zo_iconst hY 0 (by decide) dX2_order_46 ?_
  exact zo_zret hY hr dX2_order_47 h
def fn_X2_order (N : Nat) (x1 : Int32) (x2 : Int32) (x3 : Int32) (Ω : zo_O) : Option zo_R :=
  lt (sI Ω 1 0 0 0) fun Ω1 =>
  ci (fn_X2_isSite N x1 Ω1) fun r3 Ω2 =>
  if r3 = 0 then (
    fn_X2_order_46 N Ω2
    ) else
  ci (fn_X2_isSite N x2 Ω2) fun r6 Ω5 =>
  if r6 = 0 then (
    fn_X2_order_46 N Ω5
    ) else
  if x1 = x2 then (
    fn_X2_order_46 N Ω5
    ) else
  ci (fn_X2_within N x3 0 500 Ω5) fun r10 Ω9 =>
  if r10 = 0 then (
    fn_X2_order_46 N Ω9
    ) else
  if gI Ω9 1 0 32 = 40 then (
    fn_X2_order_46 N Ω9
    ) else
  ix (gI Ω9 1 0 32) 40 fun j13 => lt (sI Ω9 32 24 j13 x1) fun Ω14 =>
  ix (gI Ω14 1 0 32) 40 fun j15 => lt (sI Ω14 32 25 j15 x2) fun Ω16 =>
  ix (gI Ω16 1 0 32) 40 fun j17 => lt (sI Ω16 32 26 j17 x3) fun Ω18 =>
  ix (gI Ω18 1 0 32) 40 fun j19 => lt (sI Ω18 32 27 j19 (gI Ω18 1 0 1)) fun Ω20 =>
  lt (sI Ω20 1 0 32 ((gI Ω20 1 0 32) + 1)) fun Ω21 =>
  rZ 1 Ω21
theorem mt_X2_order {G : zo_G} {J : zo_O → Prop} (hJ : zo_JC J) (hCon : ∀ Ω, J Ω → zo_Con Ω) (N : Nat) (x1 : Int32) (x2 : Int32) (x3 : Int32) (Ω : zo_O) (res : zo_R) (h : fn_X2_order N x1 x2 x3 Ω = some res) : zo_MT G J yX2_order cX2_order 4 (Option.some Jvm.ClassFile.FieldType.boolean) 2 [vr 1 0, vi x1, vi x2, vi x3] Ω res := by
  refine zo_enter (by decide) rfl (Nat.le_of_ble_eq_true rfl) (fun Y hY eJ hr hmn => ?_)
  subst eJ
  show TW Y res Ω 0 [(0, vr 1 0), (1, vi x1), (2, vi x2), (3, vi x3)] []
  unfold fn_X2_order at h
  refine zo_aload_n hY dX2_order_0 rfl 0 rfl ?_
  refine zo_iconst hY 0 (by decide) dX2_order_1 ?_
  refine zo_putI hY hJ LX2_187_1 rfl (Or.inl rfl) dX2_order_2 h (fun Ω1 h => ?_)
  refine zo_aload_n hY dX2_order_5 rfl 0 rfl ?_
  refine zo_iload_n hY dX2_order_6 rfl 1 rfl ?_
  refine zo_callV hY (fun q hq => mt_X2_isSite hJ hCon N x1 Ω1 q hq) (by decide) (by decide) (by decide) ⟨rfl, cn_X2_isSite⟩ rfl q1531 q1533 qs39 q82 q1534 (Nat.le_of_ble_eq_true rfl) dX2_order_7 rfl h (ci_k (fun r3 Ω2 res h => ?_))
  refine zo_if_eq hY 46 dX2_order_10 (by decide) h (fun c4 h => ?_) (fun c4 h => ?_)
  · refine zo_sub [] rfl ?_
    exact ct_X2_order_46 hY hJ hCon hr N Ω2 _ h
  · refine zo_aload_n hY dX2_order_13 rfl 0 rfl ?_
    refine zo_iload_n hY dX2_order_14 rfl 2 rfl ?_
    refine zo_callV hY (fun q hq => mt_X2_isSite hJ hCon N x2 Ω2 q hq) (by decide) (by decide) (by decide) ⟨rfl, cn_X2_isSite⟩ rfl q1531 q1533 qs39 q82 q1534 (Nat.le_of_ble_eq_true rfl) dX2_order_15 rfl h (ci_k (fun r6 Ω5 res h => ?_))
    refine zo_if_eq hY 46 dX2_order_18 (by decide) h (fun c7 h => ?_) (fun c7 h => ?_)
    · refine zo_sub [] rfl ?_
      exact ct_X2_order_46 hY hJ hCon hr N Ω5 _ h
    · refine zo_iload_n hY dX2_order_21 rfl 1 rfl ?_
      refine zo_iload_n hY dX2_order_22 rfl 2 rfl ?_
      refine zo_icmp_eq hY 46 dX2_order_23 (by decide) h (fun c8 h => ?_) (fun c8 h => ?_)
      · refine zo_sub [] rfl ?_
        exact ct_X2_order_46 hY hJ hCon hr N Ω5 _ h
      · refine zo_iload_n hY dX2_order_26 rfl 3 rfl ?_
        refine zo_iconst hY 0 (by decide) dX2_order_27 ?_
        refine zo_sipush hY 500 (by decide) dX2_order_28 ?_
        refine zo_callS hY (fun q hq => mt_X2_within hJ hCon N x3 0 500 Ω5 q hq) (by decide) (by decide) cn_X2_within rfl q1521 q1522 q82 q1523 (Nat.le_of_ble_eq_true rfl) dX2_order_31 rfl h (ci_k (fun r10 Ω9 res h => ?_))
        refine zo_if_eq hY 46 dX2_order_34 (by decide) h (fun c11 h => ?_) (fun c11 h => ?_)
        · refine zo_sub [] rfl ?_
          exact ct_X2_order_46 hY hJ hCon hr N Ω9 _ h
        · refine zo_aload_n hY dX2_order_37 rfl 0 rfl ?_
          refine zo_getI hY LX2_225_1 rfl dX2_order_38 ?_
          refine zo_bipush hY 40 (by decide) dX2_order_41 ?_
          refine zo_icmp_ne hY 48 dX2_order_43 (by decide) h (fun c12 h => ?_) (fun c12 h => ?_)
          · refine zo_sub [] rfl ?_
            exact ct_X2_order_46 hY hJ hCon hr N Ω9 _ h
          · refine zo_aload_n hY dX2_order_48 rfl 0 rfl ?_
            refine zo_getC hY LX2_86_1 rfl (fun Ω q => (hCon Ω q).2.1 33 _ rfl) dX2_order_49 ?_
            refine zo_aload_n hY dX2_order_52 rfl 0 rfl ?_
            refine zo_getI hY LX2_225_1 rfl dX2_order_53 ?_
            refine zo_iload_n hY dX2_order_56 rfl 1 rfl ?_
            refine zo_ast hY hJ (by decide) (Or.inl ⟨rfl, rfl, dX2_order_57⟩) (fun q => (hCon _ q).2.2.2 32 24 40 rfl) h (fun j13 Ω14 h => ?_)
            refine zo_aload_n hY dX2_order_58 rfl 0 rfl ?_
            refine zo_getC hY LX2_89_1 rfl (fun Ω q => (hCon Ω q).2.1 34 _ rfl) dX2_order_59 ?_
            refine zo_aload_n hY dX2_order_62 rfl 0 rfl ?_
            refine zo_getI hY LX2_225_1 rfl dX2_order_63 ?_
            refine zo_iload_n hY dX2_order_66 rfl 2 rfl ?_
            refine zo_ast hY hJ (by decide) (Or.inl ⟨rfl, rfl, dX2_order_67⟩) (fun q => (hCon _ q).2.2.2 32 25 40 rfl) h (fun j15 Ω16 h => ?_)
            refine zo_aload_n hY dX2_order_68 rfl 0 rfl ?_
            refine zo_getC hY LX2_92_1 rfl (fun Ω q => (hCon Ω q).2.1 35 _ rfl) dX2_order_69 ?_
            refine zo_aload_n hY dX2_order_72 rfl 0 rfl ?_
            refine zo_getI hY LX2_225_1 rfl dX2_order_73 ?_
            refine zo_iload_n hY dX2_order_76 rfl 3 rfl ?_
            refine zo_ast hY hJ (by decide) (Or.inl ⟨rfl, rfl, dX2_order_77⟩) (fun q => (hCon _ q).2.2.2 32 26 40 rfl) h (fun j17 Ω18 h => ?_)
            refine zo_aload_n hY dX2_order_78 rfl 0 rfl ?_
            refine zo_getC hY LX2_95_1 rfl (fun Ω q => (hCon Ω q).2.1 36 _ rfl) dX2_order_79 ?_
            refine zo_aload_n hY dX2_order_82 rfl 0 rfl ?_
            refine zo_getI hY LX2_225_1 rfl dX2_order_83 ?_
            refine zo_aload_n hY dX2_order_86 rfl 0 rfl ?_
            refine zo_getI hY LX2_200_1 rfl dX2_order_87 ?_
            refine zo_ast hY hJ (by decide) (Or.inl ⟨rfl, rfl, dX2_order_90⟩) (fun q => (hCon _ q).2.2.2 32 27 40 rfl) h (fun j19 Ω20 h => ?_)
            refine zo_aload_n hY dX2_order_91 rfl 0 rfl ?_
            refine zo_dup hY dX2_order_92 (Or.inr ⟨_, rfl⟩) ?_
            refine zo_getI hY LX2_225_1 rfl dX2_order_93 ?_
            refine zo_iconst hY 1 (by decide) dX2_order_96 ?_
            refine zo_iadd hY dX2_order_97 ?_
            refine zo_putI hY hJ LX2_225_1 rfl (Or.inl rfl) dX2_order_98 h (fun Ω21 h => ?_)
            refine zo_iconst hY 1 (by decide) dX2_order_101 ?_
            exact zo_zret hY hr dX2_order_102 h
theorem dX2_again_0 : decode cX2_again 0 = .ok (.aload_n 0, 1) := by decide +kernel
theorem dX2_again_1 : decode cX2_again 1 = .ok (.iconst 0, 1) := by decide +kernel
theorem dX2_again_2 : decode cX2_again 2 = .ok (.putfield 187, 3) := by decide +kernel
theorem dX2_again_5 : decode cX2_again 5 = .ok (.aload_n 0, 1) := by decide +kernel
theorem dX2_again_6 : decode cX2_again 6 = .ok (.iload_n 1, 1) := by decide +kernel
theorem dX2_again_7 : decode cX2_again 7 = .ok (.invokevirtual 228, 3) := by decide +kernel
theorem dX2_again_10 : decode cX2_again 10 = .ok (.ifCond .eq 65, 3) := by decide +kernel
theorem dX2_again_13 : decode cX2_again 13 = .ok (.aload_n 0, 1) := by decide +kernel
theorem dX2_again_14 : decode cX2_again 14 = .ok (.iload_n 2, 1) := by decide +kernel
theorem dX2_again_15 : decode cX2_again 15 = .ok (.invokevirtual 228, 3) := by decide +kernel
theorem dX2_again_18 : decode cX2_again 18 = .ok (.ifCond .eq 57, 3) := by decide +kernel
theorem dX2_again_21 : decode cX2_again 21 = .ok (.aload_n 0, 1) := by decide +kernel
theorem dX2_again_22 : decode cX2_again 22 = .ok (.getfield 25, 3) := by decide +kernel
theorem dX2_again_25 : decode cX2_again 25 = .ok (.iload_n 1, 1) := by decide +kernel
theorem dX2_again_26 : decode cX2_again 26 = .ok (.iaload, 1) := by decide +kernel
theorem dX2_again_27 : decode cX2_again 27 = .ok (.aload_n 0, 1) := by decide +kernel
theorem dX2_again_28 : decode cX2_again 28 = .ok (.getfield 25, 3) := by decide +kernel
theorem dX2_again_31 : decode cX2_again 31 = .ok (.iload_n 2, 1) := by decide +kernel
theorem dX2_again_32 : decode cX2_again 32 = .ok (.iaload, 1) := by decide +kernel
theorem dX2_again_33 : decode cX2_again 33 = .ok (.if_icmp .ne 42, 3) := by decide +kernel
theorem dX2_again_36 : decode cX2_again 36 = .ok (.aload_n 0, 1) := by decide +kernel
theorem dX2_again_37 : decode cX2_again 37 = .ok (.getfield 28, 3) := by decide +kernel
theorem dX2_again_40 : decode cX2_again 40 = .ok (.iload_n 1, 1) := by decide +kernel
theorem dX2_again_41 : decode cX2_again 41 = .ok (.iaload, 1) := by decide +kernel
theorem dX2_again_42 : decode cX2_again 42 = .ok (.aload_n 0, 1) := by decide +kernel
theorem dX2_again_43 : decode cX2_again 43 = .ok (.getfield 28, 3) := by decide +kernel
theorem dX2_again_46 : decode cX2_again 46 = .ok (.iload_n 2, 1) := by decide +kernel
theorem dX2_again_47 : decode cX2_again 47 = .ok (.iaload, 1) := by decide +kernel
theorem dX2_again_48 : decode cX2_again 48 = .ok (.if_icmp .ne 27, 3) := by decide +kernel
theorem dX2_again_51 : decode cX2_again 51 = .ok (.aload_n 0, 1) := by decide +kernel
theorem dX2_again_52 : decode cX2_again 52 = .ok (.getfield 40, 3) := by decide +kernel
theorem dX2_again_55 : decode cX2_again 55 = .ok (.iload_n 2, 1) := by decide +kernel
theorem dX2_again_56 : decode cX2_again 56 = .ok (.iaload, 1) := by decide +kernel
theorem dX2_again_57 : decode cX2_again 57 = .ok (.aload_n 0, 1) := by decide +kernel
theorem dX2_again_58 : decode cX2_again 58 = .ok (.getfield 40, 3) := by decide +kernel
theorem dX2_again_61 : decode cX2_again 61 = .ok (.iload_n 1, 1) := by decide +kernel
theorem dX2_again_62 : decode cX2_again 62 = .ok (.iaload, 1) := by decide +kernel
theorem dX2_again_63 : decode cX2_again 63 = .ok (.if_icmp .le 12, 3) := by decide +kernel
theorem dX2_again_66 : decode cX2_again 66 = .ok (.aload_n 0, 1) := by decide +kernel
theorem dX2_again_67 : decode cX2_again 67 = .ok (.getfield 231, 3) := by decide +kernel
theorem dX2_again_70 : decode cX2_again 70 = .ok (.bipush 30, 2) := by decide +kernel
theorem dX2_again_72 : decode cX2_again 72 = .ok (.if_icmp .ne 5, 3) := by decide +kernel
theorem dX2_again_75 : decode cX2_again 75 = .ok (.iconst (-1), 1) := by decide +kernel
theorem dX2_again_76 : decode cX2_again 76 = .ok (.ireturn, 1) := by decide +kernel
theorem dX2_again_77 : decode cX2_again 77 = .ok (.aload_n 0, 1) := by decide +kernel
theorem dX2_again_78 : decode cX2_again 78 = .ok (.getfield 98, 3) := by decide +kernel
theorem dX2_again_81 : decode cX2_again 81 = .ok (.aload_n 0, 1) := by decide +kernel
theorem dX2_again_82 : decode cX2_again 82 = .ok (.getfield 231, 3) := by decide +kernel
theorem dX2_again_85 : decode cX2_again 85 = .ok (.iload_n 1, 1) := by decide +kernel
theorem dX2_again_86 : decode cX2_again 86 = .ok (.iastore, 1) := by decide +kernel
theorem dX2_again_87 : decode cX2_again 87 = .ok (.aload_n 0, 1) := by decide +kernel
theorem dX2_again_88 : decode cX2_again 88 = .ok (.getfield 101, 3) := by decide +kernel
theorem dX2_again_91 : decode cX2_again 91 = .ok (.aload_n 0, 1) := by decide +kernel
theorem dX2_again_92 : decode cX2_again 92 = .ok (.getfield 231, 3) := by decide +kernel
theorem dX2_again_95 : decode cX2_again 95 = .ok (.iload_n 2, 1) := by decide +kernel
theorem dX2_again_96 : decode cX2_again 96 = .ok (.iastore, 1) := by decide +kernel
theorem dX2_again_97 : decode cX2_again 97 = .ok (.aload_n 0, 1) := by decide +kernel
theorem dX2_again_98 : decode cX2_again 98 = .ok (.getfield 104, 3) := by decide +kernel
theorem dX2_again_101 : decode cX2_again 101 = .ok (.aload_n 0, 1) := by decide +kernel
theorem dX2_again_102 : decode cX2_again 102 = .ok (.getfield 231, 3) := by decide +kernel
theorem dX2_again_105 : decode cX2_again 105 = .ok (.aload_n 0, 1) := by decide +kernel
theorem dX2_again_106 : decode cX2_again 106 = .ok (.getfield 200, 3) := by decide +kernel
theorem dX2_again_109 : decode cX2_again 109 = .ok (.iastore, 1) := by decide +kernel
theorem dX2_again_110 : decode cX2_again 110 = .ok (.aload_n 0, 1) := by decide +kernel
theorem dX2_again_111 : decode cX2_again 111 = .ok (.dup, 1) := by decide +kernel
theorem dX2_again_112 : decode cX2_again 112 = .ok (.getfield 231, 3) := by decide +kernel
theorem dX2_again_115 : decode cX2_again 115 = .ok (.iconst 1, 1) := by decide +kernel
theorem dX2_again_116 : decode cX2_again 116 = .ok (.iadd, 1) := by decide +kernel
theorem dX2_again_117 : decode cX2_again 117 = .ok (.putfield 231, 3) := by decide +kernel
theorem dX2_again_120 : decode cX2_again 120 = .ok (.aload_n 0, 1) := by decide +kernel
theorem dX2_again_121 : decode cX2_again 121 = .ok (.getfield 231, 3) := by decide +kernel
theorem dX2_again_124 : decode cX2_again 124 = .ok (.iconst 1, 1) := by decide +kernel
theorem dX2_again_125 : decode cX2_again 125 = .ok (.isub, 1) := by decide +kernel
theorem dX2_again_126 : decode cX2_again 126 = .ok (.ireturn, 1) := by decide +kernel
def fn_X2_again_75 (N : Nat)   (Ω : zo_O) : Option zo_R :=
  rI ((-1)) Ω
theorem ct_X2_again_75 {Y : zo_Y} (hY : zo_Gd Y cX2_again 3 RX2 2) (hJ : zo_JC (zo_J Y)) (hCon : ∀ Ω, zo_J Y Ω → zo_Con Ω) (hr : zo_rt Y (Option.some Jvm.ClassFile.FieldType.int)) (N : Nat)    (Ω : zo_O) (res : zo_R) (h : fn_X2_again_75 N   Ω = some res) : TW Y res Ω 75 [] [] := by
  unfold fn_X2_again_75 at h
  refine zo_iconst hY (-1) (by decide) dX2_again_75 ?_
  exact zo_iret hY hr dX2_again_76 h
def fn_X2_again (N : Nat) (x1 : Int32) (x2 : Int32) (Ω : zo_O) : Option zo_R :=
  lt (sI Ω 1 0 0 0) fun Ω1 =>
  ci (fn_X2_isCircle N x1 Ω1) fun r3 Ω2 =>
  if r3 = 0 then (
    fn_X2_again_75 N Ω2
    ) else
  ci (fn_X2_isCircle N x2 Ω2) fun r6 Ω5 =>
  if r6 = 0 then (
    fn_X2_again_75 N Ω5
    ) else
  ix x1 120 fun j8 =>
  ix x2 120 fun j9 =>
  if gI Ω5 32 5 j8 = gI Ω5 32 5 j9 then (
    ix x1 120 fun j11 =>
    ix x2 120 fun j12 =>
    if gI Ω5 32 6 j11 = gI Ω5 32 6 j12 then (
      ix x2 120 fun j14 =>
      ix x1 120 fun j15 =>
      if gI Ω5 32 10 j14 ≤ gI Ω5 32 10 j15 then (
        fn_X2_again_75 N Ω5
        ) else
      if gI Ω5 1 0 37 = 30 then (
        fn_X2_again_75 N Ω5
        ) else
      ix (gI Ω5 1 0 37) 30 fun j18 => lt (sI Ω5 32 28 j18 x1) fun Ω19 =>
      ix (gI Ω19 1 0 37) 30 fun j20 => lt (sI Ω19 32 29 j20 x2) fun Ω21 =>
      ix (gI Ω21 1 0 37) 30 fun j22 => lt (sI Ω21 32 30 j22 (gI Ω21 1 0 1)) fun Ω23 =>
      lt (sI Ω23 1 0 37 ((gI Ω23 1 0 37) + 1)) fun Ω24 =>
      rI ((gI Ω24 1 0 37) - 1) Ω24
      ) else
    fn_X2_again_75 N Ω5
    ) else
  fn_X2_again_75 N Ω5
theorem mt_X2_again {G : zo_G} {J : zo_O → Prop} (hJ : zo_JC J) (hCon : ∀ Ω, J Ω → zo_Con Ω) (N : Nat) (x1 : Int32) (x2 : Int32) (Ω : zo_O) (res : zo_R) (h : fn_X2_again N x1 x2 Ω = some res) : zo_MT G J yX2_again cX2_again 3 (Option.some Jvm.ClassFile.FieldType.int) 2 [vr 1 0, vi x1, vi x2] Ω res := by
  refine zo_enter (by decide) rfl (Nat.le_of_ble_eq_true rfl) (fun Y hY eJ hr hmn => ?_)
  subst eJ
  show TW Y res Ω 0 [(0, vr 1 0), (1, vi x1), (2, vi x2)] []
  unfold fn_X2_again at h
  refine zo_aload_n hY dX2_again_0 rfl 0 rfl ?_
  refine zo_iconst hY 0 (by decide) dX2_again_1 ?_
  refine zo_putI hY hJ LX2_187_1 rfl (Or.inl rfl) dX2_again_2 h (fun Ω1 h => ?_)
  refine zo_aload_n hY dX2_again_5 rfl 0 rfl ?_
  refine zo_iload_n hY dX2_again_6 rfl 1 rfl ?_
  refine zo_callV hY (fun q hq => mt_X2_isCircle hJ hCon N x1 Ω1 q hq) (by decide) (by decide) (by decide) ⟨rfl, cn_X2_isCircle⟩ rfl q1561 q1563 qs40 q82 q1564 (Nat.le_of_ble_eq_true rfl) dX2_again_7 rfl h (ci_k (fun r3 Ω2 res h => ?_))
  refine zo_if_eq hY 75 dX2_again_10 (by decide) h (fun c4 h => ?_) (fun c4 h => ?_)
  · refine zo_sub [] rfl ?_
    exact ct_X2_again_75 hY hJ hCon hr N Ω2 _ h
  · refine zo_aload_n hY dX2_again_13 rfl 0 rfl ?_
    refine zo_iload_n hY dX2_again_14 rfl 2 rfl ?_
    refine zo_callV hY (fun q hq => mt_X2_isCircle hJ hCon N x2 Ω2 q hq) (by decide) (by decide) (by decide) ⟨rfl, cn_X2_isCircle⟩ rfl q1561 q1563 qs40 q82 q1564 (Nat.le_of_ble_eq_true rfl) dX2_again_15 rfl h (ci_k (fun r6 Ω5 res h => ?_))
    refine zo_if_eq hY 75 dX2_again_18 (by decide) h (fun c7 h => ?_) (fun c7 h => ?_)
    · refine zo_sub [] rfl ?_
      exact ct_X2_again_75 hY hJ hCon hr N Ω5 _ h
    · refine zo_aload_n hY dX2_again_21 rfl 0 rfl ?_
      refine zo_getC hY LX2_25_1 rfl (fun Ω q => (hCon Ω q).2.1 9 _ rfl) dX2_again_22 ?_
      refine zo_iload_n hY dX2_again_25 rfl 1 rfl ?_
      refine zo_ald hY (by decide) (Or.inl ⟨rfl, dX2_again_26⟩) (fun q => (hCon _ q).2.2.2 32 5 120 rfl) h (fun j8 h => ?_)
      refine zo_aload_n hY dX2_again_27 rfl 0 rfl ?_
      refine zo_getC hY LX2_25_1 rfl (fun Ω q => (hCon Ω q).2.1 9 _ rfl) dX2_again_28 ?_
      refine zo_iload_n hY dX2_again_31 rfl 2 rfl ?_
      refine zo_ald hY (by decide) (Or.inl ⟨rfl, dX2_again_32⟩) (fun q => (hCon _ q).2.2.2 32 5 120 rfl) h (fun j9 h => ?_)
      refine zo_icmp_ne hY 75 dX2_again_33 (by decide) h (fun c10 h => ?_) (fun c10 h => ?_)
      · refine zo_aload_n hY dX2_again_36 rfl 0 rfl ?_
        refine zo_getC hY LX2_28_1 rfl (fun Ω q => (hCon Ω q).2.1 10 _ rfl) dX2_again_37 ?_
        refine zo_iload_n hY dX2_again_40 rfl 1 rfl ?_
        refine zo_ald hY (by decide) (Or.inl ⟨rfl, dX2_again_41⟩) (fun q => (hCon _ q).2.2.2 32 6 120 rfl) h (fun j11 h => ?_)
        refine zo_aload_n hY dX2_again_42 rfl 0 rfl ?_
        refine zo_getC hY LX2_28_1 rfl (fun Ω q => (hCon Ω q).2.1 10 _ rfl) dX2_again_43 ?_
        refine zo_iload_n hY dX2_again_46 rfl 2 rfl ?_
        refine zo_ald hY (by decide) (Or.inl ⟨rfl, dX2_again_47⟩) (fun q => (hCon _ q).2.2.2 32 6 120 rfl) h (fun j12 h => ?_)
        refine zo_icmp_ne hY 75 dX2_again_48 (by decide) h (fun c13 h => ?_) (fun c13 h => ?_)
        · refine zo_aload_n hY dX2_again_51 rfl 0 rfl ?_
          refine zo_getC hY LX2_40_1 rfl (fun Ω q => (hCon Ω q).2.1 14 _ rfl) dX2_again_52 ?_
          refine zo_iload_n hY dX2_again_55 rfl 2 rfl ?_
          refine zo_ald hY (by decide) (Or.inl ⟨rfl, dX2_again_56⟩) (fun q => (hCon _ q).2.2.2 32 10 120 rfl) h (fun j14 h => ?_)
          refine zo_aload_n hY dX2_again_57 rfl 0 rfl ?_
          refine zo_getC hY LX2_40_1 rfl (fun Ω q => (hCon Ω q).2.1 14 _ rfl) dX2_again_58 ?_
          refine zo_iload_n hY dX2_again_61 rfl 1 rfl ?_
          refine zo_ald hY (by decide) (Or.inl ⟨rfl, dX2_again_62⟩) (fun q => (hCon _ q).2.2.2 32 10 120 rfl) h (fun j15 h => ?_)
          refine zo_icmp_le hY 75 dX2_again_63 (by decide) h (fun c16 h => ?_) (fun c16 h => ?_)
          · refine zo_sub [] rfl ?_
            exact ct_X2_again_75 hY hJ hCon hr N Ω5 _ h
          · refine zo_aload_n hY dX2_again_66 rfl 0 rfl ?_
            refine zo_getI hY LX2_231_1 rfl dX2_again_67 ?_
            refine zo_bipush hY 30 (by decide) dX2_again_70 ?_
            refine zo_icmp_ne hY 77 dX2_again_72 (by decide) h (fun c17 h => ?_) (fun c17 h => ?_)
            · refine zo_sub [] rfl ?_
              exact ct_X2_again_75 hY hJ hCon hr N Ω5 _ h
            · refine zo_aload_n hY dX2_again_77 rfl 0 rfl ?_
              refine zo_getC hY LX2_98_1 rfl (fun Ω q => (hCon Ω q).2.1 38 _ rfl) dX2_again_78 ?_
              refine zo_aload_n hY dX2_again_81 rfl 0 rfl ?_
              refine zo_getI hY LX2_231_1 rfl dX2_again_82 ?_
              refine zo_iload_n hY dX2_again_85 rfl 1 rfl ?_
              refine zo_ast hY hJ (by decide) (Or.inl ⟨rfl, rfl, dX2_again_86⟩) (fun q => (hCon _ q).2.2.2 32 28 30 rfl) h (fun j18 Ω19 h => ?_)
              refine zo_aload_n hY dX2_again_87 rfl 0 rfl ?_
              refine zo_getC hY LX2_101_1 rfl (fun Ω q => (hCon Ω q).2.1 39 _ rfl) dX2_again_88 ?_
              refine zo_aload_n hY dX2_again_91 rfl 0 rfl ?_
              refine zo_getI hY LX2_231_1 rfl dX2_again_92 ?_
              refine zo_iload_n hY dX2_again_95 rfl 2 rfl ?_
              refine zo_ast hY hJ (by decide) (Or.inl ⟨rfl, rfl, dX2_again_96⟩) (fun q => (hCon _ q).2.2.2 32 29 30 rfl) h (fun j20 Ω21 h => ?_)
              refine zo_aload_n hY dX2_again_97 rfl 0 rfl ?_
              refine zo_getC hY LX2_104_1 rfl (fun Ω q => (hCon Ω q).2.1 40 _ rfl) dX2_again_98 ?_
              refine zo_aload_n hY dX2_again_101 rfl 0 rfl ?_
              refine zo_getI hY LX2_231_1 rfl dX2_again_102 ?_
              refine zo_aload_n hY dX2_again_105 rfl 0 rfl ?_
              refine zo_getI hY LX2_200_1 rfl dX2_again_106 ?_
              refine zo_ast hY hJ (by decide) (Or.inl ⟨rfl, rfl, dX2_again_109⟩) (fun q => (hCon _ q).2.2.2 32 30 30 rfl) h (fun j22 Ω23 h => ?_)
              refine zo_aload_n hY dX2_again_110 rfl 0 rfl ?_
              refine zo_dup hY dX2_again_111 (Or.inr ⟨_, rfl⟩) ?_
              refine zo_getI hY LX2_231_1 rfl dX2_again_112 ?_
              refine zo_iconst hY 1 (by decide) dX2_again_115 ?_
              refine zo_iadd hY dX2_again_116 ?_
              refine zo_putI hY hJ LX2_231_1 rfl (Or.inl rfl) dX2_again_117 h (fun Ω24 h => ?_)
              refine zo_aload_n hY dX2_again_120 rfl 0 rfl ?_
              refine zo_getI hY LX2_231_1 rfl dX2_again_121 ?_
              refine zo_iconst hY 1 (by decide) dX2_again_124 ?_
              refine zo_isub hY dX2_again_125 ?_
              exact zo_iret hY hr dX2_again_126 h
        · refine zo_sub [] rfl ?_
          exact ct_X2_again_75 hY hJ hCon hr N Ω5 _ h
      · refine zo_sub [] rfl ?_
        exact ct_X2_again_75 hY hJ hCon hr N Ω5 _ h
