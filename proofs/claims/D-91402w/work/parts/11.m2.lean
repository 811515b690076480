set_option maxRecDepth 100000
theorem LX2_107_1 : zo_FL RX2 107 1 41 := ⟨by decide, by decide, by decide, Or.inl ⟨_, q1312, Or.inl rfl⟩⟩
theorem LX2_111_1 : zo_FL RX2 111 1 42 := ⟨by decide, by decide, by decide, Or.inl ⟨_, q1313, Or.inl rfl⟩⟩
theorem LX2_114_1 : zo_FL RX2 114 1 43 := ⟨by decide, by decide, by decide, Or.inl ⟨_, q1314, Or.inl rfl⟩⟩
theorem LX2_117_1 : zo_FL RX2 117 1 44 := ⟨by decide, by decide, by decide, Or.inl ⟨_, q1315, Or.inl rfl⟩⟩
theorem LX2_235_1 : zo_FL RX2 235 1 54 := ⟨by decide, by decide, by decide, Or.inl ⟨_, q1325, Or.inl rfl⟩⟩
theorem LX2_138_1 : zo_FL RX2 138 1 53 := ⟨by decide, by decide, by decide, Or.inl ⟨_, q1324, Or.inl rfl⟩⟩
theorem LX2_238_1 : zo_FL RX2 238 1 58 := ⟨by decide, by decide, by decide, Or.inl ⟨_, q1329, Or.inl rfl⟩⟩
theorem LX2_241_1 : zo_FL RX2 241 1 57 := ⟨by decide, by decide, by decide, Or.inl ⟨_, q1328, Or.inl rfl⟩⟩
theorem cn_X2_byteAt : zo_Cn yX2_byteAt 1 := ⟨by decide, by decide, by decide +kernel⟩
theorem LX2_251_1 : zo_FL RX2 251 1 59 := ⟨by decide, by decide, by decide, Or.inl ⟨_, q1330, Or.inl rfl⟩⟩
theorem LX2_248_1 : zo_FL RX2 248 1 60 := ⟨by decide, by decide, by decide, Or.inl ⟨_, q1331, Or.inl rfl⟩⟩
theorem LX2_264_1 : zo_FL RX2 264 1 55 := ⟨by decide, by decide, by decide, Or.inl ⟨_, q1326, Or.inl rfl⟩⟩
theorem LX2_142_1 : zo_FL RX2 142 1 56 := ⟨by decide, by decide, by decide, Or.inl ⟨_, q1327, Or.inl rfl⟩⟩
theorem LX2_123_1 : zo_FL RX2 123 1 48 := ⟨by decide, by decide, by decide, Or.inl ⟨_, q1319, Or.inl rfl⟩⟩
theorem LX2_129_1 : zo_FL RX2 129 1 50 := ⟨by decide, by decide, by decide, Or.inl ⟨_, q1321, Or.inl rfl⟩⟩
theorem cn_X2_factOf : zo_Cn yX2_factOf 2 := ⟨by decide, by decide, by decide +kernel⟩
theorem LX2_132_1 : zo_FL RX2 132 1 51 := ⟨by decide, by decide, by decide, Or.inl ⟨_, q1322, Or.inl rfl⟩⟩
theorem LX2_135_1 : zo_FL RX2 135 1 52 := ⟨by decide, by decide, by decide, Or.inl ⟨_, q1323, Or.inl rfl⟩⟩
theorem LX2_126_1 : zo_FL RX2 126 1 49 := ⟨by decide, by decide, by decide, Or.inl ⟨_, q1320, Or.inl rfl⟩⟩
theorem LX2_154_1 : zo_FL RX2 154 1 64 := ⟨by decide, by decide, by decide, Or.inl ⟨_, q1335, Or.inl rfl⟩⟩
theorem cn_X2_bounds : zo_Cn yX2_bounds 3 := ⟨by decide, by decide, by decide +kernel⟩
theorem LX2_332_1 : zo_FL RX2 332 1 65 := ⟨by decide, by decide, by decide, Or.inl ⟨_, q1336, Or.inl rfl⟩⟩
theorem LX2_151_1 : zo_FL RX2 151 1 63 := ⟨by decide, by decide, by decide, Or.inl ⟨_, q1334, Or.inl rfl⟩⟩
theorem LX2_148_1 : zo_FL RX2 148 1 62 := ⟨by decide, by decide, by decide, Or.inl ⟨_, q1333, Or.inl rfl⟩⟩
theorem LX2_145_1 : zo_FL RX2 145 1 61 := ⟨by decide, by decide, by decide, Or.inl ⟨_, q1332, Or.inl rfl⟩⟩
theorem dX2_house_0 : decode cX2_house 0 = .ok (.aload_n 0, 1) := by decide +kernel
theorem dX2_house_1 : decode cX2_house 1 = .ok (.iconst 0, 1) := by decide +kernel
theorem dX2_house_2 : decode cX2_house 2 = .ok (.putfield 187, 3) := by decide +kernel
theorem dX2_house_5 : decode cX2_house 5 = .ok (.iload_n 1, 1) := by decide +kernel
theorem dX2_house_6 : decode cX2_house 6 = .ok (.iconst 0, 1) := by decide +kernel
theorem dX2_house_7 : decode cX2_house 7 = .ok (.bipush 30, 2) := by decide +kernel
theorem dX2_house_9 : decode cX2_house 9 = .ok (.invokestatic 190, 3) := by decide +kernel
theorem dX2_house_12 : decode cX2_house 12 = .ok (.ifCond .eq 24, 3) := by decide +kernel
theorem dX2_house_15 : decode cX2_house 15 = .ok (.iload_n 2, 1) := by decide +kernel
theorem dX2_house_16 : decode cX2_house 16 = .ok (.iconst 1, 1) := by decide +kernel
theorem dX2_house_17 : decode cX2_house 17 = .ok (.bipush 40, 2) := by decide +kernel
theorem dX2_house_19 : decode cX2_house 19 = .ok (.invokestatic 190, 3) := by decide +kernel
theorem dX2_house_22 : decode cX2_house 22 = .ok (.ifCond .eq 14, 3) := by decide +kernel
theorem dX2_house_25 : decode cX2_house 25 = .ok (.iload_n 3, 1) := by decide +kernel
theorem dX2_house_26 : decode cX2_house 26 = .ok (.iconst 1, 1) := by decide +kernel
theorem dX2_house_27 : decode cX2_house 27 = .ok (.sipush 999, 3) := by decide +kernel
theorem dX2_house_30 : decode cX2_house 30 = .ok (.invokestatic 190, 3) := by decide +kernel
theorem dX2_house_33 : decode cX2_house 33 = .ok (.ifCond .ne 5, 3) := by decide +kernel
theorem dX2_house_36 : decode cX2_house 36 = .ok (.iconst 0, 1) := by decide +kernel
theorem dX2_house_37 : decode cX2_house 37 = .ok (.ireturn, 1) := by decide +kernel
theorem dX2_house_38 : decode cX2_house 38 = .ok (.aload_n 0, 1) := by decide +kernel
theorem dX2_house_39 : decode cX2_house 39 = .ok (.iload_n 1, 1) := by decide +kernel
theorem dX2_house_40 : decode cX2_house 40 = .ok (.putfield 107, 3) := by decide +kernel
theorem dX2_house_43 : decode cX2_house 43 = .ok (.aload_n 0, 1) := by decide +kernel
theorem dX2_house_44 : decode cX2_house 44 = .ok (.iload_n 2, 1) := by decide +kernel
theorem dX2_house_45 : decode cX2_house 45 = .ok (.putfield 111, 3) := by decide +kernel
theorem dX2_house_48 : decode cX2_house 48 = .ok (.aload_n 0, 1) := by decide +kernel
theorem dX2_house_49 : decode cX2_house 49 = .ok (.iload_n 3, 1) := by decide +kernel
theorem dX2_house_50 : decode cX2_house 50 = .ok (.putfield 114, 3) := by decide +kernel
theorem dX2_house_53 : decode cX2_house 53 = .ok (.iconst 1, 1) := by decide +kernel
theorem dX2_house_54 : decode cX2_house 54 = .ok (.ireturn, 1) := by decide +kernel
def fn_X2_house_36 (N : Nat)   (Ω : zo_O) : Option zo_R :=
  rZ 0 Ω
theorem ct_X2_house_36 {Y : zo_Y} (hY : zo_Gd Y cX2_house 4 RX2 1) (hJ : zo_JC (zo_J Y)) (hCon : ∀ Ω, zo_J Y Ω → zo_Con Ω) (hr : zo_rt Y (Option.some Jvm.ClassFile.FieldType.boolean)) (N : Nat)    (Ω : zo_O) (res : zo_R) (h : fn_X2_house_36 N   Ω = some res) : TW Y res Ω 36 [] [] := by
  unfold fn_X2_house_36 at h
  refine zo_iconst hY 0 (by decide) dX2_house_36 ?_
  exact zo_zret hY hr dX2_house_37 h
def fn_X2_house (N : Nat) (x1 : Int32) (x2 : Int32) (x3 : Int32) (Ω : zo_O) : Option zo_R :=
  lt (sI Ω 1 0 0 0) fun Ω1 =>
  ci (fn_X2_within N x1 0 30 Ω1) fun r3 Ω2 =>
  if r3 = 0 then (
    fn_X2_house_36 N Ω2
    ) else
  ci (fn_X2_within N x2 1 40 Ω2) fun r6 Ω5 =>
  if r6 = 0 then (
    fn_X2_house_36 N Ω5
    ) else
  ci (fn_X2_within N x3 1 999 Ω5) fun r9 Ω8 =>
  if r9 = 0 then (
    fn_X2_house_36 N Ω8
    ) else
  lt (sI Ω8 1 0 41 x1) fun Ω11 =>
  lt (sI Ω11 1 0 42 x2) fun Ω12 =>
  lt (sI Ω12 1 0 43 x3) fun Ω13 =>
  rZ 1 Ω13
theorem mt_X2_house {G : zo_G} {J : zo_O → Prop} (hJ : zo_JC J) (hCon : ∀ Ω, J Ω → zo_Con Ω) (N : Nat) (x1 : Int32) (x2 : Int32) (x3 : Int32) (Ω : zo_O) (res : zo_R) (h : fn_X2_house N x1 x2 x3 Ω = some res) : zo_MT G J yX2_house cX2_house 4 (Option.some Jvm.ClassFile.FieldType.boolean) 1 [vr 1 0, vi x1, vi x2, vi x3] Ω res := by
  refine zo_enter (by decide) rfl (Nat.le_of_ble_eq_true rfl) (fun Y hY eJ hr hmn => ?_)
  subst eJ
  show TW Y res Ω 0 [(0, vr 1 0), (1, vi x1), (2, vi x2), (3, vi x3)] []
  unfold fn_X2_house at h
  refine zo_aload_n hY dX2_house_0 rfl 0 rfl ?_
  refine zo_iconst hY 0 (by decide) dX2_house_1 ?_
  refine zo_putI hY hJ LX2_187_1 rfl (Or.inl rfl) dX2_house_2 h (fun Ω1 h => ?_)
  refine zo_iload_n hY dX2_house_5 rfl 1 rfl ?_
  refine zo_iconst hY 0 (by decide) dX2_house_6 ?_
  refine zo_bipush hY 30 (by decide) dX2_house_7 ?_
  refine zo_callS hY (fun q hq => mt_X2_within hJ hCon N x1 0 30 Ω1 q hq) (by decide) (by decide) cn_X2_within rfl q1521 q1522 q82 q1523 (Nat.le_of_ble_eq_true rfl) dX2_house_9 rfl h (ci_k (fun r3 Ω2 res h => ?_))
  refine zo_if_eq hY 36 dX2_house_12 (by decide) h (fun c4 h => ?_) (fun c4 h => ?_)
  · refine zo_sub [] rfl ?_
    exact ct_X2_house_36 hY hJ hCon hr N Ω2 _ h
  · refine zo_iload_n hY dX2_house_15 rfl 2 rfl ?_
    refine zo_iconst hY 1 (by decide) dX2_house_16 ?_
    refine zo_bipush hY 40 (by decide) dX2_house_17 ?_
    refine zo_callS hY (fun q hq => mt_X2_within hJ hCon N x2 1 40 Ω2 q hq) (by decide) (by decide) cn_X2_within rfl q1521 q1522 q82 q1523 (Nat.le_of_ble_eq_true rfl) dX2_house_19 rfl h (ci_k (fun r6 Ω5 res h => ?_))
    refine zo_if_eq hY 36 dX2_house_22 (by decide) h (fun c7 h => ?_) (fun c7 h => ?_)
    · refine zo_sub [] rfl ?_
      exact ct_X2_house_36 hY hJ hCon hr N Ω5 _ h
    · refine zo_iload_n hY dX2_house_25 rfl 3 rfl ?_
      refine zo_iconst hY 1 (by decide) dX2_house_26 ?_
      refine zo_sipush hY 999 (by decide) dX2_house_27 ?_
      refine zo_callS hY (fun q hq => mt_X2_within hJ hCon N x3 1 999 Ω5 q hq) (by decide) (by decide) cn_X2_within rfl q1521 q1522 q82 q1523 (Nat.le_of_ble_eq_true rfl) dX2_house_30 rfl h (ci_k (fun r9 Ω8 res h => ?_))
      refine zo_if_ne hY 38 dX2_house_33 (by decide) h (fun c10 h => ?_) (fun c10 h => ?_)
      · refine zo_sub [] rfl ?_
        exact ct_X2_house_36 hY hJ hCon hr N Ω8 _ h
      · refine zo_aload_n hY dX2_house_38 rfl 0 rfl ?_
        refine zo_iload_n hY dX2_house_39 rfl 1 rfl ?_
        refine zo_putI hY hJ LX2_107_1 rfl (Or.inl rfl) dX2_house_40 h (fun Ω11 h => ?_)
        refine zo_aload_n hY dX2_house_43 rfl 0 rfl ?_
        refine zo_iload_n hY dX2_house_44 rfl 2 rfl ?_
        refine zo_putI hY hJ LX2_111_1 rfl (Or.inl rfl) dX2_house_45 h (fun Ω12 h => ?_)
        refine zo_aload_n hY dX2_house_48 rfl 0 rfl ?_
        refine zo_iload_n hY dX2_house_49 rfl 3 rfl ?_
        refine zo_putI hY hJ LX2_114_1 rfl (Or.inl rfl) dX2_house_50 h (fun Ω13 h => ?_)
        refine zo_iconst hY 1 (by decide) dX2_house_53 ?_
        exact zo_zret hY hr dX2_house_54 h
theorem dX2_delay_0 : decode cX2_delay 0 = .ok (.aload_n 0, 1) := by decide +kernel
theorem dX2_delay_1 : decode cX2_delay 1 = .ok (.iconst 0, 1) := by decide +kernel
theorem dX2_delay_2 : decode cX2_delay 2 = .ok (.putfield 187, 3) := by decide +kernel
theorem dX2_delay_5 : decode cX2_delay 5 = .ok (.iload_n 1, 1) := by decide +kernel
theorem dX2_delay_6 : decode cX2_delay 6 = .ok (.invokestatic 210, 3) := by decide +kernel
theorem dX2_delay_9 : decode cX2_delay 9 = .ok (.ifCond .eq 13, 3) := by decide +kernel
theorem dX2_delay_12 : decode cX2_delay 12 = .ok (.iload_n 2, 1) := by decide +kernel
theorem dX2_delay_13 : decode cX2_delay 13 = .ok (.iconst 0, 1) := by decide +kernel
theorem dX2_delay_14 : decode cX2_delay 14 = .ok (.bipush 60, 2) := by decide +kernel
theorem dX2_delay_16 : decode cX2_delay 16 = .ok (.invokestatic 190, 3) := by decide +kernel
theorem dX2_delay_19 : decode cX2_delay 19 = .ok (.ifCond .ne 5, 3) := by decide +kernel
theorem dX2_delay_22 : decode cX2_delay 22 = .ok (.iconst 0, 1) := by decide +kernel
theorem dX2_delay_23 : decode cX2_delay 23 = .ok (.ireturn, 1) := by decide +kernel
theorem dX2_delay_24 : decode cX2_delay 24 = .ok (.aload_n 0, 1) := by decide +kernel
theorem dX2_delay_25 : decode cX2_delay 25 = .ok (.getfield 117, 3) := by decide +kernel
theorem dX2_delay_28 : decode cX2_delay 28 = .ok (.iload_n 1, 1) := by decide +kernel
theorem dX2_delay_29 : decode cX2_delay 29 = .ok (.iload_n 2, 1) := by decide +kernel
theorem dX2_delay_30 : decode cX2_delay 30 = .ok (.iastore, 1) := by decide +kernel
theorem dX2_delay_31 : decode cX2_delay 31 = .ok (.iconst 1, 1) := by decide +kernel
theorem dX2_delay_32 : decode cX2_delay 32 = .ok (.ireturn, 1) := by decide +kernel
def fn_X2_delay_22 (N : Nat)   (Ω : zo_O) : Option zo_R :=
  rZ 0 Ω
theorem ct_X2_delay_22 {Y : zo_Y} (hY : zo_Gd Y cX2_delay 3 RX2 2) (hJ : zo_JC (zo_J Y)) (hCon : ∀ Ω, zo_J Y Ω → zo_Con Ω) (hr : zo_rt Y (Option.some Jvm.ClassFile.FieldType.boolean)) (N : Nat)    (Ω : zo_O) (res : zo_R) (h : fn_X2_delay_22 N   Ω = some res) : TW Y res Ω 22 [] [] := by
  unfold fn_X2_delay_22 at h
  refine zo_iconst hY 0 (by decide) dX2_delay_22 ?_
  exact zo_zret hY hr dX2_delay_23 h
def fn_X2_delay (N : Nat) (x1 : Int32) (x2 : Int32) (Ω : zo_O) : Option zo_R :=
  lt (sI Ω 1 0 0 0) fun Ω1 =>
  ci (fn_X2_isKind N x1 Ω1) fun r3 Ω2 =>
  if r3 = 0 then (
    fn_X2_delay_22 N Ω2
    ) else
  ci (fn_X2_within N x2 0 60 Ω2) fun r6 Ω5 =>
  if r6 = 0 then (
    fn_X2_delay_22 N Ω5
    ) else
  ix x1 3 fun j8 => lt (sI Ω5 32 31 j8 x2) fun Ω9 =>
  rZ 1 Ω9
theorem mt_X2_delay {G : zo_G} {J : zo_O → Prop} (hJ : zo_JC J) (hCon : ∀ Ω, J Ω → zo_Con Ω) (N : Nat) (x1 : Int32) (x2 : Int32) (Ω : zo_O) (res : zo_R) (h : fn_X2_delay N x1 x2 Ω = some res) : zo_MT G J yX2_delay cX2_delay 3 (Option.some Jvm.ClassFile.FieldType.boolean) 2 [vr 1 0, vi x1, vi x2] Ω res := by
  refine zo_enter (by decide) rfl (Nat.le_of_ble_eq_true rfl) (fun Y hY eJ hr hmn => ?_)
  subst eJ
  show TW Y res Ω 0 [(0, vr 1 0), (1, vi x1), (2, vi x2)] []
  unfold fn_X2_delay at h
  refine zo_aload_n hY dX2_delay_0 rfl 0 rfl ?_
  refine zo_iconst hY 0 (by decide) dX2_delay_1 ?_
  refine zo_putI hY hJ LX2_187_1 rfl (Or.inl rfl) dX2_delay_2 h (fun Ω1 h => ?_)
  refine zo_iload_n hY dX2_delay_5 rfl 1 rfl ?_
  refine zo_callS hY (fun q hq => mt_X2_isKind hJ hCon N x1 Ω1 q hq) (by decide) (by decide) cn_X2_isKind rfl q1535 q1536 q82 q1537 (Nat.le_of_ble_eq_true rfl) dX2_delay_6 rfl h (ci_k (fun r3 Ω2 res h => ?_))
  refine zo_if_eq hY 22 dX2_delay_9 (by decide) h (fun c4 h => ?_) (fun c4 h => ?_)
  · refine zo_sub [] rfl ?_
    exact ct_X2_delay_22 hY hJ hCon hr N Ω2 _ h
  · refine zo_iload_n hY dX2_delay_12 rfl 2 rfl ?_
    refine zo_iconst hY 0 (by decide) dX2_delay_13 ?_
    refine zo_bipush hY 60 (by decide) dX2_delay_14 ?_
    refine zo_callS hY (fun q hq => mt_X2_within hJ hCon N x2 0 60 Ω2 q hq) (by decide) (by decide) cn_X2_within rfl q1521 q1522 q82 q1523 (Nat.le_of_ble_eq_true rfl) dX2_delay_16 rfl h (ci_k (fun r6 Ω5 res h => ?_))
    refine zo_if_ne hY 24 dX2_delay_19 (by decide) h (fun c7 h => ?_) (fun c7 h => ?_)
    · refine zo_sub [] rfl ?_
      exact ct_X2_delay_22 hY hJ hCon hr N Ω5 _ h
    · refine zo_aload_n hY dX2_delay_24 rfl 0 rfl ?_
      refine zo_getC hY LX2_117_1 rfl (fun Ω q => (hCon Ω q).2.1 44 _ rfl) dX2_delay_25 ?_
      refine zo_iload_n hY dX2_delay_28 rfl 1 rfl ?_
      refine zo_iload_n hY dX2_delay_29 rfl 2 rfl ?_
      refine zo_ast hY hJ (by decide) (Or.inl ⟨rfl, rfl, dX2_delay_30⟩) (fun q => (hCon _ q).2.2.2 32 31 3 rfl) h (fun j8 Ω9 h => ?_)
      refine zo_iconst hY 1 (by decide) dX2_delay_31 ?_
      exact zo_zret hY hr dX2_delay_32 h
theorem dX2_day_0 : decode cX2_day 0 = .ok (.aload_n 0, 1) := by decide +kernel
theorem dX2_day_1 : decode cX2_day 1 = .ok (.iconst 0, 1) := by decide +kernel
theorem dX2_day_2 : decode cX2_day 2 = .ok (.putfield 187, 3) := by decide +kernel
theorem dX2_day_5 : decode cX2_day 5 = .ok (.iload_n 1, 1) := by decide +kernel
theorem dX2_day_6 : decode cX2_day 6 = .ok (.iconst 0, 1) := by decide +kernel
theorem dX2_day_7 : decode cX2_day 7 = .ok (.sipush 1000, 3) := by decide +kernel
theorem dX2_day_10 : decode cX2_day 10 = .ok (.invokestatic 190, 3) := by decide +kernel
theorem dX2_day_13 : decode cX2_day 13 = .ok (.ifCond .eq 14, 3) := by decide +kernel
theorem dX2_day_16 : decode cX2_day 16 = .ok (.aload_n 0, 1) := by decide +kernel
theorem dX2_day_17 : decode cX2_day 17 = .ok (.getfield 200, 3) := by decide +kernel
theorem dX2_day_20 : decode cX2_day 20 = .ok (.iload_n 1, 1) := by decide +kernel
theorem dX2_day_21 : decode cX2_day 21 = .ok (.iadd, 1) := by decide +kernel
theorem dX2_day_22 : decode cX2_day 22 = .ok (.ldc 234, 2) := by decide +kernel
theorem dX2_day_24 : decode cX2_day 24 = .ok (.if_icmp .le 5, 3) := by decide +kernel
theorem dX2_day_27 : decode cX2_day 27 = .ok (.iconst (-1), 1) := by decide +kernel
theorem dX2_day_28 : decode cX2_day 28 = .ok (.ireturn, 1) := by decide +kernel
theorem dX2_day_29 : decode cX2_day 29 = .ok (.aload_n 0, 1) := by decide +kernel
theorem dX2_day_30 : decode cX2_day 30 = .ok (.dup, 1) := by decide +kernel
theorem dX2_day_31 : decode cX2_day 31 = .ok (.getfield 200, 3) := by decide +kernel
theorem dX2_day_34 : decode cX2_day 34 = .ok (.iload_n 1, 1) := by decide +kernel
theorem dX2_day_35 : decode cX2_day 35 = .ok (.iadd, 1) := by decide +kernel
theorem dX2_day_36 : decode cX2_day 36 = .ok (.putfield 200, 3) := by decide +kernel
theorem dX2_day_39 : decode cX2_day 39 = .ok (.aload_n 0, 1) := by decide +kernel
theorem dX2_day_40 : decode cX2_day 40 = .ok (.getfield 200, 3) := by decide +kernel
theorem dX2_day_43 : decode cX2_day 43 = .ok (.ireturn, 1) := by decide +kernel
def fn_X2_day_27 (N : Nat)   (Ω : zo_O) : Option zo_R :=
  rI ((-1)) Ω
theorem ct_X2_day_27 {Y : zo_Y} (hY : zo_Gd Y cX2_day 2 RX2 1) (hJ : zo_JC (zo_J Y)) (hCon : ∀ Ω, zo_J Y Ω → zo_Con Ω) (hr : zo_rt Y (Option.some Jvm.ClassFile.FieldType.int)) (N : Nat)    (Ω : zo_O) (res : zo_R) (h : fn_X2_day_27 N   Ω = some res) : TW Y res Ω 27 [] [] := by
  unfold fn_X2_day_27 at h
  refine zo_iconst hY (-1) (by decide) dX2_day_27 ?_
  exact zo_iret hY hr dX2_day_28 h
def fn_X2_day (N : Nat) (x1 : Int32) (Ω : zo_O) : Option zo_R :=
  lt (sI Ω 1 0 0 0) fun Ω1 =>
  ci (fn_X2_within N x1 0 1000 Ω1) fun r3 Ω2 =>
  if r3 = 0 then (
    fn_X2_day_27 N Ω2
    ) else
  if (gI Ω2 1 0 1) + x1 ≤ 100000 then (
    lt (sI Ω2 1 0 1 ((gI Ω2 1 0 1) + x1)) fun Ω6 =>
    rI (gI Ω6 1 0 1) Ω6
    ) else
  fn_X2_day_27 N Ω2
theorem mt_X2_day {G : zo_G} {J : zo_O → Prop} (hJ : zo_JC J) (hCon : ∀ Ω, J Ω → zo_Con Ω) (N : Nat) (x1 : Int32) (Ω : zo_O) (res : zo_R) (h : fn_X2_day N x1 Ω = some res) : zo_MT G J yX2_day cX2_day 2 (Option.some Jvm.ClassFile.FieldType.int) 1 [vr 1 0, vi x1] Ω res := by
  refine zo_enter (by decide) rfl (Nat.le_of_ble_eq_true rfl) (fun Y hY eJ hr hmn => ?_)
  subst eJ
  show TW Y res Ω 0 [(0, vr 1 0), (1, vi x1)] []
  unfold fn_X2_day at h
  refine zo_aload_n hY dX2_day_0 rfl 0 rfl ?_
  refine zo_iconst hY 0 (by decide) dX2_day_1 ?_
  refine zo_putI hY hJ LX2_187_1 rfl (Or.inl rfl) dX2_day_2 h (fun Ω1 h => ?_)
  refine zo_iload_n hY dX2_day_5 rfl 1 rfl ?_
  refine zo_iconst hY 0 (by decide) dX2_day_6 ?_
  refine zo_sipush hY 1000 (by decide) dX2_day_7 ?_
  refine zo_callS hY (fun q hq => mt_X2_within hJ hCon N x1 0 1000 Ω1 q hq) (by decide) (by decide) cn_X2_within rfl q1521 q1522 q82 q1523 (Nat.le_of_ble_eq_true rfl) dX2_day_10 rfl h (ci_k (fun r3 Ω2 res h => ?_))
  refine zo_if_eq hY 27 dX2_day_13 (by decide) h (fun c4 h => ?_) (fun c4 h => ?_)
  · refine zo_sub [] rfl ?_
    exact ct_X2_day_27 hY hJ hCon hr N Ω2 _ h
  · refine zo_aload_n hY dX2_day_16 rfl 0 rfl ?_
    refine zo_getI hY LX2_200_1 rfl dX2_day_17 ?_
    refine zo_iload_n hY dX2_day_20 rfl 1 rfl ?_
    refine zo_iadd hY dX2_day_21 ?_
    refine zo_ldc hY q1577 dX2_day_22 ?_
    refine zo_icmp_le hY 29 dX2_day_24 (by decide) h (fun c5 h => ?_) (fun c5 h => ?_)
    · refine zo_aload_n hY dX2_day_29 rfl 0 rfl ?_
      refine zo_dup hY dX2_day_30 (Or.inr ⟨_, rfl⟩) ?_
      refine zo_getI hY LX2_200_1 rfl dX2_day_31 ?_
      refine zo_iload_n hY dX2_day_34 rfl 1 rfl ?_
      refine zo_iadd hY dX2_day_35 ?_
      refine zo_putI hY hJ LX2_200_1 rfl (Or.inl rfl) dX2_day_36 h (fun Ω6 h => ?_)
      refine zo_aload_n hY dX2_day_39 rfl 0 rfl ?_
      refine zo_getI hY LX2_200_1 rfl dX2_day_40 ?_
      exact zo_iret hY hr dX2_day_43 h
    · refine zo_sub [] rfl ?_
      exact ct_X2_day_27 hY hJ hCon hr N Ω2 _ h
theorem dX2_feed_0 : decode cX2_feed 0 = .ok (.aload_n 0, 1) := by decide +kernel
theorem dX2_feed_1 : decode cX2_feed 1 = .ok (.iconst 0, 1) := by decide +kernel
theorem dX2_feed_2 : decode cX2_feed 2 = .ok (.putfield 187, 3) := by decide +kernel
theorem dX2_feed_5 : decode cX2_feed 5 = .ok (.aload_n 0, 1) := by decide +kernel
theorem dX2_feed_6 : decode cX2_feed 6 = .ok (.getfield 235, 3) := by decide +kernel
theorem dX2_feed_9 : decode cX2_feed 9 = .ok (.sipush 280, 3) := by decide +kernel
theorem dX2_feed_12 : decode cX2_feed 12 = .ok (.if_icmp .le 5, 3) := by decide +kernel
theorem dX2_feed_15 : decode cX2_feed 15 = .ok (.iconst (-1), 1) := by decide +kernel
theorem dX2_feed_16 : decode cX2_feed 16 = .ok (.ireturn, 1) := by decide +kernel
theorem dX2_feed_17 : decode cX2_feed 17 = .ok (.iconst 0, 1) := by decide +kernel
theorem dX2_feed_18 : decode cX2_feed 18 = .ok (.istore 6, 2) := by decide +kernel
theorem dX2_feed_20 : decode cX2_feed 20 = .ok (.iload 6, 2) := by decide +kernel
theorem dX2_feed_22 : decode cX2_feed 22 = .ok (.bipush 20, 2) := by decide +kernel
theorem dX2_feed_24 : decode cX2_feed 24 = .ok (.if_icmp .ge 90, 3) := by decide +kernel
theorem dX2_feed_27 : decode cX2_feed 27 = .ok (.iload 6, 2) := by decide +kernel
theorem dX2_feed_29 : decode cX2_feed 29 = .ok (.iconst 4, 1) := by decide +kernel
theorem dX2_feed_30 : decode cX2_feed 30 = .ok (.if_icmp .ge 7, 3) := by decide +kernel
theorem dX2_feed_33 : decode cX2_feed 33 = .ok (.iload_n 1, 1) := by decide +kernel
theorem dX2_feed_34 : decode cX2_feed 34 = .ok (.goto 39, 3) := by decide +kernel
theorem dX2_feed_37 : decode cX2_feed 37 = .ok (.iload 6, 2) := by decide +kernel
theorem dX2_feed_39 : decode cX2_feed 39 = .ok (.bipush 8, 2) := by decide +kernel
theorem dX2_feed_41 : decode cX2_feed 41 = .ok (.if_icmp .ge 7, 3) := by decide +kernel
theorem dX2_feed_44 : decode cX2_feed 44 = .ok (.iload_n 2, 1) := by decide +kernel
theorem dX2_feed_45 : decode cX2_feed 45 = .ok (.goto 28, 3) := by decide +kernel
theorem dX2_feed_48 : decode cX2_feed 48 = .ok (.iload 6, 2) := by decide +kernel
theorem dX2_feed_50 : decode cX2_feed 50 = .ok (.bipush 12, 2) := by decide +kernel
theorem dX2_feed_52 : decode cX2_feed 52 = .ok (.if_icmp .ge 7, 3) := by decide +kernel
theorem dX2_feed_55 : decode cX2_feed 55 = .ok (.iload_n 3, 1) := by decide +kernel
theorem dX2_feed_56 : decode cX2_feed 56 = .ok (.goto 17, 3) := by decide +kernel
theorem dX2_feed_59 : decode cX2_feed 59 = .ok (.iload 6, 2) := by decide +kernel
theorem dX2_feed_61 : decode cX2_feed 61 = .ok (.bipush 16, 2) := by decide +kernel
theorem dX2_feed_63 : decode cX2_feed 63 = .ok (.if_icmp .ge 8, 3) := by decide +kernel
theorem dX2_feed_66 : decode cX2_feed 66 = .ok (.iload 4, 2) := by decide +kernel
theorem dX2_feed_68 : decode cX2_feed 68 = .ok (.goto 5, 3) := by decide +kernel
theorem dX2_feed_71 : decode cX2_feed 71 = .ok (.iload 5, 2) := by decide +kernel
theorem dX2_feed_73 : decode cX2_feed 73 = .ok (.istore 7, 2) := by decide +kernel
theorem dX2_feed_75 : decode cX2_feed 75 = .ok (.aload_n 0, 1) := by decide +kernel
theorem dX2_feed_76 : decode cX2_feed 76 = .ok (.getfield 138, 3) := by decide +kernel
theorem dX2_feed_79 : decode cX2_feed 79 = .ok (.aload_n 0, 1) := by decide +kernel
theorem dX2_feed_80 : decode cX2_feed 80 = .ok (.getfield 235, 3) := by decide +kernel
theorem dX2_feed_83 : decode cX2_feed 83 = .ok (.iload 7, 2) := by decide +kernel
theorem dX2_feed_85 : decode cX2_feed 85 = .ok (.bipush 24, 2) := by decide +kernel
theorem dX2_feed_87 : decode cX2_feed 87 = .ok (.bipush 8, 2) := by decide +kernel
theorem dX2_feed_89 : decode cX2_feed 89 = .ok (.iload 6, 2) := by decide +kernel
theorem dX2_feed_91 : decode cX2_feed 91 = .ok (.iconst 4, 1) := by decide +kernel
theorem dX2_feed_92 : decode cX2_feed 92 = .ok (.irem, 1) := by decide +kernel
theorem dX2_feed_93 : decode cX2_feed 93 = .ok (.imul, 1) := by decide +kernel
theorem dX2_feed_94 : decode cX2_feed 94 = .ok (.isub, 1) := by decide +kernel
theorem dX2_feed_95 : decode cX2_feed 95 = .ok (.ishr, 1) := by decide +kernel
theorem dX2_feed_96 : decode cX2_feed 96 = .ok (.i2b, 1) := by decide +kernel
theorem dX2_feed_97 : decode cX2_feed 97 = .ok (.bastore, 1) := by decide +kernel
theorem dX2_feed_98 : decode cX2_feed 98 = .ok (.aload_n 0, 1) := by decide +kernel
theorem dX2_feed_99 : decode cX2_feed 99 = .ok (.dup, 1) := by decide +kernel
theorem dX2_feed_100 : decode cX2_feed 100 = .ok (.getfield 235, 3) := by decide +kernel
theorem dX2_feed_103 : decode cX2_feed 103 = .ok (.iconst 1, 1) := by decide +kernel
theorem dX2_feed_104 : decode cX2_feed 104 = .ok (.iadd, 1) := by decide +kernel
theorem dX2_feed_105 : decode cX2_feed 105 = .ok (.putfield 235, 3) := by decide +kernel
theorem dX2_feed_108 : decode cX2_feed 108 = .ok (.iinc 6 1, 3) := by decide +kernel
theorem dX2_feed_111 : decode cX2_feed 111 = .ok (.goto (-91), 3) := by decide +kernel
theorem dX2_feed_114 : decode cX2_feed 114 = .ok (.aload_n 0, 1) := by decide +kernel
theorem dX2_feed_115 : decode cX2_feed 115 = .ok (.getfield 235, 3) := by decide +kernel
theorem dX2_feed_118 : decode cX2_feed 118 = .ok (.ireturn, 1) := by decide +kernel
def fn_X2_feed_73 (N : Nat) (K20 : Int32 → Int32 → Int32 → Int32 → Int32 → Int32 → zo_O → Option zo_R) (x1 : Int32) (x2 : Int32) (x3 : Int32) (x4 : Int32) (x5 : Int32) (x6 : Int32) (s0 : Int32) (Ω : zo_O) : Option zo_R :=
  gd (¬ ((4 : Int32)) = 0) <|
  ix (gI Ω 1 0 54) 300 fun j1 => lt (sI Ω 34 0 j1 (((s0 >>> ((24 - (8 * (x6 - x6 / 4 * 4)) : Int32) &&& 31)).toInt8.toInt32).toInt8.toInt32)) fun Ω2 =>
  lt (sI Ω2 1 0 54 ((gI Ω2 1 0 54) + 1)) fun Ω3 =>
  K20 x1 x2 x3 x4 x5 (x6 + 1) Ω3
theorem ct_X2_feed_73 {Y : zo_Y} (hY : zo_Gd Y cX2_feed 8 RX2 0) (hJ : zo_JC (zo_J Y)) (hCon : ∀ Ω, zo_J Y Ω → zo_Con Ω) (hr : zo_rt Y (Option.some Jvm.ClassFile.FieldType.int)) (N : Nat) (K20 : Int32 → Int32 → Int32 → Int32 → Int32 → Int32 → zo_O → Option zo_R) (hK20 : ∀ (x1 : Int32) (x2 : Int32) (x3 : Int32) (x4 : Int32) (x5 : Int32) (x6 : Int32) (Ω : zo_O) (res : zo_R), K20 x1 x2 x3 x4 x5 x6 Ω = some res → TW Y res Ω 20 [(0, vr 1 0), (1, vi x1), (2, vi x2), (3, vi x3), (4, vi x4), (5, vi x5), (6, vi x6)] []) (x1 : Int32) (x2 : Int32) (x3 : Int32) (x4 : Int32) (x5 : Int32) (x6 : Int32) (s0 : Int32) (Ω : zo_O) (res : zo_R) (h : fn_X2_feed_73 N K20 x1 x2 x3 x4 x5 x6 s0 Ω = some res) : TW Y res Ω 73 [(0, vr 1 0), (1, vi x1), (2, vi x2), (3, vi x3), (4, vi x4), (5, vi x5), (6, vi x6)] [vi s0] := by
  unfold fn_X2_feed_73 at h
  refine zo_istore hY dX2_feed_73 (by decide) rfl (ls' := [(7, vi s0), (0, vr 1 0), (1, vi x1), (2, vi x2), (3, vi x3), (4, vi x4), (5, vi x5), (6, vi x6)]) rfl ?_
  refine zo_aload_n hY dX2_feed_75 rfl 1 rfl ?_
  refine zo_getC hY LX2_138_1 rfl (fun Ω q => (hCon Ω q).2.1 53 _ rfl) dX2_feed_76 ?_
  refine zo_aload_n hY dX2_feed_79 rfl 1 rfl ?_
  refine zo_getI hY LX2_235_1 rfl dX2_feed_80 ?_
  refine zo_iload hY dX2_feed_83 0 rfl ?_
  refine zo_bipush hY 24 (by decide) dX2_feed_85 ?_
  refine zo_bipush hY 8 (by decide) dX2_feed_87 ?_
  refine zo_iload hY dX2_feed_89 7 rfl ?_
  refine zo_iconst hY 4 (by decide) dX2_feed_91 ?_
  refine zo_irem hY dX2_feed_92 h (fun h => ?_)
  refine zo_imul hY dX2_feed_93 ?_
  refine zo_isub hY dX2_feed_94 ?_
  refine zo_ishr hY dX2_feed_95 ?_
  refine zo_i2b hY dX2_feed_96 ?_
  refine zo_ast hY hJ (by decide) (Or.inr (Or.inl ⟨rfl, rfl, dX2_feed_97⟩)) (fun q => (hCon _ q).2.2.2 34 0 300 rfl) h (fun j1 Ω2 h => ?_)
  refine zo_aload_n hY dX2_feed_98 rfl 1 rfl ?_
  refine zo_dup hY dX2_feed_99 (Or.inr ⟨_, rfl⟩) ?_
  refine zo_getI hY LX2_235_1 rfl dX2_feed_100 ?_
  refine zo_iconst hY 1 (by decide) dX2_feed_103 ?_
  refine zo_iadd hY dX2_feed_104 ?_
  refine zo_putI hY hJ LX2_235_1 rfl (Or.inl rfl) dX2_feed_105 h (fun Ω3 h => ?_)
  refine zo_iinc hY 1 dX2_feed_108 (by decide) (by decide) 7 rfl rfl (ls' := [(6, vi (x6 + 1)), (7, vi s0), (0, vr 1 0), (1, vi x1), (2, vi x2), (3, vi x3), (4, vi x4), (5, vi x5)]) rfl ?_
  refine zo_goto hY 20 dX2_feed_111 (by decide) ?_
  refine zo_sub [2, 3, 4, 5, 6, 7, 0] rfl ?_
  exact hK20 x1 x2 x3 x4 x5 (x6 + 1) Ω3 _ h
def bd_X2_feed_20 (N : Nat)  (K20 : Int32 → Int32 → Int32 → Int32 → Int32 → Int32 → zo_O → Option zo_R) (x1 : Int32) (x2 : Int32) (x3 : Int32) (x4 : Int32) (x5 : Int32) (x6 : Int32) (Ω : zo_O) : Option zo_R :=
  if 20 ≤ x6 then (
    rI (gI Ω 1 0 54) Ω
    ) else
  if 4 ≤ x6 then (
    if 8 ≤ x6 then (
      if 12 ≤ x6 then (
        if 16 ≤ x6 then (
          fn_X2_feed_73 N K20 x1 x2 x3 x4 x5 x6 x5 Ω
          ) else
        fn_X2_feed_73 N K20 x1 x2 x3 x4 x5 x6 x4 Ω
        ) else
      fn_X2_feed_73 N K20 x1 x2 x3 x4 x5 x6 x3 Ω
      ) else
    fn_X2_feed_73 N K20 x1 x2 x3 x4 x5 x6 x2 Ω
    ) else
  fn_X2_feed_73 N K20 x1 x2 x3 x4 x5 x6 x1 Ω
theorem cb_X2_feed_20 {Y : zo_Y} (hY : zo_Gd Y cX2_feed 8 RX2 0) (hJ : zo_JC (zo_J Y)) (hCon : ∀ Ω, zo_J Y Ω → zo_Con Ω) (hr : zo_rt Y (Option.some Jvm.ClassFile.FieldType.int)) (N : Nat)  (K20 : Int32 → Int32 → Int32 → Int32 → Int32 → Int32 → zo_O → Option zo_R)  (hK20 : ∀ (x1 : Int32) (x2 : Int32) (x3 : Int32) (x4 : Int32) (x5 : Int32) (x6 : Int32) (Ω : zo_O) (res : zo_R), K20 x1 x2 x3 x4 x5 x6 Ω = some res → TW Y res Ω 20 [(0, vr 1 0), (1, vi x1), (2, vi x2), (3, vi x3), (4, vi x4), (5, vi x5), (6, vi x6)] []) (x1 : Int32) (x2 : Int32) (x3 : Int32) (x4 : Int32) (x5 : Int32) (x6 : Int32) (Ω : zo_O) (res : zo_R) (h : bd_X2_feed_20 N  K20 x1 x2 x3 x4 x5 x6 Ω = some res) : TW Y res Ω 20 [(0, vr 1 0), (1, vi x1), (2, vi x2), (3, vi x3), (4, vi x4), (5, vi x5), (6, vi x6)] [] := by
  unfold bd_X2_feed_20 at h
  refine zo_iload hY dX2_feed_20 6 rfl ?_
  refine zo_bipush hY 20 (by decide) dX2_feed_22 ?_
  refine zo_icmp_ge hY 114 dX2_feed_24 (by decide) h (fun c1 h => ?_) (fun c1 h => ?_)
  · refine zo_aload_n hY dX2_feed_114 rfl 0 rfl ?_
    refine zo_getI hY LX2_235_1 rfl dX2_feed_115 ?_
    exact zo_iret hY hr dX2_feed_118 h
  · refine zo_iload hY dX2_feed_27 6 rfl ?_
    refine zo_iconst hY 4 (by decide) dX2_feed_29 ?_
    refine zo_icmp_ge hY 37 dX2_feed_30 (by decide) h (fun c2 h => ?_) (fun c2 h => ?_)
    · refine zo_iload hY dX2_feed_37 6 rfl ?_
      refine zo_bipush hY 8 (by decide) dX2_feed_39 ?_
      refine zo_icmp_ge hY 48 dX2_feed_41 (by decide) h (fun c3 h => ?_) (fun c3 h => ?_)
      · refine zo_iload hY dX2_feed_48 6 rfl ?_
        refine zo_bipush hY 12 (by decide) dX2_feed_50 ?_
        refine zo_icmp_ge hY 59 dX2_feed_52 (by decide) h (fun c4 h => ?_) (fun c4 h => ?_)
        · refine zo_iload hY dX2_feed_59 6 rfl ?_
          refine zo_bipush hY 16 (by decide) dX2_feed_61 ?_
          refine zo_icmp_ge hY 71 dX2_feed_63 (by decide) h (fun c5 h => ?_) (fun c5 h => ?_)
          · refine zo_iload hY dX2_feed_71 5 rfl ?_
            exact ct_X2_feed_73 hY hJ hCon hr N K20 hK20 x1 x2 x3 x4 x5 x6 x5 Ω _ h
          · refine zo_iload hY dX2_feed_66 4 rfl ?_
            refine zo_goto hY 73 dX2_feed_68 (by decide) ?_
            exact ct_X2_feed_73 hY hJ hCon hr N K20 hK20 x1 x2 x3 x4 x5 x6 x4 Ω _ h
        · refine zo_iload_n hY dX2_feed_55 rfl 3 rfl ?_
          refine zo_goto hY 73 dX2_feed_56 (by decide) ?_
          exact ct_X2_feed_73 hY hJ hCon hr N K20 hK20 x1 x2 x3 x4 x5 x6 x3 Ω _ h
      · refine zo_iload_n hY dX2_feed_44 rfl 2 rfl ?_
        refine zo_goto hY 73 dX2_feed_45 (by decide) ?_
        exact ct_X2_feed_73 hY hJ hCon hr N K20 hK20 x1 x2 x3 x4 x5 x6 x2 Ω _ h
    · refine zo_iload_n hY dX2_feed_33 rfl 1 rfl ?_
      refine zo_goto hY 73 dX2_feed_34 (by decide) ?_
      exact ct_X2_feed_73 hY hJ hCon hr N K20 hK20 x1 x2 x3 x4 x5 x6 x1 Ω _ h
def fn_X2_feed_20 (N : Nat)  : Nat → Int32 → Int32 → Int32 → Int32 → Int32 → Int32 → zo_O → Option zo_R
  | 0, _, _, _, _, _, _, _ => none
  | n + 1, x1, x2, x3, x4, x5, x6, Ω => bd_X2_feed_20 N  (fn_X2_feed_20 N  n) x1 x2 x3 x4 x5 x6 Ω
theorem ct_X2_feed_20 {Y : zo_Y} (hY : zo_Gd Y cX2_feed 8 RX2 0) (hJ : zo_JC (zo_J Y)) (hCon : ∀ Ω, zo_J Y Ω → zo_Con Ω) (hr : zo_rt Y (Option.some Jvm.ClassFile.FieldType.int)) (N : Nat)   : ∀ (n : Nat) (x1 : Int32) (x2 : Int32) (x3 : Int32) (x4 : Int32) (x5 : Int32) (x6 : Int32) (Ω : zo_O) (res : zo_R), fn_X2_feed_20 N  n x1 x2 x3 x4 x5 x6 Ω = some res → TW Y res Ω 20 [(0, vr 1 0), (1, vi x1), (2, vi x2), (3, vi x3), (4, vi x4), (5, vi x5), (6, vi x6)] [] := by
  intro n
  induction n with
  | zero => intro x1 x2 x3 x4 x5 x6 Ω res h; exact nomatch (show (none : Option zo_R) = some res from h)
  | succ n ih => intro x1 x2 x3 x4 x5 x6 Ω res h; exact cb_X2_feed_20 hY hJ hCon hr N  (fn_X2_feed_20 N  n)  ih x1 x2 x3 x4 x5 x6 Ω res h
def fn_X2_feed (N : Nat) (x1 : Int32) (x2 : Int32) (x3 : Int32) (x4 : Int32) (x5 : Int32) (Ω : zo_O) : Option zo_R :=
  lt (sI Ω 1 0 0 0) fun Ω1 =>
  if gI Ω1 1 0 54 ≤ 280 then (
    fn_X2_feed_20 N N x1 x2 x3 x4 x5 0 Ω1
    ) else
  rI ((-1)) Ω1
theorem mt_X2_feed {G : zo_G} {J : zo_O → Prop} (hJ : zo_JC J) (hCon : ∀ Ω, J Ω → zo_Con Ω) (N : Nat) (x1 : Int32) (x2 : Int32) (x3 : Int32) (x4 : Int32) (x5 : Int32) (Ω : zo_O) (res : zo_R) (h : fn_X2_feed N x1 x2 x3 x4 x5 Ω = some res) : zo_MT G J yX2_feed cX2_feed 8 (Option.some Jvm.ClassFile.FieldType.int) 0 [vr 1 0, vi x1, vi x2, vi x3, vi x4, vi x5] Ω res := by
  refine zo_enter (by decide) rfl (Nat.le_of_ble_eq_true rfl) (fun Y hY eJ hr hmn => ?_)
  subst eJ
  show TW Y res Ω 0 [(0, vr 1 0), (1, vi x1), (2, vi x2), (3, vi x3), (4, vi x4), (5, vi x5)] []
  unfold fn_X2_feed at h
  refine zo_aload_n hY dX2_feed_0 rfl 0 rfl ?_
  refine zo_iconst hY 0 (by decide) dX2_feed_1 ?_
  refine zo_putI hY hJ LX2_187_1 rfl (Or.inl rfl) dX2_feed_2 h (fun Ω1 h => ?_)
  refine zo_aload_n hY dX2_feed_5 rfl 0 rfl ?_
  refine zo_getI hY LX2_235_1 rfl dX2_feed_6 ?_
  refine zo_sipush hY 280 (by decide) dX2_feed_9 ?_
  refine zo_icmp_le hY 17 dX2_feed_12 (by decide) h (fun c2 h => ?_) (fun c2 h => ?_)
  · refine zo_iconst hY 0 (by decide) dX2_feed_17 ?_
    refine zo_istore hY dX2_feed_18 (by decide) rfl (ls' := [(6, vi 0), (0, vr 1 0), (1, vi x1), (2, vi x2), (3, vi x3), (4, vi x4), (5, vi x5)]) rfl ?_
    refine zo_sub [1, 2, 3, 4, 5, 6, 0] rfl ?_
    exact ct_X2_feed_20 hY hJ hCon hr N N x1 x2 x3 x4 x5 0 Ω1 _ h
  · refine zo_iconst hY (-1) (by decide) dX2_feed_15 ?_
    exact zo_iret hY hr dX2_feed_16 h
theorem dX2_end_0 : decode cX2_end 0 = .ok (.aload_n 0, 1) := by decide +kernel
theorem dX2_end_1 : decode cX2_end 1 = .ok (.iconst 0, 1) := by decide +kernel
theorem dX2_end_2 : decode cX2_end 2 = .ok (.putfield 187, 3) := by decide +kernel
theorem dX2_end_5 : decode cX2_end 5 = .ok (.iload_n 1, 1) := by decide +kernel
theorem dX2_end_6 : decode cX2_end 6 = .ok (.iconst 0, 1) := by decide +kernel
theorem dX2_end_7 : decode cX2_end 7 = .ok (.aload_n 0, 1) := by decide +kernel
theorem dX2_end_8 : decode cX2_end 8 = .ok (.getfield 235, 3) := by decide +kernel
theorem dX2_end_11 : decode cX2_end 11 = .ok (.invokestatic 190, 3) := by decide +kernel
theorem dX2_end_14 : decode cX2_end 14 = .ok (.ifCond .ne 5, 3) := by decide +kernel
theorem dX2_end_17 : decode cX2_end 17 = .ok (.iconst (-1), 1) := by decide +kernel
theorem dX2_end_18 : decode cX2_end 18 = .ok (.ireturn, 1) := by decide +kernel
theorem dX2_end_19 : decode cX2_end 19 = .ok (.aload_n 0, 1) := by decide +kernel
theorem dX2_end_20 : decode cX2_end 20 = .ok (.iload_n 1, 1) := by decide +kernel
theorem dX2_end_21 : decode cX2_end 21 = .ok (.putfield 235, 3) := by decide +kernel
theorem dX2_end_24 : decode cX2_end 24 = .ok (.iload_n 1, 1) := by decide +kernel
theorem dX2_end_25 : decode cX2_end 25 = .ok (.ireturn, 1) := by decide +kernel
def fn_X2_end (N : Nat) (x1 : Int32) (Ω : zo_O) : Option zo_R :=
  lt (sI Ω 1 0 0 0) fun Ω1 =>
  ci (fn_X2_within N x1 0 (gI Ω1 1 0 54) Ω1) fun r3 Ω2 =>
  if r3 = 0 then (
    rI ((-1)) Ω2
    ) else
  lt (sI Ω2 1 0 54 x1) fun Ω5 =>
  rI x1 Ω5
theorem mt_X2_end {G : zo_G} {J : zo_O → Prop} (hJ : zo_JC J) (hCon : ∀ Ω, J Ω → zo_Con Ω) (N : Nat) (x1 : Int32) (Ω : zo_O) (res : zo_R) (h : fn_X2_end N x1 Ω = some res) : zo_MT G J yX2_end cX2_end 2 (Option.some Jvm.ClassFile.FieldType.int) 1 [vr 1 0, vi x1] Ω res := by
  refine zo_enter (by decide) rfl (Nat.le_of_ble_eq_true rfl) (fun Y hY eJ hr hmn => ?_)
  subst eJ
  show TW Y res Ω 0 [(0, vr 1 0), (1, vi x1)] []
  unfold fn_X2_end at h
  refine zo_aload_n hY dX2_end_0 rfl 0 rfl ?_
  refine zo_iconst hY 0 (by decide) dX2_end_1 ?_
  refine zo_putI hY hJ LX2_187_1 rfl (Or.inl rfl) dX2_end_2 h (fun Ω1 h => ?_)
  refine zo_iload_n hY dX2_end_5 rfl 1 rfl ?_
  refine zo_iconst hY 0 (by decide) dX2_end_6 ?_
  refine zo_aload_n hY dX2_end_7 rfl 0 rfl ?_
  refine zo_getI hY LX2_235_1 rfl dX2_end_8 ?_
  refine zo_callS hY (fun q hq => mt_X2_within hJ hCon N x1 0 (gI Ω1 1 0 54) Ω1 q hq) (by decide) (by decide) cn_X2_within rfl q1521 q1522 q82 q1523 (Nat.le_of_ble_eq_true rfl) dX2_end_11 rfl h (ci_k (fun r3 Ω2 res h => ?_))
  refine zo_if_ne hY 19 dX2_end_14 (by decide) h (fun c4 h => ?_) (fun c4 h => ?_)
  · refine zo_iconst hY (-1) (by decide) dX2_end_17 ?_
    exact zo_iret hY hr dX2_end_18 h
  · refine zo_aload_n hY dX2_end_19 rfl 0 rfl ?_
    refine zo_iload_n hY dX2_end_20 rfl 1 rfl ?_
    refine zo_putI hY hJ LX2_235_1 rfl (Or.inl rfl) dX2_end_21 h (fun Ω5 h => ?_)
    refine zo_iload_n hY dX2_end_24 rfl 1 rfl ?_
    exact zo_iret hY hr dX2_end_25 h
theorem dX2_byteAt_0 : decode cX2_byteAt 0 = .ok (.iload_n 1, 1) := by decide +kernel
theorem dX2_byteAt_1 : decode cX2_byteAt 1 = .ok (.aload_n 0, 1) := by decide +kernel
theorem dX2_byteAt_2 : decode cX2_byteAt 2 = .ok (.getfield 235, 3) := by decide +kernel
theorem dX2_byteAt_5 : decode cX2_byteAt 5 = .ok (.if_icmp .ge 16, 3) := by decide +kernel
theorem dX2_byteAt_8 : decode cX2_byteAt 8 = .ok (.aload_n 0, 1) := by decide +kernel
theorem dX2_byteAt_9 : decode cX2_byteAt 9 = .ok (.getfield 138, 3) := by decide +kernel
theorem dX2_byteAt_12 : decode cX2_byteAt 12 = .ok (.iload_n 1, 1) := by decide +kernel
theorem dX2_byteAt_13 : decode cX2_byteAt 13 = .ok (.baload, 1) := by decide +kernel
theorem dX2_byteAt_14 : decode cX2_byteAt 14 = .ok (.sipush 255, 3) := by decide +kernel
theorem dX2_byteAt_17 : decode cX2_byteAt 17 = .ok (.iand, 1) := by decide +kernel
theorem dX2_byteAt_18 : decode cX2_byteAt 18 = .ok (.goto 4, 3) := by decide +kernel
theorem dX2_byteAt_21 : decode cX2_byteAt 21 = .ok (.iconst 0, 1) := by decide +kernel
theorem dX2_byteAt_22 : decode cX2_byteAt 22 = .ok (.ireturn, 1) := by decide +kernel
def fn_X2_byteAt_22 (N : Nat)  (s0 : Int32) (Ω : zo_O) : Option zo_R :=
  rI s0 Ω
theorem ct_X2_byteAt_22 {Y : zo_Y} (hY : zo_Gd Y cX2_byteAt 2 RX2 0) (hJ : zo_JC (zo_J Y)) (hCon : ∀ Ω, zo_J Y Ω → zo_Con Ω) (hr : zo_rt Y (Option.some Jvm.ClassFile.FieldType.int)) (N : Nat)   (s0 : Int32) (Ω : zo_O) (res : zo_R) (h : fn_X2_byteAt_22 N  s0 Ω = some res) : TW Y res Ω 22 [] [vi s0] := by
  unfold fn_X2_byteAt_22 at h
  exact zo_iret hY hr dX2_byteAt_22 h
def fn_X2_byteAt (N : Nat) (x1 : Int32) (Ω : zo_O) : Option zo_R :=
  if gI Ω 1 0 54 ≤ x1 then (
    fn_X2_byteAt_22 N 0 Ω
    ) else
  ix x1 300 fun j2 =>
  fn_X2_byteAt_22 N ((gI Ω 34 0 j2) &&& 255) Ω
theorem mt_X2_byteAt {G : zo_G} {J : zo_O → Prop} (hJ : zo_JC J) (hCon : ∀ Ω, J Ω → zo_Con Ω) (N : Nat) (x1 : Int32) (Ω : zo_O) (res : zo_R) (h : fn_X2_byteAt N x1 Ω = some res) : zo_MT G J yX2_byteAt cX2_byteAt 2 (Option.some Jvm.ClassFile.FieldType.int) 0 [vr 1 0, vi x1] Ω res := by
  refine zo_enter (by decide) rfl (Nat.le_of_ble_eq_true rfl) (fun Y hY eJ hr hmn => ?_)
  subst eJ
  show TW Y res Ω 0 [(0, vr 1 0), (1, vi x1)] []
  unfold fn_X2_byteAt at h
  refine zo_iload_n hY dX2_byteAt_0 rfl 1 rfl ?_
  refine zo_aload_n hY dX2_byteAt_1 rfl 0 rfl ?_
  refine zo_getI hY LX2_235_1 rfl dX2_byteAt_2 ?_
  refine zo_icmp_ge hY 21 dX2_byteAt_5 (by decide) h (fun c1 h => ?_) (fun c1 h => ?_)
  · refine zo_iconst hY 0 (by decide) dX2_byteAt_21 ?_
    refine zo_sub [] rfl ?_
    exact ct_X2_byteAt_22 hY hJ hCon hr N 0 Ω _ h
  · refine zo_aload_n hY dX2_byteAt_8 rfl 0 rfl ?_
    refine zo_getC hY LX2_138_1 rfl (fun Ω q => (hCon Ω q).2.1 53 _ rfl) dX2_byteAt_9 ?_
    refine zo_iload_n hY dX2_byteAt_12 rfl 1 rfl ?_
    refine zo_ald hY (by decide) (Or.inr ⟨Or.inl rfl, dX2_byteAt_13⟩) (fun q => (hCon _ q).2.2.2 34 0 300 rfl) h (fun j2 h => ?_)
    refine zo_sipush hY 255 (by decide) dX2_byteAt_14 ?_
    refine zo_iand hY dX2_byteAt_17 ?_
    refine zo_goto hY 22 dX2_byteAt_18 (by decide) ?_
    refine zo_sub [] rfl ?_
    exact ct_X2_byteAt_22 hY hJ hCon hr N ((gI Ω 34 0 j2) &&& 255) Ω _ h
theorem dX2_next_0 : decode cX2_next 0 = .ok (.aload_n 0, 1) := by decide +kernel
theorem dX2_next_1 : decode cX2_next 1 = .ok (.aload_n 0, 1) := by decide +kernel
theorem dX2_next_2 : decode cX2_next 2 = .ok (.getfield 238, 3) := by decide +kernel
theorem dX2_next_5 : decode cX2_next 5 = .ok (.putfield 241, 3) := by decide +kernel
theorem dX2_next_8 : decode cX2_next 8 = .ok (.aload_n 0, 1) := by decide +kernel
theorem dX2_next_9 : decode cX2_next 9 = .ok (.aload_n 0, 1) := by decide +kernel
theorem dX2_next_10 : decode cX2_next 10 = .ok (.getfield 241, 3) := by decide +kernel
theorem dX2_next_13 : decode cX2_next 13 = .ok (.invokevirtual 244, 3) := by decide +kernel
theorem dX2_next_16 : decode cX2_next 16 = .ok (.bipush 32, 2) := by decide +kernel
theorem dX2_next_18 : decode cX2_next 18 = .ok (.if_icmp .eq 16, 3) := by decide +kernel
theorem dX2_next_21 : decode cX2_next 21 = .ok (.aload_n 0, 1) := by decide +kernel
theorem dX2_next_22 : decode cX2_next 22 = .ok (.aload_n 0, 1) := by decide +kernel
theorem dX2_next_23 : decode cX2_next 23 = .ok (.getfield 241, 3) := by decide +kernel
theorem dX2_next_26 : decode cX2_next 26 = .ok (.invokevirtual 244, 3) := by decide +kernel
theorem dX2_next_29 : decode cX2_next 29 = .ok (.bipush 10, 2) := by decide +kernel
theorem dX2_next_31 : decode cX2_next 31 = .ok (.if_icmp .ne 16, 3) := by decide +kernel
theorem dX2_next_34 : decode cX2_next 34 = .ok (.aload_n 0, 1) := by decide +kernel
theorem dX2_next_35 : decode cX2_next 35 = .ok (.dup, 1) := by decide +kernel
theorem dX2_next_36 : decode cX2_next 36 = .ok (.getfield 241, 3) := by decide +kernel
theorem dX2_next_39 : decode cX2_next 39 = .ok (.iconst 1, 1) := by decide +kernel
theorem dX2_next_40 : decode cX2_next 40 = .ok (.iadd, 1) := by decide +kernel
theorem dX2_next_41 : decode cX2_next 41 = .ok (.putfield 241, 3) := by decide +kernel
theorem dX2_next_44 : decode cX2_next 44 = .ok (.goto (-36), 3) := by decide +kernel
theorem dX2_next_47 : decode cX2_next 47 = .ok (.aload_n 0, 1) := by decide +kernel
theorem dX2_next_48 : decode cX2_next 48 = .ok (.aload_n 0, 1) := by decide +kernel
theorem dX2_next_49 : decode cX2_next 49 = .ok (.getfield 241, 3) := by decide +kernel
theorem dX2_next_52 : decode cX2_next 52 = .ok (.putfield 238, 3) := by decide +kernel
theorem dX2_next_55 : decode cX2_next 55 = .ok (.aload_n 0, 1) := by decide +kernel
theorem dX2_next_56 : decode cX2_next 56 = .ok (.aload_n 0, 1) := by decide +kernel
theorem dX2_next_57 : decode cX2_next 57 = .ok (.getfield 241, 3) := by decide +kernel
theorem dX2_next_60 : decode cX2_next 60 = .ok (.invokevirtual 244, 3) := by decide +kernel
theorem dX2_next_63 : decode cX2_next 63 = .ok (.istore_n 1, 1) := by decide +kernel
theorem dX2_next_64 : decode cX2_next 64 = .ok (.aload_n 0, 1) := by decide +kernel
theorem dX2_next_65 : decode cX2_next 65 = .ok (.getfield 241, 3) := by decide +kernel
theorem dX2_next_68 : decode cX2_next 68 = .ok (.aload_n 0, 1) := by decide +kernel
theorem dX2_next_69 : decode cX2_next 69 = .ok (.getfield 235, 3) := by decide +kernel
theorem dX2_next_72 : decode cX2_next 72 = .ok (.if_icmp .lt 11, 3) := by decide +kernel
theorem dX2_next_75 : decode cX2_next 75 = .ok (.aload_n 0, 1) := by decide +kernel
theorem dX2_next_76 : decode cX2_next 76 = .ok (.iconst 0, 1) := by decide +kernel
theorem dX2_next_77 : decode cX2_next 77 = .ok (.putfield 248, 3) := by decide +kernel
theorem dX2_next_80 : decode cX2_next 80 = .ok (.goto 204, 3) := by decide +kernel
theorem dX2_next_83 : decode cX2_next 83 = .ok (.iload_n 1, 1) := by decide +kernel
theorem dX2_next_84 : decode cX2_next 84 = .ok (.bipush 97, 2) := by decide +kernel
theorem dX2_next_86 : decode cX2_next 86 = .ok (.bipush 122, 2) := by decide +kernel
theorem dX2_next_88 : decode cX2_next 88 = .ok (.invokestatic 190, 3) := by decide +kernel
theorem dX2_next_91 : decode cX2_next 91 = .ok (.ifCond .eq 42, 3) := by decide +kernel
theorem dX2_next_94 : decode cX2_next 94 = .ok (.aload_n 0, 1) := by decide +kernel
theorem dX2_next_95 : decode cX2_next 95 = .ok (.aload_n 0, 1) := by decide +kernel
theorem dX2_next_96 : decode cX2_next 96 = .ok (.getfield 238, 3) := by decide +kernel
theorem dX2_next_99 : decode cX2_next 99 = .ok (.invokevirtual 244, 3) := by decide +kernel
theorem dX2_next_102 : decode cX2_next 102 = .ok (.bipush 97, 2) := by decide +kernel
theorem dX2_next_104 : decode cX2_next 104 = .ok (.bipush 122, 2) := by decide +kernel
theorem dX2_next_106 : decode cX2_next 106 = .ok (.invokestatic 190, 3) := by decide +kernel
theorem dX2_next_109 : decode cX2_next 109 = .ok (.ifCond .eq 16, 3) := by decide +kernel
theorem dX2_next_112 : decode cX2_next 112 = .ok (.aload_n 0, 1) := by decide +kernel
theorem dX2_next_113 : decode cX2_next 113 = .ok (.dup, 1) := by decide +kernel
theorem dX2_next_114 : decode cX2_next 114 = .ok (.getfield 238, 3) := by decide +kernel
theorem dX2_next_117 : decode cX2_next 117 = .ok (.iconst 1, 1) := by decide +kernel
theorem dX2_next_118 : decode cX2_next 118 = .ok (.iadd, 1) := by decide +kernel
theorem dX2_next_119 : decode cX2_next 119 = .ok (.putfield 238, 3) := by decide +kernel
theorem dX2_next_122 : decode cX2_next 122 = .ok (.goto (-28), 3) := by decide +kernel
theorem dX2_next_125 : decode cX2_next 125 = .ok (.aload_n 0, 1) := by decide +kernel
theorem dX2_next_126 : decode cX2_next 126 = .ok (.iconst 1, 1) := by decide +kernel
theorem dX2_next_127 : decode cX2_next 127 = .ok (.putfield 248, 3) := by decide +kernel
theorem dX2_next_130 : decode cX2_next 130 = .ok (.goto 154, 3) := by decide +kernel
theorem dX2_next_133 : decode cX2_next 133 = .ok (.iload_n 1, 1) := by decide +kernel
theorem dX2_next_134 : decode cX2_next 134 = .ok (.bipush 48, 2) := by decide +kernel
theorem dX2_next_136 : decode cX2_next 136 = .ok (.bipush 57, 2) := by decide +kernel
theorem dX2_next_138 : decode cX2_next 138 = .ok (.invokestatic 190, 3) := by decide +kernel
theorem dX2_next_141 : decode cX2_next 141 = .ok (.ifCond .eq 100, 3) := by decide +kernel
theorem dX2_next_144 : decode cX2_next 144 = .ok (.aload_n 0, 1) := by decide +kernel
theorem dX2_next_145 : decode cX2_next 145 = .ok (.iconst 0, 1) := by decide +kernel
theorem dX2_next_146 : decode cX2_next 146 = .ok (.putfield 251, 3) := by decide +kernel
theorem dX2_next_149 : decode cX2_next 149 = .ok (.aload_n 0, 1) := by decide +kernel
theorem dX2_next_150 : decode cX2_next 150 = .ok (.aload_n 0, 1) := by decide +kernel
theorem dX2_next_151 : decode cX2_next 151 = .ok (.getfield 238, 3) := by decide +kernel
theorem dX2_next_154 : decode cX2_next 154 = .ok (.invokevirtual 244, 3) := by decide +kernel
theorem dX2_next_157 : decode cX2_next 157 = .ok (.bipush 48, 2) := by decide +kernel
theorem dX2_next_159 : decode cX2_next 159 = .ok (.bipush 57, 2) := by decide +kernel
theorem dX2_next_161 : decode cX2_next 161 = .ok (.invokestatic 190, 3) := by decide +kernel
theorem dX2_next_164 : decode cX2_next 164 = .ok (.ifCond .eq 52, 3) := by decide +kernel
theorem dX2_next_167 : decode cX2_next 167 = .ok (.aload_n 0, 1) := by decide +kernel
theorem dX2_next_168 : decode cX2_next 168 = .ok (.getfield 238, 3) := by decide +kernel
theorem dX2_next_171 : decode cX2_next 171 = .ok (.aload_n 0, 1) := by decide +kernel
theorem dX2_next_172 : decode cX2_next 172 = .ok (.getfield 241, 3) := by decide +kernel
theorem dX2_next_175 : decode cX2_next 175 = .ok (.isub, 1) := by decide +kernel
theorem dX2_next_176 : decode cX2_next 176 = .ok (.iconst 4, 1) := by decide +kernel
theorem dX2_next_177 : decode cX2_next 177 = .ok (.if_icmp .ge 26, 3) := by decide +kernel
theorem dX2_next_180 : decode cX2_next 180 = .ok (.aload_n 0, 1) := by decide +kernel
theorem dX2_next_181 : decode cX2_next 181 = .ok (.bipush 10, 2) := by decide +kernel
theorem dX2_next_183 : decode cX2_next 183 = .ok (.aload_n 0, 1) := by decide +kernel
theorem dX2_next_184 : decode cX2_next 184 = .ok (.getfield 251, 3) := by decide +kernel
theorem dX2_next_187 : decode cX2_next 187 = .ok (.imul, 1) := by decide +kernel
theorem dX2_next_188 : decode cX2_next 188 = .ok (.aload_n 0, 1) := by decide +kernel
theorem dX2_next_189 : decode cX2_next 189 = .ok (.aload_n 0, 1) := by decide +kernel
theorem dX2_next_190 : decode cX2_next 190 = .ok (.getfield 238, 3) := by decide +kernel
theorem dX2_next_193 : decode cX2_next 193 = .ok (.invokevirtual 244, 3) := by decide +kernel
theorem dX2_next_196 : decode cX2_next 196 = .ok (.iadd, 1) := by decide +kernel
theorem dX2_next_197 : decode cX2_next 197 = .ok (.bipush 48, 2) := by decide +kernel
theorem dX2_next_199 : decode cX2_next 199 = .ok (.isub, 1) := by decide +kernel
theorem dX2_next_200 : decode cX2_next 200 = .ok (.putfield 251, 3) := by decide +kernel
theorem dX2_next_203 : decode cX2_next 203 = .ok (.aload_n 0, 1) := by decide +kernel
theorem dX2_next_204 : decode cX2_next 204 = .ok (.dup, 1) := by decide +kernel
theorem dX2_next_205 : decode cX2_next 205 = .ok (.getfield 238, 3) := by decide +kernel
theorem dX2_next_208 : decode cX2_next 208 = .ok (.iconst 1, 1) := by decide +kernel
theorem dX2_next_209 : decode cX2_next 209 = .ok (.iadd, 1) := by decide +kernel
theorem dX2_next_210 : decode cX2_next 210 = .ok (.putfield 238, 3) := by decide +kernel
theorem dX2_next_213 : decode cX2_next 213 = .ok (.goto (-64), 3) := by decide +kernel
theorem dX2_next_216 : decode cX2_next 216 = .ok (.aload_n 0, 1) := by decide +kernel
theorem dX2_next_217 : decode cX2_next 217 = .ok (.aload_n 0, 1) := by decide +kernel
theorem dX2_next_218 : decode cX2_next 218 = .ok (.getfield 238, 3) := by decide +kernel
theorem dX2_next_221 : decode cX2_next 221 = .ok (.aload_n 0, 1) := by decide +kernel
theorem dX2_next_222 : decode cX2_next 222 = .ok (.getfield 241, 3) := by decide +kernel
theorem dX2_next_225 : decode cX2_next 225 = .ok (.isub, 1) := by decide +kernel
theorem dX2_next_226 : decode cX2_next 226 = .ok (.iconst 4, 1) := by decide +kernel
theorem dX2_next_227 : decode cX2_next 227 = .ok (.if_icmp .le 7, 3) := by decide +kernel
theorem dX2_next_230 : decode cX2_next 230 = .ok (.iconst 4, 1) := by decide +kernel
theorem dX2_next_231 : decode cX2_next 231 = .ok (.goto 4, 3) := by decide +kernel
theorem dX2_next_234 : decode cX2_next 234 = .ok (.iconst 2, 1) := by decide +kernel
theorem dX2_next_235 : decode cX2_next 235 = .ok (.putfield 248, 3) := by decide +kernel
theorem dX2_next_238 : decode cX2_next 238 = .ok (.goto 46, 3) := by decide +kernel
theorem dX2_next_241 : decode cX2_next 241 = .ok (.aload_n 0, 1) := by decide +kernel
theorem dX2_next_242 : decode cX2_next 242 = .ok (.dup, 1) := by decide +kernel
theorem dX2_next_243 : decode cX2_next 243 = .ok (.getfield 238, 3) := by decide +kernel
theorem dX2_next_246 : decode cX2_next 246 = .ok (.iconst 1, 1) := by decide +kernel
theorem dX2_next_247 : decode cX2_next 247 = .ok (.iadd, 1) := by decide +kernel
theorem dX2_next_248 : decode cX2_next 248 = .ok (.putfield 238, 3) := by decide +kernel
theorem dX2_next_251 : decode cX2_next 251 = .ok (.aload_n 0, 1) := by decide +kernel
theorem dX2_next_252 : decode cX2_next 252 = .ok (.iload_n 1, 1) := by decide +kernel
theorem dX2_next_253 : decode cX2_next 253 = .ok (.bipush 59, 2) := by decide +kernel
theorem dX2_next_255 : decode cX2_next 255 = .ok (.if_icmp .eq 21, 3) := by decide +kernel
theorem dX2_next_258 : decode cX2_next 258 = .ok (.iload_n 1, 1) := by decide +kernel
theorem dX2_next_259 : decode cX2_next 259 = .ok (.bipush 60, 2) := by decide +kernel
theorem dX2_next_261 : decode cX2_next 261 = .ok (.if_icmp .eq 15, 3) := by decide +kernel
theorem dX2_next_264 : decode cX2_next 264 = .ok (.iload_n 1, 1) := by decide +kernel
theorem dX2_next_265 : decode cX2_next 265 = .ok (.bipush 61, 2) := by decide +kernel
theorem dX2_next_267 : decode cX2_next 267 = .ok (.if_icmp .eq 9, 3) := by decide +kernel
theorem dX2_next_270 : decode cX2_next 270 = .ok (.iload_n 1, 1) := by decide +kernel
theorem dX2_next_271 : decode cX2_next 271 = .ok (.bipush 62, 2) := by decide +kernel
theorem dX2_next_273 : decode cX2_next 273 = .ok (.if_icmp .ne 7, 3) := by decide +kernel
theorem dX2_next_276 : decode cX2_next 276 = .ok (.iconst 3, 1) := by decide +kernel
theorem dX2_next_277 : decode cX2_next 277 = .ok (.goto 4, 3) := by decide +kernel
theorem dX2_next_280 : decode cX2_next 280 = .ok (.iconst 4, 1) := by decide +kernel
theorem dX2_next_281 : decode cX2_next 281 = .ok (.putfield 248, 3) := by decide +kernel
theorem dX2_next_284 : decode cX2_next 284 = .ok (.return_, 1) := by decide +kernel
def fn_X2_next_34 (N : Nat) (K8 : zo_O → Option zo_R)  (Ω : zo_O) : Option zo_R :=
  lt (sI Ω 1 0 57 ((gI Ω 1 0 57) + 1)) fun Ω1 =>
  K8 Ω1
theorem ct_X2_next_34 {Y : zo_Y} (hY : zo_Gd Y cX2_next 2 RX2 1) (hJ : zo_JC (zo_J Y)) (hCon : ∀ Ω, zo_J Y Ω → zo_Con Ω) (hr : zo_rt Y (Option.none : Option Jvm.ClassFile.FieldType)) (N : Nat) (K8 : zo_O → Option zo_R) (hK8 : ∀  (Ω : zo_O) (res : zo_R), K8  Ω = some res → TW Y res Ω 8 [(0, vr 1 0)] [])  (Ω : zo_O) (res : zo_R) (h : fn_X2_next_34 N K8  Ω = some res) : TW Y res Ω 34 [(0, vr 1 0)] [] := by
  unfold fn_X2_next_34 at h
  refine zo_aload_n hY dX2_next_34 rfl 0 rfl ?_
  refine zo_dup hY dX2_next_35 (Or.inr ⟨_, rfl⟩) ?_
  refine zo_getI hY LX2_241_1 rfl dX2_next_36 ?_
  refine zo_iconst hY 1 (by decide) dX2_next_39 ?_
  refine zo_iadd hY dX2_next_40 ?_
  refine zo_putI hY hJ LX2_241_1 rfl (Or.inl rfl) dX2_next_41 h (fun Ω1 h => ?_)
  refine zo_goto hY 8 dX2_next_44 (by decide) ?_
  exact hK8 Ω1 _ h
def fn_X2_next_284 (N : Nat)   (Ω : zo_O) : Option zo_R :=
  rV Ω
theorem ct_X2_next_284 {Y : zo_Y} (hY : zo_Gd Y cX2_next 2 RX2 1) (hJ : zo_JC (zo_J Y)) (hCon : ∀ Ω, zo_J Y Ω → zo_Con Ω) (hr : zo_rt Y (Option.none : Option Jvm.ClassFile.FieldType)) (N : Nat)    (Ω : zo_O) (res : zo_R) (h : fn_X2_next_284 N   Ω = some res) : TW Y res Ω 284 [] [] := by
  unfold fn_X2_next_284 at h
  exact zo_vret hY hr dX2_next_284 h
def bd_X2_next_94 (N : Nat)  (K94 : zo_O → Option zo_R)  (Ω : zo_O) : Option zo_R :=
  ci (fn_X2_byteAt N (gI Ω 1 0 58) Ω) fun r2 Ω1 =>
  ci (fn_X2_within N r2 97 122 Ω1) fun r4 Ω3 =>
  if r4 = 0 then (
    lt (sI Ω3 1 0 60 1) fun Ω6 =>
    fn_X2_next_284 N Ω6
    ) else
  lt (sI Ω3 1 0 58 ((gI Ω3 1 0 58) + 1)) fun Ω7 =>
  K94 Ω7
theorem cb_X2_next_94 {Y : zo_Y} (hY : zo_Gd Y cX2_next 2 RX2 1) (hJ : zo_JC (zo_J Y)) (hCon : ∀ Ω, zo_J Y Ω → zo_Con Ω) (hr : zo_rt Y (Option.none : Option Jvm.ClassFile.FieldType)) (N : Nat)  (K94 : zo_O → Option zo_R)  (hK94 : ∀  (Ω : zo_O) (res : zo_R), K94  Ω = some res → TW Y res Ω 94 [(0, vr 1 0)] [])  (Ω : zo_O) (res : zo_R) (h : bd_X2_next_94 N  K94  Ω = some res) : TW Y res Ω 94 [(0, vr 1 0)] [] := by
  unfold bd_X2_next_94 at h
  refine zo_aload_n hY dX2_next_94 rfl 0 rfl ?_
  refine zo_aload_n hY dX2_next_95 rfl 0 rfl ?_
  refine zo_getI hY LX2_238_1 rfl dX2_next_96 ?_
  refine zo_callV hY (fun q hq => mt_X2_byteAt hJ hCon N (gI Ω 1 0 58) Ω q hq) (by decide) (by decide) (by decide) ⟨rfl, cn_X2_byteAt⟩ rfl q1594 q1596 qs42 q82 q1597 (Nat.le_of_ble_eq_true rfl) dX2_next_99 rfl h (ci_k (fun r2 Ω1 res h => ?_))
  refine zo_bipush hY 97 (by decide) dX2_next_102 ?_
  refine zo_bipush hY 122 (by decide) dX2_next_104 ?_
  refine zo_callS hY (fun q hq => mt_X2_within hJ hCon N r2 97 122 Ω1 q hq) (by decide) (by decide) cn_X2_within rfl q1521 q1522 q82 q1523 (Nat.le_of_ble_eq_true rfl) dX2_next_106 rfl h (ci_k (fun r4 Ω3 res h => ?_))
  refine zo_if_eq hY 125 dX2_next_109 (by decide) h (fun c5 h => ?_) (fun c5 h => ?_)
  · refine zo_aload_n hY dX2_next_125 rfl 0 rfl ?_
    refine zo_iconst hY 1 (by decide) dX2_next_126 ?_
    refine zo_putI hY hJ LX2_248_1 rfl (Or.inl rfl) dX2_next_127 h (fun Ω6 h => ?_)
    refine zo_goto hY 284 dX2_next_130 (by decide) ?_
    refine zo_sub [] rfl ?_
    exact ct_X2_next_284 hY hJ hCon hr N Ω6 _ h
  · refine zo_aload_n hY dX2_next_112 rfl 0 rfl ?_
    refine zo_dup hY dX2_next_113 (Or.inr ⟨_, rfl⟩) ?_
    refine zo_getI hY LX2_238_1 rfl dX2_next_114 ?_
    refine zo_iconst hY 1 (by decide) dX2_next_117 ?_
    refine zo_iadd hY dX2_next_118 ?_
    refine zo_putI hY hJ LX2_238_1 rfl (Or.inl rfl) dX2_next_119 h (fun Ω7 h => ?_)
    refine zo_goto hY 94 dX2_next_122 (by decide) ?_
    exact hK94 Ω7 _ h
def fn_X2_next_94 (N : Nat)  : Nat → zo_O → Option zo_R
  | 0, _ => none
  | n + 1, Ω => bd_X2_next_94 N  (fn_X2_next_94 N  n)  Ω
theorem ct_X2_next_94 {Y : zo_Y} (hY : zo_Gd Y cX2_next 2 RX2 1) (hJ : zo_JC (zo_J Y)) (hCon : ∀ Ω, zo_J Y Ω → zo_Con Ω) (hr : zo_rt Y (Option.none : Option Jvm.ClassFile.FieldType)) (N : Nat)   : ∀ (n : Nat)  (Ω : zo_O) (res : zo_R), fn_X2_next_94 N  n  Ω = some res → TW Y res Ω 94 [(0, vr 1 0)] [] := by
  intro n
  induction n with
  | zero => intro  Ω res h; exact nomatch (show (none : Option zo_R) = some res from h)
  | succ n ih => intro  Ω res h; exact cb_X2_next_94 hY hJ hCon hr N  (fn_X2_next_94 N  n)  ih  Ω res h
def fn_X2_next_203 (N : Nat) (K149 : zo_O → Option zo_R)  (Ω : zo_O) : Option zo_R :=
  lt (sI Ω 1 0 58 ((gI Ω 1 0 58) + 1)) fun Ω1 =>
  K149 Ω1
theorem ct_X2_next_203 {Y : zo_Y} (hY : zo_Gd Y cX2_next 2 RX2 1) (hJ : zo_JC (zo_J Y)) (hCon : ∀ Ω, zo_J Y Ω → zo_Con Ω) (hr : zo_rt Y (Option.none : Option Jvm.ClassFile.FieldType)) (N : Nat) (K149 : zo_O → Option zo_R) (hK149 : ∀  (Ω : zo_O) (res : zo_R), K149  Ω = some res → TW Y res Ω 149 [(0, vr 1 0)] [])  (Ω : zo_O) (res : zo_R) (h : fn_X2_next_203 N K149  Ω = some res) : TW Y res Ω 203 [(0, vr 1 0)] [] := by
  unfold fn_X2_next_203 at h
  refine zo_aload_n hY dX2_next_203 rfl 0 rfl ?_
  refine zo_dup hY dX2_next_204 (Or.inr ⟨_, rfl⟩) ?_
  refine zo_getI hY LX2_238_1 rfl dX2_next_205 ?_
  refine zo_iconst hY 1 (by decide) dX2_next_208 ?_
  refine zo_iadd hY dX2_next_209 ?_
  refine zo_putI hY hJ LX2_238_1 rfl (Or.inl rfl) dX2_next_210 h (fun Ω1 h => ?_)
  refine zo_goto hY 149 dX2_next_213 (by decide) ?_
  exact hK149 Ω1 _ h
def fn_X2_next_235 (N : Nat)  (s0 : Int32) (Ω : zo_O) : Option zo_R :=
  lt (sI Ω 1 0 60 s0) fun Ω1 =>
  fn_X2_next_284 N Ω1
theorem ct_X2_next_235 {Y : zo_Y} (hY : zo_Gd Y cX2_next 2 RX2 1) (hJ : zo_JC (zo_J Y)) (hCon : ∀ Ω, zo_J Y Ω → zo_Con Ω) (hr : zo_rt Y (Option.none : Option Jvm.ClassFile.FieldType)) (N : Nat)   (s0 : Int32) (Ω : zo_O) (res : zo_R) (h : fn_X2_next_235 N  s0 Ω = some res) : TW Y res Ω 235 [] [vi s0, vr 1 0] := by
  unfold fn_X2_next_235 at h
  refine zo_putI hY hJ LX2_248_1 rfl (Or.inl rfl) dX2_next_235 h (fun Ω1 h => ?_)
  refine zo_goto hY 284 dX2_next_238 (by decide) ?_
  exact ct_X2_next_284 hY hJ hCon hr N Ω1 _ h
def bd_X2_next_149 (N : Nat)  (K149 : zo_O → Option zo_R)  (Ω : zo_O) : Option zo_R :=
  ci (fn_X2_byteAt N (gI Ω 1 0 58) Ω) fun r2 Ω1 =>
  ci (fn_X2_within N r2 48 57 Ω1) fun r4 Ω3 =>
  if r4 = 0 then (
    if (gI Ω3 1 0 58) - (gI Ω3 1 0 57) ≤ 4 then (
      fn_X2_next_235 N 2 Ω3
      ) else
    fn_X2_next_235 N 4 Ω3
    ) else
  if 4 ≤ (gI Ω3 1 0 58) - (gI Ω3 1 0 57) then (
    fn_X2_next_203 N K149 Ω3
    ) else
  ci (fn_X2_byteAt N (gI Ω3 1 0 58) Ω3) fun r9 Ω8 =>
  lt (sI Ω8 1 0 59 (((10 * (gI Ω3 1 0 59)) + r9) - 48)) fun Ω10 =>
  fn_X2_next_203 N K149 Ω10
theorem cb_X2_next_149 {Y : zo_Y} (hY : zo_Gd Y cX2_next 2 RX2 1) (hJ : zo_JC (zo_J Y)) (hCon : ∀ Ω, zo_J Y Ω → zo_Con Ω) (hr : zo_rt Y (Option.none : Option Jvm.ClassFile.FieldType)) (N : Nat)  (K149 : zo_O → Option zo_R)  (hK149 : ∀  (Ω : zo_O) (res : zo_R), K149  Ω = some res → TW Y res Ω 149 [(0, vr 1 0)] [])  (Ω : zo_O) (res : zo_R) (h : bd_X2_next_149 N  K149  Ω = some res) : TW Y res Ω 149 [(0, vr 1 0)] [] := by
  unfold bd_X2_next_149 at h
  refine zo_aload_n hY dX2_next_149 rfl 0 rfl ?_
  refine zo_aload_n hY dX2_next_150 rfl 0 rfl ?_
  refine zo_getI hY LX2_238_1 rfl dX2_next_151 ?_
  refine zo_callV hY (fun q hq => mt_X2_byteAt hJ hCon N (gI Ω 1 0 58) Ω q hq) (by decide) (by decide) (by decide) ⟨rfl, cn_X2_byteAt⟩ rfl q1594 q1596 qs42 q82 q1597 (Nat.le_of_ble_eq_true rfl) dX2_next_154 rfl h (ci_k (fun r2 Ω1 res h => ?_))
  refine zo_bipush hY 48 (by decide) dX2_next_157 ?_
  refine zo_bipush hY 57 (by decide) dX2_next_159 ?_
  refine zo_callS hY (fun q hq => mt_X2_within hJ hCon N r2 48 57 Ω1 q hq) (by decide) (by decide) cn_X2_within rfl q1521 q1522 q82 q1523 (Nat.le_of_ble_eq_true rfl) dX2_next_161 rfl h (ci_k (fun r4 Ω3 res h => ?_))
  refine zo_if_eq hY 216 dX2_next_164 (by decide) h (fun c5 h => ?_) (fun c5 h => ?_)
  · refine zo_aload_n hY dX2_next_216 rfl 0 rfl ?_
    refine zo_aload_n hY dX2_next_217 rfl 0 rfl ?_
    refine zo_getI hY LX2_238_1 rfl dX2_next_218 ?_
    refine zo_aload_n hY dX2_next_221 rfl 0 rfl ?_
    refine zo_getI hY LX2_241_1 rfl dX2_next_222 ?_
    refine zo_isub hY dX2_next_225 ?_
    refine zo_iconst hY 4 (by decide) dX2_next_226 ?_
    refine zo_icmp_le hY 234 dX2_next_227 (by decide) h (fun c6 h => ?_) (fun c6 h => ?_)
    · refine zo_iconst hY 2 (by decide) dX2_next_234 ?_
      refine zo_sub [] rfl ?_
      exact ct_X2_next_235 hY hJ hCon hr N 2 Ω3 _ h
    · refine zo_iconst hY 4 (by decide) dX2_next_230 ?_
      refine zo_goto hY 235 dX2_next_231 (by decide) ?_
      refine zo_sub [] rfl ?_
      exact ct_X2_next_235 hY hJ hCon hr N 4 Ω3 _ h
  · refine zo_aload_n hY dX2_next_167 rfl 0 rfl ?_
    refine zo_getI hY LX2_238_1 rfl dX2_next_168 ?_
    refine zo_aload_n hY dX2_next_171 rfl 0 rfl ?_
    refine zo_getI hY LX2_241_1 rfl dX2_next_172 ?_
    refine zo_isub hY dX2_next_175 ?_
    refine zo_iconst hY 4 (by decide) dX2_next_176 ?_
    refine zo_icmp_ge hY 203 dX2_next_177 (by decide) h (fun c7 h => ?_) (fun c7 h => ?_)
    · exact ct_X2_next_203 hY hJ hCon hr N K149 hK149 Ω3 _ h
    · refine zo_aload_n hY dX2_next_180 rfl 0 rfl ?_
      refine zo_bipush hY 10 (by decide) dX2_next_181 ?_
      refine zo_aload_n hY dX2_next_183 rfl 0 rfl ?_
      refine zo_getI hY LX2_251_1 rfl dX2_next_184 ?_
      refine zo_imul hY dX2_next_187 ?_
      refine zo_aload_n hY dX2_next_188 rfl 0 rfl ?_
      refine zo_aload_n hY dX2_next_189 rfl 0 rfl ?_
      refine zo_getI hY LX2_238_1 rfl dX2_next_190 ?_
      refine zo_callV hY (fun q hq => mt_X2_byteAt hJ hCon N (gI Ω3 1 0 58) Ω3 q hq) (by decide) (by decide) (by decide) ⟨rfl, cn_X2_byteAt⟩ rfl q1594 q1596 qs42 q82 q1597 (Nat.le_of_ble_eq_true rfl) dX2_next_193 rfl h (ci_k (fun r9 Ω8 res h => ?_))
      refine zo_iadd hY dX2_next_196 ?_
      refine zo_bipush hY 48 (by decide) dX2_next_197 ?_
      refine zo_isub hY dX2_next_199 ?_
      refine zo_putI hY hJ LX2_251_1 rfl (Or.inl rfl) dX2_next_200 h (fun Ω10 h => ?_)
      exact ct_X2_next_203 hY hJ hCon hr N K149 hK149 Ω10 _ h
def fn_X2_next_149 (N : Nat)  : Nat → zo_O → Option zo_R
  | 0, _ => none
  | n + 1, Ω => bd_X2_next_149 N  (fn_X2_next_149 N  n)  Ω
theorem ct_X2_next_149 {Y : zo_Y} (hY : zo_Gd Y cX2_next 2 RX2 1) (hJ : zo_JC (zo_J Y)) (hCon : ∀ Ω, zo_J Y Ω → zo_Con Ω) (hr : zo_rt Y (Option.none : Option Jvm.ClassFile.FieldType)) (N : Nat)   : ∀ (n : Nat)  (Ω : zo_O) (res : zo_R), fn_X2_next_149 N  n  Ω = some res → TW Y res Ω 149 [(0, vr 1 0)] [] := by
  intro n
  induction n with
  | zero => intro  Ω res h; exact nomatch (show (none : Option zo_R) = some res from h)
  | succ n ih => intro  Ω res h; exact cb_X2_next_149 hY hJ hCon hr N  (fn_X2_next_149 N  n)  ih  Ω res h
def fn_X2_next_281 (N : Nat)  (s0 : Int32) (Ω : zo_O) : Option zo_R :=
  lt (sI Ω 1 0 60 s0) fun Ω1 =>
  fn_X2_next_284 N Ω1
theorem ct_X2_next_281 {Y : zo_Y} (hY : zo_Gd Y cX2_next 2 RX2 1) (hJ : zo_JC (zo_J Y)) (hCon : ∀ Ω, zo_J Y Ω → zo_Con Ω) (hr : zo_rt Y (Option.none : Option Jvm.ClassFile.FieldType)) (N : Nat)   (s0 : Int32) (Ω : zo_O) (res : zo_R) (h : fn_X2_next_281 N  s0 Ω = some res) : TW Y res Ω 281 [] [vi s0, vr 1 0] := by
  unfold fn_X2_next_281 at h
  refine zo_putI hY hJ LX2_248_1 rfl (Or.inl rfl) dX2_next_281 h (fun Ω1 h => ?_)
  exact ct_X2_next_284 hY hJ hCon hr N Ω1 _ h
def fn_X2_next_276 (N : Nat)   (Ω : zo_O) : Option zo_R :=
  fn_X2_next_281 N 3 Ω
theorem ct_X2_next_276 {Y : zo_Y} (hY : zo_Gd Y cX2_next 2 RX2 1) (hJ : zo_JC (zo_J Y)) (hCon : ∀ Ω, zo_J Y Ω → zo_Con Ω) (hr : zo_rt Y (Option.none : Option Jvm.ClassFile.FieldType)) (N : Nat)    (Ω : zo_O) (res : zo_R) (h : fn_X2_next_276 N   Ω = some res) : TW Y res Ω 276 [] [vr 1 0] := by
  unfold fn_X2_next_276 at h
  refine zo_iconst hY 3 (by decide) dX2_next_276 ?_
  refine zo_goto hY 281 dX2_next_277 (by decide) ?_
  exact ct_X2_next_281 hY hJ hCon hr N 3 Ω _ h
def bd_X2_next_8 (N : Nat)  (K8 : zo_O → Option zo_R)  (Ω : zo_O) : Option zo_R :=
  ci (fn_X2_byteAt N (gI Ω 1 0 57) Ω) fun r2 Ω1 =>
  if r2 = 32 then (
    fn_X2_next_34 N K8 Ω1
    ) else
  ci (fn_X2_byteAt N (gI Ω1 1 0 57) Ω1) fun r5 Ω4 =>
  if r5 = 10 then (
    fn_X2_next_34 N K8 Ω4
    ) else
  lt (sI Ω4 1 0 58 (gI Ω4 1 0 57)) fun Ω7 =>
  ci (fn_X2_byteAt N (gI Ω7 1 0 57) Ω7) fun r9 Ω8 =>
  if gI Ω8 1 0 57 < gI Ω8 1 0 54 then (
    ci (fn_X2_within N r9 97 122 Ω8) fun r12 Ω11 =>
    if r12 = 0 then (
      ci (fn_X2_within N r9 48 57 Ω11) fun r15 Ω14 =>
      if r15 = 0 then (
        lt (sI Ω14 1 0 58 ((gI Ω14 1 0 58) + 1)) fun Ω17 =>
        if r9 = 59 then (
          fn_X2_next_276 N Ω17
          ) else
        if r9 = 60 then (
          fn_X2_next_276 N Ω17
          ) else
        if r9 = 61 then (
          fn_X2_next_276 N Ω17
          ) else
        if r9 = 62 then (
          fn_X2_next_276 N Ω17
          ) else
        fn_X2_next_281 N 4 Ω17
        ) else
      lt (sI Ω14 1 0 59 0) fun Ω22 =>
      fn_X2_next_149 N N Ω22
      ) else
    fn_X2_next_94 N N Ω11
    ) else
  lt (sI Ω8 1 0 60 0) fun Ω23 =>
  fn_X2_next_284 N Ω23
theorem cb_X2_next_8 {Y : zo_Y} (hY : zo_Gd Y cX2_next 2 RX2 1) (hJ : zo_JC (zo_J Y)) (hCon : ∀ Ω, zo_J Y Ω → zo_Con Ω) (hr : zo_rt Y (Option.none : Option Jvm.ClassFile.FieldType)) (N : Nat)  (K8 : zo_O → Option zo_R)  (hK8 : ∀  (Ω : zo_O) (res : zo_R), K8  Ω = some res → TW Y res Ω 8 [(0, vr 1 0)] [])  (Ω : zo_O) (res : zo_R) (h : bd_X2_next_8 N  K8  Ω = some res) : TW Y res Ω 8 [(0, vr 1 0)] [] := by
  unfold bd_X2_next_8 at h
  refine zo_aload_n hY dX2_next_8 rfl 0 rfl ?_
  refine zo_aload_n hY dX2_next_9 rfl 0 rfl ?_
  refine zo_getI hY LX2_241_1 rfl dX2_next_10 ?_
  refine zo_callV hY (fun q hq => mt_X2_byteAt hJ hCon N (gI Ω 1 0 57) Ω q hq) (by decide) (by decide) (by decide) ⟨rfl, cn_X2_byteAt⟩ rfl q1594 q1596 qs42 q82 q1597 (Nat.le_of_ble_eq_true rfl) dX2_next_13 rfl h (ci_k (fun r2 Ω1 res h => ?_))
  refine zo_bipush hY 32 (by decide) dX2_next_16 ?_
  refine zo_icmp_eq hY 34 dX2_next_18 (by decide) h (fun c3 h => ?_) (fun c3 h => ?_)
  · exact ct_X2_next_34 hY hJ hCon hr N K8 hK8 Ω1 _ h
  · refine zo_aload_n hY dX2_next_21 rfl 0 rfl ?_
    refine zo_aload_n hY dX2_next_22 rfl 0 rfl ?_
    refine zo_getI hY LX2_241_1 rfl dX2_next_23 ?_
    refine zo_callV hY (fun q hq => mt_X2_byteAt hJ hCon N (gI Ω1 1 0 57) Ω1 q hq) (by decide) (by decide) (by decide) ⟨rfl, cn_X2_byteAt⟩ rfl q1594 q1596 qs42 q82 q1597 (Nat.le_of_ble_eq_true rfl) dX2_next_26 rfl h (ci_k (fun r5 Ω4 res h => ?_))
    refine zo_bipush hY 10 (by decide) dX2_next_29 ?_
    refine zo_icmp_ne hY 47 dX2_next_31 (by decide) h (fun c6 h => ?_) (fun c6 h => ?_)
    · exact ct_X2_next_34 hY hJ hCon hr N K8 hK8 Ω4 _ h
    · refine zo_aload_n hY dX2_next_47 rfl 0 rfl ?_
      refine zo_aload_n hY dX2_next_48 rfl 0 rfl ?_
      refine zo_getI hY LX2_241_1 rfl dX2_next_49 ?_
      refine zo_putI hY hJ LX2_238_1 rfl (Or.inl rfl) dX2_next_52 h (fun Ω7 h => ?_)
      refine zo_aload_n hY dX2_next_55 rfl 0 rfl ?_
      refine zo_aload_n hY dX2_next_56 rfl 0 rfl ?_
      refine zo_getI hY LX2_241_1 rfl dX2_next_57 ?_
      refine zo_callV hY (fun q hq => mt_X2_byteAt hJ hCon N (gI Ω7 1 0 57) Ω7 q hq) (by decide) (by decide) (by decide) ⟨rfl, cn_X2_byteAt⟩ rfl q1594 q1596 qs42 q82 q1597 (Nat.le_of_ble_eq_true rfl) dX2_next_60 rfl h (ci_k (fun r9 Ω8 res h => ?_))
      refine zo_istore_n hY dX2_next_63 rfl (by decide) rfl (ls' := [(1, vi r9), (0, vr 1 0)]) rfl ?_
      refine zo_aload_n hY dX2_next_64 rfl 1 rfl ?_
      refine zo_getI hY LX2_241_1 rfl dX2_next_65 ?_
      refine zo_aload_n hY dX2_next_68 rfl 1 rfl ?_
      refine zo_getI hY LX2_235_1 rfl dX2_next_69 ?_
      refine zo_icmp_lt hY 83 dX2_next_72 (by decide) h (fun c10 h => ?_) (fun c10 h => ?_)
      · refine zo_iload_n hY dX2_next_83 rfl 0 rfl ?_
        refine zo_bipush hY 97 (by decide) dX2_next_84 ?_
        refine zo_bipush hY 122 (by decide) dX2_next_86 ?_
        refine zo_callS hY (fun q hq => mt_X2_within hJ hCon N r9 97 122 Ω8 q hq) (by decide) (by decide) cn_X2_within rfl q1521 q1522 q82 q1523 (Nat.le_of_ble_eq_true rfl) dX2_next_88 rfl h (ci_k (fun r12 Ω11 res h => ?_))
        refine zo_if_eq hY 133 dX2_next_91 (by decide) h (fun c13 h => ?_) (fun c13 h => ?_)
        · refine zo_iload_n hY dX2_next_133 rfl 0 rfl ?_
          refine zo_bipush hY 48 (by decide) dX2_next_134 ?_
          refine zo_bipush hY 57 (by decide) dX2_next_136 ?_
          refine zo_callS hY (fun q hq => mt_X2_within hJ hCon N r9 48 57 Ω11 q hq) (by decide) (by decide) cn_X2_within rfl q1521 q1522 q82 q1523 (Nat.le_of_ble_eq_true rfl) dX2_next_138 rfl h (ci_k (fun r15 Ω14 res h => ?_))
          refine zo_if_eq hY 241 dX2_next_141 (by decide) h (fun c16 h => ?_) (fun c16 h => ?_)
          · refine zo_aload_n hY dX2_next_241 rfl 1 rfl ?_
            refine zo_dup hY dX2_next_242 (Or.inr ⟨_, rfl⟩) ?_
            refine zo_getI hY LX2_238_1 rfl dX2_next_243 ?_
            refine zo_iconst hY 1 (by decide) dX2_next_246 ?_
            refine zo_iadd hY dX2_next_247 ?_
            refine zo_putI hY hJ LX2_238_1 rfl (Or.inl rfl) dX2_next_248 h (fun Ω17 h => ?_)
            refine zo_aload_n hY dX2_next_251 rfl 1 rfl ?_
            refine zo_iload_n hY dX2_next_252 rfl 0 rfl ?_
            refine zo_bipush hY 59 (by decide) dX2_next_253 ?_
            refine zo_icmp_eq hY 276 dX2_next_255 (by decide) h (fun c18 h => ?_) (fun c18 h => ?_)
            · refine zo_sub [] rfl ?_
              exact ct_X2_next_276 hY hJ hCon hr N Ω17 _ h
            · refine zo_iload_n hY dX2_next_258 rfl 0 rfl ?_
              refine zo_bipush hY 60 (by decide) dX2_next_259 ?_
              refine zo_icmp_eq hY 276 dX2_next_261 (by decide) h (fun c19 h => ?_) (fun c19 h => ?_)
              · refine zo_sub [] rfl ?_
                exact ct_X2_next_276 hY hJ hCon hr N Ω17 _ h
              · refine zo_iload_n hY dX2_next_264 rfl 0 rfl ?_
                refine zo_bipush hY 61 (by decide) dX2_next_265 ?_
                refine zo_icmp_eq hY 276 dX2_next_267 (by decide) h (fun c20 h => ?_) (fun c20 h => ?_)
                · refine zo_sub [] rfl ?_
                  exact ct_X2_next_276 hY hJ hCon hr N Ω17 _ h
                · refine zo_iload_n hY dX2_next_270 rfl 0 rfl ?_
                  refine zo_bipush hY 62 (by decide) dX2_next_271 ?_
                  refine zo_icmp_ne hY 280 dX2_next_273 (by decide) h (fun c21 h => ?_) (fun c21 h => ?_)
                  · refine zo_sub [] rfl ?_
                    exact ct_X2_next_276 hY hJ hCon hr N Ω17 _ h
                  · refine zo_iconst hY 4 (by decide) dX2_next_280 ?_
                    refine zo_sub [] rfl ?_
                    exact ct_X2_next_281 hY hJ hCon hr N 4 Ω17 _ h
          · refine zo_aload_n hY dX2_next_144 rfl 1 rfl ?_
            refine zo_iconst hY 0 (by decide) dX2_next_145 ?_
            refine zo_putI hY hJ LX2_251_1 rfl (Or.inl rfl) dX2_next_146 h (fun Ω22 h => ?_)
            refine zo_sub [1] rfl ?_
            exact ct_X2_next_149 hY hJ hCon hr N N Ω22 _ h
        · refine zo_sub [1] rfl ?_
          exact ct_X2_next_94 hY hJ hCon hr N N Ω11 _ h
      · refine zo_aload_n hY dX2_next_75 rfl 1 rfl ?_
        refine zo_iconst hY 0 (by decide) dX2_next_76 ?_
        refine zo_putI hY hJ LX2_248_1 rfl (Or.inl rfl) dX2_next_77 h (fun Ω23 h => ?_)
        refine zo_goto hY 284 dX2_next_80 (by decide) ?_
        refine zo_sub [] rfl ?_
        exact ct_X2_next_284 hY hJ hCon hr N Ω23 _ h
def fn_X2_next_8 (N : Nat)  : Nat → zo_O → Option zo_R
  | 0, _ => none
  | n + 1, Ω => bd_X2_next_8 N  (fn_X2_next_8 N  n)  Ω
theorem ct_X2_next_8 {Y : zo_Y} (hY : zo_Gd Y cX2_next 2 RX2 1) (hJ : zo_JC (zo_J Y)) (hCon : ∀ Ω, zo_J Y Ω → zo_Con Ω) (hr : zo_rt Y (Option.none : Option Jvm.ClassFile.FieldType)) (N : Nat)   : ∀ (n : Nat)  (Ω : zo_O) (res : zo_R), fn_X2_next_8 N  n  Ω = some res → TW Y res Ω 8 [(0, vr 1 0)] [] := by
  intro n
  induction n with
  | zero => intro  Ω res h; exact nomatch (show (none : Option zo_R) = some res from h)
  | succ n ih => intro  Ω res h; exact cb_X2_next_8 hY hJ hCon hr N  (fn_X2_next_8 N  n)  ih  Ω res h
def fn_X2_next (N : Nat)  (Ω : zo_O) : Option zo_R :=
  lt (sI Ω 1 0 57 (gI Ω 1 0 58)) fun Ω1 =>
  fn_X2_next_8 N N Ω1
theorem mt_X2_next {G : zo_G} {J : zo_O → Prop} (hJ : zo_JC J) (hCon : ∀ Ω, J Ω → zo_Con Ω) (N : Nat)  (Ω : zo_O) (res : zo_R) (h : fn_X2_next N  Ω = some res) : zo_MT G J yX2_next cX2_next 2 (Option.none : Option Jvm.ClassFile.FieldType) 1 [vr 1 0] Ω res := by
  refine zo_enter (by decide) rfl (Nat.le_of_ble_eq_true rfl) (fun Y hY eJ hr hmn => ?_)
  subst eJ
  show TW Y res Ω 0 [(0, vr 1 0)] []
  unfold fn_X2_next at h
  refine zo_aload_n hY dX2_next_0 rfl 0 rfl ?_
  refine zo_aload_n hY dX2_next_1 rfl 0 rfl ?_
  refine zo_getI hY LX2_238_1 rfl dX2_next_2 ?_
  refine zo_putI hY hJ LX2_241_1 rfl (Or.inl rfl) dX2_next_5 h (fun Ω1 h => ?_)
  exact ct_X2_next_8 hY hJ hCon hr N N Ω1 _ h
theorem dX2_signHere_0 : decode cX2_signHere 0 = .ok (.aload_n 0, 1) := by decide +kernel
theorem dX2_signHere_1 : decode cX2_signHere 1 = .ok (.getfield 248, 3) := by decide +kernel
theorem dX2_signHere_4 : decode cX2_signHere 4 = .ok (.iconst 3, 1) := by decide +kernel
theorem dX2_signHere_5 : decode cX2_signHere 5 = .ok (.if_icmp .eq 5, 3) := by decide +kernel
theorem dX2_signHere_8 : decode cX2_signHere 8 = .ok (.iconst (-1), 1) := by decide +kernel
theorem dX2_signHere_9 : decode cX2_signHere 9 = .ok (.ireturn, 1) := by decide +kernel
theorem dX2_signHere_10 : decode cX2_signHere 10 = .ok (.aload_n 0, 1) := by decide +kernel
theorem dX2_signHere_11 : decode cX2_signHere 11 = .ok (.aload_n 0, 1) := by decide +kernel
theorem dX2_signHere_12 : decode cX2_signHere 12 = .ok (.getfield 241, 3) := by decide +kernel
theorem dX2_signHere_15 : decode cX2_signHere 15 = .ok (.invokevirtual 244, 3) := by decide +kernel
theorem dX2_signHere_18 : decode cX2_signHere 18 = .ok (.istore_n 1, 1) := by decide +kernel
theorem dX2_signHere_19 : decode cX2_signHere 19 = .ok (.iload_n 1, 1) := by decide +kernel
theorem dX2_signHere_20 : decode cX2_signHere 20 = .ok (.bipush 60, 2) := by decide +kernel
theorem dX2_signHere_22 : decode cX2_signHere 22 = .ok (.if_icmp .ne 7, 3) := by decide +kernel
theorem dX2_signHere_25 : decode cX2_signHere 25 = .ok (.iconst 0, 1) := by decide +kernel
theorem dX2_signHere_26 : decode cX2_signHere 26 = .ok (.goto 24, 3) := by decide +kernel
theorem dX2_signHere_29 : decode cX2_signHere 29 = .ok (.iload_n 1, 1) := by decide +kernel
theorem dX2_signHere_30 : decode cX2_signHere 30 = .ok (.bipush 61, 2) := by decide +kernel
theorem dX2_signHere_32 : decode cX2_signHere 32 = .ok (.if_icmp .ne 7, 3) := by decide +kernel
theorem dX2_signHere_35 : decode cX2_signHere 35 = .ok (.iconst 1, 1) := by decide +kernel
theorem dX2_signHere_36 : decode cX2_signHere 36 = .ok (.goto 14, 3) := by decide +kernel
theorem dX2_signHere_39 : decode cX2_signHere 39 = .ok (.iload_n 1, 1) := by decide +kernel
theorem dX2_signHere_40 : decode cX2_signHere 40 = .ok (.bipush 62, 2) := by decide +kernel
theorem dX2_signHere_42 : decode cX2_signHere 42 = .ok (.if_icmp .ne 7, 3) := by decide +kernel
theorem dX2_signHere_45 : decode cX2_signHere 45 = .ok (.iconst 2, 1) := by decide +kernel
theorem dX2_signHere_46 : decode cX2_signHere 46 = .ok (.goto 4, 3) := by decide +kernel
theorem dX2_signHere_49 : decode cX2_signHere 49 = .ok (.iconst 3, 1) := by decide +kernel
theorem dX2_signHere_50 : decode cX2_signHere 50 = .ok (.ireturn, 1) := by decide +kernel
def fn_X2_signHere_50 (N : Nat)  (s0 : Int32) (Ω : zo_O) : Option zo_R :=
  rI s0 Ω
theorem ct_X2_signHere_50 {Y : zo_Y} (hY : zo_Gd Y cX2_signHere 2 RX2 1) (hJ : zo_JC (zo_J Y)) (hCon : ∀ Ω, zo_J Y Ω → zo_Con Ω) (hr : zo_rt Y (Option.some Jvm.ClassFile.FieldType.int)) (N : Nat)   (s0 : Int32) (Ω : zo_O) (res : zo_R) (h : fn_X2_signHere_50 N  s0 Ω = some res) : TW Y res Ω 50 [] [vi s0] := by
  unfold fn_X2_signHere_50 at h
  exact zo_iret hY hr dX2_signHere_50 h
def fn_X2_signHere (N : Nat)  (Ω : zo_O) : Option zo_R :=
  if gI Ω 1 0 60 = 3 then (
    ci (fn_X2_byteAt N (gI Ω 1 0 57) Ω) fun r3 Ω2 =>
    if r3 = 60 then (
      fn_X2_signHere_50 N 0 Ω2
      ) else
    if r3 = 61 then (
      fn_X2_signHere_50 N 1 Ω2
      ) else
    if r3 = 62 then (
      fn_X2_signHere_50 N 2 Ω2
      ) else
    fn_X2_signHere_50 N 3 Ω2
    ) else
  rI ((-1)) Ω
theorem mt_X2_signHere {G : zo_G} {J : zo_O → Prop} (hJ : zo_JC J) (hCon : ∀ Ω, J Ω → zo_Con Ω) (N : Nat)  (Ω : zo_O) (res : zo_R) (h : fn_X2_signHere N  Ω = some res) : zo_MT G J yX2_signHere cX2_signHere 2 (Option.some Jvm.ClassFile.FieldType.int) 1 [vr 1 0] Ω res := by
  refine zo_enter (by decide) rfl (Nat.le_of_ble_eq_true rfl) (fun Y hY eJ hr hmn => ?_)
  subst eJ
  show TW Y res Ω 0 [(0, vr 1 0)] []
  unfold fn_X2_signHere at h
  refine zo_aload_n hY dX2_signHere_0 rfl 0 rfl ?_
  refine zo_getI hY LX2_248_1 rfl dX2_signHere_1 ?_
  refine zo_iconst hY 3 (by decide) dX2_signHere_4 ?_
  refine zo_icmp_eq hY 10 dX2_signHere_5 (by decide) h (fun c1 h => ?_) (fun c1 h => ?_)
  · refine zo_aload_n hY dX2_signHere_10 rfl 0 rfl ?_
    refine zo_aload_n hY dX2_signHere_11 rfl 0 rfl ?_
    refine zo_getI hY LX2_241_1 rfl dX2_signHere_12 ?_
    refine zo_callV hY (fun q hq => mt_X2_byteAt hJ hCon N (gI Ω 1 0 57) Ω q hq) (by decide) (by decide) (by decide) ⟨rfl, cn_X2_byteAt⟩ rfl q1594 q1596 qs42 q82 q1597 (Nat.le_of_ble_eq_true rfl) dX2_signHere_15 rfl h (ci_k (fun r3 Ω2 res h => ?_))
    refine zo_istore_n hY dX2_signHere_18 rfl (by decide) rfl (ls' := [(1, vi r3), (0, vr 1 0)]) rfl ?_
    refine zo_iload_n hY dX2_signHere_19 rfl 0 rfl ?_
    refine zo_bipush hY 60 (by decide) dX2_signHere_20 ?_
    refine zo_icmp_ne hY 29 dX2_signHere_22 (by decide) h (fun c4 h => ?_) (fun c4 h => ?_)
    · refine zo_iconst hY 0 (by decide) dX2_signHere_25 ?_
      refine zo_goto hY 50 dX2_signHere_26 (by decide) ?_
      refine zo_sub [] rfl ?_
      exact ct_X2_signHere_50 hY hJ hCon hr N 0 Ω2 _ h
    · refine zo_iload_n hY dX2_signHere_29 rfl 0 rfl ?_
      refine zo_bipush hY 61 (by decide) dX2_signHere_30 ?_
      refine zo_icmp_ne hY 39 dX2_signHere_32 (by decide) h (fun c5 h => ?_) (fun c5 h => ?_)
      · refine zo_iconst hY 1 (by decide) dX2_signHere_35 ?_
        refine zo_goto hY 50 dX2_signHere_36 (by decide) ?_
        refine zo_sub [] rfl ?_
        exact ct_X2_signHere_50 hY hJ hCon hr N 1 Ω2 _ h
      · refine zo_iload_n hY dX2_signHere_39 rfl 0 rfl ?_
        refine zo_bipush hY 62 (by decide) dX2_signHere_40 ?_
        refine zo_icmp_ne hY 49 dX2_signHere_42 (by decide) h (fun c6 h => ?_) (fun c6 h => ?_)
        · refine zo_iconst hY 2 (by decide) dX2_signHere_45 ?_
          refine zo_goto hY 50 dX2_signHere_46 (by decide) ?_
          refine zo_sub [] rfl ?_
          exact ct_X2_signHere_50 hY hJ hCon hr N 2 Ω2 _ h
        · refine zo_iconst hY 3 (by decide) dX2_signHere_49 ?_
          refine zo_sub [] rfl ?_
          exact ct_X2_signHere_50 hY hJ hCon hr N 3 Ω2 _ h
  · refine zo_iconst hY (-1) (by decide) dX2_signHere_8 ?_
    exact zo_iret hY hr dX2_signHere_9 h
theorem dX2_wrong_0 : decode cX2_wrong 0 = .ok (.aload_n 0, 1) := by decide +kernel
theorem dX2_wrong_1 : decode cX2_wrong 1 = .ok (.getfield 264, 3) := by decide +kernel
theorem dX2_wrong_4 : decode cX2_wrong 4 = .ok (.ifCond .ne 16, 3) := by decide +kernel
theorem dX2_wrong_7 : decode cX2_wrong 7 = .ok (.aload_n 0, 1) := by decide +kernel
theorem dX2_wrong_8 : decode cX2_wrong 8 = .ok (.iload_n 1, 1) := by decide +kernel
theorem dX2_wrong_9 : decode cX2_wrong 9 = .ok (.putfield 264, 3) := by decide +kernel
theorem dX2_wrong_12 : decode cX2_wrong 12 = .ok (.aload_n 0, 1) := by decide +kernel
theorem dX2_wrong_13 : decode cX2_wrong 13 = .ok (.aload_n 0, 1) := by decide +kernel
theorem dX2_wrong_14 : decode cX2_wrong 14 = .ok (.getfield 241, 3) := by decide +kernel
theorem dX2_wrong_17 : decode cX2_wrong 17 = .ok (.putfield 142, 3) := by decide +kernel
theorem dX2_wrong_20 : decode cX2_wrong 20 = .ok (.iconst 0, 1) := by decide +kernel
theorem dX2_wrong_21 : decode cX2_wrong 21 = .ok (.ireturn, 1) := by decide +kernel
def fn_X2_wrong_20 (N : Nat)   (Ω : zo_O) : Option zo_R :=
  rZ 0 Ω
theorem ct_X2_wrong_20 {Y : zo_Y} (hY : zo_Gd Y cX2_wrong 2 RX2 0) (hJ : zo_JC (zo_J Y)) (hCon : ∀ Ω, zo_J Y Ω → zo_Con Ω) (hr : zo_rt Y (Option.some Jvm.ClassFile.FieldType.boolean)) (N : Nat)    (Ω : zo_O) (res : zo_R) (h : fn_X2_wrong_20 N   Ω = some res) : TW Y res Ω 20 [] [] := by
  unfold fn_X2_wrong_20 at h
  refine zo_iconst hY 0 (by decide) dX2_wrong_20 ?_
  exact zo_zret hY hr dX2_wrong_21 h
def fn_X2_wrong (N : Nat) (x1 : Int32) (Ω : zo_O) : Option zo_R :=
  if gI Ω 1 0 55 = 0 then (
    lt (sI Ω 1 0 55 x1) fun Ω2 =>
    lt (sI Ω2 1 0 56 (gI Ω2 1 0 57)) fun Ω3 =>
    fn_X2_wrong_20 N Ω3
    ) else
  fn_X2_wrong_20 N Ω
theorem mt_X2_wrong {G : zo_G} {J : zo_O → Prop} (hJ : zo_JC J) (hCon : ∀ Ω, J Ω → zo_Con Ω) (N : Nat) (x1 : Int32) (Ω : zo_O) (res : zo_R) (h : fn_X2_wrong N x1 Ω = some res) : zo_MT G J yX2_wrong cX2_wrong 2 (Option.some Jvm.ClassFile.FieldType.boolean) 0 [vr 1 0, vi x1] Ω res := by
  refine zo_enter (by decide) rfl (Nat.le_of_ble_eq_true rfl) (fun Y hY eJ hr hmn => ?_)
  subst eJ
  show TW Y res Ω 0 [(0, vr 1 0), (1, vi x1)] []
  unfold fn_X2_wrong at h
  refine zo_aload_n hY dX2_wrong_0 rfl 0 rfl ?_
  refine zo_getI hY LX2_264_1 rfl dX2_wrong_1 ?_
  refine zo_if_ne hY 20 dX2_wrong_4 (by decide) h (fun c1 h => ?_) (fun c1 h => ?_)
  · refine zo_aload_n hY dX2_wrong_7 rfl 0 rfl ?_
    refine zo_iload_n hY dX2_wrong_8 rfl 1 rfl ?_
    refine zo_putI hY hJ LX2_264_1 rfl (Or.inl rfl) dX2_wrong_9 h (fun Ω2 h => ?_)
    refine zo_aload_n hY dX2_wrong_12 rfl 0 rfl ?_
    refine zo_aload_n hY dX2_wrong_13 rfl 0 rfl ?_
    refine zo_getI hY LX2_241_1 rfl dX2_wrong_14 ?_
    refine zo_putI hY hJ LX2_142_1 rfl (Or.inl rfl) dX2_wrong_17 h (fun Ω3 h => ?_)
    refine zo_sub [] rfl ?_
    exact ct_X2_wrong_20 hY hJ hCon hr N Ω3 _ h
  · refine zo_sub [] rfl ?_
    exact ct_X2_wrong_20 hY hJ hCon hr N Ω _ h
theorem dX2_place_0 : decode cX2_place 0 = .ok (.aload_n 0, 1) := by decide +kernel
theorem dX2_place_1 : decode cX2_place 1 = .ok (.iconst 0, 1) := by decide +kernel
theorem dX2_place_2 : decode cX2_place 2 = .ok (.putfield 187, 3) := by decide +kernel
theorem dX2_place_5 : decode cX2_place 5 = .ok (.aload_n 0, 1) := by decide +kernel
theorem dX2_place_6 : decode cX2_place 6 = .ok (.getfield 142, 3) := by decide +kernel
theorem dX2_place_9 : decode cX2_place 9 = .ok (.ireturn, 1) := by decide +kernel
def fn_X2_place (N : Nat)  (Ω : zo_O) : Option zo_R :=
  lt (sI Ω 1 0 0 0) fun Ω1 =>
  rI (gI Ω1 1 0 56) Ω1
theorem mt_X2_place {G : zo_G} {J : zo_O → Prop} (hJ : zo_JC J) (hCon : ∀ Ω, J Ω → zo_Con Ω) (N : Nat)  (Ω : zo_O) (res : zo_R) (h : fn_X2_place N  Ω = some res) : zo_MT G J yX2_place cX2_place 1 (Option.some Jvm.ClassFile.FieldType.int) 0 [vr 1 0] Ω res := by
  refine zo_enter (by decide) rfl (Nat.le_of_ble_eq_true rfl) (fun Y hY eJ hr hmn => ?_)
  subst eJ
  show TW Y res Ω 0 [(0, vr 1 0)] []
  unfold fn_X2_place at h
  refine zo_aload_n hY dX2_place_0 rfl 0 rfl ?_
  refine zo_iconst hY 0 (by decide) dX2_place_1 ?_
  refine zo_putI hY hJ LX2_187_1 rfl (Or.inl rfl) dX2_place_2 h (fun Ω1 h => ?_)
  refine zo_aload_n hY dX2_place_5 rfl 0 rfl ?_
  refine zo_getI hY LX2_142_1 rfl dX2_place_6 ?_
  exact zo_iret hY hr dX2_place_9 h
theorem dX2_factOf_0 : decode cX2_factOf 0 = .ok (.iload_n 2, 1) := by decide +kernel
theorem dX2_factOf_1 : decode cX2_factOf 1 = .ok (.tableswitch 137 0 8 #[51, 58, 65, 72, 79, 86, 93, 108, 125], 51) := by decide +kernel
theorem dX2_factOf_52 : decode cX2_factOf 52 = .ok (.aload_n 0, 1) := by decide +kernel
theorem dX2_factOf_53 : decode cX2_factOf 53 = .ok (.getfield 25, 3) := by decide +kernel
theorem dX2_factOf_56 : decode cX2_factOf 56 = .ok (.iload_n 1, 1) := by decide +kernel
theorem dX2_factOf_57 : decode cX2_factOf 57 = .ok (.iaload, 1) := by decide +kernel
theorem dX2_factOf_58 : decode cX2_factOf 58 = .ok (.ireturn, 1) := by decide +kernel
theorem dX2_factOf_59 : decode cX2_factOf 59 = .ok (.aload_n 0, 1) := by decide +kernel
theorem dX2_factOf_60 : decode cX2_factOf 60 = .ok (.getfield 28, 3) := by decide +kernel
theorem dX2_factOf_63 : decode cX2_factOf 63 = .ok (.iload_n 1, 1) := by decide +kernel
theorem dX2_factOf_64 : decode cX2_factOf 64 = .ok (.iaload, 1) := by decide +kernel
theorem dX2_factOf_65 : decode cX2_factOf 65 = .ok (.ireturn, 1) := by decide +kernel
theorem dX2_factOf_66 : decode cX2_factOf 66 = .ok (.aload_n 0, 1) := by decide +kernel
theorem dX2_factOf_67 : decode cX2_factOf 67 = .ok (.getfield 31, 3) := by decide +kernel
theorem dX2_factOf_70 : decode cX2_factOf 70 = .ok (.iload_n 1, 1) := by decide +kernel
theorem dX2_factOf_71 : decode cX2_factOf 71 = .ok (.iaload, 1) := by decide +kernel
theorem dX2_factOf_72 : decode cX2_factOf 72 = .ok (.ireturn, 1) := by decide +kernel
theorem dX2_factOf_73 : decode cX2_factOf 73 = .ok (.aload_n 0, 1) := by decide +kernel
theorem dX2_factOf_74 : decode cX2_factOf 74 = .ok (.getfield 34, 3) := by decide +kernel
theorem dX2_factOf_77 : decode cX2_factOf 77 = .ok (.iload_n 1, 1) := by decide +kernel
theorem dX2_factOf_78 : decode cX2_factOf 78 = .ok (.iaload, 1) := by decide +kernel
theorem dX2_factOf_79 : decode cX2_factOf 79 = .ok (.ireturn, 1) := by decide +kernel
theorem dX2_factOf_80 : decode cX2_factOf 80 = .ok (.aload_n 0, 1) := by decide +kernel
theorem dX2_factOf_81 : decode cX2_factOf 81 = .ok (.getfield 37, 3) := by decide +kernel
theorem dX2_factOf_84 : decode cX2_factOf 84 = .ok (.iload_n 1, 1) := by decide +kernel
theorem dX2_factOf_85 : decode cX2_factOf 85 = .ok (.iaload, 1) := by decide +kernel
theorem dX2_factOf_86 : decode cX2_factOf 86 = .ok (.ireturn, 1) := by decide +kernel
theorem dX2_factOf_87 : decode cX2_factOf 87 = .ok (.aload_n 0, 1) := by decide +kernel
theorem dX2_factOf_88 : decode cX2_factOf 88 = .ok (.getfield 40, 3) := by decide +kernel
theorem dX2_factOf_91 : decode cX2_factOf 91 = .ok (.iload_n 1, 1) := by decide +kernel
theorem dX2_factOf_92 : decode cX2_factOf 92 = .ok (.iaload, 1) := by decide +kernel
theorem dX2_factOf_93 : decode cX2_factOf 93 = .ok (.ireturn, 1) := by decide +kernel
theorem dX2_factOf_94 : decode cX2_factOf 94 = .ok (.aload_n 0, 1) := by decide +kernel
theorem dX2_factOf_95 : decode cX2_factOf 95 = .ok (.getfield 43, 3) := by decide +kernel
theorem dX2_factOf_98 : decode cX2_factOf 98 = .ok (.iload_n 1, 1) := by decide +kernel
theorem dX2_factOf_99 : decode cX2_factOf 99 = .ok (.baload, 1) := by decide +kernel
theorem dX2_factOf_100 : decode cX2_factOf 100 = .ok (.ifCond .eq 7, 3) := by decide +kernel
theorem dX2_factOf_103 : decode cX2_factOf 103 = .ok (.iconst 1, 1) := by decide +kernel
theorem dX2_factOf_104 : decode cX2_factOf 104 = .ok (.goto 4, 3) := by decide +kernel
theorem dX2_factOf_107 : decode cX2_factOf 107 = .ok (.iconst 0, 1) := by decide +kernel
theorem dX2_factOf_108 : decode cX2_factOf 108 = .ok (.ireturn, 1) := by decide +kernel
theorem dX2_factOf_109 : decode cX2_factOf 109 = .ok (.bipush 100, 2) := by decide +kernel
theorem dX2_factOf_111 : decode cX2_factOf 111 = .ok (.aload_n 0, 1) := by decide +kernel
theorem dX2_factOf_112 : decode cX2_factOf 112 = .ok (.getfield 37, 3) := by decide +kernel
theorem dX2_factOf_115 : decode cX2_factOf 115 = .ok (.iload_n 1, 1) := by decide +kernel
theorem dX2_factOf_116 : decode cX2_factOf 116 = .ok (.iaload, 1) := by decide +kernel
theorem dX2_factOf_117 : decode cX2_factOf 117 = .ok (.imul, 1) := by decide +kernel
theorem dX2_factOf_118 : decode cX2_factOf 118 = .ok (.aload_n 0, 1) := by decide +kernel
theorem dX2_factOf_119 : decode cX2_factOf 119 = .ok (.getfield 34, 3) := by decide +kernel
theorem dX2_factOf_122 : decode cX2_factOf 122 = .ok (.iload_n 1, 1) := by decide +kernel
theorem dX2_factOf_123 : decode cX2_factOf 123 = .ok (.iaload, 1) := by decide +kernel
theorem dX2_factOf_124 : decode cX2_factOf 124 = .ok (.idiv, 1) := by decide +kernel
theorem dX2_factOf_125 : decode cX2_factOf 125 = .ok (.ireturn, 1) := by decide +kernel
theorem dX2_factOf_126 : decode cX2_factOf 126 = .ok (.aload_n 0, 1) := by decide +kernel
theorem dX2_factOf_127 : decode cX2_factOf 127 = .ok (.getfield 7, 3) := by decide +kernel
theorem dX2_factOf_130 : decode cX2_factOf 130 = .ok (.aload_n 0, 1) := by decide +kernel
theorem dX2_factOf_131 : decode cX2_factOf 131 = .ok (.getfield 25, 3) := by decide +kernel
theorem dX2_factOf_134 : decode cX2_factOf 134 = .ok (.iload_n 1, 1) := by decide +kernel
theorem dX2_factOf_135 : decode cX2_factOf 135 = .ok (.iaload, 1) := by decide +kernel
theorem dX2_factOf_136 : decode cX2_factOf 136 = .ok (.iaload, 1) := by decide +kernel
theorem dX2_factOf_137 : decode cX2_factOf 137 = .ok (.ireturn, 1) := by decide +kernel
theorem dX2_factOf_138 : decode cX2_factOf 138 = .ok (.aload_n 0, 1) := by decide +kernel
theorem dX2_factOf_139 : decode cX2_factOf 139 = .ok (.getfield 13, 3) := by decide +kernel
theorem dX2_factOf_142 : decode cX2_factOf 142 = .ok (.aload_n 0, 1) := by decide +kernel
theorem dX2_factOf_143 : decode cX2_factOf 143 = .ok (.getfield 25, 3) := by decide +kernel
theorem dX2_factOf_146 : decode cX2_factOf 146 = .ok (.iload_n 1, 1) := by decide +kernel
theorem dX2_factOf_147 : decode cX2_factOf 147 = .ok (.iaload, 1) := by decide +kernel
theorem dX2_factOf_148 : decode cX2_factOf 148 = .ok (.iaload, 1) := by decide +kernel
theorem dX2_factOf_149 : decode cX2_factOf 149 = .ok (.ireturn, 1) := by decide +kernel
def fn_X2_factOf_108 (N : Nat)  (s0 : Int32) (Ω : zo_O) : Option zo_R :=
  rI s0 Ω
theorem ct_X2_factOf_108 {Y : zo_Y} (hY : zo_Gd Y cX2_factOf 3 RX2 0) (hJ : zo_JC (zo_J Y)) (hCon : ∀ Ω, zo_J Y Ω → zo_Con Ω) (hr : zo_rt Y (Option.some Jvm.ClassFile.FieldType.int)) (N : Nat)   (s0 : Int32) (Ω : zo_O) (res : zo_R) (h : fn_X2_factOf_108 N  s0 Ω = some res) : TW Y res Ω 108 [] [vi s0] := by
  unfold fn_X2_factOf_108 at h
  exact zo_iret hY hr dX2_factOf_108 h
def fn_X2_factOf (N : Nat) (x1 : Int32) (x2 : Int32) (Ω : zo_O) : Option zo_R :=
  if x2 = 0 then (
    ix x1 120 fun j2 =>
    rI (gI Ω 32 5 j2) Ω
    ) else
  if x2 = 1 then (
    ix x1 120 fun j4 =>
    rI (gI Ω 32 6 j4) Ω
    ) else
  if x2 = 2 then (
    ix x1 120 fun j6 =>
    rI (gI Ω 32 7 j6) Ω
    ) else
  if x2 = 3 then (
    ix x1 120 fun j8 =>
    rI (gI Ω 32 8 j8) Ω
    ) else
  if x2 = 4 then (
    ix x1 120 fun j10 =>
    rI (gI Ω 32 9 j10) Ω
    ) else
  if x2 = 5 then (
    ix x1 120 fun j12 =>
    rI (gI Ω 32 10 j12) Ω
    ) else
  if x2 = 6 then (
    ix x1 120 fun j14 =>
    if gI Ω 33 0 j14 = 0 then (
      fn_X2_factOf_108 N 0 Ω
      ) else
    fn_X2_factOf_108 N 1 Ω
    ) else
  if x2 = 7 then (
    ix x1 120 fun j17 =>
    ix x1 120 fun j18 =>
    gd (¬ (gI Ω 32 8 j18) = 0) <|
    rI ((100 * (gI Ω 32 9 j17)) / (gI Ω 32 8 j18)) Ω
    ) else
  if x2 = 8 then (
    ix x1 120 fun j20 =>
    ix (gI Ω 32 5 j20) 14 fun j21 =>
    rI (gI Ω 32 0 j21) Ω
    ) else
  ix x1 120 fun j22 =>
  ix (gI Ω 32 5 j22) 14 fun j23 =>
  rI (gI Ω 32 1 j23) Ω
theorem mt_X2_factOf {G : zo_G} {J : zo_O → Prop} (hJ : zo_JC J) (hCon : ∀ Ω, J Ω → zo_Con Ω) (N : Nat) (x1 : Int32) (x2 : Int32) (Ω : zo_O) (res : zo_R) (h : fn_X2_factOf N x1 x2 Ω = some res) : zo_MT G J yX2_factOf cX2_factOf 3 (Option.some Jvm.ClassFile.FieldType.int) 0 [vr 1 0, vi x1, vi x2] Ω res := by
  refine zo_enter (by decide) rfl (Nat.le_of_ble_eq_true rfl) (fun Y hY eJ hr hmn => ?_)
  subst eJ
  show TW Y res Ω 0 [(0, vr 1 0), (1, vi x1), (2, vi x2)] []
  unfold fn_X2_factOf at h
  refine zo_iload_n hY dX2_factOf_0 rfl 2 rfl ?_
  by_cases c1 : x2 = 0
  · rw [if_pos c1] at h
    refine zo_tsIn hY (off := 51) 0 52 c1 dX2_factOf_1 (by decide) (by decide) (by decide) (by decide) ?_
    refine zo_aload_n hY dX2_factOf_52 rfl 0 rfl ?_
    refine zo_getC hY LX2_25_1 rfl (fun Ω q => (hCon Ω q).2.1 9 _ rfl) dX2_factOf_53 ?_
    refine zo_iload_n hY dX2_factOf_56 rfl 1 rfl ?_
    refine zo_ald hY (by decide) (Or.inl ⟨rfl, dX2_factOf_57⟩) (fun q => (hCon _ q).2.2.2 32 5 120 rfl) h (fun j2 h => ?_)
    exact zo_iret hY hr dX2_factOf_58 h
  · rw [if_neg c1] at h
    by_cases c3 : x2 = 1
    · rw [if_pos c3] at h
      refine zo_tsIn hY (off := 58) 1 59 c3 dX2_factOf_1 (by decide) (by decide) (by decide) (by decide) ?_
      refine zo_aload_n hY dX2_factOf_59 rfl 0 rfl ?_
      refine zo_getC hY LX2_28_1 rfl (fun Ω q => (hCon Ω q).2.1 10 _ rfl) dX2_factOf_60 ?_
      refine zo_iload_n hY dX2_factOf_63 rfl 1 rfl ?_
      refine zo_ald hY (by decide) (Or.inl ⟨rfl, dX2_factOf_64⟩) (fun q => (hCon _ q).2.2.2 32 6 120 rfl) h (fun j4 h => ?_)
      exact zo_iret hY hr dX2_factOf_65 h
    · rw [if_neg c3] at h
      by_cases c5 : x2 = 2
      · rw [if_pos c5] at h
        refine zo_tsIn hY (off := 65) 2 66 c5 dX2_factOf_1 (by decide) (by decide) (by decide) (by decide) ?_
        refine zo_aload_n hY dX2_factOf_66 rfl 0 rfl ?_
        refine zo_getC hY LX2_31_1 rfl (fun Ω q => (hCon Ω q).2.1 11 _ rfl) dX2_factOf_67 ?_
        refine zo_iload_n hY dX2_factOf_70 rfl 1 rfl ?_
        refine zo_ald hY (by decide) (Or.inl ⟨rfl, dX2_factOf_71⟩) (fun q => (hCon _ q).2.2.2 32 7 120 rfl) h (fun j6 h => ?_)
        exact zo_iret hY hr dX2_factOf_72 h
      · rw [if_neg c5] at h
        by_cases c7 : x2 = 3
        · rw [if_pos c7] at h
          refine zo_tsIn hY (off := 72) 3 73 c7 dX2_factOf_1 (by decide) (by decide) (by decide) (by decide) ?_
          refine zo_aload_n hY dX2_factOf_73 rfl 0 rfl ?_
          refine zo_getC hY LX2_34_1 rfl (fun Ω q => (hCon Ω q).2.1 12 _ rfl) dX2_factOf_74 ?_
          refine zo_iload_n hY dX2_factOf_77 rfl 1 rfl ?_
          refine zo_ald hY (by decide) (Or.inl ⟨rfl, dX2_factOf_78⟩) (fun q => (hCon _ q).2.2.2 32 8 120 rfl) h (fun j8 h => ?_)
          exact zo_iret hY hr dX2_factOf_79 h
        · rw [if_neg c7] at h
          by_cases c9 : x2 = 4
          · rw [if_pos c9] at h
            refine zo_tsIn hY (off := 79) 4 80 c9 dX2_factOf_1 (by decide) (by decide) (by decide) (by decide) ?_
            refine zo_aload_n hY dX2_factOf_80 rfl 0 rfl ?_
            refine zo_getC hY LX2_37_1 rfl (fun Ω q => (hCon Ω q).2.1 13 _ rfl) dX2_factOf_81 ?_
            refine zo_iload_n hY dX2_factOf_84 rfl 1 rfl ?_
            refine zo_ald hY (by decide) (Or.inl ⟨rfl, dX2_factOf_85⟩) (fun q => (hCon _ q).2.2.2 32 9 120 rfl) h (fun j10 h => ?_)
            exact zo_iret hY hr dX2_factOf_86 h
          · rw [if_neg c9] at h
            by_cases c11 : x2 = 5
            · rw [if_pos c11] at h
              refine zo_tsIn hY (off := 86) 5 87 c11 dX2_factOf_1 (by decide) (by decide) (by decide) (by decide) ?_
              refine zo_aload_n hY dX2_factOf_87 rfl 0 rfl ?_
              refine zo_getC hY LX2_40_1 rfl (fun Ω q => (hCon Ω q).2.1 14 _ rfl) dX2_factOf_88 ?_
              refine zo_iload_n hY dX2_factOf_91 rfl 1 rfl ?_
              refine zo_ald hY (by decide) (Or.inl ⟨rfl, dX2_factOf_92⟩) (fun q => (hCon _ q).2.2.2 32 10 120 rfl) h (fun j12 h => ?_)
              exact zo_iret hY hr dX2_factOf_93 h
            · rw [if_neg c11] at h
              by_cases c13 : x2 = 6
              · rw [if_pos c13] at h
                refine zo_tsIn hY (off := 93) 6 94 c13 dX2_factOf_1 (by decide) (by decide) (by decide) (by decide) ?_
                refine zo_aload_n hY dX2_factOf_94 rfl 0 rfl ?_
                refine zo_getC hY LX2_43_1 rfl (fun Ω q => (hCon Ω q).2.1 15 _ rfl) dX2_factOf_95 ?_
                refine zo_iload_n hY dX2_factOf_98 rfl 1 rfl ?_
                refine zo_ald hY (by decide) (Or.inr ⟨Or.inr rfl, dX2_factOf_99⟩) (fun q => (hCon _ q).2.2.2 33 0 120 rfl) h (fun j14 h => ?_)
                refine zo_if_eq hY 107 dX2_factOf_100 (by decide) h (fun c15 h => ?_) (fun c15 h => ?_)
                · refine zo_iconst hY 0 (by decide) dX2_factOf_107 ?_
                  refine zo_sub [] rfl ?_
                  exact ct_X2_factOf_108 hY hJ hCon hr N 0 Ω _ h
                · refine zo_iconst hY 1 (by decide) dX2_factOf_103 ?_
                  refine zo_goto hY 108 dX2_factOf_104 (by decide) ?_
                  refine zo_sub [] rfl ?_
                  exact ct_X2_factOf_108 hY hJ hCon hr N 1 Ω _ h
              · rw [if_neg c13] at h
                by_cases c16 : x2 = 7
                · rw [if_pos c16] at h
                  refine zo_tsIn hY (off := 108) 7 109 c16 dX2_factOf_1 (by decide) (by decide) (by decide) (by decide) ?_
                  refine zo_bipush hY 100 (by decide) dX2_factOf_109 ?_
                  refine zo_aload_n hY dX2_factOf_111 rfl 0 rfl ?_
                  refine zo_getC hY LX2_37_1 rfl (fun Ω q => (hCon Ω q).2.1 13 _ rfl) dX2_factOf_112 ?_
                  refine zo_iload_n hY dX2_factOf_115 rfl 1 rfl ?_
                  refine zo_ald hY (by decide) (Or.inl ⟨rfl, dX2_factOf_116⟩) (fun q => (hCon _ q).2.2.2 32 9 120 rfl) h (fun j17 h => ?_)
                  refine zo_imul hY dX2_factOf_117 ?_
                  refine zo_aload_n hY dX2_factOf_118 rfl 0 rfl ?_
                  refine zo_getC hY LX2_34_1 rfl (fun Ω q => (hCon Ω q).2.1 12 _ rfl) dX2_factOf_119 ?_
                  refine zo_iload_n hY dX2_factOf_122 rfl 1 rfl ?_
                  refine zo_ald hY (by decide) (Or.inl ⟨rfl, dX2_factOf_123⟩) (fun q => (hCon _ q).2.2.2 32 8 120 rfl) h (fun j18 h => ?_)
                  refine zo_idiv hY dX2_factOf_124 h (fun h => ?_)
                  exact zo_iret hY hr dX2_factOf_125 h
                · rw [if_neg c16] at h
                  by_cases c19 : x2 = 8
                  · rw [if_pos c19] at h
                    refine zo_tsIn hY (off := 125) 8 126 c19 dX2_factOf_1 (by decide) (by decide) (by decide) (by decide) ?_
                    refine zo_aload_n hY dX2_factOf_126 rfl 0 rfl ?_
                    refine zo_getC hY LX2_7_1 rfl (fun Ω q => (hCon Ω q).2.1 3 _ rfl) dX2_factOf_127 ?_
                    refine zo_aload_n hY dX2_factOf_130 rfl 0 rfl ?_
                    refine zo_getC hY LX2_25_1 rfl (fun Ω q => (hCon Ω q).2.1 9 _ rfl) dX2_factOf_131 ?_
                    refine zo_iload_n hY dX2_factOf_134 rfl 1 rfl ?_
                    refine zo_ald hY (by decide) (Or.inl ⟨rfl, dX2_factOf_135⟩) (fun q => (hCon _ q).2.2.2 32 5 120 rfl) h (fun j20 h => ?_)
                    refine zo_ald hY (by decide) (Or.inl ⟨rfl, dX2_factOf_136⟩) (fun q => (hCon _ q).2.2.2 32 0 14 rfl) h (fun j21 h => ?_)
                    exact zo_iret hY hr dX2_factOf_137 h
                  · rw [if_neg c19] at h
                    refine zo_tsOut hY 138 dX2_factOf_1 (by have z0 := lv_neT (a := 0) c1 (by decide); have z1 := lv_neT (a := 1) c3 (by decide); have z2 := lv_neT (a := 2) c5 (by decide); have z3 := lv_neT (a := 3) c7 (by decide); have z4 := lv_neT (a := 4) c9 (by decide); have z5 := lv_neT (a := 5) c11 (by decide); have z6 := lv_neT (a := 6) c13 (by decide); have z7 := lv_neT (a := 7) c16 (by decide); have z8 := lv_neT (a := 8) c19 (by decide); omega) (by decide) ?_
                    refine zo_aload_n hY dX2_factOf_138 rfl 0 rfl ?_
                    refine zo_getC hY LX2_13_1 rfl (fun Ω q => (hCon Ω q).2.1 4 _ rfl) dX2_factOf_139 ?_
                    refine zo_aload_n hY dX2_factOf_142 rfl 0 rfl ?_
                    refine zo_getC hY LX2_25_1 rfl (fun Ω q => (hCon Ω q).2.1 9 _ rfl) dX2_factOf_143 ?_
                    refine zo_iload_n hY dX2_factOf_146 rfl 1 rfl ?_
                    refine zo_ald hY (by decide) (Or.inl ⟨rfl, dX2_factOf_147⟩) (fun q => (hCon _ q).2.2.2 32 5 120 rfl) h (fun j22 h => ?_)
                    refine zo_ald hY (by decide) (Or.inl ⟨rfl, dX2_factOf_148⟩) (fun q => (hCon _ q).2.2.2 32 1 14 rfl) h (fun j23 h => ?_)
                    exact zo_iret hY hr dX2_factOf_149 h
theorem dX2_isMeant_0 : decode cX2_isMeant 0 = .ok (.iconst 4, 1) := by decide +kernel
theorem dX2_isMeant_1 : decode cX2_isMeant 1 = .ok (.iload_n 1, 1) := by decide +kernel
theorem dX2_isMeant_2 : decode cX2_isMeant 2 = .ok (.imul, 1) := by decide +kernel
theorem dX2_isMeant_3 : decode cX2_isMeant 3 = .ok (.istore_n 3, 1) := by decide +kernel
theorem dX2_isMeant_4 : decode cX2_isMeant 4 = .ok (.iload_n 3, 1) := by decide +kernel
theorem dX2_isMeant_5 : decode cX2_isMeant 5 = .ok (.iconst 4, 1) := by decide +kernel
theorem dX2_isMeant_6 : decode cX2_isMeant 6 = .ok (.iload_n 1, 1) := by decide +kernel
theorem dX2_isMeant_7 : decode cX2_isMeant 7 = .ok (.imul, 1) := by decide +kernel
theorem dX2_isMeant_8 : decode cX2_isMeant 8 = .ok (.aload_n 0, 1) := by decide +kernel
theorem dX2_isMeant_9 : decode cX2_isMeant 9 = .ok (.getfield 123, 3) := by decide +kernel
theorem dX2_isMeant_12 : decode cX2_isMeant 12 = .ok (.iload_n 1, 1) := by decide +kernel
theorem dX2_isMeant_13 : decode cX2_isMeant 13 = .ok (.iaload, 1) := by decide +kernel
theorem dX2_isMeant_14 : decode cX2_isMeant 14 = .ok (.iadd, 1) := by decide +kernel
theorem dX2_isMeant_15 : decode cX2_isMeant 15 = .ok (.if_icmp .ge 110, 3) := by decide +kernel
theorem dX2_isMeant_18 : decode cX2_isMeant 18 = .ok (.aload_n 0, 1) := by decide +kernel
theorem dX2_isMeant_19 : decode cX2_isMeant 19 = .ok (.iload_n 2, 1) := by decide +kernel
theorem dX2_isMeant_20 : decode cX2_isMeant 20 = .ok (.aload_n 0, 1) := by decide +kernel
theorem dX2_isMeant_21 : decode cX2_isMeant 21 = .ok (.getfield 129, 3) := by decide +kernel
theorem dX2_isMeant_24 : decode cX2_isMeant 24 = .ok (.iload_n 3, 1) := by decide +kernel
theorem dX2_isMeant_25 : decode cX2_isMeant 25 = .ok (.iaload, 1) := by decide +kernel
theorem dX2_isMeant_26 : decode cX2_isMeant 26 = .ok (.invokevirtual 324, 3) := by decide +kernel
theorem dX2_isMeant_29 : decode cX2_isMeant 29 = .ok (.istore 4, 2) := by decide +kernel
theorem dX2_isMeant_31 : decode cX2_isMeant 31 = .ok (.aload_n 0, 1) := by decide +kernel
theorem dX2_isMeant_32 : decode cX2_isMeant 32 = .ok (.getfield 132, 3) := by decide +kernel
theorem dX2_isMeant_35 : decode cX2_isMeant 35 = .ok (.iload_n 3, 1) := by decide +kernel
theorem dX2_isMeant_36 : decode cX2_isMeant 36 = .ok (.iaload, 1) := by decide +kernel
theorem dX2_isMeant_37 : decode cX2_isMeant 37 = .ok (.ifCond .ne 22, 3) := by decide +kernel
theorem dX2_isMeant_40 : decode cX2_isMeant 40 = .ok (.iload 4, 2) := by decide +kernel
theorem dX2_isMeant_42 : decode cX2_isMeant 42 = .ok (.aload_n 0, 1) := by decide +kernel
theorem dX2_isMeant_43 : decode cX2_isMeant 43 = .ok (.getfield 135, 3) := by decide +kernel
theorem dX2_isMeant_46 : decode cX2_isMeant 46 = .ok (.iload_n 3, 1) := by decide +kernel
theorem dX2_isMeant_47 : decode cX2_isMeant 47 = .ok (.iaload, 1) := by decide +kernel
theorem dX2_isMeant_48 : decode cX2_isMeant 48 = .ok (.if_icmp .ge 7, 3) := by decide +kernel
theorem dX2_isMeant_51 : decode cX2_isMeant 51 = .ok (.iconst 1, 1) := by decide +kernel
theorem dX2_isMeant_52 : decode cX2_isMeant 52 = .ok (.goto 52, 3) := by decide +kernel
theorem dX2_isMeant_55 : decode cX2_isMeant 55 = .ok (.iconst 0, 1) := by decide +kernel
theorem dX2_isMeant_56 : decode cX2_isMeant 56 = .ok (.goto 48, 3) := by decide +kernel
theorem dX2_isMeant_59 : decode cX2_isMeant 59 = .ok (.aload_n 0, 1) := by decide +kernel
theorem dX2_isMeant_60 : decode cX2_isMeant 60 = .ok (.getfield 132, 3) := by decide +kernel
theorem dX2_isMeant_63 : decode cX2_isMeant 63 = .ok (.iload_n 3, 1) := by decide +kernel
theorem dX2_isMeant_64 : decode cX2_isMeant 64 = .ok (.iaload, 1) := by decide +kernel
theorem dX2_isMeant_65 : decode cX2_isMeant 65 = .ok (.iconst 1, 1) := by decide +kernel
theorem dX2_isMeant_66 : decode cX2_isMeant 66 = .ok (.if_icmp .ne 22, 3) := by decide +kernel
theorem dX2_isMeant_69 : decode cX2_isMeant 69 = .ok (.iload 4, 2) := by decide +kernel
theorem dX2_isMeant_71 : decode cX2_isMeant 71 = .ok (.aload_n 0, 1) := by decide +kernel
theorem dX2_isMeant_72 : decode cX2_isMeant 72 = .ok (.getfield 135, 3) := by decide +kernel
theorem dX2_isMeant_75 : decode cX2_isMeant 75 = .ok (.iload_n 3, 1) := by decide +kernel
theorem dX2_isMeant_76 : decode cX2_isMeant 76 = .ok (.iaload, 1) := by decide +kernel
theorem dX2_isMeant_77 : decode cX2_isMeant 77 = .ok (.if_icmp .ne 7, 3) := by decide +kernel
theorem dX2_isMeant_80 : decode cX2_isMeant 80 = .ok (.iconst 1, 1) := by decide +kernel
theorem dX2_isMeant_81 : decode cX2_isMeant 81 = .ok (.goto 23, 3) := by decide +kernel
theorem dX2_isMeant_84 : decode cX2_isMeant 84 = .ok (.iconst 0, 1) := by decide +kernel
theorem dX2_isMeant_85 : decode cX2_isMeant 85 = .ok (.goto 19, 3) := by decide +kernel
theorem dX2_isMeant_88 : decode cX2_isMeant 88 = .ok (.iload 4, 2) := by decide +kernel
theorem dX2_isMeant_90 : decode cX2_isMeant 90 = .ok (.aload_n 0, 1) := by decide +kernel
theorem dX2_isMeant_91 : decode cX2_isMeant 91 = .ok (.getfield 135, 3) := by decide +kernel
theorem dX2_isMeant_94 : decode cX2_isMeant 94 = .ok (.iload_n 3, 1) := by decide +kernel
theorem dX2_isMeant_95 : decode cX2_isMeant 95 = .ok (.iaload, 1) := by decide +kernel
theorem dX2_isMeant_96 : decode cX2_isMeant 96 = .ok (.if_icmp .le 7, 3) := by decide +kernel
theorem dX2_isMeant_99 : decode cX2_isMeant 99 = .ok (.iconst 1, 1) := by decide +kernel
theorem dX2_isMeant_100 : decode cX2_isMeant 100 = .ok (.goto 4, 3) := by decide +kernel
theorem dX2_isMeant_103 : decode cX2_isMeant 103 = .ok (.iconst 0, 1) := by decide +kernel
theorem dX2_isMeant_104 : decode cX2_isMeant 104 = .ok (.istore 5, 2) := by decide +kernel
theorem dX2_isMeant_106 : decode cX2_isMeant 106 = .ok (.iload 5, 2) := by decide +kernel
theorem dX2_isMeant_108 : decode cX2_isMeant 108 = .ok (.aload_n 0, 1) := by decide +kernel
theorem dX2_isMeant_109 : decode cX2_isMeant 109 = .ok (.getfield 126, 3) := by decide +kernel
theorem dX2_isMeant_112 : decode cX2_isMeant 112 = .ok (.iload_n 3, 1) := by decide +kernel
theorem dX2_isMeant_113 : decode cX2_isMeant 113 = .ok (.baload, 1) := by decide +kernel
theorem dX2_isMeant_114 : decode cX2_isMeant 114 = .ok (.if_icmp .ne 5, 3) := by decide +kernel
theorem dX2_isMeant_117 : decode cX2_isMeant 117 = .ok (.iconst 0, 1) := by decide +kernel
theorem dX2_isMeant_118 : decode cX2_isMeant 118 = .ok (.ireturn, 1) := by decide +kernel
theorem dX2_isMeant_119 : decode cX2_isMeant 119 = .ok (.iinc 3 1, 3) := by decide +kernel
theorem dX2_isMeant_122 : decode cX2_isMeant 122 = .ok (.goto (-118), 3) := by decide +kernel
theorem dX2_isMeant_125 : decode cX2_isMeant 125 = .ok (.iconst 1, 1) := by decide +kernel
theorem dX2_isMeant_126 : decode cX2_isMeant 126 = .ok (.ireturn, 1) := by decide +kernel
def fn_X2_isMeant_104 (N : Nat) (K4 : Int32 → Int32 → Int32 → zo_O → Option zo_R) (x1 : Int32) (x2 : Int32) (x3 : Int32) (s0 : Int32) (Ω : zo_O) : Option zo_R :=
  ix x3 96 fun j1 =>
  if s0 = gI Ω 33 2 j1 then (
    rZ 0 Ω
    ) else
  K4 x1 x2 (x3 + 1) Ω
theorem ct_X2_isMeant_104 {Y : zo_Y} (hY : zo_Gd Y cX2_isMeant 6 RX2 1) (hJ : zo_JC (zo_J Y)) (hCon : ∀ Ω, zo_J Y Ω → zo_Con Ω) (hr : zo_rt Y (Option.some Jvm.ClassFile.FieldType.boolean)) (N : Nat) (K4 : Int32 → Int32 → Int32 → zo_O → Option zo_R) (hK4 : ∀ (x1 : Int32) (x2 : Int32) (x3 : Int32) (Ω : zo_O) (res : zo_R), K4 x1 x2 x3 Ω = some res → TW Y res Ω 4 [(0, vr 1 0), (1, vi x1), (2, vi x2), (3, vi x3)] []) (x1 : Int32) (x2 : Int32) (x3 : Int32) (s0 : Int32) (Ω : zo_O) (res : zo_R) (h : fn_X2_isMeant_104 N K4 x1 x2 x3 s0 Ω = some res) : TW Y res Ω 104 [(0, vr 1 0), (1, vi x1), (2, vi x2), (3, vi x3)] [vi s0] := by
  unfold fn_X2_isMeant_104 at h
  refine zo_istore hY dX2_isMeant_104 (by decide) rfl (ls' := [(5, vi s0), (0, vr 1 0), (1, vi x1), (2, vi x2), (3, vi x3)]) rfl ?_
  refine zo_iload hY dX2_isMeant_106 0 rfl ?_
  refine zo_aload_n hY dX2_isMeant_108 rfl 1 rfl ?_
  refine zo_getC hY LX2_126_1 rfl (fun Ω q => (hCon Ω q).2.1 49 _ rfl) dX2_isMeant_109 ?_
  refine zo_iload_n hY dX2_isMeant_112 rfl 4 rfl ?_
  refine zo_ald hY (by decide) (Or.inr ⟨Or.inr rfl, dX2_isMeant_113⟩) (fun q => (hCon _ q).2.2.2 33 2 96 rfl) h (fun j1 h => ?_)
  refine zo_icmp_ne hY 119 dX2_isMeant_114 (by decide) h (fun c2 h => ?_) (fun c2 h => ?_)
  · refine zo_iconst hY 0 (by decide) dX2_isMeant_117 ?_
    exact zo_zret hY hr dX2_isMeant_118 h
  · refine zo_iinc hY 1 dX2_isMeant_119 (by decide) (by decide) 4 rfl rfl (ls' := [(3, vi (x3 + 1)), (5, vi s0), (0, vr 1 0), (1, vi x1), (2, vi x2)]) rfl ?_
    refine zo_goto hY 4 dX2_isMeant_122 (by decide) ?_
    refine zo_sub [2, 3, 4, 0] rfl ?_
    exact hK4 x1 x2 (x3 + 1) Ω _ h
def bd_X2_isMeant_4 (N : Nat)  (K4 : Int32 → Int32 → Int32 → zo_O → Option zo_R) (x1 : Int32) (x2 : Int32) (x3 : Int32) (Ω : zo_O) : Option zo_R :=
  ix x1 24 fun j1 =>
  if (4 * x1) + (gI Ω 32 32 j1) ≤ x3 then (
    rZ 1 Ω
    ) else
  ix x3 96 fun j3 =>
  ci (fn_X2_factOf N x2 (gI Ω 32 33 j3) Ω) fun r5 Ω4 =>
  ix x3 96 fun j6 =>
  if gI Ω4 32 34 j6 = 0 then (
    ix x3 96 fun j8 =>
    if gI Ω4 32 35 j8 ≤ r5 then (
      fn_X2_isMeant_104 N K4 x1 x2 x3 0 Ω4
      ) else
    fn_X2_isMeant_104 N K4 x1 x2 x3 1 Ω4
    ) else
  ix x3 96 fun j10 =>
  if gI Ω4 32 34 j10 = 1 then (
    ix x3 96 fun j12 =>
    if r5 = gI Ω4 32 35 j12 then (
      fn_X2_isMeant_104 N K4 x1 x2 x3 1 Ω4
      ) else
    fn_X2_isMeant_104 N K4 x1 x2 x3 0 Ω4
    ) else
  ix x3 96 fun j14 =>
  if r5 ≤ gI Ω4 32 35 j14 then (
    fn_X2_isMeant_104 N K4 x1 x2 x3 0 Ω4
    ) else
  fn_X2_isMeant_104 N K4 x1 x2 x3 1 Ω4
theorem cb_X2_isMeant_4 {Y : zo_Y} (hY : zo_Gd Y cX2_isMeant 6 RX2 1) (hJ : zo_JC (zo_J Y)) (hCon : ∀ Ω, zo_J Y Ω → zo_Con Ω) (hr : zo_rt Y (Option.some Jvm.ClassFile.FieldType.boolean)) (N : Nat)  (K4 : Int32 → Int32 → Int32 → zo_O → Option zo_R)  (hK4 : ∀ (x1 : Int32) (x2 : Int32) (x3 : Int32) (Ω : zo_O) (res : zo_R), K4 x1 x2 x3 Ω = some res → TW Y res Ω 4 [(0, vr 1 0), (1, vi x1), (2, vi x2), (3, vi x3)] []) (x1 : Int32) (x2 : Int32) (x3 : Int32) (Ω : zo_O) (res : zo_R) (h : bd_X2_isMeant_4 N  K4 x1 x2 x3 Ω = some res) : TW Y res Ω 4 [(0, vr 1 0), (1, vi x1), (2, vi x2), (3, vi x3)] [] := by
  unfold bd_X2_isMeant_4 at h
  refine zo_iload_n hY dX2_isMeant_4 rfl 3 rfl ?_
  refine zo_iconst hY 4 (by decide) dX2_isMeant_5 ?_
  refine zo_iload_n hY dX2_isMeant_6 rfl 1 rfl ?_
  refine zo_imul hY dX2_isMeant_7 ?_
  refine zo_aload_n hY dX2_isMeant_8 rfl 0 rfl ?_
  refine zo_getC hY LX2_123_1 rfl (fun Ω q => (hCon Ω q).2.1 48 _ rfl) dX2_isMeant_9 ?_
  refine zo_iload_n hY dX2_isMeant_12 rfl 1 rfl ?_
  refine zo_ald hY (by decide) (Or.inl ⟨rfl, dX2_isMeant_13⟩) (fun q => (hCon _ q).2.2.2 32 32 24 rfl) h (fun j1 h => ?_)
  refine zo_iadd hY dX2_isMeant_14 ?_
  refine zo_icmp_ge hY 125 dX2_isMeant_15 (by decide) h (fun c2 h => ?_) (fun c2 h => ?_)
  · refine zo_iconst hY 1 (by decide) dX2_isMeant_125 ?_
    exact zo_zret hY hr dX2_isMeant_126 h
  · refine zo_aload_n hY dX2_isMeant_18 rfl 0 rfl ?_
    refine zo_iload_n hY dX2_isMeant_19 rfl 2 rfl ?_
    refine zo_aload_n hY dX2_isMeant_20 rfl 0 rfl ?_
    refine zo_getC hY LX2_129_1 rfl (fun Ω q => (hCon Ω q).2.1 50 _ rfl) dX2_isMeant_21 ?_
    refine zo_iload_n hY dX2_isMeant_24 rfl 3 rfl ?_
    refine zo_ald hY (by decide) (Or.inl ⟨rfl, dX2_isMeant_25⟩) (fun q => (hCon _ q).2.2.2 32 33 96 rfl) h (fun j3 h => ?_)
    refine zo_callV hY (fun q hq => mt_X2_factOf hJ hCon N x2 (gI Ω 32 33 j3) Ω q hq) (by decide) (by decide) (by decide) ⟨rfl, cn_X2_factOf⟩ rfl q1675 q1677 qs54 q82 q1678 (Nat.le_of_ble_eq_true rfl) dX2_isMeant_26 rfl h (ci_k (fun r5 Ω4 res h => ?_))
    refine zo_istore hY dX2_isMeant_29 (by decide) rfl (ls' := [(4, vi r5), (0, vr 1 0), (1, vi x1), (2, vi x2), (3, vi x3)]) rfl ?_
    refine zo_aload_n hY dX2_isMeant_31 rfl 1 rfl ?_
    refine zo_getC hY LX2_132_1 rfl (fun Ω q => (hCon Ω q).2.1 51 _ rfl) dX2_isMeant_32 ?_
    refine zo_iload_n hY dX2_isMeant_35 rfl 4 rfl ?_
    refine zo_ald hY (by decide) (Or.inl ⟨rfl, dX2_isMeant_36⟩) (fun q => (hCon _ q).2.2.2 32 34 96 rfl) h (fun j6 h => ?_)
    refine zo_if_ne hY 59 dX2_isMeant_37 (by decide) h (fun c7 h => ?_) (fun c7 h => ?_)
    · refine zo_iload hY dX2_isMeant_40 0 rfl ?_
      refine zo_aload_n hY dX2_isMeant_42 rfl 1 rfl ?_
      refine zo_getC hY LX2_135_1 rfl (fun Ω q => (hCon Ω q).2.1 52 _ rfl) dX2_isMeant_43 ?_
      refine zo_iload_n hY dX2_isMeant_46 rfl 4 rfl ?_
      refine zo_ald hY (by decide) (Or.inl ⟨rfl, dX2_isMeant_47⟩) (fun q => (hCon _ q).2.2.2 32 35 96 rfl) h (fun j8 h => ?_)
      refine zo_icmp_ge hY 55 dX2_isMeant_48 (by decide) h (fun c9 h => ?_) (fun c9 h => ?_)
      · refine zo_iconst hY 0 (by decide) dX2_isMeant_55 ?_
        refine zo_goto hY 104 dX2_isMeant_56 (by decide) ?_
        refine zo_sub [1, 2, 3, 4] rfl ?_
        exact ct_X2_isMeant_104 hY hJ hCon hr N K4 hK4 x1 x2 x3 0 Ω4 _ h
      · refine zo_iconst hY 1 (by decide) dX2_isMeant_51 ?_
        refine zo_goto hY 104 dX2_isMeant_52 (by decide) ?_
        refine zo_sub [1, 2, 3, 4] rfl ?_
        exact ct_X2_isMeant_104 hY hJ hCon hr N K4 hK4 x1 x2 x3 1 Ω4 _ h
    · refine zo_aload_n hY dX2_isMeant_59 rfl 1 rfl ?_
      refine zo_getC hY LX2_132_1 rfl (fun Ω q => (hCon Ω q).2.1 51 _ rfl) dX2_isMeant_60 ?_
      refine zo_iload_n hY dX2_isMeant_63 rfl 4 rfl ?_
      refine zo_ald hY (by decide) (Or.inl ⟨rfl, dX2_isMeant_64⟩) (fun q => (hCon _ q).2.2.2 32 34 96 rfl) h (fun j10 h => ?_)
      refine zo_iconst hY 1 (by decide) dX2_isMeant_65 ?_
      refine zo_icmp_ne hY 88 dX2_isMeant_66 (by decide) h (fun c11 h => ?_) (fun c11 h => ?_)
      · refine zo_iload hY dX2_isMeant_69 0 rfl ?_
        refine zo_aload_n hY dX2_isMeant_71 rfl 1 rfl ?_
        refine zo_getC hY LX2_135_1 rfl (fun Ω q => (hCon Ω q).2.1 52 _ rfl) dX2_isMeant_72 ?_
        refine zo_iload_n hY dX2_isMeant_75 rfl 4 rfl ?_
        refine zo_ald hY (by decide) (Or.inl ⟨rfl, dX2_isMeant_76⟩) (fun q => (hCon _ q).2.2.2 32 35 96 rfl) h (fun j12 h => ?_)
        refine zo_icmp_ne hY 84 dX2_isMeant_77 (by decide) h (fun c13 h => ?_) (fun c13 h => ?_)
        · refine zo_iconst hY 1 (by decide) dX2_isMeant_80 ?_
          refine zo_goto hY 104 dX2_isMeant_81 (by decide) ?_
          refine zo_sub [1, 2, 3, 4] rfl ?_
          exact ct_X2_isMeant_104 hY hJ hCon hr N K4 hK4 x1 x2 x3 1 Ω4 _ h
        · refine zo_iconst hY 0 (by decide) dX2_isMeant_84 ?_
          refine zo_goto hY 104 dX2_isMeant_85 (by decide) ?_
          refine zo_sub [1, 2, 3, 4] rfl ?_
          exact ct_X2_isMeant_104 hY hJ hCon hr N K4 hK4 x1 x2 x3 0 Ω4 _ h
      · refine zo_iload hY dX2_isMeant_88 0 rfl ?_
        refine zo_aload_n hY dX2_isMeant_90 rfl 1 rfl ?_
        refine zo_getC hY LX2_135_1 rfl (fun Ω q => (hCon Ω q).2.1 52 _ rfl) dX2_isMeant_91 ?_
        refine zo_iload_n hY dX2_isMeant_94 rfl 4 rfl ?_
        refine zo_ald hY (by decide) (Or.inl ⟨rfl, dX2_isMeant_95⟩) (fun q => (hCon _ q).2.2.2 32 35 96 rfl) h (fun j14 h => ?_)
        refine zo_icmp_le hY 103 dX2_isMeant_96 (by decide) h (fun c15 h => ?_) (fun c15 h => ?_)
        · refine zo_iconst hY 0 (by decide) dX2_isMeant_103 ?_
          refine zo_sub [1, 2, 3, 4] rfl ?_
          exact ct_X2_isMeant_104 hY hJ hCon hr N K4 hK4 x1 x2 x3 0 Ω4 _ h
        · refine zo_iconst hY 1 (by decide) dX2_isMeant_99 ?_
          refine zo_goto hY 104 dX2_isMeant_100 (by decide) ?_
          refine zo_sub [1, 2, 3, 4] rfl ?_
          exact ct_X2_isMeant_104 hY hJ hCon hr N K4 hK4 x1 x2 x3 1 Ω4 _ h
def fn_X2_isMeant_4 (N : Nat)  : Nat → Int32 → Int32 → Int32 → zo_O → Option zo_R
  | 0, _, _, _, _ => none
  | n + 1, x1, x2, x3, Ω => bd_X2_isMeant_4 N  (fn_X2_isMeant_4 N  n) x1 x2 x3 Ω
theorem ct_X2_isMeant_4 {Y : zo_Y} (hY : zo_Gd Y cX2_isMeant 6 RX2 1) (hJ : zo_JC (zo_J Y)) (hCon : ∀ Ω, zo_J Y Ω → zo_Con Ω) (hr : zo_rt Y (Option.some Jvm.ClassFile.FieldType.boolean)) (N : Nat)   : ∀ (n : Nat) (x1 : Int32) (x2 : Int32) (x3 : Int32) (Ω : zo_O) (res : zo_R), fn_X2_isMeant_4 N  n x1 x2 x3 Ω = some res → TW Y res Ω 4 [(0, vr 1 0), (1, vi x1), (2, vi x2), (3, vi x3)] [] := by
  intro n
  induction n with
  | zero => intro x1 x2 x3 Ω res h; exact nomatch (show (none : Option zo_R) = some res from h)
  | succ n ih => intro x1 x2 x3 Ω res h; exact cb_X2_isMeant_4 hY hJ hCon hr N  (fn_X2_isMeant_4 N  n)  ih x1 x2 x3 Ω res h
def fn_X2_isMeant (N : Nat) (x1 : Int32) (x2 : Int32) (Ω : zo_O) : Option zo_R :=
  li (4 * x1) fun y1 =>
  fn_X2_isMeant_4 N N x1 x2 y1 Ω
theorem mt_X2_isMeant {G : zo_G} {J : zo_O → Prop} (hJ : zo_JC J) (hCon : ∀ Ω, J Ω → zo_Con Ω) (N : Nat) (x1 : Int32) (x2 : Int32) (Ω : zo_O) (res : zo_R) (h : fn_X2_isMeant N x1 x2 Ω = some res) : zo_MT G J yX2_isMeant cX2_isMeant 6 (Option.some Jvm.ClassFile.FieldType.boolean) 1 [vr 1 0, vi x1, vi x2] Ω res := by
  refine zo_enter (by decide) rfl (Nat.le_of_ble_eq_true rfl) (fun Y hY eJ hr hmn => ?_)
  subst eJ
  show TW Y res Ω 0 [(0, vr 1 0), (1, vi x1), (2, vi x2)] []
  unfold fn_X2_isMeant at h
  refine zo_iconst hY 4 (by decide) dX2_isMeant_0 ?_
  refine zo_iload_n hY dX2_isMeant_1 rfl 1 rfl ?_
  refine zo_imul hY dX2_isMeant_2 ?_
  refine zo_nmi h (fun y1 h => ?_)
  refine zo_istore_n hY dX2_isMeant_3 rfl (by decide) rfl (ls' := [(3, vi y1), (0, vr 1 0), (1, vi x1), (2, vi x2)]) rfl ?_
  refine zo_sub [1, 2, 3, 0] rfl ?_
  exact ct_X2_isMeant_4 hY hJ hCon hr N N x1 x2 y1 Ω _ h
theorem dX2_bounds_0 : decode cX2_bounds 0 = .ok (.iconst 0, 1) := by decide +kernel
theorem dX2_bounds_1 : decode cX2_bounds 1 = .ok (.istore 4, 2) := by decide +kernel
theorem dX2_bounds_3 : decode cX2_bounds 3 = .ok (.iconst 0, 1) := by decide +kernel
theorem dX2_bounds_4 : decode cX2_bounds 4 = .ok (.istore 5, 2) := by decide +kernel
theorem dX2_bounds_6 : decode cX2_bounds 6 = .ok (.iload 5, 2) := by decide +kernel
theorem dX2_bounds_8 : decode cX2_bounds 8 = .ok (.iconst 5, 1) := by decide +kernel
theorem dX2_bounds_9 : decode cX2_bounds 9 = .ok (.if_icmp .ge 133, 3) := by decide +kernel
theorem dX2_bounds_12 : decode cX2_bounds 12 = .ok (.iconst 0, 1) := by decide +kernel
theorem dX2_bounds_13 : decode cX2_bounds 13 = .ok (.istore 6, 2) := by decide +kernel
theorem dX2_bounds_15 : decode cX2_bounds 15 = .ok (.iload 6, 2) := by decide +kernel
theorem dX2_bounds_17 : decode cX2_bounds 17 = .ok (.iconst 5, 1) := by decide +kernel
theorem dX2_bounds_18 : decode cX2_bounds 18 = .ok (.if_icmp .ge 118, 3) := by decide +kernel
theorem dX2_bounds_21 : decode cX2_bounds 21 = .ok (.aload_n 0, 1) := by decide +kernel
theorem dX2_bounds_22 : decode cX2_bounds 22 = .ok (.getfield 154, 3) := by decide +kernel
theorem dX2_bounds_25 : decode cX2_bounds 25 = .ok (.iconst 5, 1) := by decide +kernel
theorem dX2_bounds_26 : decode cX2_bounds 26 = .ok (.iload 5, 2) := by decide +kernel
theorem dX2_bounds_28 : decode cX2_bounds 28 = .ok (.imul, 1) := by decide +kernel
theorem dX2_bounds_29 : decode cX2_bounds 29 = .ok (.iload_n 1, 1) := by decide +kernel
theorem dX2_bounds_30 : decode cX2_bounds 30 = .ok (.iadd, 1) := by decide +kernel
theorem dX2_bounds_31 : decode cX2_bounds 31 = .ok (.iaload, 1) := by decide +kernel
theorem dX2_bounds_32 : decode cX2_bounds 32 = .ok (.ldc_w 328, 3) := by decide +kernel
theorem dX2_bounds_35 : decode cX2_bounds 35 = .ok (.if_icmp .ge 95, 3) := by decide +kernel
theorem dX2_bounds_38 : decode cX2_bounds 38 = .ok (.aload_n 0, 1) := by decide +kernel
theorem dX2_bounds_39 : decode cX2_bounds 39 = .ok (.getfield 154, 3) := by decide +kernel
theorem dX2_bounds_42 : decode cX2_bounds 42 = .ok (.iconst 5, 1) := by decide +kernel
theorem dX2_bounds_43 : decode cX2_bounds 43 = .ok (.iload_n 2, 1) := by decide +kernel
theorem dX2_bounds_44 : decode cX2_bounds 44 = .ok (.imul, 1) := by decide +kernel
theorem dX2_bounds_45 : decode cX2_bounds 45 = .ok (.iload 6, 2) := by decide +kernel
theorem dX2_bounds_47 : decode cX2_bounds 47 = .ok (.iadd, 1) := by decide +kernel
theorem dX2_bounds_48 : decode cX2_bounds 48 = .ok (.iaload, 1) := by decide +kernel
theorem dX2_bounds_49 : decode cX2_bounds 49 = .ok (.ldc_w 328, 3) := by decide +kernel
theorem dX2_bounds_52 : decode cX2_bounds 52 = .ok (.if_icmp .lt 6, 3) := by decide +kernel
theorem dX2_bounds_55 : decode cX2_bounds 55 = .ok (.goto 75, 3) := by decide +kernel
theorem dX2_bounds_58 : decode cX2_bounds 58 = .ok (.aload_n 0, 1) := by decide +kernel
theorem dX2_bounds_59 : decode cX2_bounds 59 = .ok (.getfield 154, 3) := by decide +kernel
theorem dX2_bounds_62 : decode cX2_bounds 62 = .ok (.iconst 5, 1) := by decide +kernel
theorem dX2_bounds_63 : decode cX2_bounds 63 = .ok (.iload 5, 2) := by decide +kernel
theorem dX2_bounds_65 : decode cX2_bounds 65 = .ok (.imul, 1) := by decide +kernel
theorem dX2_bounds_66 : decode cX2_bounds 66 = .ok (.iload_n 1, 1) := by decide +kernel
theorem dX2_bounds_67 : decode cX2_bounds 67 = .ok (.iadd, 1) := by decide +kernel
theorem dX2_bounds_68 : decode cX2_bounds 68 = .ok (.iaload, 1) := by decide +kernel
theorem dX2_bounds_69 : decode cX2_bounds 69 = .ok (.iload_n 3, 1) := by decide +kernel
theorem dX2_bounds_70 : decode cX2_bounds 70 = .ok (.iadd, 1) := by decide +kernel
theorem dX2_bounds_71 : decode cX2_bounds 71 = .ok (.aload_n 0, 1) := by decide +kernel
theorem dX2_bounds_72 : decode cX2_bounds 72 = .ok (.getfield 154, 3) := by decide +kernel
theorem dX2_bounds_75 : decode cX2_bounds 75 = .ok (.iconst 5, 1) := by decide +kernel
theorem dX2_bounds_76 : decode cX2_bounds 76 = .ok (.iload_n 2, 1) := by decide +kernel
theorem dX2_bounds_77 : decode cX2_bounds 77 = .ok (.imul, 1) := by decide +kernel
theorem dX2_bounds_78 : decode cX2_bounds 78 = .ok (.iload 6, 2) := by decide +kernel
theorem dX2_bounds_80 : decode cX2_bounds 80 = .ok (.iadd, 1) := by decide +kernel
theorem dX2_bounds_81 : decode cX2_bounds 81 = .ok (.iaload, 1) := by decide +kernel
theorem dX2_bounds_82 : decode cX2_bounds 82 = .ok (.iadd, 1) := by decide +kernel
theorem dX2_bounds_83 : decode cX2_bounds 83 = .ok (.istore 7, 2) := by decide +kernel
theorem dX2_bounds_85 : decode cX2_bounds 85 = .ok (.iload 7, 2) := by decide +kernel
theorem dX2_bounds_87 : decode cX2_bounds 87 = .ok (.aload_n 0, 1) := by decide +kernel
theorem dX2_bounds_88 : decode cX2_bounds 88 = .ok (.getfield 154, 3) := by decide +kernel
theorem dX2_bounds_91 : decode cX2_bounds 91 = .ok (.iconst 5, 1) := by decide +kernel
theorem dX2_bounds_92 : decode cX2_bounds 92 = .ok (.iload 5, 2) := by decide +kernel
theorem dX2_bounds_94 : decode cX2_bounds 94 = .ok (.imul, 1) := by decide +kernel
theorem dX2_bounds_95 : decode cX2_bounds 95 = .ok (.iload 6, 2) := by decide +kernel
theorem dX2_bounds_97 : decode cX2_bounds 97 = .ok (.iadd, 1) := by decide +kernel
theorem dX2_bounds_98 : decode cX2_bounds 98 = .ok (.iaload, 1) := by decide +kernel
theorem dX2_bounds_99 : decode cX2_bounds 99 = .ok (.if_icmp .ge 31, 3) := by decide +kernel
theorem dX2_bounds_102 : decode cX2_bounds 102 = .ok (.iload 7, 2) := by decide +kernel
theorem dX2_bounds_104 : decode cX2_bounds 104 = .ok (.ldc_w 336, 3) := by decide +kernel
theorem dX2_bounds_107 : decode cX2_bounds 107 = .ok (.if_icmp .ge 6, 3) := by decide +kernel
theorem dX2_bounds_110 : decode cX2_bounds 110 = .ok (.goto 20, 3) := by decide +kernel
theorem dX2_bounds_113 : decode cX2_bounds 113 = .ok (.aload_n 0, 1) := by decide +kernel
theorem dX2_bounds_114 : decode cX2_bounds 114 = .ok (.getfield 154, 3) := by decide +kernel
theorem dX2_bounds_117 : decode cX2_bounds 117 = .ok (.iconst 5, 1) := by decide +kernel
theorem dX2_bounds_118 : decode cX2_bounds 118 = .ok (.iload 5, 2) := by decide +kernel
theorem dX2_bounds_120 : decode cX2_bounds 120 = .ok (.imul, 1) := by decide +kernel
theorem dX2_bounds_121 : decode cX2_bounds 121 = .ok (.iload 6, 2) := by decide +kernel
theorem dX2_bounds_123 : decode cX2_bounds 123 = .ok (.iadd, 1) := by decide +kernel
theorem dX2_bounds_124 : decode cX2_bounds 124 = .ok (.iload 7, 2) := by decide +kernel
theorem dX2_bounds_126 : decode cX2_bounds 126 = .ok (.iastore, 1) := by decide +kernel
theorem dX2_bounds_127 : decode cX2_bounds 127 = .ok (.iconst 1, 1) := by decide +kernel
theorem dX2_bounds_128 : decode cX2_bounds 128 = .ok (.istore 4, 2) := by decide +kernel
theorem dX2_bounds_130 : decode cX2_bounds 130 = .ok (.iinc 6 1, 3) := by decide +kernel
theorem dX2_bounds_133 : decode cX2_bounds 133 = .ok (.goto (-118), 3) := by decide +kernel
theorem dX2_bounds_136 : decode cX2_bounds 136 = .ok (.iinc 5 1, 3) := by decide +kernel
theorem dX2_bounds_139 : decode cX2_bounds 139 = .ok (.goto (-133), 3) := by decide +kernel
theorem dX2_bounds_142 : decode cX2_bounds 142 = .ok (.iload 4, 2) := by decide +kernel
theorem dX2_bounds_144 : decode cX2_bounds 144 = .ok (.ireturn, 1) := by decide +kernel
def fn_X2_bounds_130 (N : Nat) (K6 : Int32 → Int32 → Int32 → Int32 → Int32 → zo_O → Option zo_R) (K15 : Int32 → Int32 → Int32 → Int32 → Int32 → Int32 → zo_O → Option zo_R) (x1 : Int32) (x2 : Int32) (x3 : Int32) (x4 : Int32) (x5 : Int32) (x6 : Int32) (Ω : zo_O) : Option zo_R :=
  K15 x1 x2 x3 x4 x5 (x6 + 1) Ω
theorem ct_X2_bounds_130 {Y : zo_Y} (hY : zo_Gd Y cX2_bounds 8 RX2 0) (hJ : zo_JC (zo_J Y)) (hCon : ∀ Ω, zo_J Y Ω → zo_Con Ω) (hr : zo_rt Y (Option.some Jvm.ClassFile.FieldType.boolean)) (N : Nat) (K6 : Int32 → Int32 → Int32 → Int32 → Int32 → zo_O → Option zo_R) (K15 : Int32 → Int32 → Int32 → Int32 → Int32 → Int32 → zo_O → Option zo_R) (hK6 : ∀ (x1 : Int32) (x2 : Int32) (x3 : Int32) (x4 : Int32) (x5 : Int32) (Ω : zo_O) (res : zo_R), K6 x1 x2 x3 x4 x5 Ω = some res → TW Y res Ω 6 [(0, vr 1 0), (1, vi x1), (2, vi x2), (3, vi x3), (4, vi x4), (5, vi x5)] []) (hK15 : ∀ (x1 : Int32) (x2 : Int32) (x3 : Int32) (x4 : Int32) (x5 : Int32) (x6 : Int32) (Ω : zo_O) (res : zo_R), K15 x1 x2 x3 x4 x5 x6 Ω = some res → TW Y res Ω 15 [(0, vr 1 0), (1, vi x1), (2, vi x2), (3, vi x3), (4, vi x4), (5, vi x5), (6, vi x6)] []) (x1 : Int32) (x2 : Int32) (x3 : Int32) (x4 : Int32) (x5 : Int32) (x6 : Int32) (Ω : zo_O) (res : zo_R) (h : fn_X2_bounds_130 N K6 K15 x1 x2 x3 x4 x5 x6 Ω = some res) : TW Y res Ω 130 [(0, vr 1 0), (1, vi x1), (2, vi x2), (3, vi x3), (4, vi x4), (5, vi x5), (6, vi x6)] [] := by
  unfold fn_X2_bounds_130 at h
  refine zo_iinc hY 1 dX2_bounds_130 (by decide) (by decide) 6 rfl rfl (ls' := [(6, vi (x6 + 1)), (0, vr 1 0), (1, vi x1), (2, vi x2), (3, vi x3), (4, vi x4), (5, vi x5)]) rfl ?_
  refine zo_goto hY 15 dX2_bounds_133 (by decide) ?_
  refine zo_sub [1, 2, 3, 4, 5, 6, 0] rfl ?_
  exact hK15 x1 x2 x3 x4 x5 (x6 + 1) Ω _ h
def bd_X2_bounds_15 (N : Nat) (K6 : Int32 → Int32 → Int32 → Int32 → Int32 → zo_O → Option zo_R) (K15 : Int32 → Int32 → Int32 → Int32 → Int32 → Int32 → zo_O → Option zo_R) (x1 : Int32) (x2 : Int32) (x3 : Int32) (x4 : Int32) (x5 : Int32) (x6 : Int32) (Ω : zo_O) : Option zo_R :=
  if 5 ≤ x6 then (
    K6 x1 x2 x3 x4 (x5 + 1) Ω
    ) else
  ix ((5 * x5) + x1) 25 fun j2 =>
  if 1000000 ≤ gI Ω 32 38 j2 then (
    fn_X2_bounds_130 N K6 K15 x1 x2 x3 x4 x5 x6 Ω
    ) else
  ix ((5 * x2) + x6) 25 fun j4 =>
  if gI Ω 32 38 j4 < 1000000 then (
    ix ((5 * x5) + x1) 25 fun j6 =>
    ix ((5 * x2) + x6) 25 fun j7 =>
    li (((gI Ω 32 38 j6) + x3) + (gI Ω 32 38 j7)) fun y8 =>
    ix ((5 * x5) + x6) 25 fun j9 =>
    if gI Ω 32 38 j9 ≤ y8 then (
      fn_X2_bounds_130 N K6 K15 x1 x2 x3 x4 x5 x6 Ω
      ) else
    if (-1000000) ≤ y8 then (
      ix ((5 * x5) + x6) 25 fun j12 => lt (sI Ω 32 38 j12 y8) fun Ω13 =>
      fn_X2_bounds_130 N K6 K15 x1 x2 x3 1 x5 x6 Ω13
      ) else
    fn_X2_bounds_130 N K6 K15 x1 x2 x3 x4 x5 x6 Ω
    ) else
  fn_X2_bounds_130 N K6 K15 x1 x2 x3 x4 x5 x6 Ω
theorem cb_X2_bounds_15 {Y : zo_Y} (hY : zo_Gd Y cX2_bounds 8 RX2 0) (hJ : zo_JC (zo_J Y)) (hCon : ∀ Ω, zo_J Y Ω → zo_Con Ω) (hr : zo_rt Y (Option.some Jvm.ClassFile.FieldType.boolean)) (N : Nat) (K6 : Int32 → Int32 → Int32 → Int32 → Int32 → zo_O → Option zo_R) (K15 : Int32 → Int32 → Int32 → Int32 → Int32 → Int32 → zo_O → Option zo_R) (hK6 : ∀ (x1 : Int32) (x2 : Int32) (x3 : Int32) (x4 : Int32) (x5 : Int32) (Ω : zo_O) (res : zo_R), K6 x1 x2 x3 x4 x5 Ω = some res → TW Y res Ω 6 [(0, vr 1 0), (1, vi x1), (2, vi x2), (3, vi x3), (4, vi x4), (5, vi x5)] []) (hK15 : ∀ (x1 : Int32) (x2 : Int32) (x3 : Int32) (x4 : Int32) (x5 : Int32) (x6 : Int32) (Ω : zo_O) (res : zo_R), K15 x1 x2 x3 x4 x5 x6 Ω = some res → TW Y res Ω 15 [(0, vr 1 0), (1, vi x1), (2, vi x2), (3, vi x3), (4, vi x4), (5, vi x5), (6, vi x6)] []) (x1 : Int32) (x2 : Int32) (x3 : Int32) (x4 : Int32) (x5 : Int32) (x6 : Int32) (Ω : zo_O) (res : zo_R) (h : bd_X2_bounds_15 N K6 K15 x1 x2 x3 x4 x5 x6 Ω = some res) : TW Y res Ω 15 [(0, vr 1 0), (1, vi x1), (2, vi x2), (3, vi x3), (4, vi x4), (5, vi x5), (6, vi x6)] [] := by
  unfold bd_X2_bounds_15 at h
  refine zo_iload hY dX2_bounds_15 6 rfl ?_
  refine zo_iconst hY 5 (by decide) dX2_bounds_17 ?_
  refine zo_icmp_ge hY 136 dX2_bounds_18 (by decide) h (fun c1 h => ?_) (fun c1 h => ?_)
  · refine zo_iinc hY 1 dX2_bounds_136 (by decide) (by decide) 5 rfl rfl (ls' := [(5, vi (x5 + 1)), (0, vr 1 0), (1, vi x1), (2, vi x2), (3, vi x3), (4, vi x4), (6, vi x6)]) rfl ?_
    refine zo_goto hY 6 dX2_bounds_139 (by decide) ?_
    refine zo_sub [1, 2, 3, 4, 5, 0] rfl ?_
    exact hK6 x1 x2 x3 x4 (x5 + 1) Ω _ h
  · refine zo_aload_n hY dX2_bounds_21 rfl 0 rfl ?_
    refine zo_getC hY LX2_154_1 rfl (fun Ω q => (hCon Ω q).2.1 64 _ rfl) dX2_bounds_22 ?_
    refine zo_iconst hY 5 (by decide) dX2_bounds_25 ?_
    refine zo_iload hY dX2_bounds_26 5 rfl ?_
    refine zo_imul hY dX2_bounds_28 ?_
    refine zo_iload_n hY dX2_bounds_29 rfl 1 rfl ?_
    refine zo_iadd hY dX2_bounds_30 ?_
    refine zo_ald hY (by decide) (Or.inl ⟨rfl, dX2_bounds_31⟩) (fun q => (hCon _ q).2.2.2 32 38 25 rfl) h (fun j2 h => ?_)
    refine zo_ldcw hY q1657 dX2_bounds_32 ?_
    refine zo_icmp_ge hY 130 dX2_bounds_35 (by decide) h (fun c3 h => ?_) (fun c3 h => ?_)
    · exact ct_X2_bounds_130 hY hJ hCon hr N K6 K15 hK6 hK15 x1 x2 x3 x4 x5 x6 Ω _ h
    · refine zo_aload_n hY dX2_bounds_38 rfl 0 rfl ?_
      refine zo_getC hY LX2_154_1 rfl (fun Ω q => (hCon Ω q).2.1 64 _ rfl) dX2_bounds_39 ?_
      refine zo_iconst hY 5 (by decide) dX2_bounds_42 ?_
      refine zo_iload_n hY dX2_bounds_43 rfl 2 rfl ?_
      refine zo_imul hY dX2_bounds_44 ?_
      refine zo_iload hY dX2_bounds_45 6 rfl ?_
      refine zo_iadd hY dX2_bounds_47 ?_
      refine zo_ald hY (by decide) (Or.inl ⟨rfl, dX2_bounds_48⟩) (fun q => (hCon _ q).2.2.2 32 38 25 rfl) h (fun j4 h => ?_)
      refine zo_ldcw hY q1657 dX2_bounds_49 ?_
      refine zo_icmp_lt hY 58 dX2_bounds_52 (by decide) h (fun c5 h => ?_) (fun c5 h => ?_)
      · refine zo_aload_n hY dX2_bounds_58 rfl 0 rfl ?_
        refine zo_getC hY LX2_154_1 rfl (fun Ω q => (hCon Ω q).2.1 64 _ rfl) dX2_bounds_59 ?_
        refine zo_iconst hY 5 (by decide) dX2_bounds_62 ?_
        refine zo_iload hY dX2_bounds_63 5 rfl ?_
        refine zo_imul hY dX2_bounds_65 ?_
        refine zo_iload_n hY dX2_bounds_66 rfl 1 rfl ?_
        refine zo_iadd hY dX2_bounds_67 ?_
        refine zo_ald hY (by decide) (Or.inl ⟨rfl, dX2_bounds_68⟩) (fun q => (hCon _ q).2.2.2 32 38 25 rfl) h (fun j6 h => ?_)
        refine zo_iload_n hY dX2_bounds_69 rfl 3 rfl ?_
        refine zo_iadd hY dX2_bounds_70 ?_
        refine zo_aload_n hY dX2_bounds_71 rfl 0 rfl ?_
        refine zo_getC hY LX2_154_1 rfl (fun Ω q => (hCon Ω q).2.1 64 _ rfl) dX2_bounds_72 ?_
        refine zo_iconst hY 5 (by decide) dX2_bounds_75 ?_
        refine zo_iload_n hY dX2_bounds_76 rfl 2 rfl ?_
        refine zo_imul hY dX2_bounds_77 ?_
        refine zo_iload hY dX2_bounds_78 6 rfl ?_
        refine zo_iadd hY dX2_bounds_80 ?_
        refine zo_ald hY (by decide) (Or.inl ⟨rfl, dX2_bounds_81⟩) (fun q => (hCon _ q).2.2.2 32 38 25 rfl) h (fun j7 h => ?_)
        refine zo_iadd hY dX2_bounds_82 ?_
        refine zo_nmi h (fun y8 h => ?_)
        refine zo_istore hY dX2_bounds_83 (by decide) rfl (ls' := [(7, vi y8), (0, vr 1 0), (1, vi x1), (2, vi x2), (3, vi x3), (4, vi x4), (5, vi x5), (6, vi x6)]) rfl ?_
        refine zo_iload hY dX2_bounds_85 0 rfl ?_
        refine zo_aload_n hY dX2_bounds_87 rfl 1 rfl ?_
        refine zo_getC hY LX2_154_1 rfl (fun Ω q => (hCon Ω q).2.1 64 _ rfl) dX2_bounds_88 ?_
        refine zo_iconst hY 5 (by decide) dX2_bounds_91 ?_
        refine zo_iload hY dX2_bounds_92 6 rfl ?_
        refine zo_imul hY dX2_bounds_94 ?_
        refine zo_iload hY dX2_bounds_95 7 rfl ?_
        refine zo_iadd hY dX2_bounds_97 ?_
        refine zo_ald hY (by decide) (Or.inl ⟨rfl, dX2_bounds_98⟩) (fun q => (hCon _ q).2.2.2 32 38 25 rfl) h (fun j9 h => ?_)
        refine zo_icmp_ge hY 130 dX2_bounds_99 (by decide) h (fun c10 h => ?_) (fun c10 h => ?_)
        · refine zo_sub [1, 2, 3, 4, 5, 6, 7] rfl ?_
          exact ct_X2_bounds_130 hY hJ hCon hr N K6 K15 hK6 hK15 x1 x2 x3 x4 x5 x6 Ω _ h
        · refine zo_iload hY dX2_bounds_102 0 rfl ?_
          refine zo_ldcw hY q1662 dX2_bounds_104 ?_
          refine zo_icmp_ge hY 113 dX2_bounds_107 (by decide) h (fun c11 h => ?_) (fun c11 h => ?_)
          · refine zo_aload_n hY dX2_bounds_113 rfl 1 rfl ?_
            refine zo_getC hY LX2_154_1 rfl (fun Ω q => (hCon Ω q).2.1 64 _ rfl) dX2_bounds_114 ?_
            refine zo_iconst hY 5 (by decide) dX2_bounds_117 ?_
            refine zo_iload hY dX2_bounds_118 6 rfl ?_
            refine zo_imul hY dX2_bounds_120 ?_
            refine zo_iload hY dX2_bounds_121 7 rfl ?_
            refine zo_iadd hY dX2_bounds_123 ?_
            refine zo_iload hY dX2_bounds_124 0 rfl ?_
            refine zo_ast hY hJ (by decide) (Or.inl ⟨rfl, rfl, dX2_bounds_126⟩) (fun q => (hCon _ q).2.2.2 32 38 25 rfl) h (fun j12 Ω13 h => ?_)
            refine zo_iconst hY 1 (by decide) dX2_bounds_127 ?_
            refine zo_istore hY dX2_bounds_128 (by decide) rfl (ls' := [(4, vi 1), (7, vi y8), (0, vr 1 0), (1, vi x1), (2, vi x2), (3, vi x3), (5, vi x5), (6, vi x6)]) rfl ?_
            refine zo_sub [2, 3, 4, 5, 0, 6, 7] rfl ?_
            exact ct_X2_bounds_130 hY hJ hCon hr N K6 K15 hK6 hK15 x1 x2 x3 1 x5 x6 Ω13 _ h
          · refine zo_goto hY 130 dX2_bounds_110 (by decide) ?_
            refine zo_sub [1, 2, 3, 4, 5, 6, 7] rfl ?_
            exact ct_X2_bounds_130 hY hJ hCon hr N K6 K15 hK6 hK15 x1 x2 x3 x4 x5 x6 Ω _ h
      · refine zo_goto hY 130 dX2_bounds_55 (by decide) ?_
        exact ct_X2_bounds_130 hY hJ hCon hr N K6 K15 hK6 hK15 x1 x2 x3 x4 x5 x6 Ω _ h
def fn_X2_bounds_15 (N : Nat) (K6 : Int32 → Int32 → Int32 → Int32 → Int32 → zo_O → Option zo_R) : Nat → Int32 → Int32 → Int32 → Int32 → Int32 → Int32 → zo_O → Option zo_R
  | 0, _, _, _, _, _, _, _ => none
  | n + 1, x1, x2, x3, x4, x5, x6, Ω => bd_X2_bounds_15 N K6 (fn_X2_bounds_15 N K6 n) x1 x2 x3 x4 x5 x6 Ω
theorem ct_X2_bounds_15 {Y : zo_Y} (hY : zo_Gd Y cX2_bounds 8 RX2 0) (hJ : zo_JC (zo_J Y)) (hCon : ∀ Ω, zo_J Y Ω → zo_Con Ω) (hr : zo_rt Y (Option.some Jvm.ClassFile.FieldType.boolean)) (N : Nat) (K6 : Int32 → Int32 → Int32 → Int32 → Int32 → zo_O → Option zo_R) (hK6 : ∀ (x1 : Int32) (x2 : Int32) (x3 : Int32) (x4 : Int32) (x5 : Int32) (Ω : zo_O) (res : zo_R), K6 x1 x2 x3 x4 x5 Ω = some res → TW Y res Ω 6 [(0, vr 1 0), (1, vi x1), (2, vi x2), (3, vi x3), (4, vi x4), (5, vi x5)] []) : ∀ (n : Nat) (x1 : Int32) (x2 : Int32) (x3 : Int32) (x4 : Int32) (x5 : Int32) (x6 : Int32) (Ω : zo_O) (res : zo_R), fn_X2_bounds_15 N K6 n x1 x2 x3 x4 x5 x6 Ω = some res → TW Y res Ω 15 [(0, vr 1 0), (1, vi x1), (2, vi x2), (3, vi x3), (4, vi x4), (5, vi x5), (6, vi x6)] [] := by
  intro n
  induction n with
  | zero => intro x1 x2 x3 x4 x5 x6 Ω res h; exact nomatch (show (none : Option zo_R) = some res from h)
  | succ n ih => intro x1 x2 x3 x4 x5 x6 Ω res h; exact cb_X2_bounds_15 hY hJ hCon hr N K6 (fn_X2_bounds_15 N K6 n) hK6 ih x1 x2 x3 x4 x5 x6 Ω res h
def bd_X2_bounds_6 (N : Nat)  (K6 : Int32 → Int32 → Int32 → Int32 → Int32 → zo_O → Option zo_R) (x1 : Int32) (x2 : Int32) (x3 : Int32) (x4 : Int32) (x5 : Int32) (Ω : zo_O) : Option zo_R :=
  if 5 ≤ x5 then (
    rZ x4 Ω
    ) else
  fn_X2_bounds_15 N K6 N x1 x2 x3 x4 x5 0 Ω
theorem cb_X2_bounds_6 {Y : zo_Y} (hY : zo_Gd Y cX2_bounds 8 RX2 0) (hJ : zo_JC (zo_J Y)) (hCon : ∀ Ω, zo_J Y Ω → zo_Con Ω) (hr : zo_rt Y (Option.some Jvm.ClassFile.FieldType.boolean)) (N : Nat)  (K6 : Int32 → Int32 → Int32 → Int32 → Int32 → zo_O → Option zo_R)  (hK6 : ∀ (x1 : Int32) (x2 : Int32) (x3 : Int32) (x4 : Int32) (x5 : Int32) (Ω : zo_O) (res : zo_R), K6 x1 x2 x3 x4 x5 Ω = some res → TW Y res Ω 6 [(0, vr 1 0), (1, vi x1), (2, vi x2), (3, vi x3), (4, vi x4), (5, vi x5)] []) (x1 : Int32) (x2 : Int32) (x3 : Int32) (x4 : Int32) (x5 : Int32) (Ω : zo_O) (res : zo_R) (h : bd_X2_bounds_6 N  K6 x1 x2 x3 x4 x5 Ω = some res) : TW Y res Ω 6 [(0, vr 1 0), (1, vi x1), (2, vi x2), (3, vi x3), (4, vi x4), (5, vi x5)] [] := by
  unfold bd_X2_bounds_6 at h
  refine zo_iload hY dX2_bounds_6 5 rfl ?_
  refine zo_iconst hY 5 (by decide) dX2_bounds_8 ?_
  refine zo_icmp_ge hY 142 dX2_bounds_9 (by decide) h (fun c1 h => ?_) (fun c1 h => ?_)
  · refine zo_iload hY dX2_bounds_142 4 rfl ?_
    exact zo_zret hY hr dX2_bounds_144 h
  · refine zo_iconst hY 0 (by decide) dX2_bounds_12 ?_
    refine zo_istore hY dX2_bounds_13 (by decide) rfl (ls' := [(6, vi 0), (0, vr 1 0), (1, vi x1), (2, vi x2), (3, vi x3), (4, vi x4), (5, vi x5)]) rfl ?_
    refine zo_sub [1, 2, 3, 4, 5, 6, 0] rfl ?_
    exact ct_X2_bounds_15 hY hJ hCon hr N K6 hK6 N x1 x2 x3 x4 x5 0 Ω _ h
def fn_X2_bounds_6 (N : Nat)  : Nat → Int32 → Int32 → Int32 → Int32 → Int32 → zo_O → Option zo_R
  | 0, _, _, _, _, _, _ => none
  | n + 1, x1, x2, x3, x4, x5, Ω => bd_X2_bounds_6 N  (fn_X2_bounds_6 N  n) x1 x2 x3 x4 x5 Ω
theorem ct_X2_bounds_6 {Y : zo_Y} (hY : zo_Gd Y cX2_bounds 8 RX2 0) (hJ : zo_JC (zo_J Y)) (hCon : ∀ Ω, zo_J Y Ω → zo_Con Ω) (hr : zo_rt Y (Option.some Jvm.ClassFile.FieldType.boolean)) (N : Nat)   : ∀ (n : Nat) (x1 : Int32) (x2 : Int32) (x3 : Int32) (x4 : Int32) (x5 : Int32) (Ω : zo_O) (res : zo_R), fn_X2_bounds_6 N  n x1 x2 x3 x4 x5 Ω = some res → TW Y res Ω 6 [(0, vr 1 0), (1, vi x1), (2, vi x2), (3, vi x3), (4, vi x4), (5, vi x5)] [] := by
  intro n
  induction n with
  | zero => intro x1 x2 x3 x4 x5 Ω res h; exact nomatch (show (none : Option zo_R) = some res from h)
  | succ n ih => intro x1 x2 x3 x4 x5 Ω res h; exact cb_X2_bounds_6 hY hJ hCon hr N  (fn_X2_bounds_6 N  n)  ih x1 x2 x3 x4 x5 Ω res h
def fn_X2_bounds (N : Nat) (x1 : Int32) (x2 : Int32) (x3 : Int32) (Ω : zo_O) : Option zo_R :=
  fn_X2_bounds_6 N N x1 x2 x3 0 0 Ω
theorem mt_X2_bounds {G : zo_G} {J : zo_O → Prop} (hJ : zo_JC J) (hCon : ∀ Ω, J Ω → zo_Con Ω) (N : Nat) (x1 : Int32) (x2 : Int32) (x3 : Int32) (Ω : zo_O) (res : zo_R) (h : fn_X2_bounds N x1 x2 x3 Ω = some res) : zo_MT G J yX2_bounds cX2_bounds 8 (Option.some Jvm.ClassFile.FieldType.boolean) 0 [vr 1 0, vi x1, vi x2, vi x3] Ω res := by
  refine zo_enter (by decide) rfl (Nat.le_of_ble_eq_true rfl) (fun Y hY eJ hr hmn => ?_)
  subst eJ
  show TW Y res Ω 0 [(0, vr 1 0), (1, vi x1), (2, vi x2), (3, vi x3)] []
  unfold fn_X2_bounds at h
  refine zo_iconst hY 0 (by decide) dX2_bounds_0 ?_
  refine zo_istore hY dX2_bounds_1 (by decide) rfl (ls' := [(4, vi 0), (0, vr 1 0), (1, vi x1), (2, vi x2), (3, vi x3)]) rfl ?_
  refine zo_iconst hY 0 (by decide) dX2_bounds_3 ?_
  refine zo_istore hY dX2_bounds_4 (by decide) rfl (ls' := [(5, vi 0), (4, vi 0), (0, vr 1 0), (1, vi x1), (2, vi x2), (3, vi x3)]) rfl ?_
  refine zo_sub [2, 3, 4, 5, 1, 0] rfl ?_
  exact ct_X2_bounds_6 hY hJ hCon hr N N x1 x2 x3 0 0 Ω _ h
theorem dX2_habits_0 : decode cX2_habits 0 = .ok (.iconst 0, 1) := by decide +kernel
theorem dX2_habits_1 : decode cX2_habits 1 = .ok (.istore_n 2, 1) := by decide +kernel
theorem dX2_habits_2 : decode cX2_habits 2 = .ok (.iload_n 2, 1) := by decide +kernel
theorem dX2_habits_3 : decode cX2_habits 3 = .ok (.bipush 25, 2) := by decide +kernel
theorem dX2_habits_5 : decode cX2_habits 5 = .ok (.if_icmp .ge 29, 3) := by decide +kernel
theorem dX2_habits_8 : decode cX2_habits 8 = .ok (.aload_n 0, 1) := by decide +kernel
theorem dX2_habits_9 : decode cX2_habits 9 = .ok (.getfield 154, 3) := by decide +kernel
theorem dX2_habits_12 : decode cX2_habits 12 = .ok (.iload_n 2, 1) := by decide +kernel
theorem dX2_habits_13 : decode cX2_habits 13 = .ok (.iload_n 2, 1) := by decide +kernel
theorem dX2_habits_14 : decode cX2_habits 14 = .ok (.bipush 6, 2) := by decide +kernel
theorem dX2_habits_16 : decode cX2_habits 16 = .ok (.irem, 1) := by decide +kernel
theorem dX2_habits_17 : decode cX2_habits 17 = .ok (.ifCond .ne 7, 3) := by decide +kernel
theorem dX2_habits_20 : decode cX2_habits 20 = .ok (.iconst 0, 1) := by decide +kernel
theorem dX2_habits_21 : decode cX2_habits 21 = .ok (.goto 6, 3) := by decide +kernel
theorem dX2_habits_24 : decode cX2_habits 24 = .ok (.ldc_w 328, 3) := by decide +kernel
theorem dX2_habits_27 : decode cX2_habits 27 = .ok (.iastore, 1) := by decide +kernel
theorem dX2_habits_28 : decode cX2_habits 28 = .ok (.iinc 2 1, 3) := by decide +kernel
theorem dX2_habits_31 : decode cX2_habits 31 = .ok (.goto (-29), 3) := by decide +kernel
theorem dX2_habits_34 : decode cX2_habits 34 = .ok (.iconst 1, 1) := by decide +kernel
theorem dX2_habits_35 : decode cX2_habits 35 = .ok (.istore_n 2, 1) := by decide +kernel
theorem dX2_habits_36 : decode cX2_habits 36 = .ok (.iconst 0, 1) := by decide +kernel
theorem dX2_habits_37 : decode cX2_habits 37 = .ok (.istore_n 3, 1) := by decide +kernel
theorem dX2_habits_38 : decode cX2_habits 38 = .ok (.iload_n 3, 1) := by decide +kernel
theorem dX2_habits_39 : decode cX2_habits 39 = .ok (.bipush 10, 2) := by decide +kernel
theorem dX2_habits_41 : decode cX2_habits 41 = .ok (.if_icmp .ge 113, 3) := by decide +kernel
theorem dX2_habits_44 : decode cX2_habits 44 = .ok (.iload_n 2, 1) := by decide +kernel
theorem dX2_habits_45 : decode cX2_habits 45 = .ok (.ifCond .eq 109, 3) := by decide +kernel
theorem dX2_habits_48 : decode cX2_habits 48 = .ok (.iconst 0, 1) := by decide +kernel
theorem dX2_habits_49 : decode cX2_habits 49 = .ok (.istore_n 2, 1) := by decide +kernel
theorem dX2_habits_50 : decode cX2_habits 50 = .ok (.iconst 0, 1) := by decide +kernel
theorem dX2_habits_51 : decode cX2_habits 51 = .ok (.istore 4, 2) := by decide +kernel
theorem dX2_habits_53 : decode cX2_habits 53 = .ok (.iload 4, 2) := by decide +kernel
theorem dX2_habits_55 : decode cX2_habits 55 = .ok (.aload_n 0, 1) := by decide +kernel
theorem dX2_habits_56 : decode cX2_habits 56 = .ok (.getfield 219, 3) := by decide +kernel
theorem dX2_habits_59 : decode cX2_habits 59 = .ok (.if_icmp .ge 89, 3) := by decide +kernel
theorem dX2_habits_62 : decode cX2_habits 62 = .ok (.aload_n 0, 1) := by decide +kernel
theorem dX2_habits_63 : decode cX2_habits 63 = .ok (.getfield 71, 3) := by decide +kernel
theorem dX2_habits_66 : decode cX2_habits 66 = .ok (.iload 4, 2) := by decide +kernel
theorem dX2_habits_68 : decode cX2_habits 68 = .ok (.iaload, 1) := by decide +kernel
theorem dX2_habits_69 : decode cX2_habits 69 = .ok (.iload_n 1, 1) := by decide +kernel
theorem dX2_habits_70 : decode cX2_habits 70 = .ok (.if_icmp .le 6, 3) := by decide +kernel
theorem dX2_habits_73 : decode cX2_habits 73 = .ok (.goto 69, 3) := by decide +kernel
theorem dX2_habits_76 : decode cX2_habits 76 = .ok (.iload_n 2, 1) := by decide +kernel
theorem dX2_habits_77 : decode cX2_habits 77 = .ok (.aload_n 0, 1) := by decide +kernel
theorem dX2_habits_78 : decode cX2_habits 78 = .ok (.aload_n 0, 1) := by decide +kernel
theorem dX2_habits_79 : decode cX2_habits 79 = .ok (.getfield 62, 3) := by decide +kernel
theorem dX2_habits_82 : decode cX2_habits 82 = .ok (.iload 4, 2) := by decide +kernel
theorem dX2_habits_84 : decode cX2_habits 84 = .ok (.iaload, 1) := by decide +kernel
theorem dX2_habits_85 : decode cX2_habits 85 = .ok (.aload_n 0, 1) := by decide +kernel
theorem dX2_habits_86 : decode cX2_habits 86 = .ok (.getfield 65, 3) := by decide +kernel
theorem dX2_habits_89 : decode cX2_habits 89 = .ok (.iload 4, 2) := by decide +kernel
theorem dX2_habits_91 : decode cX2_habits 91 = .ok (.iaload, 1) := by decide +kernel
theorem dX2_habits_92 : decode cX2_habits 92 = .ok (.aload_n 0, 1) := by decide +kernel
theorem dX2_habits_93 : decode cX2_habits 93 = .ok (.getfield 68, 3) := by decide +kernel
theorem dX2_habits_96 : decode cX2_habits 96 = .ok (.iload 4, 2) := by decide +kernel
theorem dX2_habits_98 : decode cX2_habits 98 = .ok (.iaload, 1) := by decide +kernel
theorem dX2_habits_99 : decode cX2_habits 99 = .ok (.aload_n 0, 1) := by decide +kernel
theorem dX2_habits_100 : decode cX2_habits 100 = .ok (.getfield 107, 3) := by decide +kernel
theorem dX2_habits_103 : decode cX2_habits 103 = .ok (.iadd, 1) := by decide +kernel
theorem dX2_habits_104 : decode cX2_habits 104 = .ok (.invokevirtual 329, 3) := by decide +kernel
theorem dX2_habits_107 : decode cX2_habits 107 = .ok (.ior, 1) := by decide +kernel
theorem dX2_habits_108 : decode cX2_habits 108 = .ok (.istore_n 2, 1) := by decide +kernel
theorem dX2_habits_109 : decode cX2_habits 109 = .ok (.iload_n 2, 1) := by decide +kernel
theorem dX2_habits_110 : decode cX2_habits 110 = .ok (.aload_n 0, 1) := by decide +kernel
theorem dX2_habits_111 : decode cX2_habits 111 = .ok (.aload_n 0, 1) := by decide +kernel
theorem dX2_habits_112 : decode cX2_habits 112 = .ok (.getfield 65, 3) := by decide +kernel
theorem dX2_habits_115 : decode cX2_habits 115 = .ok (.iload 4, 2) := by decide +kernel
theorem dX2_habits_117 : decode cX2_habits 117 = .ok (.iaload, 1) := by decide +kernel
theorem dX2_habits_118 : decode cX2_habits 118 = .ok (.aload_n 0, 1) := by decide +kernel
theorem dX2_habits_119 : decode cX2_habits 119 = .ok (.getfield 62, 3) := by decide +kernel
theorem dX2_habits_122 : decode cX2_habits 122 = .ok (.iload 4, 2) := by decide +kernel
theorem dX2_habits_124 : decode cX2_habits 124 = .ok (.iaload, 1) := by decide +kernel
theorem dX2_habits_125 : decode cX2_habits 125 = .ok (.aload_n 0, 1) := by decide +kernel
theorem dX2_habits_126 : decode cX2_habits 126 = .ok (.getfield 107, 3) := by decide +kernel
theorem dX2_habits_129 : decode cX2_habits 129 = .ok (.aload_n 0, 1) := by decide +kernel
theorem dX2_habits_130 : decode cX2_habits 130 = .ok (.getfield 68, 3) := by decide +kernel
theorem dX2_habits_133 : decode cX2_habits 133 = .ok (.iload 4, 2) := by decide +kernel
theorem dX2_habits_135 : decode cX2_habits 135 = .ok (.iaload, 1) := by decide +kernel
theorem dX2_habits_136 : decode cX2_habits 136 = .ok (.isub, 1) := by decide +kernel
theorem dX2_habits_137 : decode cX2_habits 137 = .ok (.invokevirtual 329, 3) := by decide +kernel
theorem dX2_habits_140 : decode cX2_habits 140 = .ok (.ior, 1) := by decide +kernel
theorem dX2_habits_141 : decode cX2_habits 141 = .ok (.istore_n 2, 1) := by decide +kernel
theorem dX2_habits_142 : decode cX2_habits 142 = .ok (.iinc 4 1, 3) := by decide +kernel
theorem dX2_habits_145 : decode cX2_habits 145 = .ok (.goto (-92), 3) := by decide +kernel
theorem dX2_habits_148 : decode cX2_habits 148 = .ok (.iinc 3 1, 3) := by decide +kernel
theorem dX2_habits_151 : decode cX2_habits 151 = .ok (.goto (-113), 3) := by decide +kernel
theorem dX2_habits_154 : decode cX2_habits 154 = .ok (.aload_n 0, 1) := by decide +kernel
theorem dX2_habits_155 : decode cX2_habits 155 = .ok (.iload_n 2, 1) := by decide +kernel
theorem dX2_habits_156 : decode cX2_habits 156 = .ok (.putfield 332, 3) := by decide +kernel
theorem dX2_habits_159 : decode cX2_habits 159 = .ok (.iconst 0, 1) := by decide +kernel
theorem dX2_habits_160 : decode cX2_habits 160 = .ok (.istore_n 3, 1) := by decide +kernel
theorem dX2_habits_161 : decode cX2_habits 161 = .ok (.iload_n 3, 1) := by decide +kernel
theorem dX2_habits_162 : decode cX2_habits 162 = .ok (.iconst 5, 1) := by decide +kernel
theorem dX2_habits_163 : decode cX2_habits 163 = .ok (.if_icmp .ge 37, 3) := by decide +kernel
theorem dX2_habits_166 : decode cX2_habits 166 = .ok (.aload_n 0, 1) := by decide +kernel
theorem dX2_habits_167 : decode cX2_habits 167 = .ok (.aload_n 0, 1) := by decide +kernel
theorem dX2_habits_168 : decode cX2_habits 168 = .ok (.getfield 332, 3) := by decide +kernel
theorem dX2_habits_171 : decode cX2_habits 171 = .ok (.ifCond .ne 15, 3) := by decide +kernel
theorem dX2_habits_174 : decode cX2_habits 174 = .ok (.aload_n 0, 1) := by decide +kernel
theorem dX2_habits_175 : decode cX2_habits 175 = .ok (.getfield 154, 3) := by decide +kernel
theorem dX2_habits_178 : decode cX2_habits 178 = .ok (.bipush 6, 2) := by decide +kernel
theorem dX2_habits_180 : decode cX2_habits 180 = .ok (.iload_n 3, 1) := by decide +kernel
theorem dX2_habits_181 : decode cX2_habits 181 = .ok (.imul, 1) := by decide +kernel
theorem dX2_habits_182 : decode cX2_habits 182 = .ok (.iaload, 1) := by decide +kernel
theorem dX2_habits_183 : decode cX2_habits 183 = .ok (.ifCond .ge 7, 3) := by decide +kernel
theorem dX2_habits_186 : decode cX2_habits 186 = .ok (.iconst 1, 1) := by decide +kernel
theorem dX2_habits_187 : decode cX2_habits 187 = .ok (.goto 4, 3) := by decide +kernel
theorem dX2_habits_190 : decode cX2_habits 190 = .ok (.iconst 0, 1) := by decide +kernel
theorem dX2_habits_191 : decode cX2_habits 191 = .ok (.putfield 332, 3) := by decide +kernel
theorem dX2_habits_194 : decode cX2_habits 194 = .ok (.iinc 3 1, 3) := by decide +kernel
theorem dX2_habits_197 : decode cX2_habits 197 = .ok (.goto (-36), 3) := by decide +kernel
theorem dX2_habits_200 : decode cX2_habits 200 = .ok (.iconst 0, 1) := by decide +kernel
theorem dX2_habits_201 : decode cX2_habits 201 = .ok (.istore_n 3, 1) := by decide +kernel
theorem dX2_habits_202 : decode cX2_habits 202 = .ok (.iload_n 3, 1) := by decide +kernel
theorem dX2_habits_203 : decode cX2_habits 203 = .ok (.iconst 5, 1) := by decide +kernel
theorem dX2_habits_204 : decode cX2_habits 204 = .ok (.if_icmp .ge 61, 3) := by decide +kernel
theorem dX2_habits_207 : decode cX2_habits 207 = .ok (.aload_n 0, 1) := by decide +kernel
theorem dX2_habits_208 : decode cX2_habits 208 = .ok (.getfield 151, 3) := by decide +kernel
theorem dX2_habits_211 : decode cX2_habits 211 = .ok (.iload_n 3, 1) := by decide +kernel
theorem dX2_habits_212 : decode cX2_habits 212 = .ok (.aload_n 0, 1) := by decide +kernel
theorem dX2_habits_213 : decode cX2_habits 213 = .ok (.getfield 154, 3) := by decide +kernel
theorem dX2_habits_216 : decode cX2_habits 216 = .ok (.iconst 5, 1) := by decide +kernel
theorem dX2_habits_217 : decode cX2_habits 217 = .ok (.iload_n 3, 1) := by decide +kernel
theorem dX2_habits_218 : decode cX2_habits 218 = .ok (.imul, 1) := by decide +kernel
theorem dX2_habits_219 : decode cX2_habits 219 = .ok (.iaload, 1) := by decide +kernel
theorem dX2_habits_220 : decode cX2_habits 220 = .ok (.ldc_w 328, 3) := by decide +kernel
theorem dX2_habits_223 : decode cX2_habits 223 = .ok (.if_icmp .ge 7, 3) := by decide +kernel
theorem dX2_habits_226 : decode cX2_habits 226 = .ok (.iconst 1, 1) := by decide +kernel
theorem dX2_habits_227 : decode cX2_habits 227 = .ok (.goto 4, 3) := by decide +kernel
theorem dX2_habits_230 : decode cX2_habits 230 = .ok (.iconst 0, 1) := by decide +kernel
theorem dX2_habits_231 : decode cX2_habits 231 = .ok (.bastore, 1) := by decide +kernel
theorem dX2_habits_232 : decode cX2_habits 232 = .ok (.aload_n 0, 1) := by decide +kernel
theorem dX2_habits_233 : decode cX2_habits 233 = .ok (.getfield 148, 3) := by decide +kernel
theorem dX2_habits_236 : decode cX2_habits 236 = .ok (.iload_n 3, 1) := by decide +kernel
theorem dX2_habits_237 : decode cX2_habits 237 = .ok (.aload_n 0, 1) := by decide +kernel
theorem dX2_habits_238 : decode cX2_habits 238 = .ok (.getfield 154, 3) := by decide +kernel
theorem dX2_habits_241 : decode cX2_habits 241 = .ok (.iconst 5, 1) := by decide +kernel
theorem dX2_habits_242 : decode cX2_habits 242 = .ok (.iload_n 3, 1) := by decide +kernel
theorem dX2_habits_243 : decode cX2_habits 243 = .ok (.imul, 1) := by decide +kernel
theorem dX2_habits_244 : decode cX2_habits 244 = .ok (.iaload, 1) := by decide +kernel
theorem dX2_habits_245 : decode cX2_habits 245 = .ok (.iastore, 1) := by decide +kernel
theorem dX2_habits_246 : decode cX2_habits 246 = .ok (.aload_n 0, 1) := by decide +kernel
theorem dX2_habits_247 : decode cX2_habits 247 = .ok (.getfield 145, 3) := by decide +kernel
theorem dX2_habits_250 : decode cX2_habits 250 = .ok (.iload_n 3, 1) := by decide +kernel
theorem dX2_habits_251 : decode cX2_habits 251 = .ok (.aload_n 0, 1) := by decide +kernel
theorem dX2_habits_252 : decode cX2_habits 252 = .ok (.getfield 154, 3) := by decide +kernel
theorem dX2_habits_255 : decode cX2_habits 255 = .ok (.iload_n 3, 1) := by decide +kernel
theorem dX2_habits_256 : decode cX2_habits 256 = .ok (.iaload, 1) := by decide +kernel
theorem dX2_habits_257 : decode cX2_habits 257 = .ok (.ineg, 1) := by decide +kernel
theorem dX2_habits_258 : decode cX2_habits 258 = .ok (.iastore, 1) := by decide +kernel
theorem dX2_habits_259 : decode cX2_habits 259 = .ok (.iinc 3 1, 3) := by decide +kernel
theorem dX2_habits_262 : decode cX2_habits 262 = .ok (.goto (-60), 3) := by decide +kernel
theorem dX2_habits_265 : decode cX2_habits 265 = .ok (.return_, 1) := by decide +kernel
def fn_X2_habits_27 (N : Nat) (K2 : Int32 → Int32 → zo_O → Option zo_R) (x1 : Int32) (x2 : Int32) (s0 : Int32) (s1 : Int32) (Ω : zo_O) : Option zo_R :=
  ix s1 25 fun j1 => lt (sI Ω 32 38 j1 s0) fun Ω2 =>
  K2 x1 (x2 + 1) Ω2
theorem ct_X2_habits_27 {Y : zo_Y} (hY : zo_Gd Y cX2_habits 5 RX2 1) (hJ : zo_JC (zo_J Y)) (hCon : ∀ Ω, zo_J Y Ω → zo_Con Ω) (hr : zo_rt Y (Option.none : Option Jvm.ClassFile.FieldType)) (N : Nat) (K2 : Int32 → Int32 → zo_O → Option zo_R) (hK2 : ∀ (x1 : Int32) (x2 : Int32) (Ω : zo_O) (res : zo_R), K2 x1 x2 Ω = some res → TW Y res Ω 2 [(0, vr 1 0), (1, vi x1), (2, vi x2)] []) (x1 : Int32) (x2 : Int32) (s0 : Int32) (s1 : Int32) (Ω : zo_O) (res : zo_R) (h : fn_X2_habits_27 N K2 x1 x2 s0 s1 Ω = some res) : TW Y res Ω 27 [(0, vr 1 0), (1, vi x1), (2, vi x2)] [vi s0, vi s1, vr 32 38] := by
  unfold fn_X2_habits_27 at h
  refine zo_ast hY hJ (by decide) (Or.inl ⟨rfl, rfl, dX2_habits_27⟩) (fun q => (hCon _ q).2.2.2 32 38 25 rfl) h (fun j1 Ω2 h => ?_)
  refine zo_iinc hY 1 dX2_habits_28 (by decide) (by decide) 2 rfl rfl (ls' := [(2, vi (x2 + 1)), (0, vr 1 0), (1, vi x1)]) rfl ?_
  refine zo_goto hY 2 dX2_habits_31 (by decide) ?_
  refine zo_sub [1, 2, 0] rfl ?_
  exact hK2 x1 (x2 + 1) Ω2 _ h
def fn_X2_habits_142 (N : Nat) (K38 : Int32 → Int32 → Int32 → zo_O → Option zo_R) (K53 : Int32 → Int32 → Int32 → Int32 → zo_O → Option zo_R) (x1 : Int32) (x2 : Int32) (x3 : Int32) (x4 : Int32) (Ω : zo_O) : Option zo_R :=
  K53 x1 x2 x3 (x4 + 1) Ω
theorem ct_X2_habits_142 {Y : zo_Y} (hY : zo_Gd Y cX2_habits 5 RX2 1) (hJ : zo_JC (zo_J Y)) (hCon : ∀ Ω, zo_J Y Ω → zo_Con Ω) (hr : zo_rt Y (Option.none : Option Jvm.ClassFile.FieldType)) (N : Nat) (K38 : Int32 → Int32 → Int32 → zo_O → Option zo_R) (K53 : Int32 → Int32 → Int32 → Int32 → zo_O → Option zo_R) (hK38 : ∀ (x1 : Int32) (x2 : Int32) (x3 : Int32) (Ω : zo_O) (res : zo_R), K38 x1 x2 x3 Ω = some res → TW Y res Ω 38 [(0, vr 1 0), (1, vi x1), (2, vi x2), (3, vi x3)] []) (hK53 : ∀ (x1 : Int32) (x2 : Int32) (x3 : Int32) (x4 : Int32) (Ω : zo_O) (res : zo_R), K53 x1 x2 x3 x4 Ω = some res → TW Y res Ω 53 [(0, vr 1 0), (1, vi x1), (2, vi x2), (3, vi x3), (4, vi x4)] []) (x1 : Int32) (x2 : Int32) (x3 : Int32) (x4 : Int32) (Ω : zo_O) (res : zo_R) (h : fn_X2_habits_142 N K38 K53 x1 x2 x3 x4 Ω = some res) : TW Y res Ω 142 [(0, vr 1 0), (1, vi x1), (2, vi x2), (3, vi x3), (4, vi x4)] [] := by
  unfold fn_X2_habits_142 at h
  refine zo_iinc hY 1 dX2_habits_142 (by decide) (by decide) 4 rfl rfl (ls' := [(4, vi (x4 + 1)), (0, vr 1 0), (1, vi x1), (2, vi x2), (3, vi x3)]) rfl ?_
  refine zo_goto hY 53 dX2_habits_145 (by decide) ?_
  refine zo_sub [1, 2, 3, 4, 0] rfl ?_
  exact hK53 x1 x2 x3 (x4 + 1) Ω _ h
def bd_X2_habits_53 (N : Nat) (K38 : Int32 → Int32 → Int32 → zo_O → Option zo_R) (K53 : Int32 → Int32 → Int32 → Int32 → zo_O → Option zo_R) (x1 : Int32) (x2 : Int32) (x3 : Int32) (x4 : Int32) (Ω : zo_O) : Option zo_R :=
  if gI Ω 1 0 22 ≤ x4 then (
    K38 x1 x2 (x3 + 1) Ω
    ) else
  ix x4 40 fun j2 =>
  if gI Ω 32 19 j2 ≤ x1 then (
    ix x4 40 fun j4 =>
    ix x4 40 fun j5 =>
    ix x4 40 fun j6 =>
    ci (fn_X2_bounds N (gI Ω 32 16 j4) (gI Ω 32 17 j5) ((gI Ω 32 18 j6) + (gI Ω 1 0 41)) Ω) fun r8 Ω7 =>
    li (x2 ||| r8) fun y9 =>
    ix x4 40 fun j10 =>
    ix x4 40 fun j11 =>
    ix x4 40 fun j12 =>
    ci (fn_X2_bounds N (gI Ω7 32 17 j10) (gI Ω7 32 16 j11) ((gI Ω7 1 0 41) - (gI Ω7 32 18 j12)) Ω7) fun r14 Ω13 =>
    li (y9 ||| r14) fun y15 =>
    fn_X2_habits_142 N K38 K53 x1 y15 x3 x4 Ω13
    ) else
  fn_X2_habits_142 N K38 K53 x1 x2 x3 x4 Ω
theorem cb_X2_habits_53 {Y : zo_Y} (hY : zo_Gd Y cX2_habits 5 RX2 1) (hJ : zo_JC (zo_J Y)) (hCon : ∀ Ω, zo_J Y Ω → zo_Con Ω) (hr : zo_rt Y (Option.none : Option Jvm.ClassFile.FieldType)) (N : Nat) (K38 : Int32 → Int32 → Int32 → zo_O → Option zo_R) (K53 : Int32 → Int32 → Int32 → Int32 → zo_O → Option zo_R) (hK38 : ∀ (x1 : Int32) (x2 : Int32) (x3 : Int32) (Ω : zo_O) (res : zo_R), K38 x1 x2 x3 Ω = some res → TW Y res Ω 38 [(0, vr 1 0), (1, vi x1), (2, vi x2), (3, vi x3)] []) (hK53 : ∀ (x1 : Int32) (x2 : Int32) (x3 : Int32) (x4 : Int32) (Ω : zo_O) (res : zo_R), K53 x1 x2 x3 x4 Ω = some res → TW Y res Ω 53 [(0, vr 1 0), (1, vi x1), (2, vi x2), (3, vi x3), (4, vi x4)] []) (x1 : Int32) (x2 : Int32) (x3 : Int32) (x4 : Int32) (Ω : zo_O) (res : zo_R) (h : bd_X2_habits_53 N K38 K53 x1 x2 x3 x4 Ω = some res) : TW Y res Ω 53 [(0, vr 1 0), (1, vi x1), (2, vi x2), (3, vi x3), (4, vi x4)] [] := by
  unfold bd_X2_habits_53 at h
  refine zo_iload hY dX2_habits_53 4 rfl ?_
  refine zo_aload_n hY dX2_habits_55 rfl 0 rfl ?_
  refine zo_getI hY LX2_219_1 rfl dX2_habits_56 ?_
  refine zo_icmp_ge hY 148 dX2_habits_59 (by decide) h (fun c1 h => ?_) (fun c1 h => ?_)
  · refine zo_iinc hY 1 dX2_habits_148 (by decide) (by decide) 3 rfl rfl (ls' := [(3, vi (x3 + 1)), (0, vr 1 0), (1, vi x1), (2, vi x2), (4, vi x4)]) rfl ?_
    refine zo_goto hY 38 dX2_habits_151 (by decide) ?_
    refine zo_sub [1, 2, 3, 0] rfl ?_
    exact hK38 x1 x2 (x3 + 1) Ω _ h
  · refine zo_aload_n hY dX2_habits_62 rfl 0 rfl ?_
    refine zo_getC hY LX2_71_1 rfl (fun Ω q => (hCon Ω q).2.1 26 _ rfl) dX2_habits_63 ?_
    refine zo_iload hY dX2_habits_66 4 rfl ?_
    refine zo_ald hY (by decide) (Or.inl ⟨rfl, dX2_habits_68⟩) (fun q => (hCon _ q).2.2.2 32 19 40 rfl) h (fun j2 h => ?_)
    refine zo_iload_n hY dX2_habits_69 rfl 1 rfl ?_
    refine zo_icmp_le hY 76 dX2_habits_70 (by decide) h (fun c3 h => ?_) (fun c3 h => ?_)
    · refine zo_iload_n hY dX2_habits_76 rfl 2 rfl ?_
      refine zo_aload_n hY dX2_habits_77 rfl 0 rfl ?_
      refine zo_aload_n hY dX2_habits_78 rfl 0 rfl ?_
      refine zo_getC hY LX2_62_1 rfl (fun Ω q => (hCon Ω q).2.1 23 _ rfl) dX2_habits_79 ?_
      refine zo_iload hY dX2_habits_82 4 rfl ?_
      refine zo_ald hY (by decide) (Or.inl ⟨rfl, dX2_habits_84⟩) (fun q => (hCon _ q).2.2.2 32 16 40 rfl) h (fun j4 h => ?_)
      refine zo_aload_n hY dX2_habits_85 rfl 0 rfl ?_
      refine zo_getC hY LX2_65_1 rfl (fun Ω q => (hCon Ω q).2.1 24 _ rfl) dX2_habits_86 ?_
      refine zo_iload hY dX2_habits_89 4 rfl ?_
      refine zo_ald hY (by decide) (Or.inl ⟨rfl, dX2_habits_91⟩) (fun q => (hCon _ q).2.2.2 32 17 40 rfl) h (fun j5 h => ?_)
      refine zo_aload_n hY dX2_habits_92 rfl 0 rfl ?_
      refine zo_getC hY LX2_68_1 rfl (fun Ω q => (hCon Ω q).2.1 25 _ rfl) dX2_habits_93 ?_
      refine zo_iload hY dX2_habits_96 4 rfl ?_
      refine zo_ald hY (by decide) (Or.inl ⟨rfl, dX2_habits_98⟩) (fun q => (hCon _ q).2.2.2 32 18 40 rfl) h (fun j6 h => ?_)
      refine zo_aload_n hY dX2_habits_99 rfl 0 rfl ?_
      refine zo_getI hY LX2_107_1 rfl dX2_habits_100 ?_
      refine zo_iadd hY dX2_habits_103 ?_
      refine zo_callV hY (fun q hq => mt_X2_bounds hJ hCon N (gI Ω 32 16 j4) (gI Ω 32 17 j5) ((gI Ω 32 18 j6) + (gI Ω 1 0 41)) Ω q hq) (by decide) (by decide) (by decide) ⟨rfl, cn_X2_bounds⟩ rfl q1658 q1660 qs51 q82 q1661 (Nat.le_of_ble_eq_true rfl) dX2_habits_104 rfl h (ci_k (fun r8 Ω7 res h => ?_))
      refine zo_ior hY dX2_habits_107 ?_
      refine zo_nmi h (fun y9 h => ?_)
      refine zo_istore_n hY dX2_habits_108 rfl (by decide) rfl (ls' := [(2, vi y9), (0, vr 1 0), (1, vi x1), (3, vi x3), (4, vi x4)]) rfl ?_
      refine zo_iload_n hY dX2_habits_109 rfl 0 rfl ?_
      refine zo_aload_n hY dX2_habits_110 rfl 1 rfl ?_
      refine zo_aload_n hY dX2_habits_111 rfl 1 rfl ?_
      refine zo_getC hY LX2_65_1 rfl (fun Ω q => (hCon Ω q).2.1 24 _ rfl) dX2_habits_112 ?_
      refine zo_iload hY dX2_habits_115 4 rfl ?_
      refine zo_ald hY (by decide) (Or.inl ⟨rfl, dX2_habits_117⟩) (fun q => (hCon _ q).2.2.2 32 17 40 rfl) h (fun j10 h => ?_)
      refine zo_aload_n hY dX2_habits_118 rfl 1 rfl ?_
      refine zo_getC hY LX2_62_1 rfl (fun Ω q => (hCon Ω q).2.1 23 _ rfl) dX2_habits_119 ?_
      refine zo_iload hY dX2_habits_122 4 rfl ?_
      refine zo_ald hY (by decide) (Or.inl ⟨rfl, dX2_habits_124⟩) (fun q => (hCon _ q).2.2.2 32 16 40 rfl) h (fun j11 h => ?_)
      refine zo_aload_n hY dX2_habits_125 rfl 1 rfl ?_
      refine zo_getI hY LX2_107_1 rfl dX2_habits_126 ?_
      refine zo_aload_n hY dX2_habits_129 rfl 1 rfl ?_
      refine zo_getC hY LX2_68_1 rfl (fun Ω q => (hCon Ω q).2.1 25 _ rfl) dX2_habits_130 ?_
      refine zo_iload hY dX2_habits_133 4 rfl ?_
      refine zo_ald hY (by decide) (Or.inl ⟨rfl, dX2_habits_135⟩) (fun q => (hCon _ q).2.2.2 32 18 40 rfl) h (fun j12 h => ?_)
      refine zo_isub hY dX2_habits_136 ?_
      refine zo_callV hY (fun q hq => mt_X2_bounds hJ hCon N (gI Ω7 32 17 j10) (gI Ω7 32 16 j11) ((gI Ω7 1 0 41) - (gI Ω7 32 18 j12)) Ω7 q hq) (by decide) (by decide) (by decide) ⟨rfl, cn_X2_bounds⟩ rfl q1658 q1660 qs51 q82 q1661 (Nat.le_of_ble_eq_true rfl) dX2_habits_137 rfl h (ci_k (fun r14 Ω13 res h => ?_))
      refine zo_ior hY dX2_habits_140 ?_
      refine zo_nmi h (fun y15 h => ?_)
      refine zo_istore_n hY dX2_habits_141 rfl (by decide) rfl (ls' := [(2, vi y15), (0, vr 1 0), (1, vi x1), (3, vi x3), (4, vi x4)]) rfl ?_
      refine zo_sub [1, 2, 0, 3, 4] rfl ?_
      exact ct_X2_habits_142 hY hJ hCon hr N K38 K53 hK38 hK53 x1 y15 x3 x4 Ω13 _ h
    · refine zo_goto hY 142 dX2_habits_73 (by decide) ?_
      exact ct_X2_habits_142 hY hJ hCon hr N K38 K53 hK38 hK53 x1 x2 x3 x4 Ω _ h
def fn_X2_habits_53 (N : Nat) (K38 : Int32 → Int32 → Int32 → zo_O → Option zo_R) : Nat → Int32 → Int32 → Int32 → Int32 → zo_O → Option zo_R
  | 0, _, _, _, _, _ => none
  | n + 1, x1, x2, x3, x4, Ω => bd_X2_habits_53 N K38 (fn_X2_habits_53 N K38 n) x1 x2 x3 x4 Ω
theorem ct_X2_habits_53 {Y : zo_Y} (hY : zo_Gd Y cX2_habits 5 RX2 1) (hJ : zo_JC (zo_J Y)) (hCon : ∀ Ω, zo_J Y Ω → zo_Con Ω) (hr : zo_rt Y (Option.none : Option Jvm.ClassFile.FieldType)) (N : Nat) (K38 : Int32 → Int32 → Int32 → zo_O → Option zo_R) (hK38 : ∀ (x1 : Int32) (x2 : Int32) (x3 : Int32) (Ω : zo_O) (res : zo_R), K38 x1 x2 x3 Ω = some res → TW Y res Ω 38 [(0, vr 1 0), (1, vi x1), (2, vi x2), (3, vi x3)] []) : ∀ (n : Nat) (x1 : Int32) (x2 : Int32) (x3 : Int32) (x4 : Int32) (Ω : zo_O) (res : zo_R), fn_X2_habits_53 N K38 n x1 x2 x3 x4 Ω = some res → TW Y res Ω 53 [(0, vr 1 0), (1, vi x1), (2, vi x2), (3, vi x3), (4, vi x4)] [] := by
  intro n
  induction n with
  | zero => intro x1 x2 x3 x4 Ω res h; exact nomatch (show (none : Option zo_R) = some res from h)
  | succ n ih => intro x1 x2 x3 x4 Ω res h; exact cb_X2_habits_53 hY hJ hCon hr N K38 (fn_X2_habits_53 N K38 n) hK38 ih x1 x2 x3 x4 Ω res h
def fn_X2_habits_191 (N : Nat) (K161 : Int32 → zo_O → Option zo_R) (x3 : Int32) (s0 : Int32) (Ω : zo_O) : Option zo_R :=
  gd (s0 = 0 ∨ s0 = 1) <| lt (sI Ω 1 0 65 s0) fun Ω1 =>
  K161 (x3 + 1) Ω1
theorem ct_X2_habits_191 {Y : zo_Y} (hY : zo_Gd Y cX2_habits 5 RX2 1) (hJ : zo_JC (zo_J Y)) (hCon : ∀ Ω, zo_J Y Ω → zo_Con Ω) (hr : zo_rt Y (Option.none : Option Jvm.ClassFile.FieldType)) (N : Nat) (K161 : Int32 → zo_O → Option zo_R) (hK161 : ∀ (x3 : Int32) (Ω : zo_O) (res : zo_R), K161 x3 Ω = some res → TW Y res Ω 161 [(0, vr 1 0), (3, vi x3)] []) (x3 : Int32) (s0 : Int32) (Ω : zo_O) (res : zo_R) (h : fn_X2_habits_191 N K161 x3 s0 Ω = some res) : TW Y res Ω 191 [(0, vr 1 0), (3, vi x3)] [vi s0, vr 1 0] := by
  unfold fn_X2_habits_191 at h
  refine zo_putZ hY hJ LX2_332_1 rfl (Or.inl rfl) dX2_habits_191 h (fun Ω1 h => ?_)
  refine zo_iinc hY 1 dX2_habits_194 (by decide) (by decide) 1 rfl rfl (ls' := [(3, vi (x3 + 1)), (0, vr 1 0)]) rfl ?_
  refine zo_goto hY 161 dX2_habits_197 (by decide) ?_
  refine zo_sub [1, 0] rfl ?_
  exact hK161 (x3 + 1) Ω1 _ h
def fn_X2_habits_186 (N : Nat) (K161 : Int32 → zo_O → Option zo_R) (x3 : Int32) (Ω : zo_O) : Option zo_R :=
  fn_X2_habits_191 N K161 x3 1 Ω
theorem ct_X2_habits_186 {Y : zo_Y} (hY : zo_Gd Y cX2_habits 5 RX2 1) (hJ : zo_JC (zo_J Y)) (hCon : ∀ Ω, zo_J Y Ω → zo_Con Ω) (hr : zo_rt Y (Option.none : Option Jvm.ClassFile.FieldType)) (N : Nat) (K161 : Int32 → zo_O → Option zo_R) (hK161 : ∀ (x3 : Int32) (Ω : zo_O) (res : zo_R), K161 x3 Ω = some res → TW Y res Ω 161 [(0, vr 1 0), (3, vi x3)] []) (x3 : Int32) (Ω : zo_O) (res : zo_R) (h : fn_X2_habits_186 N K161 x3 Ω = some res) : TW Y res Ω 186 [(0, vr 1 0), (3, vi x3)] [vr 1 0] := by
  unfold fn_X2_habits_186 at h
  refine zo_iconst hY 1 (by decide) dX2_habits_186 ?_
  refine zo_goto hY 191 dX2_habits_187 (by decide) ?_
  exact ct_X2_habits_191 hY hJ hCon hr N K161 hK161 x3 1 Ω _ h
def fn_X2_habits_231 (N : Nat) (K202 : Int32 → zo_O → Option zo_R) (x3 : Int32) (s0 : Int32) (s1 : Int32) (Ω : zo_O) : Option zo_R :=
  ix s1 5 fun j1 => lt (sI Ω 33 3 j1 (vp_nar .boolean s0)) fun Ω2 =>
  ix (5 * x3) 25 fun j3 =>
  ix x3 5 fun j4 => lt (sI Ω2 32 37 j4 (gI Ω2 32 38 j3)) fun Ω5 =>
  ix x3 25 fun j6 =>
  ix x3 5 fun j7 => lt (sI Ω5 32 36 j7 (-(gI Ω5 32 38 j6))) fun Ω8 =>
  K202 (x3 + 1) Ω8
theorem ct_X2_habits_231 {Y : zo_Y} (hY : zo_Gd Y cX2_habits 5 RX2 1) (hJ : zo_JC (zo_J Y)) (hCon : ∀ Ω, zo_J Y Ω → zo_Con Ω) (hr : zo_rt Y (Option.none : Option Jvm.ClassFile.FieldType)) (N : Nat) (K202 : Int32 → zo_O → Option zo_R) (hK202 : ∀ (x3 : Int32) (Ω : zo_O) (res : zo_R), K202 x3 Ω = some res → TW Y res Ω 202 [(0, vr 1 0), (3, vi x3)] []) (x3 : Int32) (s0 : Int32) (s1 : Int32) (Ω : zo_O) (res : zo_R) (h : fn_X2_habits_231 N K202 x3 s0 s1 Ω = some res) : TW Y res Ω 231 [(0, vr 1 0), (3, vi x3)] [vi s0, vi s1, vr 33 3] := by
  unfold fn_X2_habits_231 at h
  refine zo_ast hY hJ (by decide) (Or.inr (Or.inr ⟨rfl, rfl, dX2_habits_231⟩)) (fun q => (hCon _ q).2.2.2 33 3 5 rfl) h (fun j1 Ω2 h => ?_)
  refine zo_aload_n hY dX2_habits_232 rfl 0 rfl ?_
  refine zo_getC hY LX2_148_1 rfl (fun Ω q => (hCon Ω q).2.1 62 _ rfl) dX2_habits_233 ?_
  refine zo_iload_n hY dX2_habits_236 rfl 1 rfl ?_
  refine zo_aload_n hY dX2_habits_237 rfl 0 rfl ?_
  refine zo_getC hY LX2_154_1 rfl (fun Ω q => (hCon Ω q).2.1 64 _ rfl) dX2_habits_238 ?_
  refine zo_iconst hY 5 (by decide) dX2_habits_241 ?_
  refine zo_iload_n hY dX2_habits_242 rfl 1 rfl ?_
  refine zo_imul hY dX2_habits_243 ?_
  refine zo_ald hY (by decide) (Or.inl ⟨rfl, dX2_habits_244⟩) (fun q => (hCon _ q).2.2.2 32 38 25 rfl) h (fun j3 h => ?_)
  refine zo_ast hY hJ (by decide) (Or.inl ⟨rfl, rfl, dX2_habits_245⟩) (fun q => (hCon _ q).2.2.2 32 37 5 rfl) h (fun j4 Ω5 h => ?_)
  refine zo_aload_n hY dX2_habits_246 rfl 0 rfl ?_
  refine zo_getC hY LX2_145_1 rfl (fun Ω q => (hCon Ω q).2.1 61 _ rfl) dX2_habits_247 ?_
  refine zo_iload_n hY dX2_habits_250 rfl 1 rfl ?_
  refine zo_aload_n hY dX2_habits_251 rfl 0 rfl ?_
  refine zo_getC hY LX2_154_1 rfl (fun Ω q => (hCon Ω q).2.1 64 _ rfl) dX2_habits_252 ?_
  refine zo_iload_n hY dX2_habits_255 rfl 1 rfl ?_
  refine zo_ald hY (by decide) (Or.inl ⟨rfl, dX2_habits_256⟩) (fun q => (hCon _ q).2.2.2 32 38 25 rfl) h (fun j6 h => ?_)
  refine zo_ineg hY dX2_habits_257 ?_
  refine zo_ast hY hJ (by decide) (Or.inl ⟨rfl, rfl, dX2_habits_258⟩) (fun q => (hCon _ q).2.2.2 32 36 5 rfl) h (fun j7 Ω8 h => ?_)
  refine zo_iinc hY 1 dX2_habits_259 (by decide) (by decide) 1 rfl rfl (ls' := [(3, vi (x3 + 1)), (0, vr 1 0)]) rfl ?_
  refine zo_goto hY 202 dX2_habits_262 (by decide) ?_
  refine zo_sub [1, 0] rfl ?_
  exact hK202 (x3 + 1) Ω8 _ h
def bd_X2_habits_202 (N : Nat)  (K202 : Int32 → zo_O → Option zo_R) (x3 : Int32) (Ω : zo_O) : Option zo_R :=
  if 5 ≤ x3 then (
    rV Ω
    ) else
  ix (5 * x3) 25 fun j2 =>
  if 1000000 ≤ gI Ω 32 38 j2 then (
    fn_X2_habits_231 N K202 x3 0 x3 Ω
    ) else
  fn_X2_habits_231 N K202 x3 1 x3 Ω
theorem cb_X2_habits_202 {Y : zo_Y} (hY : zo_Gd Y cX2_habits 5 RX2 1) (hJ : zo_JC (zo_J Y)) (hCon : ∀ Ω, zo_J Y Ω → zo_Con Ω) (hr : zo_rt Y (Option.none : Option Jvm.ClassFile.FieldType)) (N : Nat)  (K202 : Int32 → zo_O → Option zo_R)  (hK202 : ∀ (x3 : Int32) (Ω : zo_O) (res : zo_R), K202 x3 Ω = some res → TW Y res Ω 202 [(0, vr 1 0), (3, vi x3)] []) (x3 : Int32) (Ω : zo_O) (res : zo_R) (h : bd_X2_habits_202 N  K202 x3 Ω = some res) : TW Y res Ω 202 [(0, vr 1 0), (3, vi x3)] [] := by
  unfold bd_X2_habits_202 at h
  refine zo_iload_n hY dX2_habits_202 rfl 1 rfl ?_
  refine zo_iconst hY 5 (by decide) dX2_habits_203 ?_
  refine zo_icmp_ge hY 265 dX2_habits_204 (by decide) h (fun c1 h => ?_) (fun c1 h => ?_)
  · exact zo_vret hY hr dX2_habits_265 h
  · refine zo_aload_n hY dX2_habits_207 rfl 0 rfl ?_
    refine zo_getC hY LX2_151_1 rfl (fun Ω q => (hCon Ω q).2.1 63 _ rfl) dX2_habits_208 ?_
    refine zo_iload_n hY dX2_habits_211 rfl 1 rfl ?_
    refine zo_aload_n hY dX2_habits_212 rfl 0 rfl ?_
    refine zo_getC hY LX2_154_1 rfl (fun Ω q => (hCon Ω q).2.1 64 _ rfl) dX2_habits_213 ?_
    refine zo_iconst hY 5 (by decide) dX2_habits_216 ?_
    refine zo_iload_n hY dX2_habits_217 rfl 1 rfl ?_
    refine zo_imul hY dX2_habits_218 ?_
    refine zo_ald hY (by decide) (Or.inl ⟨rfl, dX2_habits_219⟩) (fun q => (hCon _ q).2.2.2 32 38 25 rfl) h (fun j2 h => ?_)
    refine zo_ldcw hY q1657 dX2_habits_220 ?_
    refine zo_icmp_ge hY 230 dX2_habits_223 (by decide) h (fun c3 h => ?_) (fun c3 h => ?_)
    · refine zo_iconst hY 0 (by decide) dX2_habits_230 ?_
      exact ct_X2_habits_231 hY hJ hCon hr N K202 hK202 x3 0 x3 Ω _ h
    · refine zo_iconst hY 1 (by decide) dX2_habits_226 ?_
      refine zo_goto hY 231 dX2_habits_227 (by decide) ?_
      exact ct_X2_habits_231 hY hJ hCon hr N K202 hK202 x3 1 x3 Ω _ h
def fn_X2_habits_202 (N : Nat)  : Nat → Int32 → zo_O → Option zo_R
  | 0, _, _ => none
  | n + 1, x3, Ω => bd_X2_habits_202 N  (fn_X2_habits_202 N  n) x3 Ω
theorem ct_X2_habits_202 {Y : zo_Y} (hY : zo_Gd Y cX2_habits 5 RX2 1) (hJ : zo_JC (zo_J Y)) (hCon : ∀ Ω, zo_J Y Ω → zo_Con Ω) (hr : zo_rt Y (Option.none : Option Jvm.ClassFile.FieldType)) (N : Nat)   : ∀ (n : Nat) (x3 : Int32) (Ω : zo_O) (res : zo_R), fn_X2_habits_202 N  n x3 Ω = some res → TW Y res Ω 202 [(0, vr 1 0), (3, vi x3)] [] := by
  intro n
  induction n with
  | zero => intro x3 Ω res h; exact nomatch (show (none : Option zo_R) = some res from h)
  | succ n ih => intro x3 Ω res h; exact cb_X2_habits_202 hY hJ hCon hr N  (fn_X2_habits_202 N  n)  ih x3 Ω res h
def bd_X2_habits_161 (N : Nat)  (K161 : Int32 → zo_O → Option zo_R) (x3 : Int32) (Ω : zo_O) : Option zo_R :=
  if 5 ≤ x3 then (
    fn_X2_habits_202 N N 0 Ω
    ) else
  if gI Ω 1 0 65 = 0 then (
    ix (6 * x3) 25 fun j3 =>
    if 0 ≤ gI Ω 32 38 j3 then (
      fn_X2_habits_191 N K161 x3 0 Ω
      ) else
    fn_X2_habits_186 N K161 x3 Ω
    ) else
  fn_X2_habits_186 N K161 x3 Ω
theorem cb_X2_habits_161 {Y : zo_Y} (hY : zo_Gd Y cX2_habits 5 RX2 1) (hJ : zo_JC (zo_J Y)) (hCon : ∀ Ω, zo_J Y Ω → zo_Con Ω) (hr : zo_rt Y (Option.none : Option Jvm.ClassFile.FieldType)) (N : Nat)  (K161 : Int32 → zo_O → Option zo_R)  (hK161 : ∀ (x3 : Int32) (Ω : zo_O) (res : zo_R), K161 x3 Ω = some res → TW Y res Ω 161 [(0, vr 1 0), (3, vi x3)] []) (x3 : Int32) (Ω : zo_O) (res : zo_R) (h : bd_X2_habits_161 N  K161 x3 Ω = some res) : TW Y res Ω 161 [(0, vr 1 0), (3, vi x3)] [] := by
  unfold bd_X2_habits_161 at h
  refine zo_iload_n hY dX2_habits_161 rfl 1 rfl ?_
  refine zo_iconst hY 5 (by decide) dX2_habits_162 ?_
  refine zo_icmp_ge hY 200 dX2_habits_163 (by decide) h (fun c1 h => ?_) (fun c1 h => ?_)
  · refine zo_iconst hY 0 (by decide) dX2_habits_200 ?_
    refine zo_istore_n hY dX2_habits_201 rfl (by decide) rfl (ls' := [(3, vi 0), (0, vr 1 0)]) rfl ?_
    refine zo_sub [1, 0] rfl ?_
    exact ct_X2_habits_202 hY hJ hCon hr N N 0 Ω _ h
  · refine zo_aload_n hY dX2_habits_166 rfl 0 rfl ?_
    refine zo_aload_n hY dX2_habits_167 rfl 0 rfl ?_
    refine zo_getI hY LX2_332_1 rfl dX2_habits_168 ?_
    refine zo_if_ne hY 186 dX2_habits_171 (by decide) h (fun c2 h => ?_) (fun c2 h => ?_)
    · refine zo_aload_n hY dX2_habits_174 rfl 0 rfl ?_
      refine zo_getC hY LX2_154_1 rfl (fun Ω q => (hCon Ω q).2.1 64 _ rfl) dX2_habits_175 ?_
      refine zo_bipush hY 6 (by decide) dX2_habits_178 ?_
      refine zo_iload_n hY dX2_habits_180 rfl 1 rfl ?_
      refine zo_imul hY dX2_habits_181 ?_
      refine zo_ald hY (by decide) (Or.inl ⟨rfl, dX2_habits_182⟩) (fun q => (hCon _ q).2.2.2 32 38 25 rfl) h (fun j3 h => ?_)
      refine zo_if_ge hY 190 dX2_habits_183 (by decide) h (fun c4 h => ?_) (fun c4 h => ?_)
      · refine zo_iconst hY 0 (by decide) dX2_habits_190 ?_
        exact ct_X2_habits_191 hY hJ hCon hr N K161 hK161 x3 0 Ω _ h
      · exact ct_X2_habits_186 hY hJ hCon hr N K161 hK161 x3 Ω _ h
    · exact ct_X2_habits_186 hY hJ hCon hr N K161 hK161 x3 Ω _ h
def fn_X2_habits_161 (N : Nat)  : Nat → Int32 → zo_O → Option zo_R
  | 0, _, _ => none
  | n + 1, x3, Ω => bd_X2_habits_161 N  (fn_X2_habits_161 N  n) x3 Ω
theorem ct_X2_habits_161 {Y : zo_Y} (hY : zo_Gd Y cX2_habits 5 RX2 1) (hJ : zo_JC (zo_J Y)) (hCon : ∀ Ω, zo_J Y Ω → zo_Con Ω) (hr : zo_rt Y (Option.none : Option Jvm.ClassFile.FieldType)) (N : Nat)   : ∀ (n : Nat) (x3 : Int32) (Ω : zo_O) (res : zo_R), fn_X2_habits_161 N  n x3 Ω = some res → TW Y res Ω 161 [(0, vr 1 0), (3, vi x3)] [] := by
  intro n
  induction n with
  | zero => intro x3 Ω res h; exact nomatch (show (none : Option zo_R) = some res from h)
  | succ n ih => intro x3 Ω res h; exact cb_X2_habits_161 hY hJ hCon hr N  (fn_X2_habits_161 N  n)  ih x3 Ω res h
def fn_X2_habits_154 (N : Nat)  (x2 : Int32) (Ω : zo_O) : Option zo_R :=
  gd (x2 = 0 ∨ x2 = 1) <| lt (sI Ω 1 0 65 x2) fun Ω1 =>
  fn_X2_habits_161 N N 0 Ω1
theorem ct_X2_habits_154 {Y : zo_Y} (hY : zo_Gd Y cX2_habits 5 RX2 1) (hJ : zo_JC (zo_J Y)) (hCon : ∀ Ω, zo_J Y Ω → zo_Con Ω) (hr : zo_rt Y (Option.none : Option Jvm.ClassFile.FieldType)) (N : Nat)   (x2 : Int32) (Ω : zo_O) (res : zo_R) (h : fn_X2_habits_154 N  x2 Ω = some res) : TW Y res Ω 154 [(0, vr 1 0), (2, vi x2)] [] := by
  unfold fn_X2_habits_154 at h
  refine zo_aload_n hY dX2_habits_154 rfl 0 rfl ?_
  refine zo_iload_n hY dX2_habits_155 rfl 1 rfl ?_
  refine zo_putZ hY hJ LX2_332_1 rfl (Or.inl rfl) dX2_habits_156 h (fun Ω1 h => ?_)
  refine zo_iconst hY 0 (by decide) dX2_habits_159 ?_
  refine zo_istore_n hY dX2_habits_160 rfl (by decide) rfl (ls' := [(3, vi 0), (0, vr 1 0), (2, vi x2)]) rfl ?_
  refine zo_sub [1, 0] rfl ?_
  exact ct_X2_habits_161 hY hJ hCon hr N N 0 Ω1 _ h
def bd_X2_habits_38 (N : Nat)  (K38 : Int32 → Int32 → Int32 → zo_O → Option zo_R) (x1 : Int32) (x2 : Int32) (x3 : Int32) (Ω : zo_O) : Option zo_R :=
  if 10 ≤ x3 then (
    fn_X2_habits_154 N x2 Ω
    ) else
  if x2 = 0 then (
    fn_X2_habits_154 N x2 Ω
    ) else
  fn_X2_habits_53 N K38 N x1 0 x3 0 Ω
theorem cb_X2_habits_38 {Y : zo_Y} (hY : zo_Gd Y cX2_habits 5 RX2 1) (hJ : zo_JC (zo_J Y)) (hCon : ∀ Ω, zo_J Y Ω → zo_Con Ω) (hr : zo_rt Y (Option.none : Option Jvm.ClassFile.FieldType)) (N : Nat)  (K38 : Int32 → Int32 → Int32 → zo_O → Option zo_R)  (hK38 : ∀ (x1 : Int32) (x2 : Int32) (x3 : Int32) (Ω : zo_O) (res : zo_R), K38 x1 x2 x3 Ω = some res → TW Y res Ω 38 [(0, vr 1 0), (1, vi x1), (2, vi x2), (3, vi x3)] []) (x1 : Int32) (x2 : Int32) (x3 : Int32) (Ω : zo_O) (res : zo_R) (h : bd_X2_habits_38 N  K38 x1 x2 x3 Ω = some res) : TW Y res Ω 38 [(0, vr 1 0), (1, vi x1), (2, vi x2), (3, vi x3)] [] := by
  unfold bd_X2_habits_38 at h
  refine zo_iload_n hY dX2_habits_38 rfl 3 rfl ?_
  refine zo_bipush hY 10 (by decide) dX2_habits_39 ?_
  refine zo_icmp_ge hY 154 dX2_habits_41 (by decide) h (fun c1 h => ?_) (fun c1 h => ?_)
  · refine zo_sub [0, 2] rfl ?_
    exact ct_X2_habits_154 hY hJ hCon hr N x2 Ω _ h
  · refine zo_iload_n hY dX2_habits_44 rfl 2 rfl ?_
    refine zo_if_eq hY 154 dX2_habits_45 (by decide) h (fun c2 h => ?_) (fun c2 h => ?_)
    · refine zo_sub [0, 2] rfl ?_
      exact ct_X2_habits_154 hY hJ hCon hr N x2 Ω _ h
    · refine zo_iconst hY 0 (by decide) dX2_habits_48 ?_
      refine zo_istore_n hY dX2_habits_49 rfl (by decide) rfl (ls' := [(2, vi 0), (0, vr 1 0), (1, vi x1), (3, vi x3)]) rfl ?_
      refine zo_iconst hY 0 (by decide) dX2_habits_50 ?_
      refine zo_istore hY dX2_habits_51 (by decide) rfl (ls' := [(4, vi 0), (2, vi 0), (0, vr 1 0), (1, vi x1), (3, vi x3)]) rfl ?_
      refine zo_sub [2, 3, 1, 4, 0] rfl ?_
      exact ct_X2_habits_53 hY hJ hCon hr N K38 hK38 N x1 0 x3 0 Ω _ h
def fn_X2_habits_38 (N : Nat)  : Nat → Int32 → Int32 → Int32 → zo_O → Option zo_R
  | 0, _, _, _, _ => none
  | n + 1, x1, x2, x3, Ω => bd_X2_habits_38 N  (fn_X2_habits_38 N  n) x1 x2 x3 Ω
theorem ct_X2_habits_38 {Y : zo_Y} (hY : zo_Gd Y cX2_habits 5 RX2 1) (hJ : zo_JC (zo_J Y)) (hCon : ∀ Ω, zo_J Y Ω → zo_Con Ω) (hr : zo_rt Y (Option.none : Option Jvm.ClassFile.FieldType)) (N : Nat)   : ∀ (n : Nat) (x1 : Int32) (x2 : Int32) (x3 : Int32) (Ω : zo_O) (res : zo_R), fn_X2_habits_38 N  n x1 x2 x3 Ω = some res → TW Y res Ω 38 [(0, vr 1 0), (1, vi x1), (2, vi x2), (3, vi x3)] [] := by
  intro n
  induction n with
  | zero => intro x1 x2 x3 Ω res h; exact nomatch (show (none : Option zo_R) = some res from h)
  | succ n ih => intro x1 x2 x3 Ω res h; exact cb_X2_habits_38 hY hJ hCon hr N  (fn_X2_habits_38 N  n)  ih x1 x2 x3 Ω res h
def bd_X2_habits_2 (N : Nat)  (K2 : Int32 → Int32 → zo_O → Option zo_R) (x1 : Int32) (x2 : Int32) (Ω : zo_O) : Option zo_R :=
  if 25 ≤ x2 then (
    fn_X2_habits_38 N N x1 1 0 Ω
    ) else
  gd (¬ ((6 : Int32)) = 0) <|
  if x2 - x2 / 6 * 6 = 0 then (
    fn_X2_habits_27 N K2 x1 x2 0 x2 Ω
    ) else
  fn_X2_habits_27 N K2 x1 x2 1000000 x2 Ω
theorem cb_X2_habits_2 {Y : zo_Y} (hY : zo_Gd Y cX2_habits 5 RX2 1) (hJ : zo_JC (zo_J Y)) (hCon : ∀ Ω, zo_J Y Ω → zo_Con Ω) (hr : zo_rt Y (Option.none : Option Jvm.ClassFile.FieldType)) (N : Nat)  (K2 : Int32 → Int32 → zo_O → Option zo_R)  (hK2 : ∀ (x1 : Int32) (x2 : Int32) (Ω : zo_O) (res : zo_R), K2 x1 x2 Ω = some res → TW Y res Ω 2 [(0, vr 1 0), (1, vi x1), (2, vi x2)] []) (x1 : Int32) (x2 : Int32) (Ω : zo_O) (res : zo_R) (h : bd_X2_habits_2 N  K2 x1 x2 Ω = some res) : TW Y res Ω 2 [(0, vr 1 0), (1, vi x1), (2, vi x2)] [] := by
  unfold bd_X2_habits_2 at h
  refine zo_iload_n hY dX2_habits_2 rfl 2 rfl ?_
  refine zo_bipush hY 25 (by decide) dX2_habits_3 ?_
  refine zo_icmp_ge hY 34 dX2_habits_5 (by decide) h (fun c1 h => ?_) (fun c1 h => ?_)
  · refine zo_iconst hY 1 (by decide) dX2_habits_34 ?_
    refine zo_istore_n hY dX2_habits_35 rfl (by decide) rfl (ls' := [(2, vi 1), (0, vr 1 0), (1, vi x1)]) rfl ?_
    refine zo_iconst hY 0 (by decide) dX2_habits_36 ?_
    refine zo_istore_n hY dX2_habits_37 rfl (by decide) rfl (ls' := [(3, vi 0), (2, vi 1), (0, vr 1 0), (1, vi x1)]) rfl ?_
    refine zo_sub [2, 3, 1, 0] rfl ?_
    exact ct_X2_habits_38 hY hJ hCon hr N N x1 1 0 Ω _ h
  · refine zo_aload_n hY dX2_habits_8 rfl 0 rfl ?_
    refine zo_getC hY LX2_154_1 rfl (fun Ω q => (hCon Ω q).2.1 64 _ rfl) dX2_habits_9 ?_
    refine zo_iload_n hY dX2_habits_12 rfl 2 rfl ?_
    refine zo_iload_n hY dX2_habits_13 rfl 2 rfl ?_
    refine zo_bipush hY 6 (by decide) dX2_habits_14 ?_
    refine zo_irem hY dX2_habits_16 h (fun h => ?_)
    refine zo_if_ne hY 24 dX2_habits_17 (by decide) h (fun c2 h => ?_) (fun c2 h => ?_)
    · refine zo_iconst hY 0 (by decide) dX2_habits_20 ?_
      refine zo_goto hY 27 dX2_habits_21 (by decide) ?_
      exact ct_X2_habits_27 hY hJ hCon hr N K2 hK2 x1 x2 0 x2 Ω _ h
    · refine zo_ldcw hY q1657 dX2_habits_24 ?_
      exact ct_X2_habits_27 hY hJ hCon hr N K2 hK2 x1 x2 1000000 x2 Ω _ h
def fn_X2_habits_2 (N : Nat)  : Nat → Int32 → Int32 → zo_O → Option zo_R
  | 0, _, _, _ => none
  | n + 1, x1, x2, Ω => bd_X2_habits_2 N  (fn_X2_habits_2 N  n) x1 x2 Ω
theorem ct_X2_habits_2 {Y : zo_Y} (hY : zo_Gd Y cX2_habits 5 RX2 1) (hJ : zo_JC (zo_J Y)) (hCon : ∀ Ω, zo_J Y Ω → zo_Con Ω) (hr : zo_rt Y (Option.none : Option Jvm.ClassFile.FieldType)) (N : Nat)   : ∀ (n : Nat) (x1 : Int32) (x2 : Int32) (Ω : zo_O) (res : zo_R), fn_X2_habits_2 N  n x1 x2 Ω = some res → TW Y res Ω 2 [(0, vr 1 0), (1, vi x1), (2, vi x2)] [] := by
  intro n
  induction n with
  | zero => intro x1 x2 Ω res h; exact nomatch (show (none : Option zo_R) = some res from h)
  | succ n ih => intro x1 x2 Ω res h; exact cb_X2_habits_2 hY hJ hCon hr N  (fn_X2_habits_2 N  n)  ih x1 x2 Ω res h
def fn_X2_habits (N : Nat) (x1 : Int32) (Ω : zo_O) : Option zo_R :=
  fn_X2_habits_2 N N x1 0 Ω
theorem mt_X2_habits {G : zo_G} {J : zo_O → Prop} (hJ : zo_JC J) (hCon : ∀ Ω, J Ω → zo_Con Ω) (N : Nat) (x1 : Int32) (Ω : zo_O) (res : zo_R) (h : fn_X2_habits N x1 Ω = some res) : zo_MT G J yX2_habits cX2_habits 5 (Option.none : Option Jvm.ClassFile.FieldType) 1 [vr 1 0, vi x1] Ω res := by
  refine zo_enter (by decide) rfl (Nat.le_of_ble_eq_true rfl) (fun Y hY eJ hr hmn => ?_)
  subst eJ
  show TW Y res Ω 0 [(0, vr 1 0), (1, vi x1)] []
  unfold fn_X2_habits at h
  refine zo_iconst hY 0 (by decide) dX2_habits_0 ?_
  refine zo_istore_n hY dX2_habits_1 rfl (by decide) rfl (ls' := [(2, vi 0), (0, vr 1 0), (1, vi x1)]) rfl ?_
  refine zo_sub [1, 2, 0] rfl ?_
  exact ct_X2_habits_2 hY hJ hCon hr N N x1 0 Ω _ h
