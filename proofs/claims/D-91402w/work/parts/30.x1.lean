set_option maxRecDepth 100000
theorem cn_J6_checkIndex : zo_Cn yJ6_checkIndex 2 := ⟨by decide, by decide, by decide +kernel⟩
theorem cn_J2_elementData : zo_Cn yJ2_elementData 1 := ⟨by decide, by decide, by decide +kernel⟩
theorem cn_X1_in : zo_Cn yX1_in 3 := ⟨by decide, by decide, by decide +kernel⟩
theorem LX1_16_0 : zo_FL RX1 16 0 0 := ⟨by decide, by decide, by decide, Or.inl ⟨_, q158, Or.inl rfl⟩⟩
theorem cn_J2_size : zo_Cn yJ2_size 0 := ⟨by decide, by decide, by decide +kernel⟩
theorem LX1_95_0 : zo_FL RX1 95 0 8 := ⟨by decide, by decide, by decide, Or.inl ⟨_, q167, Or.inl rfl⟩⟩
theorem cn_X1_isSite : zo_Cn yX1_isSite 1 := ⟨by decide, by decide, by decide +kernel⟩
theorem cn_X1_isKnown : zo_Cn yX1_isKnown 1 := ⟨by decide, by decide, by decide +kernel⟩
theorem cn_J2_get : zo_Cn yJ2_get 1 := ⟨by decide, by decide, by decide +kernel⟩
theorem LX3_7_2 : zo_FL RX3 7 2 0 := ⟨by decide, by decide, by decide, Or.inl ⟨_, q270, Or.inl rfl⟩⟩
theorem cn_X3_isBy : zo_Cn yX3_isBy 1 := ⟨by decide, by decide, by decide +kernel⟩
theorem cn_X1_isYear : zo_Cn yX1_isYear 1 := ⟨by decide, by decide, by decide +kernel⟩
theorem cn_X3_init : zo_Cn yX3_init 1 := ⟨by decide, by decide, by decide +kernel⟩
theorem LX4_9_2 : zo_FL RX4 9 2 1 := ⟨by decide, by decide, by decide, Or.inl ⟨_, q258, Or.inl rfl⟩⟩
theorem LX4_15_2 : zo_FL RX4 15 2 2 := ⟨by decide, by decide, by decide, Or.inl ⟨_, q261, Or.inl rfl⟩⟩
theorem LX4_18_2 : zo_FL RX4 18 2 3 := ⟨by decide, by decide, by decide, Or.inl ⟨_, q263, Or.inl rfl⟩⟩
theorem LX4_21_2 : zo_FL RX4 21 2 4 := ⟨by decide, by decide, by decide, Or.inl ⟨_, q265, Or.inl rfl⟩⟩
theorem LX4_24_2 : zo_FL RX4 24 2 5 := ⟨by decide, by decide, by decide, Or.inl ⟨_, q267, Or.inl rfl⟩⟩
theorem cn_X4_init : zo_Cn yX4_init 6 := ⟨by decide, by decide, by decide +kernel⟩
theorem cn_J2_add : zo_Cn yJ2_add 1 := ⟨by decide, by decide, by decide +kernel⟩
theorem cn_X1_isKind : zo_Cn yX1_isKind 1 := ⟨by decide, by decide, by decide +kernel⟩
theorem cn_X1_isMeasurer : zo_Cn yX1_isMeasurer 1 := ⟨by decide, by decide, by decide +kernel⟩
theorem LX1_20_0 : zo_FL RX1 20 0 1 := ⟨by decide, by decide, by decide, Or.inl ⟨_, q159, Or.inl rfl⟩⟩
theorem LX3_7_3 : zo_FL RX3 7 3 0 := ⟨by decide, by decide, by decide, Or.inl ⟨_, q270, Or.inl rfl⟩⟩
theorem LX5_7_3 : zo_FL RX5 7 3 6 := ⟨by decide, by decide, by decide, Or.inl ⟨_, q396, Or.inl rfl⟩⟩
theorem LX5_13_3 : zo_FL RX5 13 3 1 := ⟨by decide, by decide, by decide, Or.inl ⟨_, q386, Or.inl rfl⟩⟩
theorem LX5_17_3 : zo_FL RX5 17 3 2 := ⟨by decide, by decide, by decide, Or.inl ⟨_, q388, Or.inl rfl⟩⟩
theorem LX5_20_3 : zo_FL RX5 20 3 3 := ⟨by decide, by decide, by decide, Or.inl ⟨_, q390, Or.inl rfl⟩⟩
theorem LX5_23_3 : zo_FL RX5 23 3 4 := ⟨by decide, by decide, by decide, Or.inl ⟨_, q392, Or.inl rfl⟩⟩
theorem LX5_26_3 : zo_FL RX5 26 3 5 := ⟨by decide, by decide, by decide, Or.inl ⟨_, q394, Or.inl rfl⟩⟩
theorem LX5_29_3 : zo_FL RX5 29 3 7 := ⟨by decide, by decide, by decide, Or.inl ⟨_, q398, Or.inl rfl⟩⟩
theorem cn_X5_init : zo_Cn yX5_init 8 := ⟨by decide, by decide, by decide +kernel⟩
theorem LX1_23_0 : zo_FL RX1 23 0 2 := ⟨by decide, by decide, by decide, Or.inl ⟨_, q160, Or.inl rfl⟩⟩
theorem LX3_7_4 : zo_FL RX3 7 4 0 := ⟨by decide, by decide, by decide, Or.inl ⟨_, q270, Or.inl rfl⟩⟩
theorem LX6_7_4 : zo_FL RX6 7 4 1 := ⟨by decide, by decide, by decide, Or.inl ⟨_, q426, Or.inl rfl⟩⟩
theorem LX6_13_4 : zo_FL RX6 13 4 2 := ⟨by decide, by decide, by decide, Or.inl ⟨_, q428, Or.inl rfl⟩⟩
theorem LX6_16_4 : zo_FL RX6 16 4 3 := ⟨by decide, by decide, by decide, Or.inl ⟨_, q430, Or.inl rfl⟩⟩
theorem cn_X6_init : zo_Cn yX6_init 4 := ⟨by decide, by decide, by decide +kernel⟩
theorem dJ2_size_0 : decode cJ2_size 0 = .ok (.aload_n 0, 1) := by decide +kernel
theorem dJ2_size_1 : decode cJ2_size 1 = .ok (.getfield 48, 3) := by decide +kernel
theorem dJ2_size_4 : decode cJ2_size 4 = .ok (.ireturn, 1) := by decide +kernel
def fn_J2_size (N : Nat) (x0 : Nat) (Ω : zo_O) : Option zo_R :=
  rI (nI (gS Ω x0).length) Ω
theorem mt_J2_size {G : zo_G} {J : zo_O → Prop} (hJ : zo_JC J) (hCon : ∀ Ω, J Ω → zo_Con Ω) (N : Nat) (x0 : Nat) (Ω : zo_O) (res : zo_R) (h : fn_J2_size N x0 Ω = some res) : zo_MT G J yJ2_size cJ2_size 1 (Option.some Jvm.ClassFile.FieldType.int) 0 [vr 20 x0] Ω res := by
  refine zo_enter (by decide) rfl (Nat.le_of_ble_eq_true rfl) (fun Y hY eJ hr hmn => ?_)
  subst eJ
  show TW Y res Ω 0 [(0, vr 20 x0)] []
  unfold fn_J2_size at h
  refine zo_aload_n hY dJ2_size_0 rfl 0 rfl ?_
  refine zo_lsi hY q141 dJ2_size_1 ?_
  exact zo_iret hY hr dJ2_size_4 h
theorem dJ6_checkIndex_0 : decode cJ6_checkIndex 0 = .ok (.iload_n 0, 1) := by decide +kernel
theorem dJ6_checkIndex_1 : decode cJ6_checkIndex 1 = .ok (.iload_n 1, 1) := by decide +kernel
theorem dJ6_checkIndex_2 : decode cJ6_checkIndex 2 = .ok (.aconst_null, 1) := by decide +kernel
theorem dJ6_checkIndex_3 : decode cJ6_checkIndex 3 = .ok (.invokestatic 105, 3) := by decide +kernel
theorem dJ6_checkIndex_6 : decode cJ6_checkIndex 6 = .ok (.ireturn, 1) := by decide +kernel
def fn_J6_checkIndex (N : Nat) (x0 : Int32) (x1 : Int32) (Ω : zo_O) : Option zo_R :=
  ci (fn_J7_checkIndex N x0 x1 none Ω) fun r2 Ω1 =>
  rI r2 Ω1
theorem mt_J6_checkIndex {G : zo_G} {J : zo_O → Prop} (hJ : zo_JC J) (hCon : ∀ Ω, J Ω → zo_Con Ω) (N : Nat) (x0 : Int32) (x1 : Int32) (Ω : zo_O) (res : zo_R) (h : fn_J6_checkIndex N x0 x1 Ω = some res) : zo_MT G J yJ6_checkIndex cJ6_checkIndex 2 (Option.some Jvm.ClassFile.FieldType.int) 1 [vi x0, vi x1] Ω res := by
  refine zo_enter (by decide) rfl (Nat.le_of_ble_eq_true rfl) (fun Y hY eJ hr hmn => ?_)
  subst eJ
  show TW Y res Ω 0 [(0, vi x0), (1, vi x1)] []
  unfold fn_J6_checkIndex at h
  refine zo_iload_n hY dJ6_checkIndex_0 rfl 0 rfl ?_
  refine zo_iload_n hY dJ6_checkIndex_1 rfl 1 rfl ?_
  refine zo_null hY dJ6_checkIndex_2 ?_
  refine zo_callS hY (fun q hq => mt_J7_checkIndex hJ hCon N x0 x1 none Ω q hq) (by decide) (by decide) cn_J7_checkIndex rfl q375 q376 q91 q377 (Nat.le_of_ble_eq_true rfl) dJ6_checkIndex_3 rfl h (ci_k (fun r2 Ω1 res h => ?_))
  exact zo_iret hY hr dJ6_checkIndex_6 h
theorem dJ2_elementData_0 : decode cJ2_elementData 0 = .ok (.aload_n 0, 1) := by decide +kernel
theorem dJ2_elementData_1 : decode cJ2_elementData 1 = .ok (.getfield 9, 3) := by decide +kernel
theorem dJ2_elementData_4 : decode cJ2_elementData 4 = .ok (.iload_n 1, 1) := by decide +kernel
theorem dJ2_elementData_5 : decode cJ2_elementData 5 = .ok (.aaload, 1) := by decide +kernel
theorem dJ2_elementData_6 : decode cJ2_elementData 6 = .ok (.areturn, 1) := by decide +kernel
def fn_J2_elementData (N : Nat) (x0 : Nat) (x1 : Int32) (Ω : zo_O) : Option zo_R :=
  ix x1 (gS Ω x0).length fun j1 =>
  rR ((gS Ω x0)[j1]?) Ω
theorem mt_J2_elementData {G : zo_G} {J : zo_O → Prop} (hJ : zo_JC J) (hCon : ∀ Ω, J Ω → zo_Con Ω) (N : Nat) (x0 : Nat) (x1 : Int32) (Ω : zo_O) (res : zo_R) (h : fn_J2_elementData N x0 x1 Ω = some res) : zo_MT G J yJ2_elementData cJ2_elementData 2 (Option.some (Jvm.ClassFile.FieldType.object "java/lang/Object")) 0 [vr 20 x0, vi x1] Ω res := by
  refine zo_enter (by decide) rfl (Nat.le_of_ble_eq_true rfl) (fun Y hY eJ hr hmn => ?_)
  subst eJ
  show TW Y res Ω 0 [(0, vr 20 x0), (1, vi x1)] []
  unfold fn_J2_elementData at h
  refine zo_aload_n hY dJ2_elementData_0 rfl 0 rfl ?_
  refine zo_lgt hY (q0 := 1) q140 rfl dJ2_elementData_1 dJ2_elementData_4 dJ2_elementData_5 h (fun j1 e2 h => ?_)
  exact zo_aret hY hr (Or.inl ⟨_, rfl⟩) dJ2_elementData_6 h
theorem dJ2_get_0 : decode cJ2_get 0 = .ok (.iload_n 1, 1) := by decide +kernel
theorem dJ2_get_1 : decode cJ2_get 1 = .ok (.aload_n 0, 1) := by decide +kernel
theorem dJ2_get_2 : decode cJ2_get 2 = .ok (.getfield 48, 3) := by decide +kernel
theorem dJ2_get_5 : decode cJ2_get 5 = .ok (.invokestatic 118, 3) := by decide +kernel
theorem dJ2_get_8 : decode cJ2_get 8 = .ok (.pop, 1) := by decide +kernel
theorem dJ2_get_9 : decode cJ2_get 9 = .ok (.aload_n 0, 1) := by decide +kernel
theorem dJ2_get_10 : decode cJ2_get 10 = .ok (.iload_n 1, 1) := by decide +kernel
theorem dJ2_get_11 : decode cJ2_get 11 = .ok (.invokevirtual 123, 3) := by decide +kernel
theorem dJ2_get_14 : decode cJ2_get 14 = .ok (.areturn, 1) := by decide +kernel
def fn_J2_get (N : Nat) (x0 : Nat) (x1 : Int32) (Ω : zo_O) : Option zo_R :=
  ci (fn_J6_checkIndex N x1 (nI (gS Ω x0).length) Ω) fun r2 Ω1 =>
  cr (fn_J2_elementData N x0 x1 Ω1) fun r4 Ω3 =>
  rR r4 Ω3
theorem mt_J2_get {G : zo_G} {J : zo_O → Prop} (hJ : zo_JC J) (hCon : ∀ Ω, J Ω → zo_Con Ω) (N : Nat) (x0 : Nat) (x1 : Int32) (Ω : zo_O) (res : zo_R) (h : fn_J2_get N x0 x1 Ω = some res) : zo_MT G J yJ2_get cJ2_get 2 (Option.some (Jvm.ClassFile.FieldType.object "java/lang/Object")) 2 [vr 20 x0, vi x1] Ω res := by
  refine zo_enter (by decide) rfl (Nat.le_of_ble_eq_true rfl) (fun Y hY eJ hr hmn => ?_)
  subst eJ
  show TW Y res Ω 0 [(0, vr 20 x0), (1, vi x1)] []
  unfold fn_J2_get at h
  refine zo_iload_n hY dJ2_get_0 rfl 1 rfl ?_
  refine zo_aload_n hY dJ2_get_1 rfl 0 rfl ?_
  refine zo_lsi hY q141 dJ2_get_2 ?_
  refine zo_callS hY (fun q hq => mt_J6_checkIndex hJ hCon N x1 (nI (gS Ω x0).length) Ω q hq) (by decide) (by decide) cn_J6_checkIndex rfl q372 q373 q90 q374 (Nat.le_of_ble_eq_true rfl) dJ2_get_5 rfl h (ci_k (fun r2 Ω1 res h => ?_))
  refine zo_pop hY dJ2_get_8 (Or.inl rfl) ?_
  refine zo_aload_n hY dJ2_get_9 rfl 0 rfl ?_
  refine zo_iload_n hY dJ2_get_10 rfl 1 rfl ?_
  refine zo_callV hY (fun q hq => mt_J2_elementData hJ hCon N x0 x1 Ω1 q hq) (by decide) (by decide) (by decide) ⟨rfl, cn_J2_elementData⟩ rfl q378 q379 q380 q81 q381 (Nat.le_of_ble_eq_true rfl) dJ2_get_11 rfl h (cr_k (fun r4 Ω3 res h => ?_))
  exact zo_aret hY hr (Or.inl ⟨_, rfl⟩) dJ2_get_14 h
theorem dX14_uses_0 : decode cX14_uses 0 = .ok (.iconst 1, 1) := by decide +kernel
theorem dX14_uses_1 : decode cX14_uses 1 = .ok (.ireturn, 1) := by decide +kernel
def fn_X14_uses (N : Nat) (x0 : Nat) (Ω : zo_O) : Option zo_R :=
  rZ 1 Ω
theorem mt_X14_uses {G : zo_G} {J : zo_O → Prop} (hJ : zo_JC J) (hCon : ∀ Ω, J Ω → zo_Con Ω) (N : Nat) (x0 : Nat) (Ω : zo_O) (res : zo_R) (h : fn_X14_uses N x0 Ω = some res) : zo_MT G J yX14_uses cX14_uses 1 (Option.some Jvm.ClassFile.FieldType.boolean) 0 [vr 11 x0] Ω res := by
  refine zo_enter (by decide) rfl (Nat.le_of_ble_eq_true rfl) (fun Y hY eJ hr hmn => ?_)
  subst eJ
  show TW Y res Ω 0 [(0, vr 11 x0)] []
  unfold fn_X14_uses at h
  refine zo_iconst hY 1 (by decide) dX14_uses_0 ?_
  exact zo_zret hY hr dX14_uses_1 h
theorem dX15_uses_0 : decode cX15_uses 0 = .ok (.iconst 0, 1) := by decide +kernel
theorem dX15_uses_1 : decode cX15_uses 1 = .ok (.ireturn, 1) := by decide +kernel
def fn_X15_uses (N : Nat) (x0 : Nat) (Ω : zo_O) : Option zo_R :=
  rZ 0 Ω
theorem mt_X15_uses {G : zo_G} {J : zo_O → Prop} (hJ : zo_JC J) (hCon : ∀ Ω, J Ω → zo_Con Ω) (N : Nat) (x0 : Nat) (Ω : zo_O) (res : zo_R) (h : fn_X15_uses N x0 Ω = some res) : zo_MT G J yX15_uses cX15_uses 1 (Option.some Jvm.ClassFile.FieldType.boolean) 0 [vr 12 x0] Ω res := by
  refine zo_enter (by decide) rfl (Nat.le_of_ble_eq_true rfl) (fun Y hY eJ hr hmn => ?_)
  subst eJ
  show TW Y res Ω 0 [(0, vr 12 x0)] []
  unfold fn_X15_uses at h
  refine zo_iconst hY 0 (by decide) dX15_uses_0 ?_
  exact zo_zret hY hr dX15_uses_1 h
theorem dX1_in_0 : decode cX1_in 0 = .ok (.iload_n 0, 1) := by decide +kernel
theorem dX1_in_1 : decode cX1_in 1 = .ok (.iload_n 1, 1) := by decide +kernel
theorem dX1_in_2 : decode cX1_in 2 = .ok (.if_icmp .lt 12, 3) := by decide +kernel
theorem dX1_in_5 : decode cX1_in 5 = .ok (.iload_n 0, 1) := by decide +kernel
theorem dX1_in_6 : decode cX1_in 6 = .ok (.iload_n 2, 1) := by decide +kernel
theorem dX1_in_7 : decode cX1_in 7 = .ok (.if_icmp .gt 7, 3) := by decide +kernel
theorem dX1_in_10 : decode cX1_in 10 = .ok (.iconst 1, 1) := by decide +kernel
theorem dX1_in_11 : decode cX1_in 11 = .ok (.goto 4, 3) := by decide +kernel
theorem dX1_in_14 : decode cX1_in 14 = .ok (.iconst 0, 1) := by decide +kernel
theorem dX1_in_15 : decode cX1_in 15 = .ok (.ireturn, 1) := by decide +kernel
def fn_X1_in_15 (N : Nat)  (s0 : Int32) (Ω : zo_O) : Option zo_R :=
  rZ s0 Ω
theorem ct_X1_in_15 {Y : zo_Y} (hY : zo_Gd Y cX1_in 3 RX1 0) (hJ : zo_JC (zo_J Y)) (hCon : ∀ Ω, zo_J Y Ω → zo_Con Ω) (hr : zo_rt Y (Option.some Jvm.ClassFile.FieldType.boolean)) (N : Nat)   (s0 : Int32) (Ω : zo_O) (res : zo_R) (h : fn_X1_in_15 N  s0 Ω = some res) : TW Y res Ω 15 [] [vi s0] := by
  unfold fn_X1_in_15 at h
  exact zo_zret hY hr dX1_in_15 h
def fn_X1_in_14 (N : Nat)   (Ω : zo_O) : Option zo_R :=
  fn_X1_in_15 N 0 Ω
theorem ct_X1_in_14 {Y : zo_Y} (hY : zo_Gd Y cX1_in 3 RX1 0) (hJ : zo_JC (zo_J Y)) (hCon : ∀ Ω, zo_J Y Ω → zo_Con Ω) (hr : zo_rt Y (Option.some Jvm.ClassFile.FieldType.boolean)) (N : Nat)    (Ω : zo_O) (res : zo_R) (h : fn_X1_in_14 N   Ω = some res) : TW Y res Ω 14 [] [] := by
  unfold fn_X1_in_14 at h
  refine zo_iconst hY 0 (by decide) dX1_in_14 ?_
  exact ct_X1_in_15 hY hJ hCon hr N 0 Ω _ h
def fn_X1_in (N : Nat) (x0 : Int32) (x1 : Int32) (x2 : Int32) (Ω : zo_O) : Option zo_R :=
  if x0 < x1 then (
    fn_X1_in_14 N Ω
    ) else
  if x2 < x0 then (
    fn_X1_in_14 N Ω
    ) else
  fn_X1_in_15 N 1 Ω
theorem mt_X1_in {G : zo_G} {J : zo_O → Prop} (hJ : zo_JC J) (hCon : ∀ Ω, J Ω → zo_Con Ω) (N : Nat) (x0 : Int32) (x1 : Int32) (x2 : Int32) (Ω : zo_O) (res : zo_R) (h : fn_X1_in N x0 x1 x2 Ω = some res) : zo_MT G J yX1_in cX1_in 3 (Option.some Jvm.ClassFile.FieldType.boolean) 0 [vi x0, vi x1, vi x2] Ω res := by
  refine zo_enter (by decide) rfl (Nat.le_of_ble_eq_true rfl) (fun Y hY eJ hr hmn => ?_)
  subst eJ
  show TW Y res Ω 0 [(0, vi x0), (1, vi x1), (2, vi x2)] []
  unfold fn_X1_in at h
  refine zo_iload_n hY dX1_in_0 rfl 0 rfl ?_
  refine zo_iload_n hY dX1_in_1 rfl 1 rfl ?_
  refine zo_icmp_lt hY 14 dX1_in_2 (by decide) h (fun c1 h => ?_) (fun c1 h => ?_)
  · refine zo_sub [] rfl ?_
    exact ct_X1_in_14 hY hJ hCon hr N Ω _ h
  · refine zo_iload_n hY dX1_in_5 rfl 0 rfl ?_
    refine zo_iload_n hY dX1_in_6 rfl 2 rfl ?_
    refine zo_icmp_gt hY 14 dX1_in_7 (by decide) h (fun c2 h => ?_) (fun c2 h => ?_)
    · refine zo_sub [] rfl ?_
      exact ct_X1_in_14 hY hJ hCon hr N Ω _ h
    · refine zo_iconst hY 1 (by decide) dX1_in_10 ?_
      refine zo_goto hY 15 dX1_in_11 (by decide) ?_
      refine zo_sub [] rfl ?_
      exact ct_X1_in_15 hY hJ hCon hr N 1 Ω _ h
theorem dX1_isYear_0 : decode cX1_isYear 0 = .ok (.iload_n 0, 1) := by decide +kernel
theorem dX1_isYear_1 : decode cX1_isYear 1 = .ok (.sipush 1000, 3) := by decide +kernel
theorem dX1_isYear_4 : decode cX1_isYear 4 = .ok (.sipush 2100, 3) := by decide +kernel
theorem dX1_isYear_7 : decode cX1_isYear 7 = .ok (.invokestatic 3, 3) := by decide +kernel
theorem dX1_isYear_10 : decode cX1_isYear 10 = .ok (.ireturn, 1) := by decide +kernel
def fn_X1_isYear (N : Nat) (x0 : Int32) (Ω : zo_O) : Option zo_R :=
  ci (fn_X1_in N x0 1000 2100 Ω) fun r2 Ω1 =>
  rZ r2 Ω1
theorem mt_X1_isYear {G : zo_G} {J : zo_O → Prop} (hJ : zo_JC J) (hCon : ∀ Ω, J Ω → zo_Con Ω) (N : Nat) (x0 : Int32) (Ω : zo_O) (res : zo_R) (h : fn_X1_isYear N x0 Ω = some res) : zo_MT G J yX1_isYear cX1_isYear 1 (Option.some Jvm.ClassFile.FieldType.boolean) 1 [vi x0] Ω res := by
  refine zo_enter (by decide) rfl (Nat.le_of_ble_eq_true rfl) (fun Y hY eJ hr hmn => ?_)
  subst eJ
  show TW Y res Ω 0 [(0, vi x0)] []
  unfold fn_X1_isYear at h
  refine zo_iload_n hY dX1_isYear_0 rfl 0 rfl ?_
  refine zo_sipush hY 1000 (by decide) dX1_isYear_1 ?_
  refine zo_sipush hY 2100 (by decide) dX1_isYear_4 ?_
  refine zo_callS hY (fun q hq => mt_X1_in hJ hCon N x0 1000 2100 Ω q hq) (by decide) (by decide) cn_X1_in rfl q239 q240 q78 q241 (Nat.le_of_ble_eq_true rfl) dX1_isYear_7 rfl h (ci_k (fun r2 Ω1 res h => ?_))
  exact zo_zret hY hr dX1_isYear_10 h
theorem dX1_isSite_0 : decode cX1_isSite 0 = .ok (.iload_n 1, 1) := by decide +kernel
theorem dX1_isSite_1 : decode cX1_isSite 1 = .ok (.iconst 0, 1) := by decide +kernel
theorem dX1_isSite_2 : decode cX1_isSite 2 = .ok (.aload_n 0, 1) := by decide +kernel
theorem dX1_isSite_3 : decode cX1_isSite 3 = .ok (.getfield 16, 3) := by decide +kernel
theorem dX1_isSite_6 : decode cX1_isSite 6 = .ok (.invokevirtual 85, 3) := by decide +kernel
theorem dX1_isSite_9 : decode cX1_isSite 9 = .ok (.iconst 1, 1) := by decide +kernel
theorem dX1_isSite_10 : decode cX1_isSite 10 = .ok (.isub, 1) := by decide +kernel
theorem dX1_isSite_11 : decode cX1_isSite 11 = .ok (.invokestatic 3, 3) := by decide +kernel
theorem dX1_isSite_14 : decode cX1_isSite 14 = .ok (.ireturn, 1) := by decide +kernel
def fn_X1_isSite (N : Nat) (x1 : Int32) (Ω : zo_O) : Option zo_R :=
  ci (fn_J2_size N 0 Ω) fun r2 Ω1 =>
  ci (fn_X1_in N x1 0 (r2 - 1) Ω1) fun r4 Ω3 =>
  rZ r4 Ω3
theorem mt_X1_isSite {G : zo_G} {J : zo_O → Prop} (hJ : zo_JC J) (hCon : ∀ Ω, J Ω → zo_Con Ω) (N : Nat) (x1 : Int32) (Ω : zo_O) (res : zo_R) (h : fn_X1_isSite N x1 Ω = some res) : zo_MT G J yX1_isSite cX1_isSite 2 (Option.some Jvm.ClassFile.FieldType.boolean) 1 [vr 0 0, vi x1] Ω res := by
  refine zo_enter (by decide) rfl (Nat.le_of_ble_eq_true rfl) (fun Y hY eJ hr hmn => ?_)
  subst eJ
  show TW Y res Ω 0 [(0, vr 0 0), (1, vi x1)] []
  unfold fn_X1_isSite at h
  refine zo_iload_n hY dX1_isSite_0 rfl 1 rfl ?_
  refine zo_iconst hY 0 (by decide) dX1_isSite_1 ?_
  refine zo_aload_n hY dX1_isSite_2 rfl 0 rfl ?_
  refine zo_getC hY LX1_16_0 rfl (fun Ω q => (hCon Ω q).1 0 _ rfl) dX1_isSite_3 ?_
  refine zo_callV hY (fun q hq => mt_J2_size hJ hCon N 0 Ω q hq) (by decide) (by decide) (by decide) ⟨rfl, cn_J2_size⟩ rfl q245 q246 q247 q81 q248 (Nat.le_of_ble_eq_true rfl) dX1_isSite_6 rfl h (ci_k (fun r2 Ω1 res h => ?_))
  refine zo_iconst hY 1 (by decide) dX1_isSite_9 ?_
  refine zo_isub hY dX1_isSite_10 ?_
  refine zo_callS hY (fun q hq => mt_X1_in hJ hCon N x1 0 (r2 - 1) Ω1 q hq) (by decide) (by decide) cn_X1_in rfl q239 q240 q78 q241 (Nat.le_of_ble_eq_true rfl) dX1_isSite_11 rfl h (ci_k (fun r4 Ω3 res h => ?_))
  exact zo_zret hY hr dX1_isSite_14 h
theorem dX1_isKind_0 : decode cX1_isKind 0 = .ok (.iload_n 0, 1) := by decide +kernel
theorem dX1_isKind_1 : decode cX1_isKind 1 = .ok (.iconst 0, 1) := by decide +kernel
theorem dX1_isKind_2 : decode cX1_isKind 2 = .ok (.iconst 2, 1) := by decide +kernel
theorem dX1_isKind_3 : decode cX1_isKind 3 = .ok (.invokestatic 3, 3) := by decide +kernel
theorem dX1_isKind_6 : decode cX1_isKind 6 = .ok (.ireturn, 1) := by decide +kernel
def fn_X1_isKind (N : Nat) (x0 : Int32) (Ω : zo_O) : Option zo_R :=
  ci (fn_X1_in N x0 0 2 Ω) fun r2 Ω1 =>
  rZ r2 Ω1
theorem mt_X1_isKind {G : zo_G} {J : zo_O → Prop} (hJ : zo_JC J) (hCon : ∀ Ω, J Ω → zo_Con Ω) (N : Nat) (x0 : Int32) (Ω : zo_O) (res : zo_R) (h : fn_X1_isKind N x0 Ω = some res) : zo_MT G J yX1_isKind cX1_isKind 1 (Option.some Jvm.ClassFile.FieldType.boolean) 1 [vi x0] Ω res := by
  refine zo_enter (by decide) rfl (Nat.le_of_ble_eq_true rfl) (fun Y hY eJ hr hmn => ?_)
  subst eJ
  show TW Y res Ω 0 [(0, vi x0)] []
  unfold fn_X1_isKind at h
  refine zo_iload_n hY dX1_isKind_0 rfl 0 rfl ?_
  refine zo_iconst hY 0 (by decide) dX1_isKind_1 ?_
  refine zo_iconst hY 2 (by decide) dX1_isKind_2 ?_
  refine zo_callS hY (fun q hq => mt_X1_in hJ hCon N x0 0 2 Ω q hq) (by decide) (by decide) cn_X1_in rfl q239 q240 q78 q241 (Nat.le_of_ble_eq_true rfl) dX1_isKind_3 rfl h (ci_k (fun r2 Ω1 res h => ?_))
  exact zo_zret hY hr dX1_isKind_6 h
theorem dX1_isMeasurer_0 : decode cX1_isMeasurer 0 = .ok (.iload_n 0, 1) := by decide +kernel
theorem dX1_isMeasurer_1 : decode cX1_isMeasurer 1 = .ok (.iconst 0, 1) := by decide +kernel
theorem dX1_isMeasurer_2 : decode cX1_isMeasurer 2 = .ok (.iconst 4, 1) := by decide +kernel
theorem dX1_isMeasurer_3 : decode cX1_isMeasurer 3 = .ok (.invokestatic 3, 3) := by decide +kernel
theorem dX1_isMeasurer_6 : decode cX1_isMeasurer 6 = .ok (.ireturn, 1) := by decide +kernel
def fn_X1_isMeasurer (N : Nat) (x0 : Int32) (Ω : zo_O) : Option zo_R :=
  ci (fn_X1_in N x0 0 4 Ω) fun r2 Ω1 =>
  rZ r2 Ω1
theorem mt_X1_isMeasurer {G : zo_G} {J : zo_O → Prop} (hJ : zo_JC J) (hCon : ∀ Ω, J Ω → zo_Con Ω) (N : Nat) (x0 : Int32) (Ω : zo_O) (res : zo_R) (h : fn_X1_isMeasurer N x0 Ω = some res) : zo_MT G J yX1_isMeasurer cX1_isMeasurer 1 (Option.some Jvm.ClassFile.FieldType.boolean) 1 [vi x0] Ω res := by
  refine zo_enter (by decide) rfl (Nat.le_of_ble_eq_true rfl) (fun Y hY eJ hr hmn => ?_)
  subst eJ
  show TW Y res Ω 0 [(0, vi x0)] []
  unfold fn_X1_isMeasurer at h
  refine zo_iload_n hY dX1_isMeasurer_0 rfl 0 rfl ?_
  refine zo_iconst hY 0 (by decide) dX1_isMeasurer_1 ?_
  refine zo_iconst hY 4 (by decide) dX1_isMeasurer_2 ?_
  refine zo_callS hY (fun q hq => mt_X1_in hJ hCon N x0 0 4 Ω q hq) (by decide) (by decide) cn_X1_in rfl q239 q240 q78 q241 (Nat.le_of_ble_eq_true rfl) dX1_isMeasurer_3 rfl h (ci_k (fun r2 Ω1 res h => ?_))
  exact zo_zret hY hr dX1_isMeasurer_6 h
theorem dX1_isKnown_0 : decode cX1_isKnown 0 = .ok (.iload_n 1, 1) := by decide +kernel
theorem dX1_isKnown_1 : decode cX1_isKnown 1 = .ok (.iconst 0, 1) := by decide +kernel
theorem dX1_isKnown_2 : decode cX1_isKnown 2 = .ok (.aload_n 0, 1) := by decide +kernel
theorem dX1_isKnown_3 : decode cX1_isKnown 3 = .ok (.getfield 95, 3) := by decide +kernel
theorem dX1_isKnown_6 : decode cX1_isKnown 6 = .ok (.invokestatic 3, 3) := by decide +kernel
theorem dX1_isKnown_9 : decode cX1_isKnown 9 = .ok (.ireturn, 1) := by decide +kernel
def fn_X1_isKnown (N : Nat) (x1 : Int32) (Ω : zo_O) : Option zo_R :=
  ci (fn_X1_in N x1 0 (gI Ω 0 0 8) Ω) fun r2 Ω1 =>
  rZ r2 Ω1
theorem mt_X1_isKnown {G : zo_G} {J : zo_O → Prop} (hJ : zo_JC J) (hCon : ∀ Ω, J Ω → zo_Con Ω) (N : Nat) (x1 : Int32) (Ω : zo_O) (res : zo_R) (h : fn_X1_isKnown N x1 Ω = some res) : zo_MT G J yX1_isKnown cX1_isKnown 2 (Option.some Jvm.ClassFile.FieldType.boolean) 1 [vr 0 0, vi x1] Ω res := by
  refine zo_enter (by decide) rfl (Nat.le_of_ble_eq_true rfl) (fun Y hY eJ hr hmn => ?_)
  subst eJ
  show TW Y res Ω 0 [(0, vr 0 0), (1, vi x1)] []
  unfold fn_X1_isKnown at h
  refine zo_iload_n hY dX1_isKnown_0 rfl 1 rfl ?_
  refine zo_iconst hY 0 (by decide) dX1_isKnown_1 ?_
  refine zo_aload_n hY dX1_isKnown_2 rfl 0 rfl ?_
  refine zo_getI hY LX1_95_0 rfl dX1_isKnown_3 ?_
  refine zo_callS hY (fun q hq => mt_X1_in hJ hCon N x1 0 (gI Ω 0 0 8) Ω q hq) (by decide) (by decide) cn_X1_in rfl q239 q240 q78 q241 (Nat.le_of_ble_eq_true rfl) dX1_isKnown_6 rfl h (ci_k (fun r2 Ω1 res h => ?_))
  exact zo_zret hY hr dX1_isKnown_9 h
theorem dX3_isBy_0 : decode cX3_isBy 0 = .ok (.aload_n 0, 1) := by decide +kernel
theorem dX3_isBy_1 : decode cX3_isBy 1 = .ok (.getfield 7, 3) := by decide +kernel
theorem dX3_isBy_4 : decode cX3_isBy 4 = .ok (.iload_n 1, 1) := by decide +kernel
theorem dX3_isBy_5 : decode cX3_isBy 5 = .ok (.if_icmp .gt 7, 3) := by decide +kernel
theorem dX3_isBy_8 : decode cX3_isBy 8 = .ok (.iconst 1, 1) := by decide +kernel
theorem dX3_isBy_9 : decode cX3_isBy 9 = .ok (.goto 4, 3) := by decide +kernel
theorem dX3_isBy_12 : decode cX3_isBy 12 = .ok (.iconst 0, 1) := by decide +kernel
theorem dX3_isBy_13 : decode cX3_isBy 13 = .ok (.ireturn, 1) := by decide +kernel
def fn_X3_isBy_2_13 (N : Nat)  (s0 : Int32) (Ω : zo_O) : Option zo_R :=
  rZ s0 Ω
theorem ct_X3_isBy_2_13 {Y : zo_Y} (hY : zo_Gd Y cX3_isBy 2 RX3 0) (hJ : zo_JC (zo_J Y)) (hCon : ∀ Ω, zo_J Y Ω → zo_Con Ω) (hr : zo_rt Y (Option.some Jvm.ClassFile.FieldType.boolean)) (N : Nat)   (s0 : Int32) (Ω : zo_O) (res : zo_R) (h : fn_X3_isBy_2_13 N  s0 Ω = some res) : TW Y res Ω 13 [] [vi s0] := by
  unfold fn_X3_isBy_2_13 at h
  exact zo_zret hY hr dX3_isBy_13 h
def fn_X3_isBy_2 (N : Nat) (x0 : Nat) (x1 : Int32) (Ω : zo_O) : Option zo_R :=
  if x1 < gI Ω 2 x0 0 then (
    fn_X3_isBy_2_13 N 0 Ω
    ) else
  fn_X3_isBy_2_13 N 1 Ω
theorem mt_X3_isBy_2 {G : zo_G} {J : zo_O → Prop} (hJ : zo_JC J) (hCon : ∀ Ω, J Ω → zo_Con Ω) (N : Nat) (x0 : Nat) (x1 : Int32) (Ω : zo_O) (res : zo_R) (h : fn_X3_isBy_2 N x0 x1 Ω = some res) : zo_MT G J yX3_isBy cX3_isBy 2 (Option.some Jvm.ClassFile.FieldType.boolean) 0 [vr 2 x0, vi x1] Ω res := by
  refine zo_enter (by decide) rfl (Nat.le_of_ble_eq_true rfl) (fun Y hY eJ hr hmn => ?_)
  subst eJ
  show TW Y res Ω 0 [(0, vr 2 x0), (1, vi x1)] []
  unfold fn_X3_isBy_2 at h
  refine zo_aload_n hY dX3_isBy_0 rfl 0 rfl ?_
  refine zo_getI hY LX3_7_2 rfl dX3_isBy_1 ?_
  refine zo_iload_n hY dX3_isBy_4 rfl 1 rfl ?_
  refine zo_icmp_gt hY 12 dX3_isBy_5 (by decide) h (fun c1 h => ?_) (fun c1 h => ?_)
  · refine zo_iconst hY 0 (by decide) dX3_isBy_12 ?_
    refine zo_sub [] rfl ?_
    exact ct_X3_isBy_2_13 hY hJ hCon hr N 0 Ω _ h
  · refine zo_iconst hY 1 (by decide) dX3_isBy_8 ?_
    refine zo_goto hY 13 dX3_isBy_9 (by decide) ?_
    refine zo_sub [] rfl ?_
    exact ct_X3_isBy_2_13 hY hJ hCon hr N 1 Ω _ h
theorem dX1_isThere_0 : decode cX1_isThere 0 = .ok (.aload_n 0, 1) := by decide +kernel
theorem dX1_isThere_1 : decode cX1_isThere 1 = .ok (.iload_n 1, 1) := by decide +kernel
theorem dX1_isThere_2 : decode cX1_isThere 2 = .ok (.invokevirtual 105, 3) := by decide +kernel
theorem dX1_isThere_5 : decode cX1_isThere 5 = .ok (.ifCond .eq 33, 3) := by decide +kernel
theorem dX1_isThere_8 : decode cX1_isThere 8 = .ok (.aload_n 0, 1) := by decide +kernel
theorem dX1_isThere_9 : decode cX1_isThere 9 = .ok (.iload_n 2, 1) := by decide +kernel
theorem dX1_isThere_10 : decode cX1_isThere 10 = .ok (.invokevirtual 153, 3) := by decide +kernel
theorem dX1_isThere_13 : decode cX1_isThere 13 = .ok (.ifCond .eq 25, 3) := by decide +kernel
theorem dX1_isThere_16 : decode cX1_isThere 16 = .ok (.aload_n 0, 1) := by decide +kernel
theorem dX1_isThere_17 : decode cX1_isThere 17 = .ok (.getfield 16, 3) := by decide +kernel
theorem dX1_isThere_20 : decode cX1_isThere 20 = .ok (.iload_n 1, 1) := by decide +kernel
theorem dX1_isThere_21 : decode cX1_isThere 21 = .ok (.invokevirtual 116, 3) := by decide +kernel
theorem dX1_isThere_24 : decode cX1_isThere 24 = .ok (.checkcast 93, 3) := by decide +kernel
theorem dX1_isThere_27 : decode cX1_isThere 27 = .ok (.iload_n 2, 1) := by decide +kernel
theorem dX1_isThere_28 : decode cX1_isThere 28 = .ok (.invokevirtual 156, 3) := by decide +kernel
theorem dX1_isThere_31 : decode cX1_isThere 31 = .ok (.ifCond .eq 7, 3) := by decide +kernel
theorem dX1_isThere_34 : decode cX1_isThere 34 = .ok (.iconst 1, 1) := by decide +kernel
theorem dX1_isThere_35 : decode cX1_isThere 35 = .ok (.goto 4, 3) := by decide +kernel
theorem dX1_isThere_38 : decode cX1_isThere 38 = .ok (.iconst 0, 1) := by decide +kernel
theorem dX1_isThere_39 : decode cX1_isThere 39 = .ok (.ireturn, 1) := by decide +kernel
def fn_X1_isThere_39 (N : Nat)  (s0 : Int32) (Ω : zo_O) : Option zo_R :=
  rZ s0 Ω
theorem ct_X1_isThere_39 {Y : zo_Y} (hY : zo_Gd Y cX1_isThere 3 RX1 3) (hJ : zo_JC (zo_J Y)) (hCon : ∀ Ω, zo_J Y Ω → zo_Con Ω) (hr : zo_rt Y (Option.some Jvm.ClassFile.FieldType.boolean)) (N : Nat)   (s0 : Int32) (Ω : zo_O) (res : zo_R) (h : fn_X1_isThere_39 N  s0 Ω = some res) : TW Y res Ω 39 [] [vi s0] := by
  unfold fn_X1_isThere_39 at h
  exact zo_zret hY hr dX1_isThere_39 h
def fn_X1_isThere_38 (N : Nat)   (Ω : zo_O) : Option zo_R :=
  fn_X1_isThere_39 N 0 Ω
theorem ct_X1_isThere_38 {Y : zo_Y} (hY : zo_Gd Y cX1_isThere 3 RX1 3) (hJ : zo_JC (zo_J Y)) (hCon : ∀ Ω, zo_J Y Ω → zo_Con Ω) (hr : zo_rt Y (Option.some Jvm.ClassFile.FieldType.boolean)) (N : Nat)    (Ω : zo_O) (res : zo_R) (h : fn_X1_isThere_38 N   Ω = some res) : TW Y res Ω 38 [] [] := by
  unfold fn_X1_isThere_38 at h
  refine zo_iconst hY 0 (by decide) dX1_isThere_38 ?_
  exact ct_X1_isThere_39 hY hJ hCon hr N 0 Ω _ h
def fn_X1_isThere (N : Nat) (x1 : Int32) (x2 : Int32) (Ω : zo_O) : Option zo_R :=
  ci (fn_X1_isSite N x1 Ω) fun r2 Ω1 =>
  if r2 = 0 then (
    fn_X1_isThere_38 N Ω1
    ) else
  ci (fn_X1_isKnown N x2 Ω1) fun r5 Ω4 =>
  if r5 = 0 then (
    fn_X1_isThere_38 N Ω4
    ) else
  cr (fn_J2_get N 0 x1 Ω4) fun r8 Ω7 =>
  bk r8 2 fun j9 =>
  ci (fn_X3_isBy_2 N j9 x2 Ω7) fun r11 Ω10 =>
  if r11 = 0 then (
    fn_X1_isThere_38 N Ω10
    ) else
  fn_X1_isThere_39 N 1 Ω10
theorem mt_X1_isThere {G : zo_G} {J : zo_O → Prop} (hJ : zo_JC J) (hCon : ∀ Ω, J Ω → zo_Con Ω) (N : Nat) (x1 : Int32) (x2 : Int32) (Ω : zo_O) (res : zo_R) (h : fn_X1_isThere N x1 x2 Ω = some res) : zo_MT G J yX1_isThere cX1_isThere 3 (Option.some Jvm.ClassFile.FieldType.boolean) 3 [vr 0 0, vi x1, vi x2] Ω res := by
  refine zo_enter (by decide) rfl (Nat.le_of_ble_eq_true rfl) (fun Y hY eJ hr hmn => ?_)
  subst eJ
  show TW Y res Ω 0 [(0, vr 0 0), (1, vi x1), (2, vi x2)] []
  unfold fn_X1_isThere at h
  refine zo_aload_n hY dX1_isThere_0 rfl 0 rfl ?_
  refine zo_iload_n hY dX1_isThere_1 rfl 1 rfl ?_
  refine zo_callV hY (fun q hq => mt_X1_isSite hJ hCon N x1 Ω q hq) (by decide) (by decide) (by decide) ⟨rfl, cn_X1_isSite⟩ rfl q356 q358 qs3 q78 q359 (Nat.le_of_ble_eq_true rfl) dX1_isThere_2 rfl h (ci_k (fun r2 Ω1 res h => ?_))
  refine zo_if_eq hY 38 dX1_isThere_5 (by decide) h (fun c3 h => ?_) (fun c3 h => ?_)
  · refine zo_sub [] rfl ?_
    exact ct_X1_isThere_38 hY hJ hCon hr N Ω1 _ h
  · refine zo_aload_n hY dX1_isThere_8 rfl 0 rfl ?_
    refine zo_iload_n hY dX1_isThere_9 rfl 2 rfl ?_
    refine zo_callV hY (fun q hq => mt_X1_isKnown hJ hCon N x2 Ω1 q hq) (by decide) (by decide) (by decide) ⟨rfl, cn_X1_isKnown⟩ rfl q816 q818 qs17 q78 q819 (Nat.le_of_ble_eq_true rfl) dX1_isThere_10 rfl h (ci_k (fun r5 Ω4 res h => ?_))
    refine zo_if_eq hY 38 dX1_isThere_13 (by decide) h (fun c6 h => ?_) (fun c6 h => ?_)
    · refine zo_sub [] rfl ?_
      exact ct_X1_isThere_38 hY hJ hCon hr N Ω4 _ h
    · refine zo_aload_n hY dX1_isThere_16 rfl 0 rfl ?_
      refine zo_getC hY LX1_16_0 rfl (fun Ω q => (hCon Ω q).1 0 _ rfl) dX1_isThere_17 ?_
      refine zo_iload_n hY dX1_isThere_20 rfl 1 rfl ?_
      refine zo_callV hY (fun q hq => mt_J2_get hJ hCon N 0 x1 Ω4 q hq) (by decide) (by decide) (by decide) ⟨rfl, cn_J2_get⟩ rfl q368 q369 q370 q81 q371 (Nat.le_of_ble_eq_true rfl) dX1_isThere_21 rfl h (cr_k (fun r8 Ω7 res h => ?_))
      refine zo_castK hY (by decide) q249 (Or.inl rfl) dX1_isThere_24 h (fun j9 h => ?_)
      refine zo_iload_n hY dX1_isThere_27 rfl 2 rfl ?_
      refine zo_callU hY (fun q hq => mt_X3_isBy_2 hJ hCon N j9 x2 Ω7 q hq) (by decide) (by decide) (by decide) cn_X3_isBy rfl rfl q927 q928 q929 q829 q83 q830 (Nat.le_of_ble_eq_true rfl) dX1_isThere_28 rfl h (ci_k (fun r11 Ω10 res h => ?_))
      refine zo_if_eq hY 38 dX1_isThere_31 (by decide) h (fun c12 h => ?_) (fun c12 h => ?_)
      · refine zo_sub [] rfl ?_
        exact ct_X1_isThere_38 hY hJ hCon hr N Ω10 _ h
      · refine zo_iconst hY 1 (by decide) dX1_isThere_34 ?_
        refine zo_goto hY 39 dX1_isThere_35 (by decide) ?_
        refine zo_sub [] rfl ?_
        exact ct_X1_isThere_39 hY hJ hCon hr N 1 Ω10 _ h
theorem dX3_init_0 : decode cX3_init 0 = .ok (.aload_n 0, 1) := by decide +kernel
theorem dX3_init_1 : decode cX3_init 1 = .ok (.invokespecial 1, 3) := by decide +kernel
theorem dX3_init_4 : decode cX3_init 4 = .ok (.aload_n 0, 1) := by decide +kernel
theorem dX3_init_5 : decode cX3_init 5 = .ok (.iload_n 1, 1) := by decide +kernel
theorem dX3_init_6 : decode cX3_init 6 = .ok (.putfield 7, 3) := by decide +kernel
theorem dX3_init_9 : decode cX3_init 9 = .ok (.return_, 1) := by decide +kernel
def fn_X3_init_2 (N : Nat) (x0 : Nat) (x1 : Int32) (Ω : zo_O) : Option zo_R :=
  lt (sI Ω 2 x0 0 x1) fun Ω1 =>
  rV Ω1
theorem mt_X3_init_2 {G : zo_G} {J : zo_O → Prop} (hJ : zo_JC J) (hCon : ∀ Ω, J Ω → zo_Con Ω) (N : Nat) (x0 : Nat) (x1 : Int32) (Ω : zo_O) (res : zo_R) (h : fn_X3_init_2 N x0 x1 Ω = some res) : zo_MT G J yX3_init cX3_init 2 (Option.none : Option Jvm.ClassFile.FieldType) 1 [vr 2 x0, vi x1] Ω res := by
  refine zo_enter (by decide) rfl (Nat.le_of_ble_eq_true rfl) (fun Y hY eJ hr hmn => ?_)
  subst eJ
  have hmn := hmn rfl
  show TW Y res Ω 0 [(0, vr 2 x0), (1, vi x1)] []
  unfold fn_X3_init_2 at h
  refine zo_aload_n hY dX3_init_0 rfl 0 rfl ?_
  refine zo_oini hY (by decide) q257 (fun ρ => zo_room8 (Nat.le_of_ble_eq_true rfl)) dX3_init_1 ?_
  refine zo_aload_n hY dX3_init_4 rfl 0 rfl ?_
  refine zo_iload_n hY dX3_init_5 rfl 1 rfl ?_
  refine zo_putI hY hJ LX3_7_2 rfl (Or.inr ⟨rfl, hmn, rfl, _, q270, Or.inl rfl⟩) dX3_init_6 h (fun Ω1 h => ?_)
  exact zo_vret hY hr dX3_init_9 h
theorem dX4_init_0 : decode cX4_init 0 = .ok (.aload_n 0, 1) := by decide +kernel
theorem dX4_init_1 : decode cX4_init 1 = .ok (.iload_n 1, 1) := by decide +kernel
theorem dX4_init_2 : decode cX4_init 2 = .ok (.invokespecial 3, 3) := by decide +kernel
theorem dX4_init_5 : decode cX4_init 5 = .ok (.aload_n 0, 1) := by decide +kernel
theorem dX4_init_6 : decode cX4_init 6 = .ok (.iload_n 2, 1) := by decide +kernel
theorem dX4_init_7 : decode cX4_init 7 = .ok (.putfield 9, 3) := by decide +kernel
theorem dX4_init_10 : decode cX4_init 10 = .ok (.aload_n 0, 1) := by decide +kernel
theorem dX4_init_11 : decode cX4_init 11 = .ok (.iload_n 3, 1) := by decide +kernel
theorem dX4_init_12 : decode cX4_init 12 = .ok (.putfield 15, 3) := by decide +kernel
theorem dX4_init_15 : decode cX4_init 15 = .ok (.aload_n 0, 1) := by decide +kernel
theorem dX4_init_16 : decode cX4_init 16 = .ok (.iload 4, 2) := by decide +kernel
theorem dX4_init_18 : decode cX4_init 18 = .ok (.putfield 18, 3) := by decide +kernel
theorem dX4_init_21 : decode cX4_init 21 = .ok (.aload_n 0, 1) := by decide +kernel
theorem dX4_init_22 : decode cX4_init 22 = .ok (.iload 5, 2) := by decide +kernel
theorem dX4_init_24 : decode cX4_init 24 = .ok (.putfield 21, 3) := by decide +kernel
theorem dX4_init_27 : decode cX4_init 27 = .ok (.aload_n 0, 1) := by decide +kernel
theorem dX4_init_28 : decode cX4_init 28 = .ok (.iload 6, 2) := by decide +kernel
theorem dX4_init_30 : decode cX4_init 30 = .ok (.putfield 24, 3) := by decide +kernel
theorem dX4_init_33 : decode cX4_init 33 = .ok (.return_, 1) := by decide +kernel
def fn_X4_init (N : Nat) (x0 : Nat) (x1 : Int32) (x2 : Int32) (x3 : Int32) (x4 : Int32) (x5 : Int32) (x6 : Int32) (Ω : zo_O) : Option zo_R :=
  cv (fn_X3_init_2 N x0 x1 Ω) fun Ω1 =>
  lt (sI Ω1 2 x0 1 x2) fun Ω2 =>
  lt (sI Ω2 2 x0 2 x3) fun Ω3 =>
  lt (sI Ω3 2 x0 3 x4) fun Ω4 =>
  lt (sI Ω4 2 x0 4 x5) fun Ω5 =>
  lt (sI Ω5 2 x0 5 x6) fun Ω6 =>
  rV Ω6
theorem mt_X4_init {G : zo_G} {J : zo_O → Prop} (hJ : zo_JC J) (hCon : ∀ Ω, J Ω → zo_Con Ω) (N : Nat) (x0 : Nat) (x1 : Int32) (x2 : Int32) (x3 : Int32) (x4 : Int32) (x5 : Int32) (x6 : Int32) (Ω : zo_O) (res : zo_R) (h : fn_X4_init N x0 x1 x2 x3 x4 x5 x6 Ω = some res) : zo_MT G J yX4_init cX4_init 7 (Option.none : Option Jvm.ClassFile.FieldType) 2 [vr 2 x0, vi x1, vi x2, vi x3, vi x4, vi x5, vi x6] Ω res := by
  refine zo_enter (by decide) rfl (Nat.le_of_ble_eq_true rfl) (fun Y hY eJ hr hmn => ?_)
  subst eJ
  have hmn := hmn rfl
  show TW Y res Ω 0 [(0, vr 2 x0), (1, vi x1), (2, vi x2), (3, vi x3), (4, vi x4), (5, vi x5), (6, vi x6)] []
  unfold fn_X4_init at h
  refine zo_aload_n hY dX4_init_0 rfl 0 rfl ?_
  refine zo_iload_n hY dX4_init_1 rfl 1 rfl ?_
  refine zo_callI hY (fun q hq => mt_X3_init_2 hJ hCon N x0 x1 Ω q hq) (by decide) (by decide) cn_X3_init rfl rfl q254 q255 q83 q256 (Nat.le_of_ble_eq_true rfl) dX4_init_2 rfl h (cv_k (fun Ω1 res h => ?_))
  refine zo_aload_n hY dX4_init_5 rfl 0 rfl ?_
  refine zo_iload_n hY dX4_init_6 rfl 2 rfl ?_
  refine zo_putI hY hJ LX4_9_2 rfl (Or.inr ⟨rfl, hmn, rfl, _, q258, Or.inl rfl⟩) dX4_init_7 h (fun Ω2 h => ?_)
  refine zo_aload_n hY dX4_init_10 rfl 0 rfl ?_
  refine zo_iload_n hY dX4_init_11 rfl 3 rfl ?_
  refine zo_putI hY hJ LX4_15_2 rfl (Or.inr ⟨rfl, hmn, rfl, _, q261, Or.inl rfl⟩) dX4_init_12 h (fun Ω3 h => ?_)
  refine zo_aload_n hY dX4_init_15 rfl 0 rfl ?_
  refine zo_iload hY dX4_init_16 4 rfl ?_
  refine zo_putI hY hJ LX4_18_2 rfl (Or.inr ⟨rfl, hmn, rfl, _, q263, Or.inl rfl⟩) dX4_init_18 h (fun Ω4 h => ?_)
  refine zo_aload_n hY dX4_init_21 rfl 0 rfl ?_
  refine zo_iload hY dX4_init_22 5 rfl ?_
  refine zo_putI hY hJ LX4_21_2 rfl (Or.inr ⟨rfl, hmn, rfl, _, q265, Or.inl rfl⟩) dX4_init_24 h (fun Ω5 h => ?_)
  refine zo_aload_n hY dX4_init_27 rfl 0 rfl ?_
  refine zo_iload hY dX4_init_28 6 rfl ?_
  refine zo_putI hY hJ LX4_24_2 rfl (Or.inr ⟨rfl, hmn, rfl, _, q267, Or.inl rfl⟩) dX4_init_30 h (fun Ω6 h => ?_)
  exact zo_vret hY hr dX4_init_33 h
theorem dX1_site_0 : decode cX1_site 0 = .ok (.iload_n 1, 1) := by decide +kernel
theorem dX1_site_1 : decode cX1_site 1 = .ok (.iconst 0, 1) := by decide +kernel
theorem dX1_site_2 : decode cX1_site 2 = .ok (.iconst 1, 1) := by decide +kernel
theorem dX1_site_3 : decode cX1_site 3 = .ok (.invokestatic 3, 3) := by decide +kernel
theorem dX1_site_6 : decode cX1_site 6 = .ok (.ifCond .eq 41, 3) := by decide +kernel
theorem dX1_site_9 : decode cX1_site 9 = .ok (.iload_n 2, 1) := by decide +kernel
theorem dX1_site_10 : decode cX1_site 10 = .ok (.iconst 0, 1) := by decide +kernel
theorem dX1_site_11 : decode cX1_site 11 = .ok (.iconst 2, 1) := by decide +kernel
theorem dX1_site_12 : decode cX1_site 12 = .ok (.invokestatic 3, 3) := by decide +kernel
theorem dX1_site_15 : decode cX1_site 15 = .ok (.ifCond .eq 32, 3) := by decide +kernel
theorem dX1_site_18 : decode cX1_site 18 = .ok (.iload_n 3, 1) := by decide +kernel
theorem dX1_site_19 : decode cX1_site 19 = .ok (.iconst 0, 1) := by decide +kernel
theorem dX1_site_20 : decode cX1_site 20 = .ok (.sipush 999, 3) := by decide +kernel
theorem dX1_site_23 : decode cX1_site 23 = .ok (.invokestatic 3, 3) := by decide +kernel
theorem dX1_site_26 : decode cX1_site 26 = .ok (.ifCond .eq 21, 3) := by decide +kernel
theorem dX1_site_29 : decode cX1_site 29 = .ok (.iload 4, 2) := by decide +kernel
theorem dX1_site_31 : decode cX1_site 31 = .ok (.iconst (-1), 1) := by decide +kernel
theorem dX1_site_32 : decode cX1_site 32 = .ok (.if_icmp .eq 11, 3) := by decide +kernel
theorem dX1_site_35 : decode cX1_site 35 = .ok (.iload 4, 2) := by decide +kernel
theorem dX1_site_37 : decode cX1_site 37 = .ok (.invokestatic 89, 3) := by decide +kernel
theorem dX1_site_40 : decode cX1_site 40 = .ok (.ifCond .eq 7, 3) := by decide +kernel
theorem dX1_site_43 : decode cX1_site 43 = .ok (.iconst 1, 1) := by decide +kernel
theorem dX1_site_44 : decode cX1_site 44 = .ok (.goto 4, 3) := by decide +kernel
theorem dX1_site_47 : decode cX1_site 47 = .ok (.iconst 0, 1) := by decide +kernel
theorem dX1_site_48 : decode cX1_site 48 = .ok (.istore 5, 2) := by decide +kernel
theorem dX1_site_50 : decode cX1_site 50 = .ok (.iload 5, 2) := by decide +kernel
theorem dX1_site_52 : decode cX1_site 52 = .ok (.ifCond .eq 15, 3) := by decide +kernel
theorem dX1_site_55 : decode cX1_site 55 = .ok (.aload_n 0, 1) := by decide +kernel
theorem dX1_site_56 : decode cX1_site 56 = .ok (.getfield 16, 3) := by decide +kernel
theorem dX1_site_59 : decode cX1_site 59 = .ok (.invokevirtual 85, 3) := by decide +kernel
theorem dX1_site_62 : decode cX1_site 62 = .ok (.bipush 14, 2) := by decide +kernel
theorem dX1_site_64 : decode cX1_site 64 = .ok (.if_icmp .ne 5, 3) := by decide +kernel
theorem dX1_site_67 : decode cX1_site 67 = .ok (.iconst (-1), 1) := by decide +kernel
theorem dX1_site_68 : decode cX1_site 68 = .ok (.ireturn, 1) := by decide +kernel
theorem dX1_site_69 : decode cX1_site 69 = .ok (.aload_n 0, 1) := by decide +kernel
theorem dX1_site_70 : decode cX1_site 70 = .ok (.getfield 16, 3) := by decide +kernel
theorem dX1_site_73 : decode cX1_site 73 = .ok (.new 93, 3) := by decide +kernel
theorem dX1_site_76 : decode cX1_site 76 = .ok (.dup, 1) := by decide +kernel
theorem dX1_site_77 : decode cX1_site 77 = .ok (.aload_n 0, 1) := by decide +kernel
theorem dX1_site_78 : decode cX1_site 78 = .ok (.getfield 95, 3) := by decide +kernel
theorem dX1_site_81 : decode cX1_site 81 = .ok (.aload_n 0, 1) := by decide +kernel
theorem dX1_site_82 : decode cX1_site 82 = .ok (.getfield 16, 3) := by decide +kernel
theorem dX1_site_85 : decode cX1_site 85 = .ok (.invokevirtual 85, 3) := by decide +kernel
theorem dX1_site_88 : decode cX1_site 88 = .ok (.iload_n 1, 1) := by decide +kernel
theorem dX1_site_89 : decode cX1_site 89 = .ok (.iload_n 2, 1) := by decide +kernel
theorem dX1_site_90 : decode cX1_site 90 = .ok (.iload_n 3, 1) := by decide +kernel
theorem dX1_site_91 : decode cX1_site 91 = .ok (.iload 4, 2) := by decide +kernel
theorem dX1_site_93 : decode cX1_site 93 = .ok (.invokespecial 98, 3) := by decide +kernel
theorem dX1_site_96 : decode cX1_site 96 = .ok (.invokevirtual 101, 3) := by decide +kernel
theorem dX1_site_99 : decode cX1_site 99 = .ok (.pop, 1) := by decide +kernel
theorem dX1_site_100 : decode cX1_site 100 = .ok (.aload_n 0, 1) := by decide +kernel
theorem dX1_site_101 : decode cX1_site 101 = .ok (.getfield 16, 3) := by decide +kernel
theorem dX1_site_104 : decode cX1_site 104 = .ok (.invokevirtual 85, 3) := by decide +kernel
theorem dX1_site_107 : decode cX1_site 107 = .ok (.iconst 1, 1) := by decide +kernel
theorem dX1_site_108 : decode cX1_site 108 = .ok (.isub, 1) := by decide +kernel
theorem dX1_site_109 : decode cX1_site 109 = .ok (.ireturn, 1) := by decide +kernel
def fn_X1_site_67 (N : Nat)   (Ω : zo_O) : Option zo_R :=
  rI ((-1)) Ω
theorem ct_X1_site_67 {Y : zo_Y} (hY : zo_Gd Y cX1_site 6 RX1 7) (hJ : zo_JC (zo_J Y)) (hCon : ∀ Ω, zo_J Y Ω → zo_Con Ω) (hr : zo_rt Y (Option.some Jvm.ClassFile.FieldType.int)) (N : Nat)    (Ω : zo_O) (res : zo_R) (h : fn_X1_site_67 N   Ω = some res) : TW Y res Ω 67 [] [] := by
  unfold fn_X1_site_67 at h
  refine zo_iconst hY (-1) (by decide) dX1_site_67 ?_
  exact zo_iret hY hr dX1_site_68 h
def fn_X1_site_48 (N : Nat)  (x1 : Int32) (x2 : Int32) (x3 : Int32) (x4 : Int32) (s0 : Int32) (Ω : zo_O) : Option zo_R :=
  if s0 = 0 then (
    fn_X1_site_67 N Ω
    ) else
  ci (fn_J2_size N 0 Ω) fun r3 Ω2 =>
  if r3 = 14 then (
    fn_X1_site_67 N Ω2
    ) else
  ad 1 6 <| lt (nw Ω2 2 0) fun Ω5 =>
  ci (fn_J2_size N 0 Ω5) fun r7 Ω6 =>
  cv (fn_X4_init N (gC Ω2 2) (gI Ω5 0 0 8) r7 x1 x2 x3 x4 Ω6) fun Ω8 =>
  ci (fn_J2_add N 0 (some (2, gC Ω2 2)) Ω8) fun r10 Ω9 =>
  ci (fn_J2_size N 0 Ω9) fun r12 Ω11 =>
  rI (r12 - 1) Ω11
theorem ct_X1_site_48 {Y : zo_Y} (hY : zo_Gd Y cX1_site 6 RX1 7) (hJ : zo_JC (zo_J Y)) (hCon : ∀ Ω, zo_J Y Ω → zo_Con Ω) (hr : zo_rt Y (Option.some Jvm.ClassFile.FieldType.int)) (N : Nat)   (x1 : Int32) (x2 : Int32) (x3 : Int32) (x4 : Int32) (s0 : Int32) (Ω : zo_O) (res : zo_R) (h : fn_X1_site_48 N  x1 x2 x3 x4 s0 Ω = some res) : TW Y res Ω 48 [(0, vr 0 0), (1, vi x1), (2, vi x2), (3, vi x3), (4, vi x4)] [vi s0] := by
  unfold fn_X1_site_48 at h
  refine zo_istore hY dX1_site_48 (by decide) rfl (ls' := [(5, vi s0), (0, vr 0 0), (1, vi x1), (2, vi x2), (3, vi x3), (4, vi x4)]) rfl ?_
  refine zo_iload hY dX1_site_50 0 rfl ?_
  refine zo_if_eq hY 67 dX1_site_52 (by decide) h (fun c1 h => ?_) (fun c1 h => ?_)
  · refine zo_sub [] rfl ?_
    exact ct_X1_site_67 hY hJ hCon hr N Ω _ h
  · refine zo_aload_n hY dX1_site_55 rfl 1 rfl ?_
    refine zo_getC hY LX1_16_0 rfl (fun Ω q => (hCon Ω q).1 0 _ rfl) dX1_site_56 ?_
    refine zo_callV hY (fun q hq => mt_J2_size hJ hCon N 0 Ω q hq) (by decide) (by decide) (by decide) ⟨rfl, cn_J2_size⟩ rfl q245 q246 q247 q81 q248 (Nat.le_of_ble_eq_true rfl) dX1_site_59 rfl h (ci_k (fun r3 Ω2 res h => ?_))
    refine zo_bipush hY 14 (by decide) dX1_site_62 ?_
    refine zo_icmp_ne hY 69 dX1_site_64 (by decide) h (fun c4 h => ?_) (fun c4 h => ?_)
    · refine zo_sub [] rfl ?_
      exact ct_X1_site_67 hY hJ hCon hr N Ω2 _ h
    · refine zo_aload_n hY dX1_site_69 rfl 1 rfl ?_
      refine zo_getC hY LX1_16_0 rfl (fun Ω q => (hCon Ω q).1 0 _ rfl) dX1_site_70 ?_
      refine zo_new hY hJ (k := 2) (by decide) (Or.inl rfl) rfl q249 q250 q84 dX1_site_73 h (fun Ω5 res h => ?_)
      refine zo_dup hY dX1_site_76 (Or.inr ⟨_, rfl⟩) ?_
      refine zo_aload_n hY dX1_site_77 rfl 1 rfl ?_
      refine zo_getI hY LX1_95_0 rfl dX1_site_78 ?_
      refine zo_aload_n hY dX1_site_81 rfl 1 rfl ?_
      refine zo_getC hY LX1_16_0 rfl (fun Ω q => (hCon Ω q).1 0 _ rfl) dX1_site_82 ?_
      refine zo_callV hY (fun q hq => mt_J2_size hJ hCon N 0 Ω5 q hq) (by decide) (by decide) (by decide) ⟨rfl, cn_J2_size⟩ rfl q245 q246 q247 q81 q248 (Nat.le_of_ble_eq_true rfl) dX1_site_85 rfl h (ci_k (fun r7 Ω6 res h => ?_))
      refine zo_iload_n hY dX1_site_88 rfl 2 rfl ?_
      refine zo_iload_n hY dX1_site_89 rfl 3 rfl ?_
      refine zo_iload_n hY dX1_site_90 rfl 4 rfl ?_
      refine zo_iload hY dX1_site_91 5 rfl ?_
      refine zo_callI hY (fun q hq => mt_X4_init hJ hCon N (gC Ω2 2) (gI Ω5 0 0 8) r7 x1 x2 x3 x4 Ω6 q hq) (by decide) (by decide) cn_X4_init rfl rfl q251 q252 q84 q253 (Nat.le_of_ble_eq_true rfl) dX1_site_93 rfl h (cv_k (fun Ω8 res h => ?_))
      refine zo_callV hY (fun q hq => mt_J2_add hJ hCon N 0 (some (2, gC Ω2 2)) Ω8 q hq) (by decide) (by decide) (by decide) ⟨rfl, cn_J2_add⟩ rfl q284 q285 q286 q81 q287 (Nat.le_of_ble_eq_true rfl) dX1_site_96 rfl h (ci_k (fun r10 Ω9 res h => ?_))
      refine zo_pop hY dX1_site_99 (Or.inl rfl) ?_
      refine zo_aload_n hY dX1_site_100 rfl 1 rfl ?_
      refine zo_getC hY LX1_16_0 rfl (fun Ω q => (hCon Ω q).1 0 _ rfl) dX1_site_101 ?_
      refine zo_callV hY (fun q hq => mt_J2_size hJ hCon N 0 Ω9 q hq) (by decide) (by decide) (by decide) ⟨rfl, cn_J2_size⟩ rfl q245 q246 q247 q81 q248 (Nat.le_of_ble_eq_true rfl) dX1_site_104 rfl h (ci_k (fun r12 Ω11 res h => ?_))
      refine zo_iconst hY 1 (by decide) dX1_site_107 ?_
      refine zo_isub hY dX1_site_108 ?_
      exact zo_iret hY hr dX1_site_109 h
def fn_X1_site_43 (N : Nat)  (x1 : Int32) (x2 : Int32) (x3 : Int32) (x4 : Int32) (Ω : zo_O) : Option zo_R :=
  fn_X1_site_48 N x1 x2 x3 x4 1 Ω
theorem ct_X1_site_43 {Y : zo_Y} (hY : zo_Gd Y cX1_site 6 RX1 7) (hJ : zo_JC (zo_J Y)) (hCon : ∀ Ω, zo_J Y Ω → zo_Con Ω) (hr : zo_rt Y (Option.some Jvm.ClassFile.FieldType.int)) (N : Nat)   (x1 : Int32) (x2 : Int32) (x3 : Int32) (x4 : Int32) (Ω : zo_O) (res : zo_R) (h : fn_X1_site_43 N  x1 x2 x3 x4 Ω = some res) : TW Y res Ω 43 [(0, vr 0 0), (1, vi x1), (2, vi x2), (3, vi x3), (4, vi x4)] [] := by
  unfold fn_X1_site_43 at h
  refine zo_iconst hY 1 (by decide) dX1_site_43 ?_
  refine zo_goto hY 48 dX1_site_44 (by decide) ?_
  exact ct_X1_site_48 hY hJ hCon hr N x1 x2 x3 x4 1 Ω _ h
def fn_X1_site_47 (N : Nat)  (x1 : Int32) (x2 : Int32) (x3 : Int32) (x4 : Int32) (Ω : zo_O) : Option zo_R :=
  fn_X1_site_48 N x1 x2 x3 x4 0 Ω
theorem ct_X1_site_47 {Y : zo_Y} (hY : zo_Gd Y cX1_site 6 RX1 7) (hJ : zo_JC (zo_J Y)) (hCon : ∀ Ω, zo_J Y Ω → zo_Con Ω) (hr : zo_rt Y (Option.some Jvm.ClassFile.FieldType.int)) (N : Nat)   (x1 : Int32) (x2 : Int32) (x3 : Int32) (x4 : Int32) (Ω : zo_O) (res : zo_R) (h : fn_X1_site_47 N  x1 x2 x3 x4 Ω = some res) : TW Y res Ω 47 [(0, vr 0 0), (1, vi x1), (2, vi x2), (3, vi x3), (4, vi x4)] [] := by
  unfold fn_X1_site_47 at h
  refine zo_iconst hY 0 (by decide) dX1_site_47 ?_
  exact ct_X1_site_48 hY hJ hCon hr N x1 x2 x3 x4 0 Ω _ h
def fn_X1_site (N : Nat) (x1 : Int32) (x2 : Int32) (x3 : Int32) (x4 : Int32) (Ω : zo_O) : Option zo_R :=
  ci (fn_X1_in N x1 0 1 Ω) fun r2 Ω1 =>
  if r2 = 0 then (
    fn_X1_site_47 N x1 x2 x3 x4 Ω1
    ) else
  ci (fn_X1_in N x2 0 2 Ω1) fun r5 Ω4 =>
  if r5 = 0 then (
    fn_X1_site_47 N x1 x2 x3 x4 Ω4
    ) else
  ci (fn_X1_in N x3 0 999 Ω4) fun r8 Ω7 =>
  if r8 = 0 then (
    fn_X1_site_47 N x1 x2 x3 x4 Ω7
    ) else
  if x4 = (-1) then (
    fn_X1_site_43 N x1 x2 x3 x4 Ω7
    ) else
  ci (fn_X1_isYear N x4 Ω7) fun r12 Ω11 =>
  if r12 = 0 then (
    fn_X1_site_47 N x1 x2 x3 x4 Ω11
    ) else
  fn_X1_site_43 N x1 x2 x3 x4 Ω11
theorem mt_X1_site {G : zo_G} {J : zo_O → Prop} (hJ : zo_JC J) (hCon : ∀ Ω, J Ω → zo_Con Ω) (N : Nat) (x1 : Int32) (x2 : Int32) (x3 : Int32) (x4 : Int32) (Ω : zo_O) (res : zo_R) (h : fn_X1_site N x1 x2 x3 x4 Ω = some res) : zo_MT G J yX1_site cX1_site 6 (Option.some Jvm.ClassFile.FieldType.int) 7 [vr 0 0, vi x1, vi x2, vi x3, vi x4] Ω res := by
  refine zo_enter (by decide) rfl (Nat.le_of_ble_eq_true rfl) (fun Y hY eJ hr hmn => ?_)
  subst eJ
  show TW Y res Ω 0 [(0, vr 0 0), (1, vi x1), (2, vi x2), (3, vi x3), (4, vi x4)] []
  unfold fn_X1_site at h
  refine zo_iload_n hY dX1_site_0 rfl 1 rfl ?_
  refine zo_iconst hY 0 (by decide) dX1_site_1 ?_
  refine zo_iconst hY 1 (by decide) dX1_site_2 ?_
  refine zo_callS hY (fun q hq => mt_X1_in hJ hCon N x1 0 1 Ω q hq) (by decide) (by decide) cn_X1_in rfl q239 q240 q78 q241 (Nat.le_of_ble_eq_true rfl) dX1_site_3 rfl h (ci_k (fun r2 Ω1 res h => ?_))
  refine zo_if_eq hY 47 dX1_site_6 (by decide) h (fun c3 h => ?_) (fun c3 h => ?_)
  · exact ct_X1_site_47 hY hJ hCon hr N x1 x2 x3 x4 Ω1 _ h
  · refine zo_iload_n hY dX1_site_9 rfl 2 rfl ?_
    refine zo_iconst hY 0 (by decide) dX1_site_10 ?_
    refine zo_iconst hY 2 (by decide) dX1_site_11 ?_
    refine zo_callS hY (fun q hq => mt_X1_in hJ hCon N x2 0 2 Ω1 q hq) (by decide) (by decide) cn_X1_in rfl q239 q240 q78 q241 (Nat.le_of_ble_eq_true rfl) dX1_site_12 rfl h (ci_k (fun r5 Ω4 res h => ?_))
    refine zo_if_eq hY 47 dX1_site_15 (by decide) h (fun c6 h => ?_) (fun c6 h => ?_)
    · exact ct_X1_site_47 hY hJ hCon hr N x1 x2 x3 x4 Ω4 _ h
    · refine zo_iload_n hY dX1_site_18 rfl 3 rfl ?_
      refine zo_iconst hY 0 (by decide) dX1_site_19 ?_
      refine zo_sipush hY 999 (by decide) dX1_site_20 ?_
      refine zo_callS hY (fun q hq => mt_X1_in hJ hCon N x3 0 999 Ω4 q hq) (by decide) (by decide) cn_X1_in rfl q239 q240 q78 q241 (Nat.le_of_ble_eq_true rfl) dX1_site_23 rfl h (ci_k (fun r8 Ω7 res h => ?_))
      refine zo_if_eq hY 47 dX1_site_26 (by decide) h (fun c9 h => ?_) (fun c9 h => ?_)
      · exact ct_X1_site_47 hY hJ hCon hr N x1 x2 x3 x4 Ω7 _ h
      · refine zo_iload hY dX1_site_29 4 rfl ?_
        refine zo_iconst hY (-1) (by decide) dX1_site_31 ?_
        refine zo_icmp_eq hY 43 dX1_site_32 (by decide) h (fun c10 h => ?_) (fun c10 h => ?_)
        · exact ct_X1_site_43 hY hJ hCon hr N x1 x2 x3 x4 Ω7 _ h
        · refine zo_iload hY dX1_site_35 4 rfl ?_
          refine zo_callS hY (fun q hq => mt_X1_isYear hJ hCon N x4 Ω7 q hq) (by decide) (by decide) cn_X1_isYear rfl q242 q243 q78 q244 (Nat.le_of_ble_eq_true rfl) dX1_site_37 rfl h (ci_k (fun r12 Ω11 res h => ?_))
          refine zo_if_eq hY 47 dX1_site_40 (by decide) h (fun c13 h => ?_) (fun c13 h => ?_)
          · exact ct_X1_site_47 hY hJ hCon hr N x1 x2 x3 x4 Ω11 _ h
          · exact ct_X1_site_43 hY hJ hCon hr N x1 x2 x3 x4 Ω11 _ h
def fn_X3_init_3 (N : Nat) (x0 : Nat) (x1 : Int32) (Ω : zo_O) : Option zo_R :=
  lt (sI Ω 3 x0 0 x1) fun Ω1 =>
  rV Ω1
theorem mt_X3_init_3 {G : zo_G} {J : zo_O → Prop} (hJ : zo_JC J) (hCon : ∀ Ω, J Ω → zo_Con Ω) (N : Nat) (x0 : Nat) (x1 : Int32) (Ω : zo_O) (res : zo_R) (h : fn_X3_init_3 N x0 x1 Ω = some res) : zo_MT G J yX3_init cX3_init 2 (Option.none : Option Jvm.ClassFile.FieldType) 1 [vr 3 x0, vi x1] Ω res := by
  refine zo_enter (by decide) rfl (Nat.le_of_ble_eq_true rfl) (fun Y hY eJ hr hmn => ?_)
  subst eJ
  have hmn := hmn rfl
  show TW Y res Ω 0 [(0, vr 3 x0), (1, vi x1)] []
  unfold fn_X3_init_3 at h
  refine zo_aload_n hY dX3_init_0 rfl 0 rfl ?_
  refine zo_oini hY (by decide) q257 (fun ρ => zo_room8 (Nat.le_of_ble_eq_true rfl)) dX3_init_1 ?_
  refine zo_aload_n hY dX3_init_4 rfl 0 rfl ?_
  refine zo_iload_n hY dX3_init_5 rfl 1 rfl ?_
  refine zo_putI hY hJ LX3_7_3 rfl (Or.inr ⟨rfl, hmn, rfl, _, q270, Or.inl rfl⟩) dX3_init_6 h (fun Ω1 h => ?_)
  exact zo_vret hY hr dX3_init_9 h
theorem dX5_init_0 : decode cX5_init 0 = .ok (.aload_n 0, 1) := by decide +kernel
theorem dX5_init_1 : decode cX5_init 1 = .ok (.iload_n 1, 1) := by decide +kernel
theorem dX5_init_2 : decode cX5_init 2 = .ok (.invokespecial 1, 3) := by decide +kernel
theorem dX5_init_5 : decode cX5_init 5 = .ok (.aload_n 0, 1) := by decide +kernel
theorem dX5_init_6 : decode cX5_init 6 = .ok (.aload_n 2, 1) := by decide +kernel
theorem dX5_init_7 : decode cX5_init 7 = .ok (.putfield 7, 3) := by decide +kernel
theorem dX5_init_10 : decode cX5_init 10 = .ok (.aload_n 0, 1) := by decide +kernel
theorem dX5_init_11 : decode cX5_init 11 = .ok (.iload_n 3, 1) := by decide +kernel
theorem dX5_init_12 : decode cX5_init 12 = .ok (.putfield 13, 3) := by decide +kernel
theorem dX5_init_15 : decode cX5_init 15 = .ok (.aload_n 0, 1) := by decide +kernel
theorem dX5_init_16 : decode cX5_init 16 = .ok (.iload 4, 2) := by decide +kernel
theorem dX5_init_18 : decode cX5_init 18 = .ok (.putfield 17, 3) := by decide +kernel
theorem dX5_init_21 : decode cX5_init 21 = .ok (.aload_n 0, 1) := by decide +kernel
theorem dX5_init_22 : decode cX5_init 22 = .ok (.iload 5, 2) := by decide +kernel
theorem dX5_init_24 : decode cX5_init 24 = .ok (.putfield 20, 3) := by decide +kernel
theorem dX5_init_27 : decode cX5_init 27 = .ok (.aload_n 0, 1) := by decide +kernel
theorem dX5_init_28 : decode cX5_init 28 = .ok (.iload 6, 2) := by decide +kernel
theorem dX5_init_30 : decode cX5_init 30 = .ok (.putfield 23, 3) := by decide +kernel
theorem dX5_init_33 : decode cX5_init 33 = .ok (.aload_n 0, 1) := by decide +kernel
theorem dX5_init_34 : decode cX5_init 34 = .ok (.iload 7, 2) := by decide +kernel
theorem dX5_init_36 : decode cX5_init 36 = .ok (.putfield 26, 3) := by decide +kernel
theorem dX5_init_39 : decode cX5_init 39 = .ok (.aload_n 0, 1) := by decide +kernel
theorem dX5_init_40 : decode cX5_init 40 = .ok (.iload 8, 2) := by decide +kernel
theorem dX5_init_42 : decode cX5_init 42 = .ok (.putfield 29, 3) := by decide +kernel
theorem dX5_init_45 : decode cX5_init 45 = .ok (.return_, 1) := by decide +kernel
def fn_X5_init (N : Nat) (x0 : Nat) (x1 : Int32) (x2 : Nat) (x3 : Int32) (x4 : Int32) (x5 : Int32) (x6 : Int32) (x7 : Int32) (x8 : Int32) (Ω : zo_O) : Option zo_R :=
  cv (fn_X3_init_3 N x0 x1 Ω) fun Ω1 =>
  lt (sR Ω1 3 x0 6 (some (2, x2))) fun Ω2 =>
  lt (sI Ω2 3 x0 1 x3) fun Ω3 =>
  lt (sI Ω3 3 x0 2 x4) fun Ω4 =>
  lt (sI Ω4 3 x0 3 x5) fun Ω5 =>
  lt (sI Ω5 3 x0 4 x6) fun Ω6 =>
  lt (sI Ω6 3 x0 5 x7) fun Ω7 =>
  gd (x8 = 0 ∨ x8 = 1) <| lt (sI Ω7 3 x0 7 x8) fun Ω8 =>
  rV Ω8
theorem mt_X5_init {G : zo_G} {J : zo_O → Prop} (hJ : zo_JC J) (hCon : ∀ Ω, J Ω → zo_Con Ω) (N : Nat) (x0 : Nat) (x1 : Int32) (x2 : Nat) (x3 : Int32) (x4 : Int32) (x5 : Int32) (x6 : Int32) (x7 : Int32) (x8 : Int32) (Ω : zo_O) (res : zo_R) (h : fn_X5_init N x0 x1 x2 x3 x4 x5 x6 x7 x8 Ω = some res) : zo_MT G J yX5_init cX5_init 9 (Option.none : Option Jvm.ClassFile.FieldType) 2 [vr 3 x0, vi x1, vr 2 x2, vi x3, vi x4, vi x5, vi x6, vi x7, vi x8] Ω res := by
  refine zo_enter (by decide) rfl (Nat.le_of_ble_eq_true rfl) (fun Y hY eJ hr hmn => ?_)
  subst eJ
  have hmn := hmn rfl
  show TW Y res Ω 0 [(0, vr 3 x0), (1, vi x1), (2, vr 2 x2), (3, vi x3), (4, vi x4), (5, vi x5), (6, vi x6), (7, vi x7), (8, vi x8)] []
  unfold fn_X5_init at h
  refine zo_aload_n hY dX5_init_0 rfl 0 rfl ?_
  refine zo_iload_n hY dX5_init_1 rfl 1 rfl ?_
  refine zo_callI hY (fun q hq => mt_X3_init_3 hJ hCon N x0 x1 Ω q hq) (by decide) (by decide) cn_X3_init rfl rfl q385 q255 q83 q256 (Nat.le_of_ble_eq_true rfl) dX5_init_2 rfl h (cv_k (fun Ω1 res h => ?_))
  refine zo_aload_n hY dX5_init_5 rfl 0 rfl ?_
  refine zo_aload_n hY dX5_init_6 rfl 2 rfl ?_
  refine zo_putR hY hJ LX5_7_3 rfl (Or.inl rfl) (Or.inr ⟨rfl, hmn, rfl, _, q396, Or.inl rfl⟩) dX5_init_7 h (fun Ω2 h => ?_)
  refine zo_aload_n hY dX5_init_10 rfl 0 rfl ?_
  refine zo_iload_n hY dX5_init_11 rfl 3 rfl ?_
  refine zo_putI hY hJ LX5_13_3 rfl (Or.inr ⟨rfl, hmn, rfl, _, q386, Or.inl rfl⟩) dX5_init_12 h (fun Ω3 h => ?_)
  refine zo_aload_n hY dX5_init_15 rfl 0 rfl ?_
  refine zo_iload hY dX5_init_16 4 rfl ?_
  refine zo_putI hY hJ LX5_17_3 rfl (Or.inr ⟨rfl, hmn, rfl, _, q388, Or.inl rfl⟩) dX5_init_18 h (fun Ω4 h => ?_)
  refine zo_aload_n hY dX5_init_21 rfl 0 rfl ?_
  refine zo_iload hY dX5_init_22 5 rfl ?_
  refine zo_putI hY hJ LX5_20_3 rfl (Or.inr ⟨rfl, hmn, rfl, _, q390, Or.inl rfl⟩) dX5_init_24 h (fun Ω5 h => ?_)
  refine zo_aload_n hY dX5_init_27 rfl 0 rfl ?_
  refine zo_iload hY dX5_init_28 6 rfl ?_
  refine zo_putI hY hJ LX5_23_3 rfl (Or.inr ⟨rfl, hmn, rfl, _, q392, Or.inl rfl⟩) dX5_init_30 h (fun Ω6 h => ?_)
  refine zo_aload_n hY dX5_init_33 rfl 0 rfl ?_
  refine zo_iload hY dX5_init_34 7 rfl ?_
  refine zo_putI hY hJ LX5_26_3 rfl (Or.inr ⟨rfl, hmn, rfl, _, q394, Or.inl rfl⟩) dX5_init_36 h (fun Ω7 h => ?_)
  refine zo_aload_n hY dX5_init_39 rfl 0 rfl ?_
  refine zo_iload hY dX5_init_40 8 rfl ?_
  refine zo_putZ hY hJ LX5_29_3 rfl (Or.inr ⟨rfl, hmn, rfl, _, q398, Or.inl rfl⟩) dX5_init_42 h (fun Ω8 h => ?_)
  exact zo_vret hY hr dX5_init_45 h
theorem dX1_circle_0 : decode cX1_circle 0 = .ok (.aload_n 0, 1) := by decide +kernel
theorem dX1_circle_1 : decode cX1_circle 1 = .ok (.iload_n 1, 1) := by decide +kernel
theorem dX1_circle_2 : decode cX1_circle 2 = .ok (.invokevirtual 105, 3) := by decide +kernel
theorem dX1_circle_5 : decode cX1_circle 5 = .ok (.ifCond .eq 52, 3) := by decide +kernel
theorem dX1_circle_8 : decode cX1_circle 8 = .ok (.iload_n 2, 1) := by decide +kernel
theorem dX1_circle_9 : decode cX1_circle 9 = .ok (.invokestatic 108, 3) := by decide +kernel
theorem dX1_circle_12 : decode cX1_circle 12 = .ok (.ifCond .eq 45, 3) := by decide +kernel
theorem dX1_circle_15 : decode cX1_circle 15 = .ok (.iload_n 3, 1) := by decide +kernel
theorem dX1_circle_16 : decode cX1_circle 16 = .ok (.invokestatic 111, 3) := by decide +kernel
theorem dX1_circle_19 : decode cX1_circle 19 = .ok (.ifCond .eq 38, 3) := by decide +kernel
theorem dX1_circle_22 : decode cX1_circle 22 = .ok (.iload 4, 2) := by decide +kernel
theorem dX1_circle_24 : decode cX1_circle 24 = .ok (.iconst 1, 1) := by decide +kernel
theorem dX1_circle_25 : decode cX1_circle 25 = .ok (.sipush 2000, 3) := by decide +kernel
theorem dX1_circle_28 : decode cX1_circle 28 = .ok (.invokestatic 3, 3) := by decide +kernel
theorem dX1_circle_31 : decode cX1_circle 31 = .ok (.ifCond .eq 26, 3) := by decide +kernel
theorem dX1_circle_34 : decode cX1_circle 34 = .ok (.iload 5, 2) := by decide +kernel
theorem dX1_circle_36 : decode cX1_circle 36 = .ok (.iconst 1, 1) := by decide +kernel
theorem dX1_circle_37 : decode cX1_circle 37 = .ok (.iload 4, 2) := by decide +kernel
theorem dX1_circle_39 : decode cX1_circle 39 = .ok (.invokestatic 3, 3) := by decide +kernel
theorem dX1_circle_42 : decode cX1_circle 42 = .ok (.ifCond .eq 15, 3) := by decide +kernel
theorem dX1_circle_45 : decode cX1_circle 45 = .ok (.iload 6, 2) := by decide +kernel
theorem dX1_circle_47 : decode cX1_circle 47 = .ok (.invokestatic 89, 3) := by decide +kernel
theorem dX1_circle_50 : decode cX1_circle 50 = .ok (.ifCond .eq 7, 3) := by decide +kernel
theorem dX1_circle_53 : decode cX1_circle 53 = .ok (.iconst 1, 1) := by decide +kernel
theorem dX1_circle_54 : decode cX1_circle 54 = .ok (.goto 4, 3) := by decide +kernel
theorem dX1_circle_57 : decode cX1_circle 57 = .ok (.iconst 0, 1) := by decide +kernel
theorem dX1_circle_58 : decode cX1_circle 58 = .ok (.istore 8, 2) := by decide +kernel
theorem dX1_circle_60 : decode cX1_circle 60 = .ok (.iload 8, 2) := by decide +kernel
theorem dX1_circle_62 : decode cX1_circle 62 = .ok (.ifCond .eq 15, 3) := by decide +kernel
theorem dX1_circle_65 : decode cX1_circle 65 = .ok (.aload_n 0, 1) := by decide +kernel
theorem dX1_circle_66 : decode cX1_circle 66 = .ok (.getfield 20, 3) := by decide +kernel
theorem dX1_circle_69 : decode cX1_circle 69 = .ok (.invokevirtual 85, 3) := by decide +kernel
theorem dX1_circle_72 : decode cX1_circle 72 = .ok (.bipush 120, 2) := by decide +kernel
theorem dX1_circle_74 : decode cX1_circle 74 = .ok (.if_icmp .ne 5, 3) := by decide +kernel
theorem dX1_circle_77 : decode cX1_circle 77 = .ok (.iconst (-1), 1) := by decide +kernel
theorem dX1_circle_78 : decode cX1_circle 78 = .ok (.ireturn, 1) := by decide +kernel
theorem dX1_circle_79 : decode cX1_circle 79 = .ok (.aload_n 0, 1) := by decide +kernel
theorem dX1_circle_80 : decode cX1_circle 80 = .ok (.getfield 20, 3) := by decide +kernel
theorem dX1_circle_83 : decode cX1_circle 83 = .ok (.new 114, 3) := by decide +kernel
theorem dX1_circle_86 : decode cX1_circle 86 = .ok (.dup, 1) := by decide +kernel
theorem dX1_circle_87 : decode cX1_circle 87 = .ok (.aload_n 0, 1) := by decide +kernel
theorem dX1_circle_88 : decode cX1_circle 88 = .ok (.getfield 95, 3) := by decide +kernel
theorem dX1_circle_91 : decode cX1_circle 91 = .ok (.aload_n 0, 1) := by decide +kernel
theorem dX1_circle_92 : decode cX1_circle 92 = .ok (.getfield 16, 3) := by decide +kernel
theorem dX1_circle_95 : decode cX1_circle 95 = .ok (.iload_n 1, 1) := by decide +kernel
theorem dX1_circle_96 : decode cX1_circle 96 = .ok (.invokevirtual 116, 3) := by decide +kernel
theorem dX1_circle_99 : decode cX1_circle 99 = .ok (.checkcast 93, 3) := by decide +kernel
theorem dX1_circle_102 : decode cX1_circle 102 = .ok (.iload_n 2, 1) := by decide +kernel
theorem dX1_circle_103 : decode cX1_circle 103 = .ok (.iload_n 3, 1) := by decide +kernel
theorem dX1_circle_104 : decode cX1_circle 104 = .ok (.iload 4, 2) := by decide +kernel
theorem dX1_circle_106 : decode cX1_circle 106 = .ok (.iload 5, 2) := by decide +kernel
theorem dX1_circle_108 : decode cX1_circle 108 = .ok (.iload 6, 2) := by decide +kernel
theorem dX1_circle_110 : decode cX1_circle 110 = .ok (.iload 7, 2) := by decide +kernel
theorem dX1_circle_112 : decode cX1_circle 112 = .ok (.invokespecial 120, 3) := by decide +kernel
theorem dX1_circle_115 : decode cX1_circle 115 = .ok (.invokevirtual 101, 3) := by decide +kernel
theorem dX1_circle_118 : decode cX1_circle 118 = .ok (.pop, 1) := by decide +kernel
theorem dX1_circle_119 : decode cX1_circle 119 = .ok (.aload_n 0, 1) := by decide +kernel
theorem dX1_circle_120 : decode cX1_circle 120 = .ok (.getfield 20, 3) := by decide +kernel
theorem dX1_circle_123 : decode cX1_circle 123 = .ok (.invokevirtual 85, 3) := by decide +kernel
theorem dX1_circle_126 : decode cX1_circle 126 = .ok (.iconst 1, 1) := by decide +kernel
theorem dX1_circle_127 : decode cX1_circle 127 = .ok (.isub, 1) := by decide +kernel
theorem dX1_circle_128 : decode cX1_circle 128 = .ok (.ireturn, 1) := by decide +kernel
def fn_X1_circle_77 (N : Nat)   (Ω : zo_O) : Option zo_R :=
  rI ((-1)) Ω
theorem ct_X1_circle_77 {Y : zo_Y} (hY : zo_Gd Y cX1_circle 9 RX1 7) (hJ : zo_JC (zo_J Y)) (hCon : ∀ Ω, zo_J Y Ω → zo_Con Ω) (hr : zo_rt Y (Option.some Jvm.ClassFile.FieldType.int)) (N : Nat)    (Ω : zo_O) (res : zo_R) (h : fn_X1_circle_77 N   Ω = some res) : TW Y res Ω 77 [] [] := by
  unfold fn_X1_circle_77 at h
  refine zo_iconst hY (-1) (by decide) dX1_circle_77 ?_
  exact zo_iret hY hr dX1_circle_78 h
def fn_X1_circle_58 (N : Nat)  (x1 : Int32) (x2 : Int32) (x3 : Int32) (x4 : Int32) (x5 : Int32) (x6 : Int32) (x7 : Int32) (s0 : Int32) (Ω : zo_O) : Option zo_R :=
  if s0 = 0 then (
    fn_X1_circle_77 N Ω
    ) else
  ci (fn_J2_size N 1 Ω) fun r3 Ω2 =>
  if r3 = 120 then (
    fn_X1_circle_77 N Ω2
    ) else
  ad 1 8 <| lt (nw Ω2 3 0) fun Ω5 =>
  cr (fn_J2_get N 0 x1 Ω5) fun r7 Ω6 =>
  bk r7 2 fun j8 =>
  cv (fn_X5_init N (gC Ω2 3) (gI Ω5 0 0 8) j8 x2 x3 x4 x5 x6 x7 Ω6) fun Ω9 =>
  ci (fn_J2_add N 1 (some (3, gC Ω2 3)) Ω9) fun r11 Ω10 =>
  ci (fn_J2_size N 1 Ω10) fun r13 Ω12 =>
  rI (r13 - 1) Ω12
theorem ct_X1_circle_58 {Y : zo_Y} (hY : zo_Gd Y cX1_circle 9 RX1 7) (hJ : zo_JC (zo_J Y)) (hCon : ∀ Ω, zo_J Y Ω → zo_Con Ω) (hr : zo_rt Y (Option.some Jvm.ClassFile.FieldType.int)) (N : Nat)   (x1 : Int32) (x2 : Int32) (x3 : Int32) (x4 : Int32) (x5 : Int32) (x6 : Int32) (x7 : Int32) (s0 : Int32) (Ω : zo_O) (res : zo_R) (h : fn_X1_circle_58 N  x1 x2 x3 x4 x5 x6 x7 s0 Ω = some res) : TW Y res Ω 58 [(0, vr 0 0), (1, vi x1), (2, vi x2), (3, vi x3), (4, vi x4), (5, vi x5), (6, vi x6), (7, vi x7)] [vi s0] := by
  unfold fn_X1_circle_58 at h
  refine zo_istore hY dX1_circle_58 (by decide) rfl (ls' := [(8, vi s0), (0, vr 0 0), (1, vi x1), (2, vi x2), (3, vi x3), (4, vi x4), (5, vi x5), (6, vi x6), (7, vi x7)]) rfl ?_
  refine zo_iload hY dX1_circle_60 0 rfl ?_
  refine zo_if_eq hY 77 dX1_circle_62 (by decide) h (fun c1 h => ?_) (fun c1 h => ?_)
  · refine zo_sub [] rfl ?_
    exact ct_X1_circle_77 hY hJ hCon hr N Ω _ h
  · refine zo_aload_n hY dX1_circle_65 rfl 1 rfl ?_
    refine zo_getC hY LX1_20_0 rfl (fun Ω q => (hCon Ω q).1 1 _ rfl) dX1_circle_66 ?_
    refine zo_callV hY (fun q hq => mt_J2_size hJ hCon N 1 Ω q hq) (by decide) (by decide) (by decide) ⟨rfl, cn_J2_size⟩ rfl q245 q246 q247 q81 q248 (Nat.le_of_ble_eq_true rfl) dX1_circle_69 rfl h (ci_k (fun r3 Ω2 res h => ?_))
    refine zo_bipush hY 120 (by decide) dX1_circle_72 ?_
    refine zo_icmp_ne hY 79 dX1_circle_74 (by decide) h (fun c4 h => ?_) (fun c4 h => ?_)
    · refine zo_sub [] rfl ?_
      exact ct_X1_circle_77 hY hJ hCon hr N Ω2 _ h
    · refine zo_aload_n hY dX1_circle_79 rfl 1 rfl ?_
      refine zo_getC hY LX1_20_0 rfl (fun Ω q => (hCon Ω q).1 1 _ rfl) dX1_circle_80 ?_
      refine zo_new hY hJ (k := 3) (by decide) (Or.inl rfl) rfl q366 q367 q89 dX1_circle_83 h (fun Ω5 res h => ?_)
      refine zo_dup hY dX1_circle_86 (Or.inr ⟨_, rfl⟩) ?_
      refine zo_aload_n hY dX1_circle_87 rfl 1 rfl ?_
      refine zo_getI hY LX1_95_0 rfl dX1_circle_88 ?_
      refine zo_aload_n hY dX1_circle_91 rfl 1 rfl ?_
      refine zo_getC hY LX1_16_0 rfl (fun Ω q => (hCon Ω q).1 0 _ rfl) dX1_circle_92 ?_
      refine zo_iload_n hY dX1_circle_95 rfl 2 rfl ?_
      refine zo_callV hY (fun q hq => mt_J2_get hJ hCon N 0 x1 Ω5 q hq) (by decide) (by decide) (by decide) ⟨rfl, cn_J2_get⟩ rfl q368 q369 q370 q81 q371 (Nat.le_of_ble_eq_true rfl) dX1_circle_96 rfl h (cr_k (fun r7 Ω6 res h => ?_))
      refine zo_castK hY (by decide) q249 (Or.inl rfl) dX1_circle_99 h (fun j8 h => ?_)
      refine zo_iload_n hY dX1_circle_102 rfl 3 rfl ?_
      refine zo_iload_n hY dX1_circle_103 rfl 4 rfl ?_
      refine zo_iload hY dX1_circle_104 5 rfl ?_
      refine zo_iload hY dX1_circle_106 6 rfl ?_
      refine zo_iload hY dX1_circle_108 7 rfl ?_
      refine zo_iload hY dX1_circle_110 8 rfl ?_
      refine zo_callI hY (fun q hq => mt_X5_init hJ hCon N (gC Ω2 3) (gI Ω5 0 0 8) j8 x2 x3 x4 x5 x6 x7 Ω6 q hq) (by decide) (by decide) cn_X5_init rfl rfl q382 q383 q89 q384 (Nat.le_of_ble_eq_true rfl) dX1_circle_112 rfl h (cv_k (fun Ω9 res h => ?_))
      refine zo_callV hY (fun q hq => mt_J2_add hJ hCon N 1 (some (3, gC Ω2 3)) Ω9 q hq) (by decide) (by decide) (by decide) ⟨rfl, cn_J2_add⟩ rfl q284 q285 q286 q81 q287 (Nat.le_of_ble_eq_true rfl) dX1_circle_115 rfl h (ci_k (fun r11 Ω10 res h => ?_))
      refine zo_pop hY dX1_circle_118 (Or.inl rfl) ?_
      refine zo_aload_n hY dX1_circle_119 rfl 1 rfl ?_
      refine zo_getC hY LX1_20_0 rfl (fun Ω q => (hCon Ω q).1 1 _ rfl) dX1_circle_120 ?_
      refine zo_callV hY (fun q hq => mt_J2_size hJ hCon N 1 Ω10 q hq) (by decide) (by decide) (by decide) ⟨rfl, cn_J2_size⟩ rfl q245 q246 q247 q81 q248 (Nat.le_of_ble_eq_true rfl) dX1_circle_123 rfl h (ci_k (fun r13 Ω12 res h => ?_))
      refine zo_iconst hY 1 (by decide) dX1_circle_126 ?_
      refine zo_isub hY dX1_circle_127 ?_
      exact zo_iret hY hr dX1_circle_128 h
def fn_X1_circle_57 (N : Nat)  (x1 : Int32) (x2 : Int32) (x3 : Int32) (x4 : Int32) (x5 : Int32) (x6 : Int32) (x7 : Int32) (Ω : zo_O) : Option zo_R :=
  fn_X1_circle_58 N x1 x2 x3 x4 x5 x6 x7 0 Ω
theorem ct_X1_circle_57 {Y : zo_Y} (hY : zo_Gd Y cX1_circle 9 RX1 7) (hJ : zo_JC (zo_J Y)) (hCon : ∀ Ω, zo_J Y Ω → zo_Con Ω) (hr : zo_rt Y (Option.some Jvm.ClassFile.FieldType.int)) (N : Nat)   (x1 : Int32) (x2 : Int32) (x3 : Int32) (x4 : Int32) (x5 : Int32) (x6 : Int32) (x7 : Int32) (Ω : zo_O) (res : zo_R) (h : fn_X1_circle_57 N  x1 x2 x3 x4 x5 x6 x7 Ω = some res) : TW Y res Ω 57 [(0, vr 0 0), (1, vi x1), (2, vi x2), (3, vi x3), (4, vi x4), (5, vi x5), (6, vi x6), (7, vi x7)] [] := by
  unfold fn_X1_circle_57 at h
  refine zo_iconst hY 0 (by decide) dX1_circle_57 ?_
  exact ct_X1_circle_58 hY hJ hCon hr N x1 x2 x3 x4 x5 x6 x7 0 Ω _ h
def fn_X1_circle (N : Nat) (x1 : Int32) (x2 : Int32) (x3 : Int32) (x4 : Int32) (x5 : Int32) (x6 : Int32) (x7 : Int32) (Ω : zo_O) : Option zo_R :=
  ci (fn_X1_isSite N x1 Ω) fun r2 Ω1 =>
  if r2 = 0 then (
    fn_X1_circle_57 N x1 x2 x3 x4 x5 x6 x7 Ω1
    ) else
  ci (fn_X1_isKind N x2 Ω1) fun r5 Ω4 =>
  if r5 = 0 then (
    fn_X1_circle_57 N x1 x2 x3 x4 x5 x6 x7 Ω4
    ) else
  ci (fn_X1_isMeasurer N x3 Ω4) fun r8 Ω7 =>
  if r8 = 0 then (
    fn_X1_circle_57 N x1 x2 x3 x4 x5 x6 x7 Ω7
    ) else
  ci (fn_X1_in N x4 1 2000 Ω7) fun r11 Ω10 =>
  if r11 = 0 then (
    fn_X1_circle_57 N x1 x2 x3 x4 x5 x6 x7 Ω10
    ) else
  ci (fn_X1_in N x5 1 x4 Ω10) fun r14 Ω13 =>
  if r14 = 0 then (
    fn_X1_circle_57 N x1 x2 x3 x4 x5 x6 x7 Ω13
    ) else
  ci (fn_X1_isYear N x6 Ω13) fun r17 Ω16 =>
  if r17 = 0 then (
    fn_X1_circle_57 N x1 x2 x3 x4 x5 x6 x7 Ω16
    ) else
  fn_X1_circle_58 N x1 x2 x3 x4 x5 x6 x7 1 Ω16
theorem mt_X1_circle {G : zo_G} {J : zo_O → Prop} (hJ : zo_JC J) (hCon : ∀ Ω, J Ω → zo_Con Ω) (N : Nat) (x1 : Int32) (x2 : Int32) (x3 : Int32) (x4 : Int32) (x5 : Int32) (x6 : Int32) (x7 : Int32) (Ω : zo_O) (res : zo_R) (h : fn_X1_circle N x1 x2 x3 x4 x5 x6 x7 Ω = some res) : zo_MT G J yX1_circle cX1_circle 9 (Option.some Jvm.ClassFile.FieldType.int) 7 [vr 0 0, vi x1, vi x2, vi x3, vi x4, vi x5, vi x6, vi x7] Ω res := by
  refine zo_enter (by decide) rfl (Nat.le_of_ble_eq_true rfl) (fun Y hY eJ hr hmn => ?_)
  subst eJ
  show TW Y res Ω 0 [(0, vr 0 0), (1, vi x1), (2, vi x2), (3, vi x3), (4, vi x4), (5, vi x5), (6, vi x6), (7, vi x7)] []
  unfold fn_X1_circle at h
  refine zo_aload_n hY dX1_circle_0 rfl 0 rfl ?_
  refine zo_iload_n hY dX1_circle_1 rfl 1 rfl ?_
  refine zo_callV hY (fun q hq => mt_X1_isSite hJ hCon N x1 Ω q hq) (by decide) (by decide) (by decide) ⟨rfl, cn_X1_isSite⟩ rfl q356 q358 qs3 q78 q359 (Nat.le_of_ble_eq_true rfl) dX1_circle_2 rfl h (ci_k (fun r2 Ω1 res h => ?_))
  refine zo_if_eq hY 57 dX1_circle_5 (by decide) h (fun c3 h => ?_) (fun c3 h => ?_)
  · exact ct_X1_circle_57 hY hJ hCon hr N x1 x2 x3 x4 x5 x6 x7 Ω1 _ h
  · refine zo_iload_n hY dX1_circle_8 rfl 2 rfl ?_
    refine zo_callS hY (fun q hq => mt_X1_isKind hJ hCon N x2 Ω1 q hq) (by decide) (by decide) cn_X1_isKind rfl q360 q361 q78 q362 (Nat.le_of_ble_eq_true rfl) dX1_circle_9 rfl h (ci_k (fun r5 Ω4 res h => ?_))
    refine zo_if_eq hY 57 dX1_circle_12 (by decide) h (fun c6 h => ?_) (fun c6 h => ?_)
    · exact ct_X1_circle_57 hY hJ hCon hr N x1 x2 x3 x4 x5 x6 x7 Ω4 _ h
    · refine zo_iload_n hY dX1_circle_15 rfl 3 rfl ?_
      refine zo_callS hY (fun q hq => mt_X1_isMeasurer hJ hCon N x3 Ω4 q hq) (by decide) (by decide) cn_X1_isMeasurer rfl q363 q364 q78 q365 (Nat.le_of_ble_eq_true rfl) dX1_circle_16 rfl h (ci_k (fun r8 Ω7 res h => ?_))
      refine zo_if_eq hY 57 dX1_circle_19 (by decide) h (fun c9 h => ?_) (fun c9 h => ?_)
      · exact ct_X1_circle_57 hY hJ hCon hr N x1 x2 x3 x4 x5 x6 x7 Ω7 _ h
      · refine zo_iload hY dX1_circle_22 4 rfl ?_
        refine zo_iconst hY 1 (by decide) dX1_circle_24 ?_
        refine zo_sipush hY 2000 (by decide) dX1_circle_25 ?_
        refine zo_callS hY (fun q hq => mt_X1_in hJ hCon N x4 1 2000 Ω7 q hq) (by decide) (by decide) cn_X1_in rfl q239 q240 q78 q241 (Nat.le_of_ble_eq_true rfl) dX1_circle_28 rfl h (ci_k (fun r11 Ω10 res h => ?_))
        refine zo_if_eq hY 57 dX1_circle_31 (by decide) h (fun c12 h => ?_) (fun c12 h => ?_)
        · exact ct_X1_circle_57 hY hJ hCon hr N x1 x2 x3 x4 x5 x6 x7 Ω10 _ h
        · refine zo_iload hY dX1_circle_34 5 rfl ?_
          refine zo_iconst hY 1 (by decide) dX1_circle_36 ?_
          refine zo_iload hY dX1_circle_37 4 rfl ?_
          refine zo_callS hY (fun q hq => mt_X1_in hJ hCon N x5 1 x4 Ω10 q hq) (by decide) (by decide) cn_X1_in rfl q239 q240 q78 q241 (Nat.le_of_ble_eq_true rfl) dX1_circle_39 rfl h (ci_k (fun r14 Ω13 res h => ?_))
          refine zo_if_eq hY 57 dX1_circle_42 (by decide) h (fun c15 h => ?_) (fun c15 h => ?_)
          · exact ct_X1_circle_57 hY hJ hCon hr N x1 x2 x3 x4 x5 x6 x7 Ω13 _ h
          · refine zo_iload hY dX1_circle_45 6 rfl ?_
            refine zo_callS hY (fun q hq => mt_X1_isYear hJ hCon N x6 Ω13 q hq) (by decide) (by decide) cn_X1_isYear rfl q242 q243 q78 q244 (Nat.le_of_ble_eq_true rfl) dX1_circle_47 rfl h (ci_k (fun r17 Ω16 res h => ?_))
            refine zo_if_eq hY 57 dX1_circle_50 (by decide) h (fun c18 h => ?_) (fun c18 h => ?_)
            · exact ct_X1_circle_57 hY hJ hCon hr N x1 x2 x3 x4 x5 x6 x7 Ω16 _ h
            · refine zo_iconst hY 1 (by decide) dX1_circle_53 ?_
              refine zo_goto hY 58 dX1_circle_54 (by decide) ?_
              exact ct_X1_circle_58 hY hJ hCon hr N x1 x2 x3 x4 x5 x6 x7 1 Ω16 _ h
def fn_X3_init_4 (N : Nat) (x0 : Nat) (x1 : Int32) (Ω : zo_O) : Option zo_R :=
  lt (sI Ω 4 x0 0 x1) fun Ω1 =>
  rV Ω1
theorem mt_X3_init_4 {G : zo_G} {J : zo_O → Prop} (hJ : zo_JC J) (hCon : ∀ Ω, J Ω → zo_Con Ω) (N : Nat) (x0 : Nat) (x1 : Int32) (Ω : zo_O) (res : zo_R) (h : fn_X3_init_4 N x0 x1 Ω = some res) : zo_MT G J yX3_init cX3_init 2 (Option.none : Option Jvm.ClassFile.FieldType) 1 [vr 4 x0, vi x1] Ω res := by
  refine zo_enter (by decide) rfl (Nat.le_of_ble_eq_true rfl) (fun Y hY eJ hr hmn => ?_)
  subst eJ
  have hmn := hmn rfl
  show TW Y res Ω 0 [(0, vr 4 x0), (1, vi x1)] []
  unfold fn_X3_init_4 at h
  refine zo_aload_n hY dX3_init_0 rfl 0 rfl ?_
  refine zo_oini hY (by decide) q257 (fun ρ => zo_room8 (Nat.le_of_ble_eq_true rfl)) dX3_init_1 ?_
  refine zo_aload_n hY dX3_init_4 rfl 0 rfl ?_
  refine zo_iload_n hY dX3_init_5 rfl 1 rfl ?_
  refine zo_putI hY hJ LX3_7_4 rfl (Or.inr ⟨rfl, hmn, rfl, _, q270, Or.inl rfl⟩) dX3_init_6 h (fun Ω1 h => ?_)
  exact zo_vret hY hr dX3_init_9 h
theorem dX6_init_0 : decode cX6_init 0 = .ok (.aload_n 0, 1) := by decide +kernel
theorem dX6_init_1 : decode cX6_init 1 = .ok (.iload_n 1, 1) := by decide +kernel
theorem dX6_init_2 : decode cX6_init 2 = .ok (.invokespecial 1, 3) := by decide +kernel
theorem dX6_init_5 : decode cX6_init 5 = .ok (.aload_n 0, 1) := by decide +kernel
theorem dX6_init_6 : decode cX6_init 6 = .ok (.iload_n 2, 1) := by decide +kernel
theorem dX6_init_7 : decode cX6_init 7 = .ok (.putfield 7, 3) := by decide +kernel
theorem dX6_init_10 : decode cX6_init 10 = .ok (.aload_n 0, 1) := by decide +kernel
theorem dX6_init_11 : decode cX6_init 11 = .ok (.iload_n 3, 1) := by decide +kernel
theorem dX6_init_12 : decode cX6_init 12 = .ok (.putfield 13, 3) := by decide +kernel
theorem dX6_init_15 : decode cX6_init 15 = .ok (.aload_n 0, 1) := by decide +kernel
theorem dX6_init_16 : decode cX6_init 16 = .ok (.iload 4, 2) := by decide +kernel
theorem dX6_init_18 : decode cX6_init 18 = .ok (.putfield 16, 3) := by decide +kernel
theorem dX6_init_21 : decode cX6_init 21 = .ok (.return_, 1) := by decide +kernel
def fn_X6_init (N : Nat) (x0 : Nat) (x1 : Int32) (x2 : Int32) (x3 : Int32) (x4 : Int32) (Ω : zo_O) : Option zo_R :=
  cv (fn_X3_init_4 N x0 x1 Ω) fun Ω1 =>
  lt (sI Ω1 4 x0 1 x2) fun Ω2 =>
  lt (sI Ω2 4 x0 2 x3) fun Ω3 =>
  lt (sI Ω3 4 x0 3 x4) fun Ω4 =>
  rV Ω4
theorem mt_X6_init {G : zo_G} {J : zo_O → Prop} (hJ : zo_JC J) (hCon : ∀ Ω, J Ω → zo_Con Ω) (N : Nat) (x0 : Nat) (x1 : Int32) (x2 : Int32) (x3 : Int32) (x4 : Int32) (Ω : zo_O) (res : zo_R) (h : fn_X6_init N x0 x1 x2 x3 x4 Ω = some res) : zo_MT G J yX6_init cX6_init 5 (Option.none : Option Jvm.ClassFile.FieldType) 2 [vr 4 x0, vi x1, vi x2, vi x3, vi x4] Ω res := by
  refine zo_enter (by decide) rfl (Nat.le_of_ble_eq_true rfl) (fun Y hY eJ hr hmn => ?_)
  subst eJ
  have hmn := hmn rfl
  show TW Y res Ω 0 [(0, vr 4 x0), (1, vi x1), (2, vi x2), (3, vi x3), (4, vi x4)] []
  unfold fn_X6_init at h
  refine zo_aload_n hY dX6_init_0 rfl 0 rfl ?_
  refine zo_iload_n hY dX6_init_1 rfl 1 rfl ?_
  refine zo_callI hY (fun q hq => mt_X3_init_4 hJ hCon N x0 x1 Ω q hq) (by decide) (by decide) cn_X3_init rfl rfl q425 q255 q83 q256 (Nat.le_of_ble_eq_true rfl) dX6_init_2 rfl h (cv_k (fun Ω1 res h => ?_))
  refine zo_aload_n hY dX6_init_5 rfl 0 rfl ?_
  refine zo_iload_n hY dX6_init_6 rfl 2 rfl ?_
  refine zo_putI hY hJ LX6_7_4 rfl (Or.inr ⟨rfl, hmn, rfl, _, q426, Or.inl rfl⟩) dX6_init_7 h (fun Ω2 h => ?_)
  refine zo_aload_n hY dX6_init_10 rfl 0 rfl ?_
  refine zo_iload_n hY dX6_init_11 rfl 3 rfl ?_
  refine zo_putI hY hJ LX6_13_4 rfl (Or.inr ⟨rfl, hmn, rfl, _, q428, Or.inl rfl⟩) dX6_init_12 h (fun Ω3 h => ?_)
  refine zo_aload_n hY dX6_init_15 rfl 0 rfl ?_
  refine zo_iload hY dX6_init_16 4 rfl ?_
  refine zo_putI hY hJ LX6_16_4 rfl (Or.inr ⟨rfl, hmn, rfl, _, q430, Or.inl rfl⟩) dX6_init_18 h (fun Ω4 h => ?_)
  exact zo_vret hY hr dX6_init_21 h
theorem dX1_looked_0 : decode cX1_looked 0 = .ok (.aload_n 0, 1) := by decide +kernel
theorem dX1_looked_1 : decode cX1_looked 1 = .ok (.iload_n 1, 1) := by decide +kernel
theorem dX1_looked_2 : decode cX1_looked 2 = .ok (.invokevirtual 105, 3) := by decide +kernel
theorem dX1_looked_5 : decode cX1_looked 5 = .ok (.ifCond .eq 33, 3) := by decide +kernel
theorem dX1_looked_8 : decode cX1_looked 8 = .ok (.iload_n 2, 1) := by decide +kernel
theorem dX1_looked_9 : decode cX1_looked 9 = .ok (.invokestatic 108, 3) := by decide +kernel
theorem dX1_looked_12 : decode cX1_looked 12 = .ok (.ifCond .eq 26, 3) := by decide +kernel
theorem dX1_looked_15 : decode cX1_looked 15 = .ok (.iload_n 3, 1) := by decide +kernel
theorem dX1_looked_16 : decode cX1_looked 16 = .ok (.iconst 0, 1) := by decide +kernel
theorem dX1_looked_17 : decode cX1_looked 17 = .ok (.sipush 999, 3) := by decide +kernel
theorem dX1_looked_20 : decode cX1_looked 20 = .ok (.invokestatic 3, 3) := by decide +kernel
theorem dX1_looked_23 : decode cX1_looked 23 = .ok (.ifCond .eq 15, 3) := by decide +kernel
theorem dX1_looked_26 : decode cX1_looked 26 = .ok (.aload_n 0, 1) := by decide +kernel
theorem dX1_looked_27 : decode cX1_looked 27 = .ok (.getfield 23, 3) := by decide +kernel
theorem dX1_looked_30 : decode cX1_looked 30 = .ok (.invokevirtual 85, 3) := by decide +kernel
theorem dX1_looked_33 : decode cX1_looked 33 = .ok (.bipush 100, 2) := by decide +kernel
theorem dX1_looked_35 : decode cX1_looked 35 = .ok (.if_icmp .ne 5, 3) := by decide +kernel
theorem dX1_looked_38 : decode cX1_looked 38 = .ok (.iconst 0, 1) := by decide +kernel
theorem dX1_looked_39 : decode cX1_looked 39 = .ok (.ireturn, 1) := by decide +kernel
theorem dX1_looked_40 : decode cX1_looked 40 = .ok (.aload_n 0, 1) := by decide +kernel
theorem dX1_looked_41 : decode cX1_looked 41 = .ok (.getfield 23, 3) := by decide +kernel
theorem dX1_looked_44 : decode cX1_looked 44 = .ok (.new 123, 3) := by decide +kernel
theorem dX1_looked_47 : decode cX1_looked 47 = .ok (.dup, 1) := by decide +kernel
theorem dX1_looked_48 : decode cX1_looked 48 = .ok (.aload_n 0, 1) := by decide +kernel
theorem dX1_looked_49 : decode cX1_looked 49 = .ok (.getfield 95, 3) := by decide +kernel
theorem dX1_looked_52 : decode cX1_looked 52 = .ok (.iload_n 1, 1) := by decide +kernel
theorem dX1_looked_53 : decode cX1_looked 53 = .ok (.iload_n 2, 1) := by decide +kernel
theorem dX1_looked_54 : decode cX1_looked 54 = .ok (.iload_n 3, 1) := by decide +kernel
theorem dX1_looked_55 : decode cX1_looked 55 = .ok (.invokespecial 125, 3) := by decide +kernel
theorem dX1_looked_58 : decode cX1_looked 58 = .ok (.invokevirtual 101, 3) := by decide +kernel
theorem dX1_looked_61 : decode cX1_looked 61 = .ok (.pop, 1) := by decide +kernel
theorem dX1_looked_62 : decode cX1_looked 62 = .ok (.iconst 1, 1) := by decide +kernel
theorem dX1_looked_63 : decode cX1_looked 63 = .ok (.ireturn, 1) := by decide +kernel
def fn_X1_looked_38 (N : Nat)   (Ω : zo_O) : Option zo_R :=
  rZ 0 Ω
theorem ct_X1_looked_38 {Y : zo_Y} (hY : zo_Gd Y cX1_looked 4 RX1 7) (hJ : zo_JC (zo_J Y)) (hCon : ∀ Ω, zo_J Y Ω → zo_Con Ω) (hr : zo_rt Y (Option.some Jvm.ClassFile.FieldType.boolean)) (N : Nat)    (Ω : zo_O) (res : zo_R) (h : fn_X1_looked_38 N   Ω = some res) : TW Y res Ω 38 [] [] := by
  unfold fn_X1_looked_38 at h
  refine zo_iconst hY 0 (by decide) dX1_looked_38 ?_
  exact zo_zret hY hr dX1_looked_39 h
def fn_X1_looked (N : Nat) (x1 : Int32) (x2 : Int32) (x3 : Int32) (Ω : zo_O) : Option zo_R :=
  ci (fn_X1_isSite N x1 Ω) fun r2 Ω1 =>
  if r2 = 0 then (
    fn_X1_looked_38 N Ω1
    ) else
  ci (fn_X1_isKind N x2 Ω1) fun r5 Ω4 =>
  if r5 = 0 then (
    fn_X1_looked_38 N Ω4
    ) else
  ci (fn_X1_in N x3 0 999 Ω4) fun r8 Ω7 =>
  if r8 = 0 then (
    fn_X1_looked_38 N Ω7
    ) else
  ci (fn_J2_size N 2 Ω7) fun r11 Ω10 =>
  if r11 = 100 then (
    fn_X1_looked_38 N Ω10
    ) else
  ad 1 4 <| lt (nw Ω10 4 0) fun Ω13 =>
  cv (fn_X6_init N (gC Ω10 4) (gI Ω13 0 0 8) x1 x2 x3 Ω13) fun Ω14 =>
  ci (fn_J2_add N 2 (some (4, gC Ω10 4)) Ω14) fun r16 Ω15 =>
  rZ 1 Ω15
theorem mt_X1_looked {G : zo_G} {J : zo_O → Prop} (hJ : zo_JC J) (hCon : ∀ Ω, J Ω → zo_Con Ω) (N : Nat) (x1 : Int32) (x2 : Int32) (x3 : Int32) (Ω : zo_O) (res : zo_R) (h : fn_X1_looked N x1 x2 x3 Ω = some res) : zo_MT G J yX1_looked cX1_looked 4 (Option.some Jvm.ClassFile.FieldType.boolean) 7 [vr 0 0, vi x1, vi x2, vi x3] Ω res := by
  refine zo_enter (by decide) rfl (Nat.le_of_ble_eq_true rfl) (fun Y hY eJ hr hmn => ?_)
  subst eJ
  show TW Y res Ω 0 [(0, vr 0 0), (1, vi x1), (2, vi x2), (3, vi x3)] []
  unfold fn_X1_looked at h
  refine zo_aload_n hY dX1_looked_0 rfl 0 rfl ?_
  refine zo_iload_n hY dX1_looked_1 rfl 1 rfl ?_
  refine zo_callV hY (fun q hq => mt_X1_isSite hJ hCon N x1 Ω q hq) (by decide) (by decide) (by decide) ⟨rfl, cn_X1_isSite⟩ rfl q356 q358 qs3 q78 q359 (Nat.le_of_ble_eq_true rfl) dX1_looked_2 rfl h (ci_k (fun r2 Ω1 res h => ?_))
  refine zo_if_eq hY 38 dX1_looked_5 (by decide) h (fun c3 h => ?_) (fun c3 h => ?_)
  · refine zo_sub [] rfl ?_
    exact ct_X1_looked_38 hY hJ hCon hr N Ω1 _ h
  · refine zo_iload_n hY dX1_looked_8 rfl 2 rfl ?_
    refine zo_callS hY (fun q hq => mt_X1_isKind hJ hCon N x2 Ω1 q hq) (by decide) (by decide) cn_X1_isKind rfl q360 q361 q78 q362 (Nat.le_of_ble_eq_true rfl) dX1_looked_9 rfl h (ci_k (fun r5 Ω4 res h => ?_))
    refine zo_if_eq hY 38 dX1_looked_12 (by decide) h (fun c6 h => ?_) (fun c6 h => ?_)
    · refine zo_sub [] rfl ?_
      exact ct_X1_looked_38 hY hJ hCon hr N Ω4 _ h
    · refine zo_iload_n hY dX1_looked_15 rfl 3 rfl ?_
      refine zo_iconst hY 0 (by decide) dX1_looked_16 ?_
      refine zo_sipush hY 999 (by decide) dX1_looked_17 ?_
      refine zo_callS hY (fun q hq => mt_X1_in hJ hCon N x3 0 999 Ω4 q hq) (by decide) (by decide) cn_X1_in rfl q239 q240 q78 q241 (Nat.le_of_ble_eq_true rfl) dX1_looked_20 rfl h (ci_k (fun r8 Ω7 res h => ?_))
      refine zo_if_eq hY 38 dX1_looked_23 (by decide) h (fun c9 h => ?_) (fun c9 h => ?_)
      · refine zo_sub [] rfl ?_
        exact ct_X1_looked_38 hY hJ hCon hr N Ω7 _ h
      · refine zo_aload_n hY dX1_looked_26 rfl 0 rfl ?_
        refine zo_getC hY LX1_23_0 rfl (fun Ω q => (hCon Ω q).1 2 _ rfl) dX1_looked_27 ?_
        refine zo_callV hY (fun q hq => mt_J2_size hJ hCon N 2 Ω7 q hq) (by decide) (by decide) (by decide) ⟨rfl, cn_J2_size⟩ rfl q245 q246 q247 q81 q248 (Nat.le_of_ble_eq_true rfl) dX1_looked_30 rfl h (ci_k (fun r11 Ω10 res h => ?_))
        refine zo_bipush hY 100 (by decide) dX1_looked_33 ?_
        refine zo_icmp_ne hY 40 dX1_looked_35 (by decide) h (fun c12 h => ?_) (fun c12 h => ?_)
        · refine zo_sub [] rfl ?_
          exact ct_X1_looked_38 hY hJ hCon hr N Ω10 _ h
        · refine zo_aload_n hY dX1_looked_40 rfl 0 rfl ?_
          refine zo_getC hY LX1_23_0 rfl (fun Ω q => (hCon Ω q).1 2 _ rfl) dX1_looked_41 ?_
          refine zo_new hY hJ (k := 4) (by decide) (Or.inl rfl) rfl q420 q421 q92 dX1_looked_44 h (fun Ω13 res h => ?_)
          refine zo_dup hY dX1_looked_47 (Or.inr ⟨_, rfl⟩) ?_
          refine zo_aload_n hY dX1_looked_48 rfl 0 rfl ?_
          refine zo_getI hY LX1_95_0 rfl dX1_looked_49 ?_
          refine zo_iload_n hY dX1_looked_52 rfl 1 rfl ?_
          refine zo_iload_n hY dX1_looked_53 rfl 2 rfl ?_
          refine zo_iload_n hY dX1_looked_54 rfl 3 rfl ?_
          refine zo_callI hY (fun q hq => mt_X6_init hJ hCon N (gC Ω10 4) (gI Ω13 0 0 8) x1 x2 x3 Ω13 q hq) (by decide) (by decide) cn_X6_init rfl rfl q422 q423 q92 q424 (Nat.le_of_ble_eq_true rfl) dX1_looked_55 rfl h (cv_k (fun Ω14 res h => ?_))
          refine zo_callV hY (fun q hq => mt_J2_add hJ hCon N 2 (some (4, gC Ω10 4)) Ω14 q hq) (by decide) (by decide) (by decide) ⟨rfl, cn_J2_add⟩ rfl q284 q285 q286 q81 q287 (Nat.le_of_ble_eq_true rfl) dX1_looked_58 rfl h (ci_k (fun r16 Ω15 res h => ?_))
          refine zo_pop hY dX1_looked_61 (Or.inl rfl) ?_
          refine zo_iconst hY 1 (by decide) dX1_looked_62 ?_
          exact zo_zret hY hr dX1_looked_63 h
