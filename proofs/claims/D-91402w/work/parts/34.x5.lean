set_option maxRecDepth 100000
theorem LX17_25_16 : zo_FL RX17 25 16 0 := ⟨by decide, by decide, by decide, Or.inl ⟨_, q983, Or.inl rfl⟩⟩
theorem LX17_31_14 : zo_FL RX17 31 14 2 := ⟨by decide, by decide, by decide, Or.inl ⟨_, q911, Or.inl rfl⟩⟩
theorem LX17_25_17 : zo_FL RX17 25 17 0 := ⟨by decide, by decide, by decide, Or.inl ⟨_, q983, Or.inl rfl⟩⟩
theorem LX17_18_14 : zo_FL RX17 18 14 0 := ⟨by decide, by decide, by decide, Or.inl ⟨_, q909, Or.inl rfl⟩⟩
theorem cn_X17_stands : zo_Cn yX17_stands 1 := ⟨by decide, by decide, by decide +kernel⟩
theorem LX17_3_14 : zo_FL RX17 3 14 3 := ⟨by decide, by decide, by decide, Or.inl ⟨_, q913, Or.inl rfl⟩⟩
theorem LX17_85_0 : zo_FL RX17 85 0 10 := ⟨by decide, by decide, by decide, Or.inr ⟨_, _, q170, Or.inl rfl⟩⟩
theorem LX20_7_16 : zo_FL RX20 7 16 1 := ⟨by decide, by decide, by decide, Or.inl ⟨_, q989, Or.inr q990⟩⟩
theorem LX20_13_16 : zo_FL RX20 13 16 2 := ⟨by decide, by decide, by decide, Or.inl ⟨_, q995, Or.inr q996⟩⟩
theorem cn_X20_at : zo_Cn yX20_at 2 := ⟨by decide, by decide, by decide +kernel⟩
theorem LX17_22_14 : zo_FL RX17 22 14 1 := ⟨by decide, by decide, by decide, Or.inl ⟨_, q910, Or.inl rfl⟩⟩
theorem LX21_7_17 : zo_FL RX21 7 17 1 := ⟨by decide, by decide, by decide, Or.inl ⟨_, q991, Or.inr q992⟩⟩
theorem LX21_13_17 : zo_FL RX21 13 17 2 := ⟨by decide, by decide, by decide, Or.inl ⟨_, q997, Or.inr q998⟩⟩
theorem cn_X21_at : zo_Cn yX21_at 2 := ⟨by decide, by decide, by decide +kernel⟩
theorem cn_X17_greatest : zo_Cn yX17_greatest 1 := ⟨by decide, by decide, by decide +kernel⟩
theorem cn_X17_least : zo_Cn yX17_least 1 := ⟨by decide, by decide, by decide +kernel⟩
theorem LX17_92_16 : zo_FL RX17 92 16 0 := ⟨by decide, by decide, by decide, Or.inl ⟨_, q984, Or.inr q985⟩⟩
theorem LX17_93_17 : zo_FL RX17 93 17 1 := ⟨by decide, by decide, by decide, Or.inl ⟨_, q993, Or.inr q992⟩⟩
theorem LX17_96_17 : zo_FL RX17 96 17 2 := ⟨by decide, by decide, by decide, Or.inl ⟨_, q999, Or.inr q998⟩⟩
theorem LX17_98_17 : zo_FL RX17 98 17 0 := ⟨by decide, by decide, by decide, Or.inl ⟨_, q986, Or.inr q987⟩⟩
theorem cn_X17_parts : zo_Cn yX17_parts 3 := ⟨by decide, by decide, by decide +kernel⟩
theorem cn_X17_isBetter : zo_Cn yX17_isBetter 2 := ⟨by decide, by decide, by decide +kernel⟩
theorem dX17_stands_0 : decode cX17_stands 0 = .ok (.aload_n 1, 1) := by decide +kernel
theorem dX17_stands_1 : decode cX17_stands 1 = .ok (.getfield 25, 3) := by decide +kernel
theorem dX17_stands_4 : decode cX17_stands 4 = .ok (.iconst (-1), 1) := by decide +kernel
theorem dX17_stands_5 : decode cX17_stands 5 = .ok (.if_icmp .eq 17, 3) := by decide +kernel
theorem dX17_stands_8 : decode cX17_stands 8 = .ok (.aload_n 0, 1) := by decide +kernel
theorem dX17_stands_9 : decode cX17_stands 9 = .ok (.getfield 31, 3) := by decide +kernel
theorem dX17_stands_12 : decode cX17_stands 12 = .ok (.aload_n 1, 1) := by decide +kernel
theorem dX17_stands_13 : decode cX17_stands 13 = .ok (.getfield 25, 3) := by decide +kernel
theorem dX17_stands_16 : decode cX17_stands 16 = .ok (.ishr, 1) := by decide +kernel
theorem dX17_stands_17 : decode cX17_stands 17 = .ok (.iconst 1, 1) := by decide +kernel
theorem dX17_stands_18 : decode cX17_stands 18 = .ok (.iand, 1) := by decide +kernel
theorem dX17_stands_19 : decode cX17_stands 19 = .ok (.ifCond .ne 7, 3) := by decide +kernel
theorem dX17_stands_22 : decode cX17_stands 22 = .ok (.iconst 1, 1) := by decide +kernel
theorem dX17_stands_23 : decode cX17_stands 23 = .ok (.goto 4, 3) := by decide +kernel
theorem dX17_stands_26 : decode cX17_stands 26 = .ok (.iconst 0, 1) := by decide +kernel
theorem dX17_stands_27 : decode cX17_stands 27 = .ok (.ireturn, 1) := by decide +kernel
def fn_X17_stands_16_27 (N : Nat)  (s0 : Int32) (Ω : zo_O) : Option zo_R :=
  rZ s0 Ω
theorem ct_X17_stands_16_27 {Y : zo_Y} (hY : zo_Gd Y cX17_stands 2 RX17 0) (hJ : zo_JC (zo_J Y)) (hCon : ∀ Ω, zo_J Y Ω → zo_Con Ω) (hr : zo_rt Y (Option.some Jvm.ClassFile.FieldType.boolean)) (N : Nat)   (s0 : Int32) (Ω : zo_O) (res : zo_R) (h : fn_X17_stands_16_27 N  s0 Ω = some res) : TW Y res Ω 27 [] [vi s0] := by
  unfold fn_X17_stands_16_27 at h
  exact zo_zret hY hr dX17_stands_27 h
def fn_X17_stands_16_22 (N : Nat)   (Ω : zo_O) : Option zo_R :=
  fn_X17_stands_16_27 N 1 Ω
theorem ct_X17_stands_16_22 {Y : zo_Y} (hY : zo_Gd Y cX17_stands 2 RX17 0) (hJ : zo_JC (zo_J Y)) (hCon : ∀ Ω, zo_J Y Ω → zo_Con Ω) (hr : zo_rt Y (Option.some Jvm.ClassFile.FieldType.boolean)) (N : Nat)    (Ω : zo_O) (res : zo_R) (h : fn_X17_stands_16_22 N   Ω = some res) : TW Y res Ω 22 [] [] := by
  unfold fn_X17_stands_16_22 at h
  refine zo_iconst hY 1 (by decide) dX17_stands_22 ?_
  refine zo_goto hY 27 dX17_stands_23 (by decide) ?_
  exact ct_X17_stands_16_27 hY hJ hCon hr N 1 Ω _ h
def fn_X17_stands_16 (N : Nat) (x0 : Nat) (x1 : Nat) (Ω : zo_O) : Option zo_R :=
  if gI Ω 16 x1 0 = (-1) then (
    fn_X17_stands_16_22 N Ω
    ) else
  if ((gI Ω 14 x0 2) >>> ((gI Ω 16 x1 0 : Int32) &&& 31)) &&& 1 = 0 then (
    fn_X17_stands_16_22 N Ω
    ) else
  fn_X17_stands_16_27 N 0 Ω
theorem mt_X17_stands_16 {G : zo_G} {J : zo_O → Prop} (hJ : zo_JC J) (hCon : ∀ Ω, J Ω → zo_Con Ω) (N : Nat) (x0 : Nat) (x1 : Nat) (Ω : zo_O) (res : zo_R) (h : fn_X17_stands_16 N x0 x1 Ω = some res) : zo_MT G J yX17_stands cX17_stands 2 (Option.some Jvm.ClassFile.FieldType.boolean) 0 [vr 14 x0, vr 16 x1] Ω res := by
  refine zo_enter (by decide) rfl (Nat.le_of_ble_eq_true rfl) (fun Y hY eJ hr hmn => ?_)
  subst eJ
  show TW Y res Ω 0 [(0, vr 14 x0), (1, vr 16 x1)] []
  unfold fn_X17_stands_16 at h
  refine zo_aload_n hY dX17_stands_0 rfl 1 rfl ?_
  refine zo_getI hY LX17_25_16 rfl dX17_stands_1 ?_
  refine zo_iconst hY (-1) (by decide) dX17_stands_4 ?_
  refine zo_icmp_eq hY 22 dX17_stands_5 (by decide) h (fun c1 h => ?_) (fun c1 h => ?_)
  · refine zo_sub [] rfl ?_
    exact ct_X17_stands_16_22 hY hJ hCon hr N Ω _ h
  · refine zo_aload_n hY dX17_stands_8 rfl 0 rfl ?_
    refine zo_getI hY LX17_31_14 rfl dX17_stands_9 ?_
    refine zo_aload_n hY dX17_stands_12 rfl 1 rfl ?_
    refine zo_getI hY LX17_25_16 rfl dX17_stands_13 ?_
    refine zo_ishr hY dX17_stands_16 ?_
    refine zo_iconst hY 1 (by decide) dX17_stands_17 ?_
    refine zo_iand hY dX17_stands_18 ?_
    refine zo_if_ne hY 26 dX17_stands_19 (by decide) h (fun c2 h => ?_) (fun c2 h => ?_)
    · refine zo_sub [] rfl ?_
      exact ct_X17_stands_16_22 hY hJ hCon hr N Ω _ h
    · refine zo_iconst hY 0 (by decide) dX17_stands_26 ?_
      refine zo_sub [] rfl ?_
      exact ct_X17_stands_16_27 hY hJ hCon hr N 0 Ω _ h
def fn_X17_stands_17_27 (N : Nat)  (s0 : Int32) (Ω : zo_O) : Option zo_R :=
  rZ s0 Ω
theorem ct_X17_stands_17_27 {Y : zo_Y} (hY : zo_Gd Y cX17_stands 2 RX17 0) (hJ : zo_JC (zo_J Y)) (hCon : ∀ Ω, zo_J Y Ω → zo_Con Ω) (hr : zo_rt Y (Option.some Jvm.ClassFile.FieldType.boolean)) (N : Nat)   (s0 : Int32) (Ω : zo_O) (res : zo_R) (h : fn_X17_stands_17_27 N  s0 Ω = some res) : TW Y res Ω 27 [] [vi s0] := by
  unfold fn_X17_stands_17_27 at h
  exact zo_zret hY hr dX17_stands_27 h
def fn_X17_stands_17_22 (N : Nat)   (Ω : zo_O) : Option zo_R :=
  fn_X17_stands_17_27 N 1 Ω
theorem ct_X17_stands_17_22 {Y : zo_Y} (hY : zo_Gd Y cX17_stands 2 RX17 0) (hJ : zo_JC (zo_J Y)) (hCon : ∀ Ω, zo_J Y Ω → zo_Con Ω) (hr : zo_rt Y (Option.some Jvm.ClassFile.FieldType.boolean)) (N : Nat)    (Ω : zo_O) (res : zo_R) (h : fn_X17_stands_17_22 N   Ω = some res) : TW Y res Ω 22 [] [] := by
  unfold fn_X17_stands_17_22 at h
  refine zo_iconst hY 1 (by decide) dX17_stands_22 ?_
  refine zo_goto hY 27 dX17_stands_23 (by decide) ?_
  exact ct_X17_stands_17_27 hY hJ hCon hr N 1 Ω _ h
def fn_X17_stands_17 (N : Nat) (x0 : Nat) (x1 : Nat) (Ω : zo_O) : Option zo_R :=
  if gI Ω 17 x1 0 = (-1) then (
    fn_X17_stands_17_22 N Ω
    ) else
  if ((gI Ω 14 x0 2) >>> ((gI Ω 17 x1 0 : Int32) &&& 31)) &&& 1 = 0 then (
    fn_X17_stands_17_22 N Ω
    ) else
  fn_X17_stands_17_27 N 0 Ω
theorem mt_X17_stands_17 {G : zo_G} {J : zo_O → Prop} (hJ : zo_JC J) (hCon : ∀ Ω, J Ω → zo_Con Ω) (N : Nat) (x0 : Nat) (x1 : Nat) (Ω : zo_O) (res : zo_R) (h : fn_X17_stands_17 N x0 x1 Ω = some res) : zo_MT G J yX17_stands cX17_stands 2 (Option.some Jvm.ClassFile.FieldType.boolean) 0 [vr 14 x0, vr 17 x1] Ω res := by
  refine zo_enter (by decide) rfl (Nat.le_of_ble_eq_true rfl) (fun Y hY eJ hr hmn => ?_)
  subst eJ
  show TW Y res Ω 0 [(0, vr 14 x0), (1, vr 17 x1)] []
  unfold fn_X17_stands_17 at h
  refine zo_aload_n hY dX17_stands_0 rfl 1 rfl ?_
  refine zo_getI hY LX17_25_17 rfl dX17_stands_1 ?_
  refine zo_iconst hY (-1) (by decide) dX17_stands_4 ?_
  refine zo_icmp_eq hY 22 dX17_stands_5 (by decide) h (fun c1 h => ?_) (fun c1 h => ?_)
  · refine zo_sub [] rfl ?_
    exact ct_X17_stands_17_22 hY hJ hCon hr N Ω _ h
  · refine zo_aload_n hY dX17_stands_8 rfl 0 rfl ?_
    refine zo_getI hY LX17_31_14 rfl dX17_stands_9 ?_
    refine zo_aload_n hY dX17_stands_12 rfl 1 rfl ?_
    refine zo_getI hY LX17_25_17 rfl dX17_stands_13 ?_
    refine zo_ishr hY dX17_stands_16 ?_
    refine zo_iconst hY 1 (by decide) dX17_stands_17 ?_
    refine zo_iand hY dX17_stands_18 ?_
    refine zo_if_ne hY 26 dX17_stands_19 (by decide) h (fun c2 h => ?_) (fun c2 h => ?_)
    · refine zo_sub [] rfl ?_
      exact ct_X17_stands_17_22 hY hJ hCon hr N Ω _ h
    · refine zo_iconst hY 0 (by decide) dX17_stands_26 ?_
      refine zo_sub [] rfl ?_
      exact ct_X17_stands_17_27 hY hJ hCon hr N 0 Ω _ h
theorem dX20_at_0 : decode cX20_at 0 = .ok (.iload_n 1, 1) := by decide +kernel
theorem dX20_at_1 : decode cX20_at 1 = .ok (.aload_n 0, 1) := by decide +kernel
theorem dX20_at_2 : decode cX20_at 2 = .ok (.getfield 7, 3) := by decide +kernel
theorem dX20_at_5 : decode cX20_at 5 = .ok (.if_icmp .lt 10, 3) := by decide +kernel
theorem dX20_at_8 : decode cX20_at 8 = .ok (.aload_n 0, 1) := by decide +kernel
theorem dX20_at_9 : decode cX20_at 9 = .ok (.getfield 13, 3) := by decide +kernel
theorem dX20_at_12 : decode cX20_at 12 = .ok (.goto 16, 3) := by decide +kernel
theorem dX20_at_15 : decode cX20_at 15 = .ok (.aload_n 0, 1) := by decide +kernel
theorem dX20_at_16 : decode cX20_at 16 = .ok (.getfield 13, 3) := by decide +kernel
theorem dX20_at_19 : decode cX20_at 19 = .ok (.iload_n 2, 1) := by decide +kernel
theorem dX20_at_20 : decode cX20_at 20 = .ok (.aload_n 0, 1) := by decide +kernel
theorem dX20_at_21 : decode cX20_at 21 = .ok (.getfield 7, 3) := by decide +kernel
theorem dX20_at_24 : decode cX20_at 24 = .ok (.iload_n 1, 1) := by decide +kernel
theorem dX20_at_25 : decode cX20_at 25 = .ok (.isub, 1) := by decide +kernel
theorem dX20_at_26 : decode cX20_at 26 = .ok (.imul, 1) := by decide +kernel
theorem dX20_at_27 : decode cX20_at 27 = .ok (.isub, 1) := by decide +kernel
theorem dX20_at_28 : decode cX20_at 28 = .ok (.ireturn, 1) := by decide +kernel
def fn_X20_at_28 (N : Nat)  (s0 : Int32) (Ω : zo_O) : Option zo_R :=
  rI s0 Ω
theorem ct_X20_at_28 {Y : zo_Y} (hY : zo_Gd Y cX20_at 3 RX20 0) (hJ : zo_JC (zo_J Y)) (hCon : ∀ Ω, zo_J Y Ω → zo_Con Ω) (hr : zo_rt Y (Option.some Jvm.ClassFile.FieldType.int)) (N : Nat)   (s0 : Int32) (Ω : zo_O) (res : zo_R) (h : fn_X20_at_28 N  s0 Ω = some res) : TW Y res Ω 28 [] [vi s0] := by
  unfold fn_X20_at_28 at h
  exact zo_iret hY hr dX20_at_28 h
def fn_X20_at (N : Nat) (x0 : Nat) (x1 : Int32) (x2 : Int32) (Ω : zo_O) : Option zo_R :=
  if x1 < gI Ω 16 x0 1 then (
    fn_X20_at_28 N ((gI Ω 16 x0 2) - (x2 * ((gI Ω 16 x0 1) - x1))) Ω
    ) else
  fn_X20_at_28 N (gI Ω 16 x0 2) Ω
theorem mt_X20_at {G : zo_G} {J : zo_O → Prop} (hJ : zo_JC J) (hCon : ∀ Ω, J Ω → zo_Con Ω) (N : Nat) (x0 : Nat) (x1 : Int32) (x2 : Int32) (Ω : zo_O) (res : zo_R) (h : fn_X20_at N x0 x1 x2 Ω = some res) : zo_MT G J yX20_at cX20_at 3 (Option.some Jvm.ClassFile.FieldType.int) 0 [vr 16 x0, vi x1, vi x2] Ω res := by
  refine zo_enter (by decide) rfl (Nat.le_of_ble_eq_true rfl) (fun Y hY eJ hr hmn => ?_)
  subst eJ
  show TW Y res Ω 0 [(0, vr 16 x0), (1, vi x1), (2, vi x2)] []
  unfold fn_X20_at at h
  refine zo_iload_n hY dX20_at_0 rfl 1 rfl ?_
  refine zo_aload_n hY dX20_at_1 rfl 0 rfl ?_
  refine zo_getI hY LX20_7_16 rfl dX20_at_2 ?_
  refine zo_icmp_lt hY 15 dX20_at_5 (by decide) h (fun c1 h => ?_) (fun c1 h => ?_)
  · refine zo_aload_n hY dX20_at_15 rfl 0 rfl ?_
    refine zo_getI hY LX20_13_16 rfl dX20_at_16 ?_
    refine zo_iload_n hY dX20_at_19 rfl 2 rfl ?_
    refine zo_aload_n hY dX20_at_20 rfl 0 rfl ?_
    refine zo_getI hY LX20_7_16 rfl dX20_at_21 ?_
    refine zo_iload_n hY dX20_at_24 rfl 1 rfl ?_
    refine zo_isub hY dX20_at_25 ?_
    refine zo_imul hY dX20_at_26 ?_
    refine zo_isub hY dX20_at_27 ?_
    refine zo_sub [] rfl ?_
    exact ct_X20_at_28 hY hJ hCon hr N ((gI Ω 16 x0 2) - (x2 * ((gI Ω 16 x0 1) - x1))) Ω _ h
  · refine zo_aload_n hY dX20_at_8 rfl 0 rfl ?_
    refine zo_getI hY LX20_13_16 rfl dX20_at_9 ?_
    refine zo_goto hY 28 dX20_at_12 (by decide) ?_
    refine zo_sub [] rfl ?_
    exact ct_X20_at_28 hY hJ hCon hr N (gI Ω 16 x0 2) Ω _ h
theorem dX17_least_0 : decode cX17_least 0 = .ok (.iconst 0, 1) := by decide +kernel
theorem dX17_least_1 : decode cX17_least 1 = .ok (.istore_n 2, 1) := by decide +kernel
theorem dX17_least_2 : decode cX17_least 2 = .ok (.iconst 0, 1) := by decide +kernel
theorem dX17_least_3 : decode cX17_least 3 = .ok (.istore_n 3, 1) := by decide +kernel
theorem dX17_least_4 : decode cX17_least 4 = .ok (.iload_n 3, 1) := by decide +kernel
theorem dX17_least_5 : decode cX17_least 5 = .ok (.aload_n 0, 1) := by decide +kernel
theorem dX17_least_6 : decode cX17_least 6 = .ok (.getfield 18, 3) := by decide +kernel
theorem dX17_least_9 : decode cX17_least 9 = .ok (.invokevirtual 77, 3) := by decide +kernel
theorem dX17_least_12 : decode cX17_least 12 = .ok (.if_icmp .ge 54, 3) := by decide +kernel
theorem dX17_least_15 : decode cX17_least 15 = .ok (.aload_n 0, 1) := by decide +kernel
theorem dX17_least_16 : decode cX17_least 16 = .ok (.aload_n 0, 1) := by decide +kernel
theorem dX17_least_17 : decode cX17_least 17 = .ok (.getfield 18, 3) := by decide +kernel
theorem dX17_least_20 : decode cX17_least 20 = .ok (.iload_n 3, 1) := by decide +kernel
theorem dX17_least_21 : decode cX17_least 21 = .ok (.invokevirtual 81, 3) := by decide +kernel
theorem dX17_least_24 : decode cX17_least 24 = .ok (.checkcast 26, 3) := by decide +kernel
theorem dX17_least_27 : decode cX17_least 27 = .ok (.invokevirtual 113, 3) := by decide +kernel
theorem dX17_least_30 : decode cX17_least 30 = .ok (.ifCond .eq 30, 3) := by decide +kernel
theorem dX17_least_33 : decode cX17_least 33 = .ok (.iload_n 2, 1) := by decide +kernel
theorem dX17_least_34 : decode cX17_least 34 = .ok (.aload_n 0, 1) := by decide +kernel
theorem dX17_least_35 : decode cX17_least 35 = .ok (.getfield 18, 3) := by decide +kernel
theorem dX17_least_38 : decode cX17_least 38 = .ok (.iload_n 3, 1) := by decide +kernel
theorem dX17_least_39 : decode cX17_least 39 = .ok (.invokevirtual 81, 3) := by decide +kernel
theorem dX17_least_42 : decode cX17_least 42 = .ok (.checkcast 48, 3) := by decide +kernel
theorem dX17_least_45 : decode cX17_least 45 = .ok (.iload_n 1, 1) := by decide +kernel
theorem dX17_least_46 : decode cX17_least 46 = .ok (.aload_n 0, 1) := by decide +kernel
theorem dX17_least_47 : decode cX17_least 47 = .ok (.getfield 3, 3) := by decide +kernel
theorem dX17_least_50 : decode cX17_least 50 = .ok (.getfield 85, 3) := by decide +kernel
theorem dX17_least_53 : decode cX17_least 53 = .ok (.invokevirtual 88, 3) := by decide +kernel
theorem dX17_least_56 : decode cX17_least 56 = .ok (.invokestatic 117, 3) := by decide +kernel
theorem dX17_least_59 : decode cX17_least 59 = .ok (.istore_n 2, 1) := by decide +kernel
theorem dX17_least_60 : decode cX17_least 60 = .ok (.iinc 3 1, 3) := by decide +kernel
theorem dX17_least_63 : decode cX17_least 63 = .ok (.goto (-59), 3) := by decide +kernel
theorem dX17_least_66 : decode cX17_least 66 = .ok (.iload_n 2, 1) := by decide +kernel
theorem dX17_least_67 : decode cX17_least 67 = .ok (.ireturn, 1) := by decide +kernel
def fn_X17_least_60 (N : Nat) (K4 : Nat → Int32 → Int32 → Int32 → zo_O → Option zo_R) (x0 : Nat) (x1 : Int32) (x2 : Int32) (x3 : Int32) (Ω : zo_O) : Option zo_R :=
  K4 x0 x1 x2 (x3 + 1) Ω
theorem ct_X17_least_60 {Y : zo_Y} (hY : zo_Gd Y cX17_least 4 RX17 3) (hJ : zo_JC (zo_J Y)) (hCon : ∀ Ω, zo_J Y Ω → zo_Con Ω) (hr : zo_rt Y (Option.some Jvm.ClassFile.FieldType.int)) (N : Nat) (K4 : Nat → Int32 → Int32 → Int32 → zo_O → Option zo_R) (hK4 : ∀ (x0 : Nat) (x1 : Int32) (x2 : Int32) (x3 : Int32) (Ω : zo_O) (res : zo_R), K4 x0 x1 x2 x3 Ω = some res → TW Y res Ω 4 [(0, vr 14 x0), (1, vi x1), (2, vi x2), (3, vi x3)] []) (x0 : Nat) (x1 : Int32) (x2 : Int32) (x3 : Int32) (Ω : zo_O) (res : zo_R) (h : fn_X17_least_60 N K4 x0 x1 x2 x3 Ω = some res) : TW Y res Ω 60 [(0, vr 14 x0), (1, vi x1), (2, vi x2), (3, vi x3)] [] := by
  unfold fn_X17_least_60 at h
  refine zo_iinc hY 1 dX17_least_60 (by decide) (by decide) 3 rfl rfl (ls' := [(3, vi (x3 + 1)), (0, vr 14 x0), (1, vi x1), (2, vi x2)]) rfl ?_
  refine zo_goto hY 4 dX17_least_63 (by decide) ?_
  refine zo_sub [1, 2, 3, 0] rfl ?_
  exact hK4 x0 x1 x2 (x3 + 1) Ω _ h
def bd_X17_least_4 (N : Nat)  (K4 : Nat → Int32 → Int32 → Int32 → zo_O → Option zo_R) (x0 : Nat) (x1 : Int32) (x2 : Int32) (x3 : Int32) (Ω : zo_O) : Option zo_R :=
  bk (gR Ω 14 x0 0) 20 fun j1 =>
  ci (fn_J2_size N j1 Ω) fun r3 Ω2 =>
  if r3 ≤ x3 then (
    rI x2 Ω2
    ) else
  bk (gR Ω2 14 x0 0) 20 fun j5 =>
  cr (fn_J2_get N j5 x3 Ω2) fun r7 Ω6 =>
  bk r7 16 fun j8 =>
  ci (fn_X17_stands_16 N x0 j8 Ω6) fun r10 Ω9 =>
  if r10 = 0 then (
    fn_X17_least_60 N K4 x0 x1 x2 x3 Ω9
    ) else
  bk (gR Ω9 14 x0 0) 20 fun j12 =>
  cr (fn_J2_get N j12 x3 Ω9) fun r14 Ω13 =>
  bk r14 16 fun j15 =>
  gd (gR Ω13 14 x0 3 = some (0, 0)) <|
  ci (fn_X20_at N j15 x1 (gI Ω13 0 0 10) Ω13) fun r17 Ω16 =>
  li (mx x2 r17) fun y18 =>
  fn_X17_least_60 N K4 x0 x1 y18 x3 Ω16
theorem cb_X17_least_4 {Y : zo_Y} (hY : zo_Gd Y cX17_least 4 RX17 3) (hJ : zo_JC (zo_J Y)) (hCon : ∀ Ω, zo_J Y Ω → zo_Con Ω) (hr : zo_rt Y (Option.some Jvm.ClassFile.FieldType.int)) (N : Nat)  (K4 : Nat → Int32 → Int32 → Int32 → zo_O → Option zo_R)  (hK4 : ∀ (x0 : Nat) (x1 : Int32) (x2 : Int32) (x3 : Int32) (Ω : zo_O) (res : zo_R), K4 x0 x1 x2 x3 Ω = some res → TW Y res Ω 4 [(0, vr 14 x0), (1, vi x1), (2, vi x2), (3, vi x3)] []) (x0 : Nat) (x1 : Int32) (x2 : Int32) (x3 : Int32) (Ω : zo_O) (res : zo_R) (h : bd_X17_least_4 N  K4 x0 x1 x2 x3 Ω = some res) : TW Y res Ω 4 [(0, vr 14 x0), (1, vi x1), (2, vi x2), (3, vi x3)] [] := by
  unfold bd_X17_least_4 at h
  refine zo_iload_n hY dX17_least_4 rfl 3 rfl ?_
  refine zo_aload_n hY dX17_least_5 rfl 0 rfl ?_
  refine zo_getK hY LX17_18_14 rfl dX17_least_6 h (fun j1 h => ?_)
  refine zo_callV hY (fun q hq => mt_J2_size hJ hCon N j1 Ω q hq) (by decide) (by decide) (by decide) ⟨rfl, cn_J2_size⟩ rfl q1029 q246 q247 q81 q248 (Nat.le_of_ble_eq_true rfl) dX17_least_9 rfl h (ci_k (fun r3 Ω2 res h => ?_))
  refine zo_icmp_ge hY 66 dX17_least_12 (by decide) h (fun c4 h => ?_) (fun c4 h => ?_)
  · refine zo_iload_n hY dX17_least_66 rfl 2 rfl ?_
    exact zo_iret hY hr dX17_least_67 h
  · refine zo_aload_n hY dX17_least_15 rfl 0 rfl ?_
    refine zo_aload_n hY dX17_least_16 rfl 0 rfl ?_
    refine zo_getK hY LX17_18_14 rfl dX17_least_17 h (fun j5 h => ?_)
    refine zo_iload_n hY dX17_least_20 rfl 3 rfl ?_
    refine zo_callV hY (fun q hq => mt_J2_get hJ hCon N j5 x3 Ω2 q hq) (by decide) (by decide) (by decide) ⟨rfl, cn_J2_get⟩ rfl q1030 q369 q370 q81 q371 (Nat.le_of_ble_eq_true rfl) dX17_least_21 rfl h (cr_k (fun r7 Ω6 res h => ?_))
    refine zo_castK hY (K := 16) (by decide) q1057 (Or.inr q1826) dX17_least_24 h (fun j8 h => ?_)
    refine zo_callV hY (fun q hq => mt_X17_stands_16 hJ hCon N x0 j8 Ω6 q hq) (by decide) (by decide) (by decide) ⟨rfl, cn_X17_stands⟩ rfl q1058 q1060 qs30 q110 q1061 (Nat.le_of_ble_eq_true rfl) dX17_least_27 rfl h (ci_k (fun r10 Ω9 res h => ?_))
    refine zo_if_eq hY 60 dX17_least_30 (by decide) h (fun c11 h => ?_) (fun c11 h => ?_)
    · exact ct_X17_least_60 hY hJ hCon hr N K4 hK4 x0 x1 x2 x3 Ω9 _ h
    · refine zo_iload_n hY dX17_least_33 rfl 2 rfl ?_
      refine zo_aload_n hY dX17_least_34 rfl 0 rfl ?_
      refine zo_getK hY LX17_18_14 rfl dX17_least_35 h (fun j12 h => ?_)
      refine zo_iload_n hY dX17_least_38 rfl 3 rfl ?_
      refine zo_callV hY (fun q hq => mt_J2_get hJ hCon N j12 x3 Ω9 q hq) (by decide) (by decide) (by decide) ⟨rfl, cn_J2_get⟩ rfl q1030 q369 q370 q81 q371 (Nat.le_of_ble_eq_true rfl) dX17_least_39 rfl h (cr_k (fun r14 Ω13 res h => ?_))
      refine zo_castK hY (by decide) q973 (Or.inl rfl) dX17_least_42 h (fun j15 h => ?_)
      refine zo_iload_n hY dX17_least_45 rfl 1 rfl ?_
      refine zo_aload_n hY dX17_least_46 rfl 0 rfl ?_
      refine zo_getG hY LX17_3_14 rfl dX17_least_47 h (fun h => ?_)
      refine zo_getI hY LX17_85_0 rfl dX17_least_50 ?_
      refine zo_callV hY (fun q hq => mt_X20_at hJ hCon N j15 x1 (gI Ω13 0 0 10) Ω13 q hq) (by decide) (by decide) (by decide) ⟨rfl, cn_X20_at⟩ rfl q1031 q1032 q1033 q113 q1034 (Nat.le_of_ble_eq_true rfl) dX17_least_53 rfl h (ci_k (fun r17 Ω16 res h => ?_))
      refine zo_mmax hY (by decide) q1062 (Nat.le_of_ble_eq_true rfl) dX17_least_56 ?_
      refine zo_nmi h (fun y18 h => ?_)
      refine zo_istore_n hY dX17_least_59 rfl (by decide) rfl (ls' := [(2, vi y18), (0, vr 14 x0), (1, vi x1), (3, vi x3)]) rfl ?_
      refine zo_sub [1, 2, 0, 3] rfl ?_
      exact ct_X17_least_60 hY hJ hCon hr N K4 hK4 x0 x1 y18 x3 Ω16 _ h
def fn_X17_least_4 (N : Nat)  : Nat → Nat → Int32 → Int32 → Int32 → zo_O → Option zo_R
  | 0, _, _, _, _, _ => none
  | n + 1, x0, x1, x2, x3, Ω => bd_X17_least_4 N  (fn_X17_least_4 N  n) x0 x1 x2 x3 Ω
theorem ct_X17_least_4 {Y : zo_Y} (hY : zo_Gd Y cX17_least 4 RX17 3) (hJ : zo_JC (zo_J Y)) (hCon : ∀ Ω, zo_J Y Ω → zo_Con Ω) (hr : zo_rt Y (Option.some Jvm.ClassFile.FieldType.int)) (N : Nat)   : ∀ (n : Nat) (x0 : Nat) (x1 : Int32) (x2 : Int32) (x3 : Int32) (Ω : zo_O) (res : zo_R), fn_X17_least_4 N  n x0 x1 x2 x3 Ω = some res → TW Y res Ω 4 [(0, vr 14 x0), (1, vi x1), (2, vi x2), (3, vi x3)] [] := by
  intro n
  induction n with
  | zero => intro x0 x1 x2 x3 Ω res h; exact nomatch (show (none : Option zo_R) = some res from h)
  | succ n ih => intro x0 x1 x2 x3 Ω res h; exact cb_X17_least_4 hY hJ hCon hr N  (fn_X17_least_4 N  n)  ih x0 x1 x2 x3 Ω res h
def fn_X17_least (N : Nat) (x0 : Nat) (x1 : Int32) (Ω : zo_O) : Option zo_R :=
  fn_X17_least_4 N N x0 x1 0 0 Ω
theorem mt_X17_least {G : zo_G} {J : zo_O → Prop} (hJ : zo_JC J) (hCon : ∀ Ω, J Ω → zo_Con Ω) (N : Nat) (x0 : Nat) (x1 : Int32) (Ω : zo_O) (res : zo_R) (h : fn_X17_least N x0 x1 Ω = some res) : zo_MT G J yX17_least cX17_least 4 (Option.some Jvm.ClassFile.FieldType.int) 3 [vr 14 x0, vi x1] Ω res := by
  refine zo_enter (by decide) rfl (Nat.le_of_ble_eq_true rfl) (fun Y hY eJ hr hmn => ?_)
  subst eJ
  show TW Y res Ω 0 [(0, vr 14 x0), (1, vi x1)] []
  unfold fn_X17_least at h
  refine zo_iconst hY 0 (by decide) dX17_least_0 ?_
  refine zo_istore_n hY dX17_least_1 rfl (by decide) rfl (ls' := [(2, vi 0), (0, vr 14 x0), (1, vi x1)]) rfl ?_
  refine zo_iconst hY 0 (by decide) dX17_least_2 ?_
  refine zo_istore_n hY dX17_least_3 rfl (by decide) rfl (ls' := [(3, vi 0), (2, vi 0), (0, vr 14 x0), (1, vi x1)]) rfl ?_
  refine zo_sub [2, 3, 1, 0] rfl ?_
  exact ct_X17_least_4 hY hJ hCon hr N N x0 x1 0 0 Ω _ h
theorem dX21_at_0 : decode cX21_at 0 = .ok (.iload_n 1, 1) := by decide +kernel
theorem dX21_at_1 : decode cX21_at 1 = .ok (.aload_n 0, 1) := by decide +kernel
theorem dX21_at_2 : decode cX21_at 2 = .ok (.getfield 7, 3) := by decide +kernel
theorem dX21_at_5 : decode cX21_at 5 = .ok (.if_icmp .gt 10, 3) := by decide +kernel
theorem dX21_at_8 : decode cX21_at 8 = .ok (.aload_n 0, 1) := by decide +kernel
theorem dX21_at_9 : decode cX21_at 9 = .ok (.getfield 13, 3) := by decide +kernel
theorem dX21_at_12 : decode cX21_at 12 = .ok (.goto 16, 3) := by decide +kernel
theorem dX21_at_15 : decode cX21_at 15 = .ok (.aload_n 0, 1) := by decide +kernel
theorem dX21_at_16 : decode cX21_at 16 = .ok (.getfield 13, 3) := by decide +kernel
theorem dX21_at_19 : decode cX21_at 19 = .ok (.iload_n 2, 1) := by decide +kernel
theorem dX21_at_20 : decode cX21_at 20 = .ok (.iload_n 1, 1) := by decide +kernel
theorem dX21_at_21 : decode cX21_at 21 = .ok (.aload_n 0, 1) := by decide +kernel
theorem dX21_at_22 : decode cX21_at 22 = .ok (.getfield 7, 3) := by decide +kernel
theorem dX21_at_25 : decode cX21_at 25 = .ok (.isub, 1) := by decide +kernel
theorem dX21_at_26 : decode cX21_at 26 = .ok (.imul, 1) := by decide +kernel
theorem dX21_at_27 : decode cX21_at 27 = .ok (.iadd, 1) := by decide +kernel
theorem dX21_at_28 : decode cX21_at 28 = .ok (.ireturn, 1) := by decide +kernel
def fn_X21_at_28 (N : Nat)  (s0 : Int32) (Ω : zo_O) : Option zo_R :=
  rI s0 Ω
theorem ct_X21_at_28 {Y : zo_Y} (hY : zo_Gd Y cX21_at 3 RX21 0) (hJ : zo_JC (zo_J Y)) (hCon : ∀ Ω, zo_J Y Ω → zo_Con Ω) (hr : zo_rt Y (Option.some Jvm.ClassFile.FieldType.int)) (N : Nat)   (s0 : Int32) (Ω : zo_O) (res : zo_R) (h : fn_X21_at_28 N  s0 Ω = some res) : TW Y res Ω 28 [] [vi s0] := by
  unfold fn_X21_at_28 at h
  exact zo_iret hY hr dX21_at_28 h
def fn_X21_at (N : Nat) (x0 : Nat) (x1 : Int32) (x2 : Int32) (Ω : zo_O) : Option zo_R :=
  if gI Ω 17 x0 1 < x1 then (
    fn_X21_at_28 N ((gI Ω 17 x0 2) + (x2 * (x1 - (gI Ω 17 x0 1)))) Ω
    ) else
  fn_X21_at_28 N (gI Ω 17 x0 2) Ω
theorem mt_X21_at {G : zo_G} {J : zo_O → Prop} (hJ : zo_JC J) (hCon : ∀ Ω, J Ω → zo_Con Ω) (N : Nat) (x0 : Nat) (x1 : Int32) (x2 : Int32) (Ω : zo_O) (res : zo_R) (h : fn_X21_at N x0 x1 x2 Ω = some res) : zo_MT G J yX21_at cX21_at 3 (Option.some Jvm.ClassFile.FieldType.int) 0 [vr 17 x0, vi x1, vi x2] Ω res := by
  refine zo_enter (by decide) rfl (Nat.le_of_ble_eq_true rfl) (fun Y hY eJ hr hmn => ?_)
  subst eJ
  show TW Y res Ω 0 [(0, vr 17 x0), (1, vi x1), (2, vi x2)] []
  unfold fn_X21_at at h
  refine zo_iload_n hY dX21_at_0 rfl 1 rfl ?_
  refine zo_aload_n hY dX21_at_1 rfl 0 rfl ?_
  refine zo_getI hY LX21_7_17 rfl dX21_at_2 ?_
  refine zo_icmp_gt hY 15 dX21_at_5 (by decide) h (fun c1 h => ?_) (fun c1 h => ?_)
  · refine zo_aload_n hY dX21_at_15 rfl 0 rfl ?_
    refine zo_getI hY LX21_13_17 rfl dX21_at_16 ?_
    refine zo_iload_n hY dX21_at_19 rfl 2 rfl ?_
    refine zo_iload_n hY dX21_at_20 rfl 1 rfl ?_
    refine zo_aload_n hY dX21_at_21 rfl 0 rfl ?_
    refine zo_getI hY LX21_7_17 rfl dX21_at_22 ?_
    refine zo_isub hY dX21_at_25 ?_
    refine zo_imul hY dX21_at_26 ?_
    refine zo_iadd hY dX21_at_27 ?_
    refine zo_sub [] rfl ?_
    exact ct_X21_at_28 hY hJ hCon hr N ((gI Ω 17 x0 2) + (x2 * (x1 - (gI Ω 17 x0 1)))) Ω _ h
  · refine zo_aload_n hY dX21_at_8 rfl 0 rfl ?_
    refine zo_getI hY LX21_13_17 rfl dX21_at_9 ?_
    refine zo_goto hY 28 dX21_at_12 (by decide) ?_
    refine zo_sub [] rfl ?_
    exact ct_X21_at_28 hY hJ hCon hr N (gI Ω 17 x0 2) Ω _ h
theorem dX17_greatest_0 : decode cX17_greatest 0 = .ok (.aload_n 0, 1) := by decide +kernel
theorem dX17_greatest_1 : decode cX17_greatest 1 = .ok (.getfield 3, 3) := by decide +kernel
theorem dX17_greatest_4 : decode cX17_greatest 4 = .ok (.getfield 85, 3) := by decide +kernel
theorem dX17_greatest_7 : decode cX17_greatest 7 = .ok (.iload_n 1, 1) := by decide +kernel
theorem dX17_greatest_8 : decode cX17_greatest 8 = .ok (.imul, 1) := by decide +kernel
theorem dX17_greatest_9 : decode cX17_greatest 9 = .ok (.istore_n 2, 1) := by decide +kernel
theorem dX17_greatest_10 : decode cX17_greatest 10 = .ok (.iconst 0, 1) := by decide +kernel
theorem dX17_greatest_11 : decode cX17_greatest 11 = .ok (.istore_n 3, 1) := by decide +kernel
theorem dX17_greatest_12 : decode cX17_greatest 12 = .ok (.iload_n 3, 1) := by decide +kernel
theorem dX17_greatest_13 : decode cX17_greatest 13 = .ok (.aload_n 0, 1) := by decide +kernel
theorem dX17_greatest_14 : decode cX17_greatest 14 = .ok (.getfield 22, 3) := by decide +kernel
theorem dX17_greatest_17 : decode cX17_greatest 17 = .ok (.invokevirtual 77, 3) := by decide +kernel
theorem dX17_greatest_20 : decode cX17_greatest 20 = .ok (.if_icmp .ge 54, 3) := by decide +kernel
theorem dX17_greatest_23 : decode cX17_greatest 23 = .ok (.aload_n 0, 1) := by decide +kernel
theorem dX17_greatest_24 : decode cX17_greatest 24 = .ok (.aload_n 0, 1) := by decide +kernel
theorem dX17_greatest_25 : decode cX17_greatest 25 = .ok (.getfield 22, 3) := by decide +kernel
theorem dX17_greatest_28 : decode cX17_greatest 28 = .ok (.iload_n 3, 1) := by decide +kernel
theorem dX17_greatest_29 : decode cX17_greatest 29 = .ok (.invokevirtual 81, 3) := by decide +kernel
theorem dX17_greatest_32 : decode cX17_greatest 32 = .ok (.checkcast 26, 3) := by decide +kernel
theorem dX17_greatest_35 : decode cX17_greatest 35 = .ok (.invokevirtual 113, 3) := by decide +kernel
theorem dX17_greatest_38 : decode cX17_greatest 38 = .ok (.ifCond .eq 30, 3) := by decide +kernel
theorem dX17_greatest_41 : decode cX17_greatest 41 = .ok (.iload_n 2, 1) := by decide +kernel
theorem dX17_greatest_42 : decode cX17_greatest 42 = .ok (.aload_n 0, 1) := by decide +kernel
theorem dX17_greatest_43 : decode cX17_greatest 43 = .ok (.getfield 22, 3) := by decide +kernel
theorem dX17_greatest_46 : decode cX17_greatest 46 = .ok (.iload_n 3, 1) := by decide +kernel
theorem dX17_greatest_47 : decode cX17_greatest 47 = .ok (.invokevirtual 81, 3) := by decide +kernel
theorem dX17_greatest_50 : decode cX17_greatest 50 = .ok (.checkcast 71, 3) := by decide +kernel
theorem dX17_greatest_53 : decode cX17_greatest 53 = .ok (.iload_n 1, 1) := by decide +kernel
theorem dX17_greatest_54 : decode cX17_greatest 54 = .ok (.aload_n 0, 1) := by decide +kernel
theorem dX17_greatest_55 : decode cX17_greatest 55 = .ok (.getfield 3, 3) := by decide +kernel
theorem dX17_greatest_58 : decode cX17_greatest 58 = .ok (.getfield 85, 3) := by decide +kernel
theorem dX17_greatest_61 : decode cX17_greatest 61 = .ok (.invokevirtual 122, 3) := by decide +kernel
theorem dX17_greatest_64 : decode cX17_greatest 64 = .ok (.invokestatic 123, 3) := by decide +kernel
theorem dX17_greatest_67 : decode cX17_greatest 67 = .ok (.istore_n 2, 1) := by decide +kernel
theorem dX17_greatest_68 : decode cX17_greatest 68 = .ok (.iinc 3 1, 3) := by decide +kernel
theorem dX17_greatest_71 : decode cX17_greatest 71 = .ok (.goto (-59), 3) := by decide +kernel
theorem dX17_greatest_74 : decode cX17_greatest 74 = .ok (.iload_n 2, 1) := by decide +kernel
theorem dX17_greatest_75 : decode cX17_greatest 75 = .ok (.ireturn, 1) := by decide +kernel
def fn_X17_greatest_68 (N : Nat) (K12 : Nat → Int32 → Int32 → Int32 → zo_O → Option zo_R) (x0 : Nat) (x1 : Int32) (x2 : Int32) (x3 : Int32) (Ω : zo_O) : Option zo_R :=
  K12 x0 x1 x2 (x3 + 1) Ω
theorem ct_X17_greatest_68 {Y : zo_Y} (hY : zo_Gd Y cX17_greatest 4 RX17 3) (hJ : zo_JC (zo_J Y)) (hCon : ∀ Ω, zo_J Y Ω → zo_Con Ω) (hr : zo_rt Y (Option.some Jvm.ClassFile.FieldType.int)) (N : Nat) (K12 : Nat → Int32 → Int32 → Int32 → zo_O → Option zo_R) (hK12 : ∀ (x0 : Nat) (x1 : Int32) (x2 : Int32) (x3 : Int32) (Ω : zo_O) (res : zo_R), K12 x0 x1 x2 x3 Ω = some res → TW Y res Ω 12 [(0, vr 14 x0), (1, vi x1), (2, vi x2), (3, vi x3)] []) (x0 : Nat) (x1 : Int32) (x2 : Int32) (x3 : Int32) (Ω : zo_O) (res : zo_R) (h : fn_X17_greatest_68 N K12 x0 x1 x2 x3 Ω = some res) : TW Y res Ω 68 [(0, vr 14 x0), (1, vi x1), (2, vi x2), (3, vi x3)] [] := by
  unfold fn_X17_greatest_68 at h
  refine zo_iinc hY 1 dX17_greatest_68 (by decide) (by decide) 3 rfl rfl (ls' := [(3, vi (x3 + 1)), (0, vr 14 x0), (1, vi x1), (2, vi x2)]) rfl ?_
  refine zo_goto hY 12 dX17_greatest_71 (by decide) ?_
  refine zo_sub [1, 2, 3, 0] rfl ?_
  exact hK12 x0 x1 x2 (x3 + 1) Ω _ h
def bd_X17_greatest_12 (N : Nat)  (K12 : Nat → Int32 → Int32 → Int32 → zo_O → Option zo_R) (x0 : Nat) (x1 : Int32) (x2 : Int32) (x3 : Int32) (Ω : zo_O) : Option zo_R :=
  bk (gR Ω 14 x0 1) 20 fun j1 =>
  ci (fn_J2_size N j1 Ω) fun r3 Ω2 =>
  if r3 ≤ x3 then (
    rI x2 Ω2
    ) else
  bk (gR Ω2 14 x0 1) 20 fun j5 =>
  cr (fn_J2_get N j5 x3 Ω2) fun r7 Ω6 =>
  bk r7 17 fun j8 =>
  ci (fn_X17_stands_17 N x0 j8 Ω6) fun r10 Ω9 =>
  if r10 = 0 then (
    fn_X17_greatest_68 N K12 x0 x1 x2 x3 Ω9
    ) else
  bk (gR Ω9 14 x0 1) 20 fun j12 =>
  cr (fn_J2_get N j12 x3 Ω9) fun r14 Ω13 =>
  bk r14 17 fun j15 =>
  gd (gR Ω13 14 x0 3 = some (0, 0)) <|
  ci (fn_X21_at N j15 x1 (gI Ω13 0 0 10) Ω13) fun r17 Ω16 =>
  li (mn x2 r17) fun y18 =>
  fn_X17_greatest_68 N K12 x0 x1 y18 x3 Ω16
theorem cb_X17_greatest_12 {Y : zo_Y} (hY : zo_Gd Y cX17_greatest 4 RX17 3) (hJ : zo_JC (zo_J Y)) (hCon : ∀ Ω, zo_J Y Ω → zo_Con Ω) (hr : zo_rt Y (Option.some Jvm.ClassFile.FieldType.int)) (N : Nat)  (K12 : Nat → Int32 → Int32 → Int32 → zo_O → Option zo_R)  (hK12 : ∀ (x0 : Nat) (x1 : Int32) (x2 : Int32) (x3 : Int32) (Ω : zo_O) (res : zo_R), K12 x0 x1 x2 x3 Ω = some res → TW Y res Ω 12 [(0, vr 14 x0), (1, vi x1), (2, vi x2), (3, vi x3)] []) (x0 : Nat) (x1 : Int32) (x2 : Int32) (x3 : Int32) (Ω : zo_O) (res : zo_R) (h : bd_X17_greatest_12 N  K12 x0 x1 x2 x3 Ω = some res) : TW Y res Ω 12 [(0, vr 14 x0), (1, vi x1), (2, vi x2), (3, vi x3)] [] := by
  unfold bd_X17_greatest_12 at h
  refine zo_iload_n hY dX17_greatest_12 rfl 3 rfl ?_
  refine zo_aload_n hY dX17_greatest_13 rfl 0 rfl ?_
  refine zo_getK hY LX17_22_14 rfl dX17_greatest_14 h (fun j1 h => ?_)
  refine zo_callV hY (fun q hq => mt_J2_size hJ hCon N j1 Ω q hq) (by decide) (by decide) (by decide) ⟨rfl, cn_J2_size⟩ rfl q1029 q246 q247 q81 q248 (Nat.le_of_ble_eq_true rfl) dX17_greatest_17 rfl h (ci_k (fun r3 Ω2 res h => ?_))
  refine zo_icmp_ge hY 74 dX17_greatest_20 (by decide) h (fun c4 h => ?_) (fun c4 h => ?_)
  · refine zo_iload_n hY dX17_greatest_74 rfl 2 rfl ?_
    exact zo_iret hY hr dX17_greatest_75 h
  · refine zo_aload_n hY dX17_greatest_23 rfl 0 rfl ?_
    refine zo_aload_n hY dX17_greatest_24 rfl 0 rfl ?_
    refine zo_getK hY LX17_22_14 rfl dX17_greatest_25 h (fun j5 h => ?_)
    refine zo_iload_n hY dX17_greatest_28 rfl 3 rfl ?_
    refine zo_callV hY (fun q hq => mt_J2_get hJ hCon N j5 x3 Ω2 q hq) (by decide) (by decide) (by decide) ⟨rfl, cn_J2_get⟩ rfl q1030 q369 q370 q81 q371 (Nat.le_of_ble_eq_true rfl) dX17_greatest_29 rfl h (cr_k (fun r7 Ω6 res h => ?_))
    refine zo_castK hY (K := 17) (by decide) q1057 (Or.inr q1827) dX17_greatest_32 h (fun j8 h => ?_)
    refine zo_callV hY (fun q hq => mt_X17_stands_17 hJ hCon N x0 j8 Ω6 q hq) (by decide) (by decide) (by decide) ⟨rfl, cn_X17_stands⟩ rfl q1058 q1060 qs30 q110 q1061 (Nat.le_of_ble_eq_true rfl) dX17_greatest_35 rfl h (ci_k (fun r10 Ω9 res h => ?_))
    refine zo_if_eq hY 68 dX17_greatest_38 (by decide) h (fun c11 h => ?_) (fun c11 h => ?_)
    · exact ct_X17_greatest_68 hY hJ hCon hr N K12 hK12 x0 x1 x2 x3 Ω9 _ h
    · refine zo_iload_n hY dX17_greatest_41 rfl 2 rfl ?_
      refine zo_aload_n hY dX17_greatest_42 rfl 0 rfl ?_
      refine zo_getK hY LX17_22_14 rfl dX17_greatest_43 h (fun j12 h => ?_)
      refine zo_iload_n hY dX17_greatest_46 rfl 3 rfl ?_
      refine zo_callV hY (fun q hq => mt_J2_get hJ hCon N j12 x3 Ω9 q hq) (by decide) (by decide) (by decide) ⟨rfl, cn_J2_get⟩ rfl q1030 q369 q370 q81 q371 (Nat.le_of_ble_eq_true rfl) dX17_greatest_47 rfl h (cr_k (fun r14 Ω13 res h => ?_))
      refine zo_castK hY (by decide) q1015 (Or.inl rfl) dX17_greatest_50 h (fun j15 h => ?_)
      refine zo_iload_n hY dX17_greatest_53 rfl 1 rfl ?_
      refine zo_aload_n hY dX17_greatest_54 rfl 0 rfl ?_
      refine zo_getG hY LX17_3_14 rfl dX17_greatest_55 h (fun h => ?_)
      refine zo_getI hY LX17_85_0 rfl dX17_greatest_58 ?_
      refine zo_callV hY (fun q hq => mt_X21_at hJ hCon N j15 x1 (gI Ω13 0 0 10) Ω13 q hq) (by decide) (by decide) (by decide) ⟨rfl, cn_X21_at⟩ rfl q1067 q1068 q1069 q114 q1070 (Nat.le_of_ble_eq_true rfl) dX17_greatest_61 rfl h (ci_k (fun r17 Ω16 res h => ?_))
      refine zo_mmin hY (by decide) q1071 (Nat.le_of_ble_eq_true rfl) dX17_greatest_64 ?_
      refine zo_nmi h (fun y18 h => ?_)
      refine zo_istore_n hY dX17_greatest_67 rfl (by decide) rfl (ls' := [(2, vi y18), (0, vr 14 x0), (1, vi x1), (3, vi x3)]) rfl ?_
      refine zo_sub [1, 2, 0, 3] rfl ?_
      exact ct_X17_greatest_68 hY hJ hCon hr N K12 hK12 x0 x1 y18 x3 Ω16 _ h
def fn_X17_greatest_12 (N : Nat)  : Nat → Nat → Int32 → Int32 → Int32 → zo_O → Option zo_R
  | 0, _, _, _, _, _ => none
  | n + 1, x0, x1, x2, x3, Ω => bd_X17_greatest_12 N  (fn_X17_greatest_12 N  n) x0 x1 x2 x3 Ω
theorem ct_X17_greatest_12 {Y : zo_Y} (hY : zo_Gd Y cX17_greatest 4 RX17 3) (hJ : zo_JC (zo_J Y)) (hCon : ∀ Ω, zo_J Y Ω → zo_Con Ω) (hr : zo_rt Y (Option.some Jvm.ClassFile.FieldType.int)) (N : Nat)   : ∀ (n : Nat) (x0 : Nat) (x1 : Int32) (x2 : Int32) (x3 : Int32) (Ω : zo_O) (res : zo_R), fn_X17_greatest_12 N  n x0 x1 x2 x3 Ω = some res → TW Y res Ω 12 [(0, vr 14 x0), (1, vi x1), (2, vi x2), (3, vi x3)] [] := by
  intro n
  induction n with
  | zero => intro x0 x1 x2 x3 Ω res h; exact nomatch (show (none : Option zo_R) = some res from h)
  | succ n ih => intro x0 x1 x2 x3 Ω res h; exact cb_X17_greatest_12 hY hJ hCon hr N  (fn_X17_greatest_12 N  n)  ih x0 x1 x2 x3 Ω res h
def fn_X17_greatest (N : Nat) (x0 : Nat) (x1 : Int32) (Ω : zo_O) : Option zo_R :=
  gd (gR Ω 14 x0 3 = some (0, 0)) <|
  li ((gI Ω 0 0 10) * x1) fun y1 =>
  fn_X17_greatest_12 N N x0 x1 y1 0 Ω
theorem mt_X17_greatest {G : zo_G} {J : zo_O → Prop} (hJ : zo_JC J) (hCon : ∀ Ω, J Ω → zo_Con Ω) (N : Nat) (x0 : Nat) (x1 : Int32) (Ω : zo_O) (res : zo_R) (h : fn_X17_greatest N x0 x1 Ω = some res) : zo_MT G J yX17_greatest cX17_greatest 4 (Option.some Jvm.ClassFile.FieldType.int) 3 [vr 14 x0, vi x1] Ω res := by
  refine zo_enter (by decide) rfl (Nat.le_of_ble_eq_true rfl) (fun Y hY eJ hr hmn => ?_)
  subst eJ
  show TW Y res Ω 0 [(0, vr 14 x0), (1, vi x1)] []
  unfold fn_X17_greatest at h
  refine zo_aload_n hY dX17_greatest_0 rfl 0 rfl ?_
  refine zo_getG hY LX17_3_14 rfl dX17_greatest_1 h (fun h => ?_)
  refine zo_getI hY LX17_85_0 rfl dX17_greatest_4 ?_
  refine zo_iload_n hY dX17_greatest_7 rfl 1 rfl ?_
  refine zo_imul hY dX17_greatest_8 ?_
  refine zo_nmi h (fun y1 h => ?_)
  refine zo_istore_n hY dX17_greatest_9 rfl (by decide) rfl (ls' := [(2, vi y1), (0, vr 14 x0), (1, vi x1)]) rfl ?_
  refine zo_iconst hY 0 (by decide) dX17_greatest_10 ?_
  refine zo_istore_n hY dX17_greatest_11 rfl (by decide) rfl (ls' := [(3, vi 0), (2, vi y1), (0, vr 14 x0), (1, vi x1)]) rfl ?_
  refine zo_sub [2, 3, 1, 0] rfl ?_
  exact ct_X17_greatest_12 hY hJ hCon hr N N x0 x1 y1 0 Ω _ h
theorem dX17_firstAge_0 : decode cX17_firstAge 0 = .ok (.iconst 0, 1) := by decide +kernel
theorem dX17_firstAge_1 : decode cX17_firstAge 1 = .ok (.istore_n 2, 1) := by decide +kernel
theorem dX17_firstAge_2 : decode cX17_firstAge 2 = .ok (.sipush 801, 3) := by decide +kernel
theorem dX17_firstAge_5 : decode cX17_firstAge 5 = .ok (.istore_n 3, 1) := by decide +kernel
theorem dX17_firstAge_6 : decode cX17_firstAge 6 = .ok (.iload_n 2, 1) := by decide +kernel
theorem dX17_firstAge_7 : decode cX17_firstAge 7 = .ok (.iload_n 3, 1) := by decide +kernel
theorem dX17_firstAge_8 : decode cX17_firstAge 8 = .ok (.if_icmp .ge 34, 3) := by decide +kernel
theorem dX17_firstAge_11 : decode cX17_firstAge 11 = .ok (.iload_n 2, 1) := by decide +kernel
theorem dX17_firstAge_12 : decode cX17_firstAge 12 = .ok (.iload_n 3, 1) := by decide +kernel
theorem dX17_firstAge_13 : decode cX17_firstAge 13 = .ok (.iadd, 1) := by decide +kernel
theorem dX17_firstAge_14 : decode cX17_firstAge 14 = .ok (.iconst 2, 1) := by decide +kernel
theorem dX17_firstAge_15 : decode cX17_firstAge 15 = .ok (.idiv, 1) := by decide +kernel
theorem dX17_firstAge_16 : decode cX17_firstAge 16 = .ok (.istore 4, 2) := by decide +kernel
theorem dX17_firstAge_18 : decode cX17_firstAge 18 = .ok (.aload_n 0, 1) := by decide +kernel
theorem dX17_firstAge_19 : decode cX17_firstAge 19 = .ok (.iload 4, 2) := by decide +kernel
theorem dX17_firstAge_21 : decode cX17_firstAge 21 = .ok (.invokevirtual 126, 3) := by decide +kernel
theorem dX17_firstAge_24 : decode cX17_firstAge 24 = .ok (.iload_n 1, 1) := by decide +kernel
theorem dX17_firstAge_25 : decode cX17_firstAge 25 = .ok (.if_icmp .lt 9, 3) := by decide +kernel
theorem dX17_firstAge_28 : decode cX17_firstAge 28 = .ok (.iload 4, 2) := by decide +kernel
theorem dX17_firstAge_30 : decode cX17_firstAge 30 = .ok (.istore_n 3, 1) := by decide +kernel
theorem dX17_firstAge_31 : decode cX17_firstAge 31 = .ok (.goto 8, 3) := by decide +kernel
theorem dX17_firstAge_34 : decode cX17_firstAge 34 = .ok (.iload 4, 2) := by decide +kernel
theorem dX17_firstAge_36 : decode cX17_firstAge 36 = .ok (.iconst 1, 1) := by decide +kernel
theorem dX17_firstAge_37 : decode cX17_firstAge 37 = .ok (.iadd, 1) := by decide +kernel
theorem dX17_firstAge_38 : decode cX17_firstAge 38 = .ok (.istore_n 2, 1) := by decide +kernel
theorem dX17_firstAge_39 : decode cX17_firstAge 39 = .ok (.goto (-33), 3) := by decide +kernel
theorem dX17_firstAge_42 : decode cX17_firstAge 42 = .ok (.iload_n 2, 1) := by decide +kernel
theorem dX17_firstAge_43 : decode cX17_firstAge 43 = .ok (.ireturn, 1) := by decide +kernel
def fn_X17_firstAge_39 (N : Nat) (K6 : Nat → Int32 → Int32 → Int32 → zo_O → Option zo_R) (x0 : Nat) (x1 : Int32) (x2 : Int32) (x3 : Int32) (Ω : zo_O) : Option zo_R :=
  K6 x0 x1 x2 x3 Ω
theorem ct_X17_firstAge_39 {Y : zo_Y} (hY : zo_Gd Y cX17_firstAge 5 RX17 4) (hJ : zo_JC (zo_J Y)) (hCon : ∀ Ω, zo_J Y Ω → zo_Con Ω) (hr : zo_rt Y (Option.some Jvm.ClassFile.FieldType.int)) (N : Nat) (K6 : Nat → Int32 → Int32 → Int32 → zo_O → Option zo_R) (hK6 : ∀ (x0 : Nat) (x1 : Int32) (x2 : Int32) (x3 : Int32) (Ω : zo_O) (res : zo_R), K6 x0 x1 x2 x3 Ω = some res → TW Y res Ω 6 [(0, vr 14 x0), (1, vi x1), (2, vi x2), (3, vi x3)] []) (x0 : Nat) (x1 : Int32) (x2 : Int32) (x3 : Int32) (Ω : zo_O) (res : zo_R) (h : fn_X17_firstAge_39 N K6 x0 x1 x2 x3 Ω = some res) : TW Y res Ω 39 [(0, vr 14 x0), (1, vi x1), (2, vi x2), (3, vi x3)] [] := by
  unfold fn_X17_firstAge_39 at h
  refine zo_goto hY 6 dX17_firstAge_39 (by decide) ?_
  exact hK6 x0 x1 x2 x3 Ω _ h
def bd_X17_firstAge_6 (N : Nat)  (K6 : Nat → Int32 → Int32 → Int32 → zo_O → Option zo_R) (x0 : Nat) (x1 : Int32) (x2 : Int32) (x3 : Int32) (Ω : zo_O) : Option zo_R :=
  if x3 ≤ x2 then (
    rI x2 Ω
    ) else
  gd (¬ ((2 : Int32)) = 0) <|
  li ((x2 + x3) / 2) fun y2 =>
  ci (fn_X17_greatest N x0 y2 Ω) fun r4 Ω3 =>
  if r4 < x1 then (
    li (y2 + 1) fun y6 =>
    fn_X17_firstAge_39 N K6 x0 x1 y6 x3 Ω3
    ) else
  fn_X17_firstAge_39 N K6 x0 x1 x2 y2 Ω3
theorem cb_X17_firstAge_6 {Y : zo_Y} (hY : zo_Gd Y cX17_firstAge 5 RX17 4) (hJ : zo_JC (zo_J Y)) (hCon : ∀ Ω, zo_J Y Ω → zo_Con Ω) (hr : zo_rt Y (Option.some Jvm.ClassFile.FieldType.int)) (N : Nat)  (K6 : Nat → Int32 → Int32 → Int32 → zo_O → Option zo_R)  (hK6 : ∀ (x0 : Nat) (x1 : Int32) (x2 : Int32) (x3 : Int32) (Ω : zo_O) (res : zo_R), K6 x0 x1 x2 x3 Ω = some res → TW Y res Ω 6 [(0, vr 14 x0), (1, vi x1), (2, vi x2), (3, vi x3)] []) (x0 : Nat) (x1 : Int32) (x2 : Int32) (x3 : Int32) (Ω : zo_O) (res : zo_R) (h : bd_X17_firstAge_6 N  K6 x0 x1 x2 x3 Ω = some res) : TW Y res Ω 6 [(0, vr 14 x0), (1, vi x1), (2, vi x2), (3, vi x3)] [] := by
  unfold bd_X17_firstAge_6 at h
  refine zo_iload_n hY dX17_firstAge_6 rfl 2 rfl ?_
  refine zo_iload_n hY dX17_firstAge_7 rfl 3 rfl ?_
  refine zo_icmp_ge hY 42 dX17_firstAge_8 (by decide) h (fun c1 h => ?_) (fun c1 h => ?_)
  · refine zo_iload_n hY dX17_firstAge_42 rfl 2 rfl ?_
    exact zo_iret hY hr dX17_firstAge_43 h
  · refine zo_iload_n hY dX17_firstAge_11 rfl 2 rfl ?_
    refine zo_iload_n hY dX17_firstAge_12 rfl 3 rfl ?_
    refine zo_iadd hY dX17_firstAge_13 ?_
    refine zo_iconst hY 2 (by decide) dX17_firstAge_14 ?_
    refine zo_idiv hY dX17_firstAge_15 h (fun h => ?_)
    refine zo_nmi h (fun y2 h => ?_)
    refine zo_istore hY dX17_firstAge_16 (by decide) rfl (ls' := [(4, vi y2), (0, vr 14 x0), (1, vi x1), (2, vi x2), (3, vi x3)]) rfl ?_
    refine zo_aload_n hY dX17_firstAge_18 rfl 1 rfl ?_
    refine zo_iload hY dX17_firstAge_19 0 rfl ?_
    refine zo_callV hY (fun q hq => mt_X17_greatest hJ hCon N x0 y2 Ω q hq) (by decide) (by decide) (by decide) ⟨rfl, cn_X17_greatest⟩ rfl q1106 q1064 q1065 q110 q1066 (Nat.le_of_ble_eq_true rfl) dX17_firstAge_21 rfl h (ci_k (fun r4 Ω3 res h => ?_))
    refine zo_iload_n hY dX17_firstAge_24 rfl 2 rfl ?_
    refine zo_icmp_lt hY 34 dX17_firstAge_25 (by decide) h (fun c5 h => ?_) (fun c5 h => ?_)
    · refine zo_iload hY dX17_firstAge_34 0 rfl ?_
      refine zo_iconst hY 1 (by decide) dX17_firstAge_36 ?_
      refine zo_iadd hY dX17_firstAge_37 ?_
      refine zo_nmi h (fun y6 h => ?_)
      refine zo_istore_n hY dX17_firstAge_38 rfl (by decide) rfl (ls' := [(2, vi y6), (4, vi y2), (0, vr 14 x0), (1, vi x1), (3, vi x3)]) rfl ?_
      refine zo_sub [2, 3, 0, 4] rfl ?_
      exact ct_X17_firstAge_39 hY hJ hCon hr N K6 hK6 x0 x1 y6 x3 Ω3 _ h
    · refine zo_iload hY dX17_firstAge_28 0 rfl ?_
      refine zo_istore_n hY dX17_firstAge_30 rfl (by decide) rfl (ls' := [(3, vi y2), (4, vi y2), (0, vr 14 x0), (1, vi x1), (2, vi x2)]) rfl ?_
      refine zo_goto hY 39 dX17_firstAge_31 (by decide) ?_
      refine zo_sub [2, 3, 4, 0] rfl ?_
      exact ct_X17_firstAge_39 hY hJ hCon hr N K6 hK6 x0 x1 x2 y2 Ω3 _ h
def fn_X17_firstAge_6 (N : Nat)  : Nat → Nat → Int32 → Int32 → Int32 → zo_O → Option zo_R
  | 0, _, _, _, _, _ => none
  | n + 1, x0, x1, x2, x3, Ω => bd_X17_firstAge_6 N  (fn_X17_firstAge_6 N  n) x0 x1 x2 x3 Ω
theorem ct_X17_firstAge_6 {Y : zo_Y} (hY : zo_Gd Y cX17_firstAge 5 RX17 4) (hJ : zo_JC (zo_J Y)) (hCon : ∀ Ω, zo_J Y Ω → zo_Con Ω) (hr : zo_rt Y (Option.some Jvm.ClassFile.FieldType.int)) (N : Nat)   : ∀ (n : Nat) (x0 : Nat) (x1 : Int32) (x2 : Int32) (x3 : Int32) (Ω : zo_O) (res : zo_R), fn_X17_firstAge_6 N  n x0 x1 x2 x3 Ω = some res → TW Y res Ω 6 [(0, vr 14 x0), (1, vi x1), (2, vi x2), (3, vi x3)] [] := by
  intro n
  induction n with
  | zero => intro x0 x1 x2 x3 Ω res h; exact nomatch (show (none : Option zo_R) = some res from h)
  | succ n ih => intro x0 x1 x2 x3 Ω res h; exact cb_X17_firstAge_6 hY hJ hCon hr N  (fn_X17_firstAge_6 N  n)  ih x0 x1 x2 x3 Ω res h
def fn_X17_firstAge (N : Nat) (x0 : Nat) (x1 : Int32) (Ω : zo_O) : Option zo_R :=
  fn_X17_firstAge_6 N N x0 x1 0 801 Ω
theorem mt_X17_firstAge {G : zo_G} {J : zo_O → Prop} (hJ : zo_JC J) (hCon : ∀ Ω, J Ω → zo_Con Ω) (N : Nat) (x0 : Nat) (x1 : Int32) (Ω : zo_O) (res : zo_R) (h : fn_X17_firstAge N x0 x1 Ω = some res) : zo_MT G J yX17_firstAge cX17_firstAge 5 (Option.some Jvm.ClassFile.FieldType.int) 4 [vr 14 x0, vi x1] Ω res := by
  refine zo_enter (by decide) rfl (Nat.le_of_ble_eq_true rfl) (fun Y hY eJ hr hmn => ?_)
  subst eJ
  show TW Y res Ω 0 [(0, vr 14 x0), (1, vi x1)] []
  unfold fn_X17_firstAge at h
  refine zo_iconst hY 0 (by decide) dX17_firstAge_0 ?_
  refine zo_istore_n hY dX17_firstAge_1 rfl (by decide) rfl (ls' := [(2, vi 0), (0, vr 14 x0), (1, vi x1)]) rfl ?_
  refine zo_sipush hY 801 (by decide) dX17_firstAge_2 ?_
  refine zo_istore_n hY dX17_firstAge_5 rfl (by decide) rfl (ls' := [(3, vi 801), (2, vi 0), (0, vr 14 x0), (1, vi x1)]) rfl ?_
  refine zo_sub [2, 3, 1, 0] rfl ?_
  exact ct_X17_firstAge_6 hY hJ hCon hr N N x0 x1 0 801 Ω _ h
theorem dX17_lastAge_0 : decode cX17_lastAge 0 = .ok (.iconst 0, 1) := by decide +kernel
theorem dX17_lastAge_1 : decode cX17_lastAge 1 = .ok (.istore_n 2, 1) := by decide +kernel
theorem dX17_lastAge_2 : decode cX17_lastAge 2 = .ok (.sipush 800, 3) := by decide +kernel
theorem dX17_lastAge_5 : decode cX17_lastAge 5 = .ok (.istore_n 3, 1) := by decide +kernel
theorem dX17_lastAge_6 : decode cX17_lastAge 6 = .ok (.iload_n 2, 1) := by decide +kernel
theorem dX17_lastAge_7 : decode cX17_lastAge 7 = .ok (.iload_n 3, 1) := by decide +kernel
theorem dX17_lastAge_8 : decode cX17_lastAge 8 = .ok (.if_icmp .ge 36, 3) := by decide +kernel
theorem dX17_lastAge_11 : decode cX17_lastAge 11 = .ok (.iload_n 2, 1) := by decide +kernel
theorem dX17_lastAge_12 : decode cX17_lastAge 12 = .ok (.iload_n 3, 1) := by decide +kernel
theorem dX17_lastAge_13 : decode cX17_lastAge 13 = .ok (.iadd, 1) := by decide +kernel
theorem dX17_lastAge_14 : decode cX17_lastAge 14 = .ok (.iconst 1, 1) := by decide +kernel
theorem dX17_lastAge_15 : decode cX17_lastAge 15 = .ok (.iadd, 1) := by decide +kernel
theorem dX17_lastAge_16 : decode cX17_lastAge 16 = .ok (.iconst 2, 1) := by decide +kernel
theorem dX17_lastAge_17 : decode cX17_lastAge 17 = .ok (.idiv, 1) := by decide +kernel
theorem dX17_lastAge_18 : decode cX17_lastAge 18 = .ok (.istore 4, 2) := by decide +kernel
theorem dX17_lastAge_20 : decode cX17_lastAge 20 = .ok (.aload_n 0, 1) := by decide +kernel
theorem dX17_lastAge_21 : decode cX17_lastAge 21 = .ok (.iload 4, 2) := by decide +kernel
theorem dX17_lastAge_23 : decode cX17_lastAge 23 = .ok (.invokevirtual 129, 3) := by decide +kernel
theorem dX17_lastAge_26 : decode cX17_lastAge 26 = .ok (.iload_n 1, 1) := by decide +kernel
theorem dX17_lastAge_27 : decode cX17_lastAge 27 = .ok (.if_icmp .gt 9, 3) := by decide +kernel
theorem dX17_lastAge_30 : decode cX17_lastAge 30 = .ok (.iload 4, 2) := by decide +kernel
theorem dX17_lastAge_32 : decode cX17_lastAge 32 = .ok (.istore_n 2, 1) := by decide +kernel
theorem dX17_lastAge_33 : decode cX17_lastAge 33 = .ok (.goto 8, 3) := by decide +kernel
theorem dX17_lastAge_36 : decode cX17_lastAge 36 = .ok (.iload 4, 2) := by decide +kernel
theorem dX17_lastAge_38 : decode cX17_lastAge 38 = .ok (.iconst 1, 1) := by decide +kernel
theorem dX17_lastAge_39 : decode cX17_lastAge 39 = .ok (.isub, 1) := by decide +kernel
theorem dX17_lastAge_40 : decode cX17_lastAge 40 = .ok (.istore_n 3, 1) := by decide +kernel
theorem dX17_lastAge_41 : decode cX17_lastAge 41 = .ok (.goto (-35), 3) := by decide +kernel
theorem dX17_lastAge_44 : decode cX17_lastAge 44 = .ok (.iload_n 2, 1) := by decide +kernel
theorem dX17_lastAge_45 : decode cX17_lastAge 45 = .ok (.ireturn, 1) := by decide +kernel
def fn_X17_lastAge_41 (N : Nat) (K6 : Nat → Int32 → Int32 → Int32 → zo_O → Option zo_R) (x0 : Nat) (x1 : Int32) (x2 : Int32) (x3 : Int32) (Ω : zo_O) : Option zo_R :=
  K6 x0 x1 x2 x3 Ω
theorem ct_X17_lastAge_41 {Y : zo_Y} (hY : zo_Gd Y cX17_lastAge 5 RX17 4) (hJ : zo_JC (zo_J Y)) (hCon : ∀ Ω, zo_J Y Ω → zo_Con Ω) (hr : zo_rt Y (Option.some Jvm.ClassFile.FieldType.int)) (N : Nat) (K6 : Nat → Int32 → Int32 → Int32 → zo_O → Option zo_R) (hK6 : ∀ (x0 : Nat) (x1 : Int32) (x2 : Int32) (x3 : Int32) (Ω : zo_O) (res : zo_R), K6 x0 x1 x2 x3 Ω = some res → TW Y res Ω 6 [(0, vr 14 x0), (1, vi x1), (2, vi x2), (3, vi x3)] []) (x0 : Nat) (x1 : Int32) (x2 : Int32) (x3 : Int32) (Ω : zo_O) (res : zo_R) (h : fn_X17_lastAge_41 N K6 x0 x1 x2 x3 Ω = some res) : TW Y res Ω 41 [(0, vr 14 x0), (1, vi x1), (2, vi x2), (3, vi x3)] [] := by
  unfold fn_X17_lastAge_41 at h
  refine zo_goto hY 6 dX17_lastAge_41 (by decide) ?_
  exact hK6 x0 x1 x2 x3 Ω _ h
def bd_X17_lastAge_6 (N : Nat)  (K6 : Nat → Int32 → Int32 → Int32 → zo_O → Option zo_R) (x0 : Nat) (x1 : Int32) (x2 : Int32) (x3 : Int32) (Ω : zo_O) : Option zo_R :=
  if x3 ≤ x2 then (
    rI x2 Ω
    ) else
  gd (¬ ((2 : Int32)) = 0) <|
  li (((x2 + x3) + 1) / 2) fun y2 =>
  ci (fn_X17_least N x0 y2 Ω) fun r4 Ω3 =>
  if x1 < r4 then (
    li (y2 - 1) fun y6 =>
    fn_X17_lastAge_41 N K6 x0 x1 x2 y6 Ω3
    ) else
  fn_X17_lastAge_41 N K6 x0 x1 y2 x3 Ω3
theorem cb_X17_lastAge_6 {Y : zo_Y} (hY : zo_Gd Y cX17_lastAge 5 RX17 4) (hJ : zo_JC (zo_J Y)) (hCon : ∀ Ω, zo_J Y Ω → zo_Con Ω) (hr : zo_rt Y (Option.some Jvm.ClassFile.FieldType.int)) (N : Nat)  (K6 : Nat → Int32 → Int32 → Int32 → zo_O → Option zo_R)  (hK6 : ∀ (x0 : Nat) (x1 : Int32) (x2 : Int32) (x3 : Int32) (Ω : zo_O) (res : zo_R), K6 x0 x1 x2 x3 Ω = some res → TW Y res Ω 6 [(0, vr 14 x0), (1, vi x1), (2, vi x2), (3, vi x3)] []) (x0 : Nat) (x1 : Int32) (x2 : Int32) (x3 : Int32) (Ω : zo_O) (res : zo_R) (h : bd_X17_lastAge_6 N  K6 x0 x1 x2 x3 Ω = some res) : TW Y res Ω 6 [(0, vr 14 x0), (1, vi x1), (2, vi x2), (3, vi x3)] [] := by
  unfold bd_X17_lastAge_6 at h
  refine zo_iload_n hY dX17_lastAge_6 rfl 2 rfl ?_
  refine zo_iload_n hY dX17_lastAge_7 rfl 3 rfl ?_
  refine zo_icmp_ge hY 44 dX17_lastAge_8 (by decide) h (fun c1 h => ?_) (fun c1 h => ?_)
  · refine zo_iload_n hY dX17_lastAge_44 rfl 2 rfl ?_
    exact zo_iret hY hr dX17_lastAge_45 h
  · refine zo_iload_n hY dX17_lastAge_11 rfl 2 rfl ?_
    refine zo_iload_n hY dX17_lastAge_12 rfl 3 rfl ?_
    refine zo_iadd hY dX17_lastAge_13 ?_
    refine zo_iconst hY 1 (by decide) dX17_lastAge_14 ?_
    refine zo_iadd hY dX17_lastAge_15 ?_
    refine zo_iconst hY 2 (by decide) dX17_lastAge_16 ?_
    refine zo_idiv hY dX17_lastAge_17 h (fun h => ?_)
    refine zo_nmi h (fun y2 h => ?_)
    refine zo_istore hY dX17_lastAge_18 (by decide) rfl (ls' := [(4, vi y2), (0, vr 14 x0), (1, vi x1), (2, vi x2), (3, vi x3)]) rfl ?_
    refine zo_aload_n hY dX17_lastAge_20 rfl 1 rfl ?_
    refine zo_iload hY dX17_lastAge_21 0 rfl ?_
    refine zo_callV hY (fun q hq => mt_X17_least hJ hCon N x0 y2 Ω q hq) (by decide) (by decide) (by decide) ⟨rfl, cn_X17_least⟩ rfl q1118 q1054 q1055 q110 q1056 (Nat.le_of_ble_eq_true rfl) dX17_lastAge_23 rfl h (ci_k (fun r4 Ω3 res h => ?_))
    refine zo_iload_n hY dX17_lastAge_26 rfl 2 rfl ?_
    refine zo_icmp_gt hY 36 dX17_lastAge_27 (by decide) h (fun c5 h => ?_) (fun c5 h => ?_)
    · refine zo_iload hY dX17_lastAge_36 0 rfl ?_
      refine zo_iconst hY 1 (by decide) dX17_lastAge_38 ?_
      refine zo_isub hY dX17_lastAge_39 ?_
      refine zo_nmi h (fun y6 h => ?_)
      refine zo_istore_n hY dX17_lastAge_40 rfl (by decide) rfl (ls' := [(3, vi y6), (4, vi y2), (0, vr 14 x0), (1, vi x1), (2, vi x2)]) rfl ?_
      refine zo_sub [2, 3, 4, 0] rfl ?_
      exact ct_X17_lastAge_41 hY hJ hCon hr N K6 hK6 x0 x1 x2 y6 Ω3 _ h
    · refine zo_iload hY dX17_lastAge_30 0 rfl ?_
      refine zo_istore_n hY dX17_lastAge_32 rfl (by decide) rfl (ls' := [(2, vi y2), (4, vi y2), (0, vr 14 x0), (1, vi x1), (3, vi x3)]) rfl ?_
      refine zo_goto hY 41 dX17_lastAge_33 (by decide) ?_
      refine zo_sub [2, 3, 0, 4] rfl ?_
      exact ct_X17_lastAge_41 hY hJ hCon hr N K6 hK6 x0 x1 y2 x3 Ω3 _ h
def fn_X17_lastAge_6 (N : Nat)  : Nat → Nat → Int32 → Int32 → Int32 → zo_O → Option zo_R
  | 0, _, _, _, _, _ => none
  | n + 1, x0, x1, x2, x3, Ω => bd_X17_lastAge_6 N  (fn_X17_lastAge_6 N  n) x0 x1 x2 x3 Ω
theorem ct_X17_lastAge_6 {Y : zo_Y} (hY : zo_Gd Y cX17_lastAge 5 RX17 4) (hJ : zo_JC (zo_J Y)) (hCon : ∀ Ω, zo_J Y Ω → zo_Con Ω) (hr : zo_rt Y (Option.some Jvm.ClassFile.FieldType.int)) (N : Nat)   : ∀ (n : Nat) (x0 : Nat) (x1 : Int32) (x2 : Int32) (x3 : Int32) (Ω : zo_O) (res : zo_R), fn_X17_lastAge_6 N  n x0 x1 x2 x3 Ω = some res → TW Y res Ω 6 [(0, vr 14 x0), (1, vi x1), (2, vi x2), (3, vi x3)] [] := by
  intro n
  induction n with
  | zero => intro x0 x1 x2 x3 Ω res h; exact nomatch (show (none : Option zo_R) = some res from h)
  | succ n ih => intro x0 x1 x2 x3 Ω res h; exact cb_X17_lastAge_6 hY hJ hCon hr N  (fn_X17_lastAge_6 N  n)  ih x0 x1 x2 x3 Ω res h
def fn_X17_lastAge (N : Nat) (x0 : Nat) (x1 : Int32) (Ω : zo_O) : Option zo_R :=
  fn_X17_lastAge_6 N N x0 x1 0 800 Ω
theorem mt_X17_lastAge {G : zo_G} {J : zo_O → Prop} (hJ : zo_JC J) (hCon : ∀ Ω, J Ω → zo_Con Ω) (N : Nat) (x0 : Nat) (x1 : Int32) (Ω : zo_O) (res : zo_R) (h : fn_X17_lastAge N x0 x1 Ω = some res) : zo_MT G J yX17_lastAge cX17_lastAge 5 (Option.some Jvm.ClassFile.FieldType.int) 4 [vr 14 x0, vi x1] Ω res := by
  refine zo_enter (by decide) rfl (Nat.le_of_ble_eq_true rfl) (fun Y hY eJ hr hmn => ?_)
  subst eJ
  show TW Y res Ω 0 [(0, vr 14 x0), (1, vi x1)] []
  unfold fn_X17_lastAge at h
  refine zo_iconst hY 0 (by decide) dX17_lastAge_0 ?_
  refine zo_istore_n hY dX17_lastAge_1 rfl (by decide) rfl (ls' := [(2, vi 0), (0, vr 14 x0), (1, vi x1)]) rfl ?_
  refine zo_sipush hY 800 (by decide) dX17_lastAge_2 ?_
  refine zo_istore_n hY dX17_lastAge_5 rfl (by decide) rfl (ls' := [(3, vi 800), (2, vi 0), (0, vr 14 x0), (1, vi x1)]) rfl ?_
  refine zo_sub [2, 3, 1, 0] rfl ?_
  exact ct_X17_lastAge_6 hY hJ hCon hr N N x0 x1 0 800 Ω _ h
theorem dX17_isBetter_0 : decode cX17_isBetter 0 = .ok (.iload_n 1, 1) := by decide +kernel
theorem dX17_isBetter_1 : decode cX17_isBetter 1 = .ok (.invokestatic 107, 3) := by decide +kernel
theorem dX17_isBetter_4 : decode cX17_isBetter 4 = .ok (.istore_n 3, 1) := by decide +kernel
theorem dX17_isBetter_5 : decode cX17_isBetter 5 = .ok (.iload_n 2, 1) := by decide +kernel
theorem dX17_isBetter_6 : decode cX17_isBetter 6 = .ok (.invokestatic 107, 3) := by decide +kernel
theorem dX17_isBetter_9 : decode cX17_isBetter 9 = .ok (.istore 4, 2) := by decide +kernel
theorem dX17_isBetter_11 : decode cX17_isBetter 11 = .ok (.iload_n 3, 1) := by decide +kernel
theorem dX17_isBetter_12 : decode cX17_isBetter 12 = .ok (.iload 4, 2) := by decide +kernel
theorem dX17_isBetter_14 : decode cX17_isBetter 14 = .ok (.if_icmp .lt 14, 3) := by decide +kernel
theorem dX17_isBetter_17 : decode cX17_isBetter 17 = .ok (.iload_n 3, 1) := by decide +kernel
theorem dX17_isBetter_18 : decode cX17_isBetter 18 = .ok (.iload 4, 2) := by decide +kernel
theorem dX17_isBetter_20 : decode cX17_isBetter 20 = .ok (.if_icmp .ne 12, 3) := by decide +kernel
theorem dX17_isBetter_23 : decode cX17_isBetter 23 = .ok (.iload_n 1, 1) := by decide +kernel
theorem dX17_isBetter_24 : decode cX17_isBetter 24 = .ok (.iload_n 2, 1) := by decide +kernel
theorem dX17_isBetter_25 : decode cX17_isBetter 25 = .ok (.if_icmp .gt 7, 3) := by decide +kernel
theorem dX17_isBetter_28 : decode cX17_isBetter 28 = .ok (.iconst 1, 1) := by decide +kernel
theorem dX17_isBetter_29 : decode cX17_isBetter 29 = .ok (.goto 4, 3) := by decide +kernel
theorem dX17_isBetter_32 : decode cX17_isBetter 32 = .ok (.iconst 0, 1) := by decide +kernel
theorem dX17_isBetter_33 : decode cX17_isBetter 33 = .ok (.ireturn, 1) := by decide +kernel
def fn_X17_isBetter_33 (N : Nat)  (s0 : Int32) (Ω : zo_O) : Option zo_R :=
  rZ s0 Ω
theorem ct_X17_isBetter_33 {Y : zo_Y} (hY : zo_Gd Y cX17_isBetter 5 RX17 1) (hJ : zo_JC (zo_J Y)) (hCon : ∀ Ω, zo_J Y Ω → zo_Con Ω) (hr : zo_rt Y (Option.some Jvm.ClassFile.FieldType.boolean)) (N : Nat)   (s0 : Int32) (Ω : zo_O) (res : zo_R) (h : fn_X17_isBetter_33 N  s0 Ω = some res) : TW Y res Ω 33 [] [vi s0] := by
  unfold fn_X17_isBetter_33 at h
  exact zo_zret hY hr dX17_isBetter_33 h
def fn_X17_isBetter_28 (N : Nat)   (Ω : zo_O) : Option zo_R :=
  fn_X17_isBetter_33 N 1 Ω
theorem ct_X17_isBetter_28 {Y : zo_Y} (hY : zo_Gd Y cX17_isBetter 5 RX17 1) (hJ : zo_JC (zo_J Y)) (hCon : ∀ Ω, zo_J Y Ω → zo_Con Ω) (hr : zo_rt Y (Option.some Jvm.ClassFile.FieldType.boolean)) (N : Nat)    (Ω : zo_O) (res : zo_R) (h : fn_X17_isBetter_28 N   Ω = some res) : TW Y res Ω 28 [] [] := by
  unfold fn_X17_isBetter_28 at h
  refine zo_iconst hY 1 (by decide) dX17_isBetter_28 ?_
  refine zo_goto hY 33 dX17_isBetter_29 (by decide) ?_
  exact ct_X17_isBetter_33 hY hJ hCon hr N 1 Ω _ h
def fn_X17_isBetter_32 (N : Nat)   (Ω : zo_O) : Option zo_R :=
  fn_X17_isBetter_33 N 0 Ω
theorem ct_X17_isBetter_32 {Y : zo_Y} (hY : zo_Gd Y cX17_isBetter 5 RX17 1) (hJ : zo_JC (zo_J Y)) (hCon : ∀ Ω, zo_J Y Ω → zo_Con Ω) (hr : zo_rt Y (Option.some Jvm.ClassFile.FieldType.boolean)) (N : Nat)    (Ω : zo_O) (res : zo_R) (h : fn_X17_isBetter_32 N   Ω = some res) : TW Y res Ω 32 [] [] := by
  unfold fn_X17_isBetter_32 at h
  refine zo_iconst hY 0 (by decide) dX17_isBetter_32 ?_
  exact ct_X17_isBetter_33 hY hJ hCon hr N 0 Ω _ h
def fn_X17_isBetter (N : Nat) (x0 : Nat) (x1 : Int32) (x2 : Int32) (Ω : zo_O) : Option zo_R :=
  ci (fn_J15_bitCount N x1 Ω) fun r2 Ω1 =>
  ci (fn_J15_bitCount N x2 Ω1) fun r4 Ω3 =>
  if r2 < r4 then (
    fn_X17_isBetter_28 N Ω3
    ) else
  if r2 = r4 then (
    if x2 < x1 then (
      fn_X17_isBetter_32 N Ω3
      ) else
    fn_X17_isBetter_28 N Ω3
    ) else
  fn_X17_isBetter_32 N Ω3
theorem mt_X17_isBetter {G : zo_G} {J : zo_O → Prop} (hJ : zo_JC J) (hCon : ∀ Ω, J Ω → zo_Con Ω) (N : Nat) (x0 : Nat) (x1 : Int32) (x2 : Int32) (Ω : zo_O) (res : zo_R) (h : fn_X17_isBetter N x0 x1 x2 Ω = some res) : zo_MT G J yX17_isBetter cX17_isBetter 5 (Option.some Jvm.ClassFile.FieldType.boolean) 1 [vr 14 x0, vi x1, vi x2] Ω res := by
  refine zo_enter (by decide) rfl (Nat.le_of_ble_eq_true rfl) (fun Y hY eJ hr hmn => ?_)
  subst eJ
  show TW Y res Ω 0 [(0, vr 14 x0), (1, vi x1), (2, vi x2)] []
  unfold fn_X17_isBetter at h
  refine zo_iload_n hY dX17_isBetter_0 rfl 1 rfl ?_
  refine zo_callS hY (fun q hq => mt_J15_bitCount hJ hCon N x1 Ω q hq) (by decide) (by decide) cn_J15_bitCount rfl q1039 q1040 q115 q1041 (Nat.le_of_ble_eq_true rfl) dX17_isBetter_1 rfl h (ci_k (fun r2 Ω1 res h => ?_))
  refine zo_istore_n hY dX17_isBetter_4 rfl (by decide) rfl (ls' := [(3, vi r2), (0, vr 14 x0), (1, vi x1), (2, vi x2)]) rfl ?_
  refine zo_iload_n hY dX17_isBetter_5 rfl 3 rfl ?_
  refine zo_callS hY (fun q hq => mt_J15_bitCount hJ hCon N x2 Ω1 q hq) (by decide) (by decide) cn_J15_bitCount rfl q1039 q1040 q115 q1041 (Nat.le_of_ble_eq_true rfl) dX17_isBetter_6 rfl h (ci_k (fun r4 Ω3 res h => ?_))
  refine zo_istore hY dX17_isBetter_9 (by decide) rfl (ls' := [(4, vi r4), (3, vi r2), (0, vr 14 x0), (1, vi x1), (2, vi x2)]) rfl ?_
  refine zo_iload_n hY dX17_isBetter_11 rfl 1 rfl ?_
  refine zo_iload hY dX17_isBetter_12 0 rfl ?_
  refine zo_icmp_lt hY 28 dX17_isBetter_14 (by decide) h (fun c5 h => ?_) (fun c5 h => ?_)
  · refine zo_sub [] rfl ?_
    exact ct_X17_isBetter_28 hY hJ hCon hr N Ω3 _ h
  · refine zo_iload_n hY dX17_isBetter_17 rfl 1 rfl ?_
    refine zo_iload hY dX17_isBetter_18 0 rfl ?_
    refine zo_icmp_ne hY 32 dX17_isBetter_20 (by decide) h (fun c6 h => ?_) (fun c6 h => ?_)
    · refine zo_iload_n hY dX17_isBetter_23 rfl 3 rfl ?_
      refine zo_iload_n hY dX17_isBetter_24 rfl 4 rfl ?_
      refine zo_icmp_gt hY 32 dX17_isBetter_25 (by decide) h (fun c7 h => ?_) (fun c7 h => ?_)
      · refine zo_sub [] rfl ?_
        exact ct_X17_isBetter_32 hY hJ hCon hr N Ω3 _ h
      · refine zo_sub [] rfl ?_
        exact ct_X17_isBetter_28 hY hJ hCon hr N Ω3 _ h
    · refine zo_sub [] rfl ?_
      exact ct_X17_isBetter_32 hY hJ hCon hr N Ω3 _ h
theorem dX17_parts_0 : decode cX17_parts 0 = .ok (.iconst 1, 1) := by decide +kernel
theorem dX17_parts_1 : decode cX17_parts 1 = .ok (.istore 4, 2) := by decide +kernel
theorem dX17_parts_3 : decode cX17_parts 3 = .ok (.iconst 0, 1) := by decide +kernel
theorem dX17_parts_4 : decode cX17_parts 4 = .ok (.istore 5, 2) := by decide +kernel
theorem dX17_parts_6 : decode cX17_parts 6 = .ok (.iload 5, 2) := by decide +kernel
theorem dX17_parts_8 : decode cX17_parts 8 = .ok (.bipush 14, 2) := by decide +kernel
theorem dX17_parts_10 : decode cX17_parts 10 = .ok (.if_icmp .ge 51, 3) := by decide +kernel
theorem dX17_parts_13 : decode cX17_parts 13 = .ok (.iload 4, 2) := by decide +kernel
theorem dX17_parts_15 : decode cX17_parts 15 = .ok (.ifCond .eq 46, 3) := by decide +kernel
theorem dX17_parts_18 : decode cX17_parts 18 = .ok (.iload_n 2, 1) := by decide +kernel
theorem dX17_parts_19 : decode cX17_parts 19 = .ok (.iload 5, 2) := by decide +kernel
theorem dX17_parts_21 : decode cX17_parts 21 = .ok (.ishr, 1) := by decide +kernel
theorem dX17_parts_22 : decode cX17_parts 22 = .ok (.iconst 1, 1) := by decide +kernel
theorem dX17_parts_23 : decode cX17_parts 23 = .ok (.iand, 1) := by decide +kernel
theorem dX17_parts_24 : decode cX17_parts 24 = .ok (.iconst 1, 1) := by decide +kernel
theorem dX17_parts_25 : decode cX17_parts 25 = .ok (.if_icmp .ne 30, 3) := by decide +kernel
theorem dX17_parts_28 : decode cX17_parts 28 = .ok (.iload_n 1, 1) := by decide +kernel
theorem dX17_parts_29 : decode cX17_parts 29 = .ok (.iload 5, 2) := by decide +kernel
theorem dX17_parts_31 : decode cX17_parts 31 = .ok (.ishr, 1) := by decide +kernel
theorem dX17_parts_32 : decode cX17_parts 32 = .ok (.iconst 1, 1) := by decide +kernel
theorem dX17_parts_33 : decode cX17_parts 33 = .ok (.iand, 1) := by decide +kernel
theorem dX17_parts_34 : decode cX17_parts 34 = .ok (.ifCond .ne 21, 3) := by decide +kernel
theorem dX17_parts_37 : decode cX17_parts 37 = .ok (.aload_n 3, 1) := by decide +kernel
theorem dX17_parts_38 : decode cX17_parts 38 = .ok (.iload 5, 2) := by decide +kernel
theorem dX17_parts_40 : decode cX17_parts 40 = .ok (.iaload, 1) := by decide +kernel
theorem dX17_parts_41 : decode cX17_parts 41 = .ok (.iload_n 1, 1) := by decide +kernel
theorem dX17_parts_42 : decode cX17_parts 42 = .ok (.iconst (-1), 1) := by decide +kernel
theorem dX17_parts_43 : decode cX17_parts 43 = .ok (.ixor, 1) := by decide +kernel
theorem dX17_parts_44 : decode cX17_parts 44 = .ok (.iand, 1) := by decide +kernel
theorem dX17_parts_45 : decode cX17_parts 45 = .ok (.ifCond .ne 7, 3) := by decide +kernel
theorem dX17_parts_48 : decode cX17_parts 48 = .ok (.iconst 1, 1) := by decide +kernel
theorem dX17_parts_49 : decode cX17_parts 49 = .ok (.goto 4, 3) := by decide +kernel
theorem dX17_parts_52 : decode cX17_parts 52 = .ok (.iconst 0, 1) := by decide +kernel
theorem dX17_parts_53 : decode cX17_parts 53 = .ok (.istore 4, 2) := by decide +kernel
theorem dX17_parts_55 : decode cX17_parts 55 = .ok (.iinc 5 1, 3) := by decide +kernel
theorem dX17_parts_58 : decode cX17_parts 58 = .ok (.goto (-52), 3) := by decide +kernel
theorem dX17_parts_61 : decode cX17_parts 61 = .ok (.iload 4, 2) := by decide +kernel
theorem dX17_parts_63 : decode cX17_parts 63 = .ok (.ireturn, 1) := by decide +kernel
def fn_X17_parts_55 (N : Nat) (K6 : Int32 → Int32 → Nat → Int32 → Int32 → zo_O → Option zo_R) (x1 : Int32) (x2 : Int32) (x3 : Nat) (x4 : Int32) (x5 : Int32) (Ω : zo_O) : Option zo_R :=
  K6 x1 x2 x3 x4 (x5 + 1) Ω
theorem ct_X17_parts_55 {Y : zo_Y} (hY : zo_Gd Y cX17_parts 6 RX17 0) (hJ : zo_JC (zo_J Y)) (hCon : ∀ Ω, zo_J Y Ω → zo_Con Ω) (hr : zo_rt Y (Option.some Jvm.ClassFile.FieldType.boolean)) (N : Nat) (K6 : Int32 → Int32 → Nat → Int32 → Int32 → zo_O → Option zo_R) (hK6 : ∀ (x1 : Int32) (x2 : Int32) (x3 : Nat) (x4 : Int32) (x5 : Int32) (Ω : zo_O) (res : zo_R), K6 x1 x2 x3 x4 x5 Ω = some res → TW Y res Ω 6 [(1, vi x1), (2, vi x2), (3, vr 35 x3), (4, vi x4), (5, vi x5)] []) (x1 : Int32) (x2 : Int32) (x3 : Nat) (x4 : Int32) (x5 : Int32) (Ω : zo_O) (res : zo_R) (h : fn_X17_parts_55 N K6 x1 x2 x3 x4 x5 Ω = some res) : TW Y res Ω 55 [(1, vi x1), (2, vi x2), (3, vr 35 x3), (4, vi x4), (5, vi x5)] [] := by
  unfold fn_X17_parts_55 at h
  refine zo_iinc hY 1 dX17_parts_55 (by decide) (by decide) 4 rfl rfl (ls' := [(5, vi (x5 + 1)), (1, vi x1), (2, vi x2), (3, vr 35 x3), (4, vi x4)]) rfl ?_
  refine zo_goto hY 6 dX17_parts_58 (by decide) ?_
  refine zo_sub [1, 2, 3, 4, 0] rfl ?_
  exact hK6 x1 x2 x3 x4 (x5 + 1) Ω _ h
def fn_X17_parts_53 (N : Nat) (K6 : Int32 → Int32 → Nat → Int32 → Int32 → zo_O → Option zo_R) (x1 : Int32) (x2 : Int32) (x3 : Nat) (x5 : Int32) (s0 : Int32) (Ω : zo_O) : Option zo_R :=
  fn_X17_parts_55 N K6 x1 x2 x3 s0 x5 Ω
theorem ct_X17_parts_53 {Y : zo_Y} (hY : zo_Gd Y cX17_parts 6 RX17 0) (hJ : zo_JC (zo_J Y)) (hCon : ∀ Ω, zo_J Y Ω → zo_Con Ω) (hr : zo_rt Y (Option.some Jvm.ClassFile.FieldType.boolean)) (N : Nat) (K6 : Int32 → Int32 → Nat → Int32 → Int32 → zo_O → Option zo_R) (hK6 : ∀ (x1 : Int32) (x2 : Int32) (x3 : Nat) (x4 : Int32) (x5 : Int32) (Ω : zo_O) (res : zo_R), K6 x1 x2 x3 x4 x5 Ω = some res → TW Y res Ω 6 [(1, vi x1), (2, vi x2), (3, vr 35 x3), (4, vi x4), (5, vi x5)] []) (x1 : Int32) (x2 : Int32) (x3 : Nat) (x5 : Int32) (s0 : Int32) (Ω : zo_O) (res : zo_R) (h : fn_X17_parts_53 N K6 x1 x2 x3 x5 s0 Ω = some res) : TW Y res Ω 53 [(1, vi x1), (2, vi x2), (3, vr 35 x3), (5, vi x5)] [vi s0] := by
  unfold fn_X17_parts_53 at h
  refine zo_istore hY dX17_parts_53 (by decide) rfl (ls' := [(4, vi s0), (1, vi x1), (2, vi x2), (3, vr 35 x3), (5, vi x5)]) rfl ?_
  refine zo_sub [1, 2, 3, 0, 4] rfl ?_
  exact ct_X17_parts_55 hY hJ hCon hr N K6 hK6 x1 x2 x3 s0 x5 Ω _ h
def fn_X17_parts_61 (N : Nat)  (x4 : Int32) (Ω : zo_O) : Option zo_R :=
  rZ x4 Ω
theorem ct_X17_parts_61 {Y : zo_Y} (hY : zo_Gd Y cX17_parts 6 RX17 0) (hJ : zo_JC (zo_J Y)) (hCon : ∀ Ω, zo_J Y Ω → zo_Con Ω) (hr : zo_rt Y (Option.some Jvm.ClassFile.FieldType.boolean)) (N : Nat)   (x4 : Int32) (Ω : zo_O) (res : zo_R) (h : fn_X17_parts_61 N  x4 Ω = some res) : TW Y res Ω 61 [(4, vi x4)] [] := by
  unfold fn_X17_parts_61 at h
  refine zo_iload hY dX17_parts_61 0 rfl ?_
  exact zo_zret hY hr dX17_parts_63 h
def bd_X17_parts_6 (N : Nat)  (K6 : Int32 → Int32 → Nat → Int32 → Int32 → zo_O → Option zo_R) (x1 : Int32) (x2 : Int32) (x3 : Nat) (x4 : Int32) (x5 : Int32) (Ω : zo_O) : Option zo_R :=
  if 14 ≤ x5 then (
    fn_X17_parts_61 N x4 Ω
    ) else
  if x4 = 0 then (
    fn_X17_parts_61 N x4 Ω
    ) else
  if (x2 >>> ((x5 : Int32) &&& 31)) &&& 1 = 1 then (
    if (x1 >>> ((x5 : Int32) &&& 31)) &&& 1 = 0 then (
      ix x5 (gL Ω 35 x3) fun j5 =>
      if (gI Ω 35 x3 j5) &&& (x1 ^^^ ((-1))) = 0 then (
        fn_X17_parts_53 N K6 x1 x2 x3 x5 1 Ω
        ) else
      fn_X17_parts_53 N K6 x1 x2 x3 x5 0 Ω
      ) else
    fn_X17_parts_55 N K6 x1 x2 x3 x4 x5 Ω
    ) else
  fn_X17_parts_55 N K6 x1 x2 x3 x4 x5 Ω
theorem cb_X17_parts_6 {Y : zo_Y} (hY : zo_Gd Y cX17_parts 6 RX17 0) (hJ : zo_JC (zo_J Y)) (hCon : ∀ Ω, zo_J Y Ω → zo_Con Ω) (hr : zo_rt Y (Option.some Jvm.ClassFile.FieldType.boolean)) (N : Nat)  (K6 : Int32 → Int32 → Nat → Int32 → Int32 → zo_O → Option zo_R)  (hK6 : ∀ (x1 : Int32) (x2 : Int32) (x3 : Nat) (x4 : Int32) (x5 : Int32) (Ω : zo_O) (res : zo_R), K6 x1 x2 x3 x4 x5 Ω = some res → TW Y res Ω 6 [(1, vi x1), (2, vi x2), (3, vr 35 x3), (4, vi x4), (5, vi x5)] []) (x1 : Int32) (x2 : Int32) (x3 : Nat) (x4 : Int32) (x5 : Int32) (Ω : zo_O) (res : zo_R) (h : bd_X17_parts_6 N  K6 x1 x2 x3 x4 x5 Ω = some res) : TW Y res Ω 6 [(1, vi x1), (2, vi x2), (3, vr 35 x3), (4, vi x4), (5, vi x5)] [] := by
  unfold bd_X17_parts_6 at h
  refine zo_iload hY dX17_parts_6 4 rfl ?_
  refine zo_bipush hY 14 (by decide) dX17_parts_8 ?_
  refine zo_icmp_ge hY 61 dX17_parts_10 (by decide) h (fun c1 h => ?_) (fun c1 h => ?_)
  · refine zo_sub [3] rfl ?_
    exact ct_X17_parts_61 hY hJ hCon hr N x4 Ω _ h
  · refine zo_iload hY dX17_parts_13 3 rfl ?_
    refine zo_if_eq hY 61 dX17_parts_15 (by decide) h (fun c2 h => ?_) (fun c2 h => ?_)
    · refine zo_sub [3] rfl ?_
      exact ct_X17_parts_61 hY hJ hCon hr N x4 Ω _ h
    · refine zo_iload_n hY dX17_parts_18 rfl 1 rfl ?_
      refine zo_iload hY dX17_parts_19 4 rfl ?_
      refine zo_ishr hY dX17_parts_21 ?_
      refine zo_iconst hY 1 (by decide) dX17_parts_22 ?_
      refine zo_iand hY dX17_parts_23 ?_
      refine zo_iconst hY 1 (by decide) dX17_parts_24 ?_
      refine zo_icmp_ne hY 55 dX17_parts_25 (by decide) h (fun c3 h => ?_) (fun c3 h => ?_)
      · refine zo_iload_n hY dX17_parts_28 rfl 0 rfl ?_
        refine zo_iload hY dX17_parts_29 4 rfl ?_
        refine zo_ishr hY dX17_parts_31 ?_
        refine zo_iconst hY 1 (by decide) dX17_parts_32 ?_
        refine zo_iand hY dX17_parts_33 ?_
        refine zo_if_ne hY 55 dX17_parts_34 (by decide) h (fun c4 h => ?_) (fun c4 h => ?_)
        · refine zo_aload_n hY dX17_parts_37 rfl 2 rfl ?_
          refine zo_iload hY dX17_parts_38 4 rfl ?_
          refine zo_ald hY (by decide) (Or.inl ⟨rfl, dX17_parts_40⟩) (fun _ => rfl) h (fun j5 h => ?_)
          refine zo_iload_n hY dX17_parts_41 rfl 0 rfl ?_
          refine zo_iconst hY (-1) (by decide) dX17_parts_42 ?_
          refine zo_ixor hY dX17_parts_43 ?_
          refine zo_iand hY dX17_parts_44 ?_
          refine zo_if_ne hY 52 dX17_parts_45 (by decide) h (fun c6 h => ?_) (fun c6 h => ?_)
          · refine zo_iconst hY 1 (by decide) dX17_parts_48 ?_
            refine zo_goto hY 53 dX17_parts_49 (by decide) ?_
            refine zo_sub [0, 1, 2, 4] rfl ?_
            exact ct_X17_parts_53 hY hJ hCon hr N K6 hK6 x1 x2 x3 x5 1 Ω _ h
          · refine zo_iconst hY 0 (by decide) dX17_parts_52 ?_
            refine zo_sub [0, 1, 2, 4] rfl ?_
            exact ct_X17_parts_53 hY hJ hCon hr N K6 hK6 x1 x2 x3 x5 0 Ω _ h
        · exact ct_X17_parts_55 hY hJ hCon hr N K6 hK6 x1 x2 x3 x4 x5 Ω _ h
      · exact ct_X17_parts_55 hY hJ hCon hr N K6 hK6 x1 x2 x3 x4 x5 Ω _ h
def fn_X17_parts_6 (N : Nat)  : Nat → Int32 → Int32 → Nat → Int32 → Int32 → zo_O → Option zo_R
  | 0, _, _, _, _, _, _ => none
  | n + 1, x1, x2, x3, x4, x5, Ω => bd_X17_parts_6 N  (fn_X17_parts_6 N  n) x1 x2 x3 x4 x5 Ω
theorem ct_X17_parts_6 {Y : zo_Y} (hY : zo_Gd Y cX17_parts 6 RX17 0) (hJ : zo_JC (zo_J Y)) (hCon : ∀ Ω, zo_J Y Ω → zo_Con Ω) (hr : zo_rt Y (Option.some Jvm.ClassFile.FieldType.boolean)) (N : Nat)   : ∀ (n : Nat) (x1 : Int32) (x2 : Int32) (x3 : Nat) (x4 : Int32) (x5 : Int32) (Ω : zo_O) (res : zo_R), fn_X17_parts_6 N  n x1 x2 x3 x4 x5 Ω = some res → TW Y res Ω 6 [(1, vi x1), (2, vi x2), (3, vr 35 x3), (4, vi x4), (5, vi x5)] [] := by
  intro n
  induction n with
  | zero => intro x1 x2 x3 x4 x5 Ω res h; exact nomatch (show (none : Option zo_R) = some res from h)
  | succ n ih => intro x1 x2 x3 x4 x5 Ω res h; exact cb_X17_parts_6 hY hJ hCon hr N  (fn_X17_parts_6 N  n)  ih x1 x2 x3 x4 x5 Ω res h
def fn_X17_parts (N : Nat) (x0 : Nat) (x1 : Int32) (x2 : Int32) (x3 : Nat) (Ω : zo_O) : Option zo_R :=
  fn_X17_parts_6 N N x1 x2 x3 1 0 Ω
theorem mt_X17_parts {G : zo_G} {J : zo_O → Prop} (hJ : zo_JC J) (hCon : ∀ Ω, J Ω → zo_Con Ω) (N : Nat) (x0 : Nat) (x1 : Int32) (x2 : Int32) (x3 : Nat) (Ω : zo_O) (res : zo_R) (h : fn_X17_parts N x0 x1 x2 x3 Ω = some res) : zo_MT G J yX17_parts cX17_parts 6 (Option.some Jvm.ClassFile.FieldType.boolean) 0 [vr 14 x0, vi x1, vi x2, vr 35 x3] Ω res := by
  refine zo_enter (by decide) rfl (Nat.le_of_ble_eq_true rfl) (fun Y hY eJ hr hmn => ?_)
  subst eJ
  show TW Y res Ω 0 [(0, vr 14 x0), (1, vi x1), (2, vi x2), (3, vr 35 x3)] []
  unfold fn_X17_parts at h
  refine zo_iconst hY 1 (by decide) dX17_parts_0 ?_
  refine zo_istore hY dX17_parts_1 (by decide) rfl (ls' := [(4, vi 1), (0, vr 14 x0), (1, vi x1), (2, vi x2), (3, vr 35 x3)]) rfl ?_
  refine zo_iconst hY 0 (by decide) dX17_parts_3 ?_
  refine zo_istore hY dX17_parts_4 (by decide) rfl (ls' := [(5, vi 0), (4, vi 1), (0, vr 14 x0), (1, vi x1), (2, vi x2), (3, vr 35 x3)]) rfl ?_
  refine zo_sub [3, 4, 5, 1, 0] rfl ?_
  exact ct_X17_parts_6 hY hJ hCon hr N N x1 x2 x3 1 0 Ω _ h
theorem dX17_strikes_0 : decode cX17_strikes 0 = .ok (.bipush 14, 2) := by decide +kernel
theorem dX17_strikes_2 : decode cX17_strikes 2 = .ok (.newarray .int, 2) := by decide +kernel
theorem dX17_strikes_4 : decode cX17_strikes 4 = .ok (.astore_n 1, 1) := by decide +kernel
theorem dX17_strikes_5 : decode cX17_strikes 5 = .ok (.iconst 0, 1) := by decide +kernel
theorem dX17_strikes_6 : decode cX17_strikes 6 = .ok (.istore_n 2, 1) := by decide +kernel
theorem dX17_strikes_7 : decode cX17_strikes 7 = .ok (.iconst 0, 1) := by decide +kernel
theorem dX17_strikes_8 : decode cX17_strikes 8 = .ok (.istore_n 3, 1) := by decide +kernel
theorem dX17_strikes_9 : decode cX17_strikes 9 = .ok (.iconst 0, 1) := by decide +kernel
theorem dX17_strikes_10 : decode cX17_strikes 10 = .ok (.istore 4, 2) := by decide +kernel
theorem dX17_strikes_12 : decode cX17_strikes 12 = .ok (.iload 4, 2) := by decide +kernel
theorem dX17_strikes_14 : decode cX17_strikes 14 = .ok (.aload_n 0, 1) := by decide +kernel
theorem dX17_strikes_15 : decode cX17_strikes 15 = .ok (.getfield 18, 3) := by decide +kernel
theorem dX17_strikes_18 : decode cX17_strikes 18 = .ok (.invokevirtual 77, 3) := by decide +kernel
theorem dX17_strikes_21 : decode cX17_strikes 21 = .ok (.if_icmp .ge 187, 3) := by decide +kernel
theorem dX17_strikes_24 : decode cX17_strikes 24 = .ok (.aload_n 0, 1) := by decide +kernel
theorem dX17_strikes_25 : decode cX17_strikes 25 = .ok (.getfield 18, 3) := by decide +kernel
theorem dX17_strikes_28 : decode cX17_strikes 28 = .ok (.iload 4, 2) := by decide +kernel
theorem dX17_strikes_30 : decode cX17_strikes 30 = .ok (.invokevirtual 81, 3) := by decide +kernel
theorem dX17_strikes_33 : decode cX17_strikes 33 = .ok (.checkcast 48, 3) := by decide +kernel
theorem dX17_strikes_36 : decode cX17_strikes 36 = .ok (.astore 5, 2) := by decide +kernel
theorem dX17_strikes_38 : decode cX17_strikes 38 = .ok (.aload 5, 2) := by decide +kernel
theorem dX17_strikes_40 : decode cX17_strikes 40 = .ok (.iconst 0, 1) := by decide +kernel
theorem dX17_strikes_41 : decode cX17_strikes 41 = .ok (.aload_n 0, 1) := by decide +kernel
theorem dX17_strikes_42 : decode cX17_strikes 42 = .ok (.getfield 3, 3) := by decide +kernel
theorem dX17_strikes_45 : decode cX17_strikes 45 = .ok (.getfield 85, 3) := by decide +kernel
theorem dX17_strikes_48 : decode cX17_strikes 48 = .ok (.invokevirtual 88, 3) := by decide +kernel
theorem dX17_strikes_51 : decode cX17_strikes 51 = .ok (.ifCond .le 13, 3) := by decide +kernel
theorem dX17_strikes_54 : decode cX17_strikes 54 = .ok (.iload_n 2, 1) := by decide +kernel
theorem dX17_strikes_55 : decode cX17_strikes 55 = .ok (.iconst 1, 1) := by decide +kernel
theorem dX17_strikes_56 : decode cX17_strikes 56 = .ok (.aload 5, 2) := by decide +kernel
theorem dX17_strikes_58 : decode cX17_strikes 58 = .ok (.getfield 92, 3) := by decide +kernel
theorem dX17_strikes_61 : decode cX17_strikes 61 = .ok (.ishl, 1) := by decide +kernel
theorem dX17_strikes_62 : decode cX17_strikes 62 = .ok (.ior, 1) := by decide +kernel
theorem dX17_strikes_63 : decode cX17_strikes 63 = .ok (.istore_n 2, 1) := by decide +kernel
theorem dX17_strikes_64 : decode cX17_strikes 64 = .ok (.iconst 0, 1) := by decide +kernel
theorem dX17_strikes_65 : decode cX17_strikes 65 = .ok (.istore 6, 2) := by decide +kernel
theorem dX17_strikes_67 : decode cX17_strikes 67 = .ok (.iload 6, 2) := by decide +kernel
theorem dX17_strikes_69 : decode cX17_strikes 69 = .ok (.aload_n 0, 1) := by decide +kernel
theorem dX17_strikes_70 : decode cX17_strikes 70 = .ok (.getfield 22, 3) := by decide +kernel
theorem dX17_strikes_73 : decode cX17_strikes 73 = .ok (.invokevirtual 77, 3) := by decide +kernel
theorem dX17_strikes_76 : decode cX17_strikes 76 = .ok (.if_icmp .ge 126, 3) := by decide +kernel
theorem dX17_strikes_79 : decode cX17_strikes 79 = .ok (.aload_n 0, 1) := by decide +kernel
theorem dX17_strikes_80 : decode cX17_strikes 80 = .ok (.getfield 22, 3) := by decide +kernel
theorem dX17_strikes_83 : decode cX17_strikes 83 = .ok (.iload 6, 2) := by decide +kernel
theorem dX17_strikes_85 : decode cX17_strikes 85 = .ok (.invokevirtual 81, 3) := by decide +kernel
theorem dX17_strikes_88 : decode cX17_strikes 88 = .ok (.checkcast 71, 3) := by decide +kernel
theorem dX17_strikes_91 : decode cX17_strikes 91 = .ok (.astore 7, 2) := by decide +kernel
theorem dX17_strikes_93 : decode cX17_strikes 93 = .ok (.aload 5, 2) := by decide +kernel
theorem dX17_strikes_95 : decode cX17_strikes 95 = .ok (.aload 7, 2) := by decide +kernel
theorem dX17_strikes_97 : decode cX17_strikes 97 = .ok (.getfield 93, 3) := by decide +kernel
theorem dX17_strikes_100 : decode cX17_strikes 100 = .ok (.aload_n 0, 1) := by decide +kernel
theorem dX17_strikes_101 : decode cX17_strikes 101 = .ok (.getfield 3, 3) := by decide +kernel
theorem dX17_strikes_104 : decode cX17_strikes 104 = .ok (.getfield 85, 3) := by decide +kernel
theorem dX17_strikes_107 : decode cX17_strikes 107 = .ok (.invokevirtual 88, 3) := by decide +kernel
theorem dX17_strikes_110 : decode cX17_strikes 110 = .ok (.aload 7, 2) := by decide +kernel
theorem dX17_strikes_112 : decode cX17_strikes 112 = .ok (.getfield 96, 3) := by decide +kernel
theorem dX17_strikes_115 : decode cX17_strikes 115 = .ok (.if_icmp .gt 6, 3) := by decide +kernel
theorem dX17_strikes_118 : decode cX17_strikes 118 = .ok (.goto 78, 3) := by decide +kernel
theorem dX17_strikes_121 : decode cX17_strikes 121 = .ok (.aload 5, 2) := by decide +kernel
theorem dX17_strikes_123 : decode cX17_strikes 123 = .ok (.getfield 92, 3) := by decide +kernel
theorem dX17_strikes_126 : decode cX17_strikes 126 = .ok (.aload 7, 2) := by decide +kernel
theorem dX17_strikes_128 : decode cX17_strikes 128 = .ok (.getfield 98, 3) := by decide +kernel
theorem dX17_strikes_131 : decode cX17_strikes 131 = .ok (.if_icmp .ne 13, 3) := by decide +kernel
theorem dX17_strikes_134 : decode cX17_strikes 134 = .ok (.iload_n 2, 1) := by decide +kernel
theorem dX17_strikes_135 : decode cX17_strikes 135 = .ok (.iconst 1, 1) := by decide +kernel
theorem dX17_strikes_136 : decode cX17_strikes 136 = .ok (.aload 5, 2) := by decide +kernel
theorem dX17_strikes_138 : decode cX17_strikes 138 = .ok (.getfield 92, 3) := by decide +kernel
theorem dX17_strikes_141 : decode cX17_strikes 141 = .ok (.ishl, 1) := by decide +kernel
theorem dX17_strikes_142 : decode cX17_strikes 142 = .ok (.ior, 1) := by decide +kernel
theorem dX17_strikes_143 : decode cX17_strikes 143 = .ok (.istore_n 2, 1) := by decide +kernel
theorem dX17_strikes_144 : decode cX17_strikes 144 = .ok (.aload_n 1, 1) := by decide +kernel
theorem dX17_strikes_145 : decode cX17_strikes 145 = .ok (.aload 5, 2) := by decide +kernel
theorem dX17_strikes_147 : decode cX17_strikes 147 = .ok (.getfield 92, 3) := by decide +kernel
theorem dX17_strikes_150 : decode cX17_strikes 150 = .ok (.dup2, 1) := by decide +kernel
theorem dX17_strikes_151 : decode cX17_strikes 151 = .ok (.iaload, 1) := by decide +kernel
theorem dX17_strikes_152 : decode cX17_strikes 152 = .ok (.iconst 1, 1) := by decide +kernel
theorem dX17_strikes_153 : decode cX17_strikes 153 = .ok (.aload 7, 2) := by decide +kernel
theorem dX17_strikes_155 : decode cX17_strikes 155 = .ok (.getfield 98, 3) := by decide +kernel
theorem dX17_strikes_158 : decode cX17_strikes 158 = .ok (.ishl, 1) := by decide +kernel
theorem dX17_strikes_159 : decode cX17_strikes 159 = .ok (.ior, 1) := by decide +kernel
theorem dX17_strikes_160 : decode cX17_strikes 160 = .ok (.iastore, 1) := by decide +kernel
theorem dX17_strikes_161 : decode cX17_strikes 161 = .ok (.aload_n 1, 1) := by decide +kernel
theorem dX17_strikes_162 : decode cX17_strikes 162 = .ok (.aload 7, 2) := by decide +kernel
theorem dX17_strikes_164 : decode cX17_strikes 164 = .ok (.getfield 98, 3) := by decide +kernel
theorem dX17_strikes_167 : decode cX17_strikes 167 = .ok (.dup2, 1) := by decide +kernel
theorem dX17_strikes_168 : decode cX17_strikes 168 = .ok (.iaload, 1) := by decide +kernel
theorem dX17_strikes_169 : decode cX17_strikes 169 = .ok (.iconst 1, 1) := by decide +kernel
theorem dX17_strikes_170 : decode cX17_strikes 170 = .ok (.aload 5, 2) := by decide +kernel
theorem dX17_strikes_172 : decode cX17_strikes 172 = .ok (.getfield 92, 3) := by decide +kernel
theorem dX17_strikes_175 : decode cX17_strikes 175 = .ok (.ishl, 1) := by decide +kernel
theorem dX17_strikes_176 : decode cX17_strikes 176 = .ok (.ior, 1) := by decide +kernel
theorem dX17_strikes_177 : decode cX17_strikes 177 = .ok (.iastore, 1) := by decide +kernel
theorem dX17_strikes_178 : decode cX17_strikes 178 = .ok (.iload_n 3, 1) := by decide +kernel
theorem dX17_strikes_179 : decode cX17_strikes 179 = .ok (.iconst 1, 1) := by decide +kernel
theorem dX17_strikes_180 : decode cX17_strikes 180 = .ok (.aload 5, 2) := by decide +kernel
theorem dX17_strikes_182 : decode cX17_strikes 182 = .ok (.getfield 92, 3) := by decide +kernel
theorem dX17_strikes_185 : decode cX17_strikes 185 = .ok (.ishl, 1) := by decide +kernel
theorem dX17_strikes_186 : decode cX17_strikes 186 = .ok (.iconst 1, 1) := by decide +kernel
theorem dX17_strikes_187 : decode cX17_strikes 187 = .ok (.aload 7, 2) := by decide +kernel
theorem dX17_strikes_189 : decode cX17_strikes 189 = .ok (.getfield 98, 3) := by decide +kernel
theorem dX17_strikes_192 : decode cX17_strikes 192 = .ok (.ishl, 1) := by decide +kernel
theorem dX17_strikes_193 : decode cX17_strikes 193 = .ok (.ior, 1) := by decide +kernel
theorem dX17_strikes_194 : decode cX17_strikes 194 = .ok (.ior, 1) := by decide +kernel
theorem dX17_strikes_195 : decode cX17_strikes 195 = .ok (.istore_n 3, 1) := by decide +kernel
theorem dX17_strikes_196 : decode cX17_strikes 196 = .ok (.iinc 6 1, 3) := by decide +kernel
theorem dX17_strikes_199 : decode cX17_strikes 199 = .ok (.goto (-132), 3) := by decide +kernel
theorem dX17_strikes_202 : decode cX17_strikes 202 = .ok (.iinc 4 1, 3) := by decide +kernel
theorem dX17_strikes_205 : decode cX17_strikes 205 = .ok (.goto (-193), 3) := by decide +kernel
theorem dX17_strikes_208 : decode cX17_strikes 208 = .ok (.iload_n 3, 1) := by decide +kernel
theorem dX17_strikes_209 : decode cX17_strikes 209 = .ok (.iload_n 2, 1) := by decide +kernel
theorem dX17_strikes_210 : decode cX17_strikes 210 = .ok (.ior, 1) := by decide +kernel
theorem dX17_strikes_211 : decode cX17_strikes 211 = .ok (.istore_n 3, 1) := by decide +kernel
theorem dX17_strikes_212 : decode cX17_strikes 212 = .ok (.iload_n 3, 1) := by decide +kernel
theorem dX17_strikes_213 : decode cX17_strikes 213 = .ok (.istore 4, 2) := by decide +kernel
theorem dX17_strikes_215 : decode cX17_strikes 215 = .ok (.iload_n 3, 1) := by decide +kernel
theorem dX17_strikes_216 : decode cX17_strikes 216 = .ok (.istore 5, 2) := by decide +kernel
theorem dX17_strikes_218 : decode cX17_strikes 218 = .ok (.iload 5, 2) := by decide +kernel
theorem dX17_strikes_220 : decode cX17_strikes 220 = .ok (.ifCond .le 48, 3) := by decide +kernel
theorem dX17_strikes_223 : decode cX17_strikes 223 = .ok (.iload 5, 2) := by decide +kernel
theorem dX17_strikes_225 : decode cX17_strikes 225 = .ok (.iload_n 2, 1) := by decide +kernel
theorem dX17_strikes_226 : decode cX17_strikes 226 = .ok (.iand, 1) := by decide +kernel
theorem dX17_strikes_227 : decode cX17_strikes 227 = .ok (.iload_n 2, 1) := by decide +kernel
theorem dX17_strikes_228 : decode cX17_strikes 228 = .ok (.if_icmp .ne 29, 3) := by decide +kernel
theorem dX17_strikes_231 : decode cX17_strikes 231 = .ok (.aload_n 0, 1) := by decide +kernel
theorem dX17_strikes_232 : decode cX17_strikes 232 = .ok (.iload 5, 2) := by decide +kernel
theorem dX17_strikes_234 : decode cX17_strikes 234 = .ok (.iload 4, 2) := by decide +kernel
theorem dX17_strikes_236 : decode cX17_strikes 236 = .ok (.invokevirtual 99, 3) := by decide +kernel
theorem dX17_strikes_239 : decode cX17_strikes 239 = .ok (.ifCond .eq 18, 3) := by decide +kernel
theorem dX17_strikes_242 : decode cX17_strikes 242 = .ok (.aload_n 0, 1) := by decide +kernel
theorem dX17_strikes_243 : decode cX17_strikes 243 = .ok (.iload 5, 2) := by decide +kernel
theorem dX17_strikes_245 : decode cX17_strikes 245 = .ok (.iload_n 3, 1) := by decide +kernel
theorem dX17_strikes_246 : decode cX17_strikes 246 = .ok (.aload_n 1, 1) := by decide +kernel
theorem dX17_strikes_247 : decode cX17_strikes 247 = .ok (.invokevirtual 103, 3) := by decide +kernel
theorem dX17_strikes_250 : decode cX17_strikes 250 = .ok (.ifCond .eq 7, 3) := by decide +kernel
theorem dX17_strikes_253 : decode cX17_strikes 253 = .ok (.iload 5, 2) := by decide +kernel
theorem dX17_strikes_255 : decode cX17_strikes 255 = .ok (.istore 4, 2) := by decide +kernel
theorem dX17_strikes_257 : decode cX17_strikes 257 = .ok (.iload 5, 2) := by decide +kernel
theorem dX17_strikes_259 : decode cX17_strikes 259 = .ok (.iconst 1, 1) := by decide +kernel
theorem dX17_strikes_260 : decode cX17_strikes 260 = .ok (.isub, 1) := by decide +kernel
theorem dX17_strikes_261 : decode cX17_strikes 261 = .ok (.iload_n 3, 1) := by decide +kernel
theorem dX17_strikes_262 : decode cX17_strikes 262 = .ok (.iand, 1) := by decide +kernel
theorem dX17_strikes_263 : decode cX17_strikes 263 = .ok (.istore 5, 2) := by decide +kernel
theorem dX17_strikes_265 : decode cX17_strikes 265 = .ok (.goto (-47), 3) := by decide +kernel
theorem dX17_strikes_268 : decode cX17_strikes 268 = .ok (.aload_n 0, 1) := by decide +kernel
theorem dX17_strikes_269 : decode cX17_strikes 269 = .ok (.iload_n 3, 1) := by decide +kernel
theorem dX17_strikes_270 : decode cX17_strikes 270 = .ok (.ifCond .eq 17, 3) := by decide +kernel
theorem dX17_strikes_273 : decode cX17_strikes 273 = .ok (.iload_n 2, 1) := by decide +kernel
theorem dX17_strikes_274 : decode cX17_strikes 274 = .ok (.ifCond .ne 17, 3) := by decide +kernel
theorem dX17_strikes_277 : decode cX17_strikes 277 = .ok (.aload_n 0, 1) := by decide +kernel
theorem dX17_strikes_278 : decode cX17_strikes 278 = .ok (.iconst 0, 1) := by decide +kernel
theorem dX17_strikes_279 : decode cX17_strikes 279 = .ok (.iload_n 3, 1) := by decide +kernel
theorem dX17_strikes_280 : decode cX17_strikes 280 = .ok (.aload_n 1, 1) := by decide +kernel
theorem dX17_strikes_281 : decode cX17_strikes 281 = .ok (.invokevirtual 103, 3) := by decide +kernel
theorem dX17_strikes_284 : decode cX17_strikes 284 = .ok (.ifCond .eq 7, 3) := by decide +kernel
theorem dX17_strikes_287 : decode cX17_strikes 287 = .ok (.iconst 0, 1) := by decide +kernel
theorem dX17_strikes_288 : decode cX17_strikes 288 = .ok (.goto 5, 3) := by decide +kernel
theorem dX17_strikes_291 : decode cX17_strikes 291 = .ok (.iload 4, 2) := by decide +kernel
theorem dX17_strikes_293 : decode cX17_strikes 293 = .ok (.putfield 31, 3) := by decide +kernel
theorem dX17_strikes_296 : decode cX17_strikes 296 = .ok (.return_, 1) := by decide +kernel
def fn_X17_strikes_196 (N : Nat) (K12 : Nat → Nat → Int32 → Int32 → Int32 → zo_O → Option zo_R) (K67 : Nat → Nat → Int32 → Int32 → Int32 → Nat → Int32 → zo_O → Option zo_R) (x0 : Nat) (x1 : Nat) (x2 : Int32) (x3 : Int32) (x4 : Int32) (x5 : Nat) (x6 : Int32) (Ω : zo_O) : Option zo_R :=
  K67 x0 x1 x2 x3 x4 x5 (x6 + 1) Ω
theorem ct_X17_strikes_196 {Y : zo_Y} (hY : zo_Gd Y cX17_strikes 8 RX17 3) (hJ : zo_JC (zo_J Y)) (hCon : ∀ Ω, zo_J Y Ω → zo_Con Ω) (hr : zo_rt Y (Option.none : Option Jvm.ClassFile.FieldType)) (N : Nat) (K12 : Nat → Nat → Int32 → Int32 → Int32 → zo_O → Option zo_R) (K67 : Nat → Nat → Int32 → Int32 → Int32 → Nat → Int32 → zo_O → Option zo_R) (hK12 : ∀ (x0 : Nat) (x1 : Nat) (x2 : Int32) (x3 : Int32) (x4 : Int32) (Ω : zo_O) (res : zo_R), K12 x0 x1 x2 x3 x4 Ω = some res → TW Y res Ω 12 [(0, vr 14 x0), (1, vr 35 x1), (2, vi x2), (3, vi x3), (4, vi x4)] []) (hK67 : ∀ (x0 : Nat) (x1 : Nat) (x2 : Int32) (x3 : Int32) (x4 : Int32) (x5 : Nat) (x6 : Int32) (Ω : zo_O) (res : zo_R), K67 x0 x1 x2 x3 x4 x5 x6 Ω = some res → TW Y res Ω 67 [(0, vr 14 x0), (1, vr 35 x1), (2, vi x2), (3, vi x3), (4, vi x4), (5, vr 16 x5), (6, vi x6)] []) (x0 : Nat) (x1 : Nat) (x2 : Int32) (x3 : Int32) (x4 : Int32) (x5 : Nat) (x6 : Int32) (Ω : zo_O) (res : zo_R) (h : fn_X17_strikes_196 N K12 K67 x0 x1 x2 x3 x4 x5 x6 Ω = some res) : TW Y res Ω 196 [(0, vr 14 x0), (1, vr 35 x1), (2, vi x2), (3, vi x3), (4, vi x4), (5, vr 16 x5), (6, vi x6)] [] := by
  unfold fn_X17_strikes_196 at h
  refine zo_iinc hY 1 dX17_strikes_196 (by decide) (by decide) 6 rfl rfl (ls' := [(6, vi (x6 + 1)), (0, vr 14 x0), (1, vr 35 x1), (2, vi x2), (3, vi x3), (4, vi x4), (5, vr 16 x5)]) rfl ?_
  refine zo_goto hY 67 dX17_strikes_199 (by decide) ?_
  refine zo_sub [1, 2, 3, 4, 5, 6, 0] rfl ?_
  exact hK67 x0 x1 x2 x3 x4 x5 (x6 + 1) Ω _ h
def fn_X17_strikes_144 (N : Nat) (K12 : Nat → Nat → Int32 → Int32 → Int32 → zo_O → Option zo_R) (K67 : Nat → Nat → Int32 → Int32 → Int32 → Nat → Int32 → zo_O → Option zo_R) (x0 : Nat) (x1 : Nat) (x2 : Int32) (x3 : Int32) (x4 : Int32) (x5 : Nat) (x6 : Int32) (x7 : Nat) (Ω : zo_O) : Option zo_R :=
  ix (gI Ω 16 x5 0) (gL Ω 35 x1) fun j1 =>
  ix (gI Ω 16 x5 0) (gL Ω 35 x1) fun j2 => lt (sI Ω 35 x1 j2 ((gI Ω 35 x1 j1) ||| ((1 : Int32) <<< ((gI Ω 17 x7 0 : Int32) &&& 31)))) fun Ω3 =>
  ix (gI Ω3 17 x7 0) (gL Ω3 35 x1) fun j4 =>
  ix (gI Ω3 17 x7 0) (gL Ω3 35 x1) fun j5 => lt (sI Ω3 35 x1 j5 ((gI Ω3 35 x1 j4) ||| ((1 : Int32) <<< ((gI Ω3 16 x5 0 : Int32) &&& 31)))) fun Ω6 =>
  li (x3 ||| (((1 : Int32) <<< ((gI Ω6 16 x5 0 : Int32) &&& 31)) ||| ((1 : Int32) <<< ((gI Ω6 17 x7 0 : Int32) &&& 31)))) fun y7 =>
  fn_X17_strikes_196 N K12 K67 x0 x1 x2 y7 x4 x5 x6 Ω6
theorem ct_X17_strikes_144 {Y : zo_Y} (hY : zo_Gd Y cX17_strikes 8 RX17 3) (hJ : zo_JC (zo_J Y)) (hCon : ∀ Ω, zo_J Y Ω → zo_Con Ω) (hr : zo_rt Y (Option.none : Option Jvm.ClassFile.FieldType)) (N : Nat) (K12 : Nat → Nat → Int32 → Int32 → Int32 → zo_O → Option zo_R) (K67 : Nat → Nat → Int32 → Int32 → Int32 → Nat → Int32 → zo_O → Option zo_R) (hK12 : ∀ (x0 : Nat) (x1 : Nat) (x2 : Int32) (x3 : Int32) (x4 : Int32) (Ω : zo_O) (res : zo_R), K12 x0 x1 x2 x3 x4 Ω = some res → TW Y res Ω 12 [(0, vr 14 x0), (1, vr 35 x1), (2, vi x2), (3, vi x3), (4, vi x4)] []) (hK67 : ∀ (x0 : Nat) (x1 : Nat) (x2 : Int32) (x3 : Int32) (x4 : Int32) (x5 : Nat) (x6 : Int32) (Ω : zo_O) (res : zo_R), K67 x0 x1 x2 x3 x4 x5 x6 Ω = some res → TW Y res Ω 67 [(0, vr 14 x0), (1, vr 35 x1), (2, vi x2), (3, vi x3), (4, vi x4), (5, vr 16 x5), (6, vi x6)] []) (x0 : Nat) (x1 : Nat) (x2 : Int32) (x3 : Int32) (x4 : Int32) (x5 : Nat) (x6 : Int32) (x7 : Nat) (Ω : zo_O) (res : zo_R) (h : fn_X17_strikes_144 N K12 K67 x0 x1 x2 x3 x4 x5 x6 x7 Ω = some res) : TW Y res Ω 144 [(0, vr 14 x0), (1, vr 35 x1), (2, vi x2), (3, vi x3), (4, vi x4), (5, vr 16 x5), (6, vi x6), (7, vr 17 x7)] [] := by
  unfold fn_X17_strikes_144 at h
  refine zo_aload_n hY dX17_strikes_144 rfl 1 rfl ?_
  refine zo_aload hY dX17_strikes_145 5 rfl ?_
  refine zo_getI hY LX17_92_16 rfl dX17_strikes_147 ?_
  refine zo_dup2 hY dX17_strikes_150 (Or.inl rfl) (Or.inr ⟨_, rfl⟩) ?_
  refine zo_ald hY (by decide) (Or.inl ⟨rfl, dX17_strikes_151⟩) (fun _ => rfl) h (fun j1 h => ?_)
  refine zo_iconst hY 1 (by decide) dX17_strikes_152 ?_
  refine zo_aload hY dX17_strikes_153 7 rfl ?_
  refine zo_getI hY LX17_98_17 rfl dX17_strikes_155 ?_
  refine zo_ishl hY dX17_strikes_158 ?_
  refine zo_ior hY dX17_strikes_159 ?_
  refine zo_ast hY hJ (by decide) (Or.inl ⟨rfl, rfl, dX17_strikes_160⟩) (fun _ => rfl) h (fun j2 Ω3 h => ?_)
  refine zo_aload_n hY dX17_strikes_161 rfl 1 rfl ?_
  refine zo_aload hY dX17_strikes_162 7 rfl ?_
  refine zo_getI hY LX17_98_17 rfl dX17_strikes_164 ?_
  refine zo_dup2 hY dX17_strikes_167 (Or.inl rfl) (Or.inr ⟨_, rfl⟩) ?_
  refine zo_ald hY (by decide) (Or.inl ⟨rfl, dX17_strikes_168⟩) (fun _ => rfl) h (fun j4 h => ?_)
  refine zo_iconst hY 1 (by decide) dX17_strikes_169 ?_
  refine zo_aload hY dX17_strikes_170 5 rfl ?_
  refine zo_getI hY LX17_92_16 rfl dX17_strikes_172 ?_
  refine zo_ishl hY dX17_strikes_175 ?_
  refine zo_ior hY dX17_strikes_176 ?_
  refine zo_ast hY hJ (by decide) (Or.inl ⟨rfl, rfl, dX17_strikes_177⟩) (fun _ => rfl) h (fun j5 Ω6 h => ?_)
  refine zo_iload_n hY dX17_strikes_178 rfl 3 rfl ?_
  refine zo_iconst hY 1 (by decide) dX17_strikes_179 ?_
  refine zo_aload hY dX17_strikes_180 5 rfl ?_
  refine zo_getI hY LX17_92_16 rfl dX17_strikes_182 ?_
  refine zo_ishl hY dX17_strikes_185 ?_
  refine zo_iconst hY 1 (by decide) dX17_strikes_186 ?_
  refine zo_aload hY dX17_strikes_187 7 rfl ?_
  refine zo_getI hY LX17_98_17 rfl dX17_strikes_189 ?_
  refine zo_ishl hY dX17_strikes_192 ?_
  refine zo_ior hY dX17_strikes_193 ?_
  refine zo_ior hY dX17_strikes_194 ?_
  refine zo_nmi h (fun y7 h => ?_)
  refine zo_istore_n hY dX17_strikes_195 rfl (by decide) rfl (ls' := [(3, vi y7), (0, vr 14 x0), (1, vr 35 x1), (2, vi x2), (4, vi x4), (5, vr 16 x5), (6, vi x6), (7, vr 17 x7)]) rfl ?_
  refine zo_sub [1, 2, 3, 0, 4, 5, 6] rfl ?_
  exact ct_X17_strikes_196 hY hJ hCon hr N K12 K67 hK12 hK67 x0 x1 x2 y7 x4 x5 x6 Ω6 _ h
def bd_X17_strikes_67 (N : Nat) (K12 : Nat → Nat → Int32 → Int32 → Int32 → zo_O → Option zo_R) (K67 : Nat → Nat → Int32 → Int32 → Int32 → Nat → Int32 → zo_O → Option zo_R) (x0 : Nat) (x1 : Nat) (x2 : Int32) (x3 : Int32) (x4 : Int32) (x5 : Nat) (x6 : Int32) (Ω : zo_O) : Option zo_R :=
  bk (gR Ω 14 x0 1) 20 fun j1 =>
  ci (fn_J2_size N j1 Ω) fun r3 Ω2 =>
  if r3 ≤ x6 then (
    K12 x0 x1 x2 x3 (x4 + 1) Ω2
    ) else
  bk (gR Ω2 14 x0 1) 20 fun j5 =>
  cr (fn_J2_get N j5 x6 Ω2) fun r7 Ω6 =>
  bk r7 17 fun j8 =>
  gd (gR Ω6 14 x0 3 = some (0, 0)) <|
  ci (fn_X20_at N x5 (gI Ω6 17 j8 1) (gI Ω6 0 0 10) Ω6) fun r10 Ω9 =>
  if gI Ω9 17 j8 2 < r10 then (
    if gI Ω9 16 x5 0 = gI Ω9 17 j8 0 then (
      li (x2 ||| ((1 : Int32) <<< ((gI Ω9 16 x5 0 : Int32) &&& 31))) fun y13 =>
      fn_X17_strikes_144 N K12 K67 x0 x1 y13 x3 x4 x5 x6 j8 Ω9
      ) else
    fn_X17_strikes_144 N K12 K67 x0 x1 x2 x3 x4 x5 x6 j8 Ω9
    ) else
  fn_X17_strikes_196 N K12 K67 x0 x1 x2 x3 x4 x5 x6 Ω9
theorem cb_X17_strikes_67 {Y : zo_Y} (hY : zo_Gd Y cX17_strikes 8 RX17 3) (hJ : zo_JC (zo_J Y)) (hCon : ∀ Ω, zo_J Y Ω → zo_Con Ω) (hr : zo_rt Y (Option.none : Option Jvm.ClassFile.FieldType)) (N : Nat) (K12 : Nat → Nat → Int32 → Int32 → Int32 → zo_O → Option zo_R) (K67 : Nat → Nat → Int32 → Int32 → Int32 → Nat → Int32 → zo_O → Option zo_R) (hK12 : ∀ (x0 : Nat) (x1 : Nat) (x2 : Int32) (x3 : Int32) (x4 : Int32) (Ω : zo_O) (res : zo_R), K12 x0 x1 x2 x3 x4 Ω = some res → TW Y res Ω 12 [(0, vr 14 x0), (1, vr 35 x1), (2, vi x2), (3, vi x3), (4, vi x4)] []) (hK67 : ∀ (x0 : Nat) (x1 : Nat) (x2 : Int32) (x3 : Int32) (x4 : Int32) (x5 : Nat) (x6 : Int32) (Ω : zo_O) (res : zo_R), K67 x0 x1 x2 x3 x4 x5 x6 Ω = some res → TW Y res Ω 67 [(0, vr 14 x0), (1, vr 35 x1), (2, vi x2), (3, vi x3), (4, vi x4), (5, vr 16 x5), (6, vi x6)] []) (x0 : Nat) (x1 : Nat) (x2 : Int32) (x3 : Int32) (x4 : Int32) (x5 : Nat) (x6 : Int32) (Ω : zo_O) (res : zo_R) (h : bd_X17_strikes_67 N K12 K67 x0 x1 x2 x3 x4 x5 x6 Ω = some res) : TW Y res Ω 67 [(0, vr 14 x0), (1, vr 35 x1), (2, vi x2), (3, vi x3), (4, vi x4), (5, vr 16 x5), (6, vi x6)] [] := by
  unfold bd_X17_strikes_67 at h
  refine zo_iload hY dX17_strikes_67 6 rfl ?_
  refine zo_aload_n hY dX17_strikes_69 rfl 0 rfl ?_
  refine zo_getK hY LX17_22_14 rfl dX17_strikes_70 h (fun j1 h => ?_)
  refine zo_callV hY (fun q hq => mt_J2_size hJ hCon N j1 Ω q hq) (by decide) (by decide) (by decide) ⟨rfl, cn_J2_size⟩ rfl q1029 q246 q247 q81 q248 (Nat.le_of_ble_eq_true rfl) dX17_strikes_73 rfl h (ci_k (fun r3 Ω2 res h => ?_))
  refine zo_icmp_ge hY 202 dX17_strikes_76 (by decide) h (fun c4 h => ?_) (fun c4 h => ?_)
  · refine zo_iinc hY 1 dX17_strikes_202 (by decide) (by decide) 4 rfl rfl (ls' := [(4, vi (x4 + 1)), (0, vr 14 x0), (1, vr 35 x1), (2, vi x2), (3, vi x3), (5, vr 16 x5), (6, vi x6)]) rfl ?_
    refine zo_goto hY 12 dX17_strikes_205 (by decide) ?_
    refine zo_sub [1, 2, 3, 4, 0] rfl ?_
    exact hK12 x0 x1 x2 x3 (x4 + 1) Ω2 _ h
  · refine zo_aload_n hY dX17_strikes_79 rfl 0 rfl ?_
    refine zo_getK hY LX17_22_14 rfl dX17_strikes_80 h (fun j5 h => ?_)
    refine zo_iload hY dX17_strikes_83 6 rfl ?_
    refine zo_callV hY (fun q hq => mt_J2_get hJ hCon N j5 x6 Ω2 q hq) (by decide) (by decide) (by decide) ⟨rfl, cn_J2_get⟩ rfl q1030 q369 q370 q81 q371 (Nat.le_of_ble_eq_true rfl) dX17_strikes_85 rfl h (cr_k (fun r7 Ω6 res h => ?_))
    refine zo_castK hY (by decide) q1015 (Or.inl rfl) dX17_strikes_88 h (fun j8 h => ?_)
    refine zo_astore hY dX17_strikes_91 (by decide) rfl (ls' := [(7, vr 17 j8), (0, vr 14 x0), (1, vr 35 x1), (2, vi x2), (3, vi x3), (4, vi x4), (5, vr 16 x5), (6, vi x6)]) rfl ?_
    refine zo_aload hY dX17_strikes_93 6 rfl ?_
    refine zo_aload hY dX17_strikes_95 0 rfl ?_
    refine zo_getI hY LX17_93_17 rfl dX17_strikes_97 ?_
    refine zo_aload_n hY dX17_strikes_100 rfl 1 rfl ?_
    refine zo_getG hY LX17_3_14 rfl dX17_strikes_101 h (fun h => ?_)
    refine zo_getI hY LX17_85_0 rfl dX17_strikes_104 ?_
    refine zo_callV hY (fun q hq => mt_X20_at hJ hCon N x5 (gI Ω6 17 j8 1) (gI Ω6 0 0 10) Ω6 q hq) (by decide) (by decide) (by decide) ⟨rfl, cn_X20_at⟩ rfl q1031 q1032 q1033 q113 q1034 (Nat.le_of_ble_eq_true rfl) dX17_strikes_107 rfl h (ci_k (fun r10 Ω9 res h => ?_))
    refine zo_aload hY dX17_strikes_110 0 rfl ?_
    refine zo_getI hY LX17_96_17 rfl dX17_strikes_112 ?_
    refine zo_icmp_gt hY 121 dX17_strikes_115 (by decide) h (fun c11 h => ?_) (fun c11 h => ?_)
    · refine zo_aload hY dX17_strikes_121 6 rfl ?_
      refine zo_getI hY LX17_92_16 rfl dX17_strikes_123 ?_
      refine zo_aload hY dX17_strikes_126 0 rfl ?_
      refine zo_getI hY LX17_98_17 rfl dX17_strikes_128 ?_
      refine zo_icmp_ne hY 144 dX17_strikes_131 (by decide) h (fun c12 h => ?_) (fun c12 h => ?_)
      · refine zo_iload_n hY dX17_strikes_134 rfl 3 rfl ?_
        refine zo_iconst hY 1 (by decide) dX17_strikes_135 ?_
        refine zo_aload hY dX17_strikes_136 6 rfl ?_
        refine zo_getI hY LX17_92_16 rfl dX17_strikes_138 ?_
        refine zo_ishl hY dX17_strikes_141 ?_
        refine zo_ior hY dX17_strikes_142 ?_
        refine zo_nmi h (fun y13 h => ?_)
        refine zo_istore_n hY dX17_strikes_143 rfl (by decide) rfl (ls' := [(2, vi y13), (7, vr 17 j8), (0, vr 14 x0), (1, vr 35 x1), (3, vi x3), (4, vi x4), (5, vr 16 x5), (6, vi x6)]) rfl ?_
        refine zo_sub [2, 3, 0, 4, 5, 6, 7, 1] rfl ?_
        exact ct_X17_strikes_144 hY hJ hCon hr N K12 K67 hK12 hK67 x0 x1 y13 x3 x4 x5 x6 j8 Ω9 _ h
      · refine zo_sub [1, 2, 3, 4, 5, 6, 7, 0] rfl ?_
        exact ct_X17_strikes_144 hY hJ hCon hr N K12 K67 hK12 hK67 x0 x1 x2 x3 x4 x5 x6 j8 Ω9 _ h
    · refine zo_goto hY 196 dX17_strikes_118 (by decide) ?_
      refine zo_sub [1, 2, 3, 4, 5, 6, 7] rfl ?_
      exact ct_X17_strikes_196 hY hJ hCon hr N K12 K67 hK12 hK67 x0 x1 x2 x3 x4 x5 x6 Ω9 _ h
def fn_X17_strikes_67 (N : Nat) (K12 : Nat → Nat → Int32 → Int32 → Int32 → zo_O → Option zo_R) : Nat → Nat → Nat → Int32 → Int32 → Int32 → Nat → Int32 → zo_O → Option zo_R
  | 0, _, _, _, _, _, _, _, _ => none
  | n + 1, x0, x1, x2, x3, x4, x5, x6, Ω => bd_X17_strikes_67 N K12 (fn_X17_strikes_67 N K12 n) x0 x1 x2 x3 x4 x5 x6 Ω
theorem ct_X17_strikes_67 {Y : zo_Y} (hY : zo_Gd Y cX17_strikes 8 RX17 3) (hJ : zo_JC (zo_J Y)) (hCon : ∀ Ω, zo_J Y Ω → zo_Con Ω) (hr : zo_rt Y (Option.none : Option Jvm.ClassFile.FieldType)) (N : Nat) (K12 : Nat → Nat → Int32 → Int32 → Int32 → zo_O → Option zo_R) (hK12 : ∀ (x0 : Nat) (x1 : Nat) (x2 : Int32) (x3 : Int32) (x4 : Int32) (Ω : zo_O) (res : zo_R), K12 x0 x1 x2 x3 x4 Ω = some res → TW Y res Ω 12 [(0, vr 14 x0), (1, vr 35 x1), (2, vi x2), (3, vi x3), (4, vi x4)] []) : ∀ (n : Nat) (x0 : Nat) (x1 : Nat) (x2 : Int32) (x3 : Int32) (x4 : Int32) (x5 : Nat) (x6 : Int32) (Ω : zo_O) (res : zo_R), fn_X17_strikes_67 N K12 n x0 x1 x2 x3 x4 x5 x6 Ω = some res → TW Y res Ω 67 [(0, vr 14 x0), (1, vr 35 x1), (2, vi x2), (3, vi x3), (4, vi x4), (5, vr 16 x5), (6, vi x6)] [] := by
  intro n
  induction n with
  | zero => intro x0 x1 x2 x3 x4 x5 x6 Ω res h; exact nomatch (show (none : Option zo_R) = some res from h)
  | succ n ih => intro x0 x1 x2 x3 x4 x5 x6 Ω res h; exact cb_X17_strikes_67 hY hJ hCon hr N K12 (fn_X17_strikes_67 N K12 n) hK12 ih x0 x1 x2 x3 x4 x5 x6 Ω res h
def fn_X17_strikes_64 (N : Nat) (K12 : Nat → Nat → Int32 → Int32 → Int32 → zo_O → Option zo_R) (x0 : Nat) (x1 : Nat) (x2 : Int32) (x3 : Int32) (x4 : Int32) (x5 : Nat) (Ω : zo_O) : Option zo_R :=
  fn_X17_strikes_67 N K12 N x0 x1 x2 x3 x4 x5 0 Ω
theorem ct_X17_strikes_64 {Y : zo_Y} (hY : zo_Gd Y cX17_strikes 8 RX17 3) (hJ : zo_JC (zo_J Y)) (hCon : ∀ Ω, zo_J Y Ω → zo_Con Ω) (hr : zo_rt Y (Option.none : Option Jvm.ClassFile.FieldType)) (N : Nat) (K12 : Nat → Nat → Int32 → Int32 → Int32 → zo_O → Option zo_R) (hK12 : ∀ (x0 : Nat) (x1 : Nat) (x2 : Int32) (x3 : Int32) (x4 : Int32) (Ω : zo_O) (res : zo_R), K12 x0 x1 x2 x3 x4 Ω = some res → TW Y res Ω 12 [(0, vr 14 x0), (1, vr 35 x1), (2, vi x2), (3, vi x3), (4, vi x4)] []) (x0 : Nat) (x1 : Nat) (x2 : Int32) (x3 : Int32) (x4 : Int32) (x5 : Nat) (Ω : zo_O) (res : zo_R) (h : fn_X17_strikes_64 N K12 x0 x1 x2 x3 x4 x5 Ω = some res) : TW Y res Ω 64 [(0, vr 14 x0), (1, vr 35 x1), (2, vi x2), (3, vi x3), (4, vi x4), (5, vr 16 x5)] [] := by
  unfold fn_X17_strikes_64 at h
  refine zo_iconst hY 0 (by decide) dX17_strikes_64 ?_
  refine zo_istore hY dX17_strikes_65 (by decide) rfl (ls' := [(6, vi 0), (0, vr 14 x0), (1, vr 35 x1), (2, vi x2), (3, vi x3), (4, vi x4), (5, vr 16 x5)]) rfl ?_
  refine zo_sub [1, 2, 3, 4, 5, 6, 0] rfl ?_
  exact ct_X17_strikes_67 hY hJ hCon hr N K12 hK12 N x0 x1 x2 x3 x4 x5 0 Ω _ h
def fn_X17_strikes_257 (N : Nat) (K218 : Nat → Nat → Int32 → Int32 → Int32 → Int32 → zo_O → Option zo_R) (x0 : Nat) (x1 : Nat) (x2 : Int32) (x3 : Int32) (x4 : Int32) (x5 : Int32) (Ω : zo_O) : Option zo_R :=
  li ((x5 - 1) &&& x3) fun y1 =>
  K218 x0 x1 x2 x3 x4 y1 Ω
theorem ct_X17_strikes_257 {Y : zo_Y} (hY : zo_Gd Y cX17_strikes 8 RX17 3) (hJ : zo_JC (zo_J Y)) (hCon : ∀ Ω, zo_J Y Ω → zo_Con Ω) (hr : zo_rt Y (Option.none : Option Jvm.ClassFile.FieldType)) (N : Nat) (K218 : Nat → Nat → Int32 → Int32 → Int32 → Int32 → zo_O → Option zo_R) (hK218 : ∀ (x0 : Nat) (x1 : Nat) (x2 : Int32) (x3 : Int32) (x4 : Int32) (x5 : Int32) (Ω : zo_O) (res : zo_R), K218 x0 x1 x2 x3 x4 x5 Ω = some res → TW Y res Ω 218 [(0, vr 14 x0), (1, vr 35 x1), (2, vi x2), (3, vi x3), (4, vi x4), (5, vi x5)] []) (x0 : Nat) (x1 : Nat) (x2 : Int32) (x3 : Int32) (x4 : Int32) (x5 : Int32) (Ω : zo_O) (res : zo_R) (h : fn_X17_strikes_257 N K218 x0 x1 x2 x3 x4 x5 Ω = some res) : TW Y res Ω 257 [(0, vr 14 x0), (1, vr 35 x1), (2, vi x2), (3, vi x3), (4, vi x4), (5, vi x5)] [] := by
  unfold fn_X17_strikes_257 at h
  refine zo_iload hY dX17_strikes_257 5 rfl ?_
  refine zo_iconst hY 1 (by decide) dX17_strikes_259 ?_
  refine zo_isub hY dX17_strikes_260 ?_
  refine zo_iload_n hY dX17_strikes_261 rfl 3 rfl ?_
  refine zo_iand hY dX17_strikes_262 ?_
  refine zo_nmi h (fun y1 h => ?_)
  refine zo_istore hY dX17_strikes_263 (by decide) rfl (ls' := [(5, vi y1), (0, vr 14 x0), (1, vr 35 x1), (2, vi x2), (3, vi x3), (4, vi x4)]) rfl ?_
  refine zo_goto hY 218 dX17_strikes_265 (by decide) ?_
  refine zo_sub [1, 2, 3, 4, 5, 0] rfl ?_
  exact hK218 x0 x1 x2 x3 x4 y1 Ω _ h
def fn_X17_strikes_293 (N : Nat)  (s0 : Int32) (s1 : Nat) (Ω : zo_O) : Option zo_R :=
  lt (sI Ω 14 s1 2 s0) fun Ω1 =>
  rV Ω1
theorem ct_X17_strikes_293 {Y : zo_Y} (hY : zo_Gd Y cX17_strikes 8 RX17 3) (hJ : zo_JC (zo_J Y)) (hCon : ∀ Ω, zo_J Y Ω → zo_Con Ω) (hr : zo_rt Y (Option.none : Option Jvm.ClassFile.FieldType)) (N : Nat)   (s0 : Int32) (s1 : Nat) (Ω : zo_O) (res : zo_R) (h : fn_X17_strikes_293 N  s0 s1 Ω = some res) : TW Y res Ω 293 [] [vi s0, vr 14 s1] := by
  unfold fn_X17_strikes_293 at h
  refine zo_putI hY hJ LX17_31_14 rfl (Or.inl rfl) dX17_strikes_293 h (fun Ω1 h => ?_)
  exact zo_vret hY hr dX17_strikes_296 h
def fn_X17_strikes_287 (N : Nat)  (s0 : Nat) (Ω : zo_O) : Option zo_R :=
  fn_X17_strikes_293 N 0 s0 Ω
theorem ct_X17_strikes_287 {Y : zo_Y} (hY : zo_Gd Y cX17_strikes 8 RX17 3) (hJ : zo_JC (zo_J Y)) (hCon : ∀ Ω, zo_J Y Ω → zo_Con Ω) (hr : zo_rt Y (Option.none : Option Jvm.ClassFile.FieldType)) (N : Nat)   (s0 : Nat) (Ω : zo_O) (res : zo_R) (h : fn_X17_strikes_287 N  s0 Ω = some res) : TW Y res Ω 287 [] [vr 14 s0] := by
  unfold fn_X17_strikes_287 at h
  refine zo_iconst hY 0 (by decide) dX17_strikes_287 ?_
  refine zo_goto hY 293 dX17_strikes_288 (by decide) ?_
  exact ct_X17_strikes_293 hY hJ hCon hr N 0 s0 Ω _ h
def fn_X17_strikes_291 (N : Nat)  (x4 : Int32) (s0 : Nat) (Ω : zo_O) : Option zo_R :=
  fn_X17_strikes_293 N x4 s0 Ω
theorem ct_X17_strikes_291 {Y : zo_Y} (hY : zo_Gd Y cX17_strikes 8 RX17 3) (hJ : zo_JC (zo_J Y)) (hCon : ∀ Ω, zo_J Y Ω → zo_Con Ω) (hr : zo_rt Y (Option.none : Option Jvm.ClassFile.FieldType)) (N : Nat)   (x4 : Int32) (s0 : Nat) (Ω : zo_O) (res : zo_R) (h : fn_X17_strikes_291 N  x4 s0 Ω = some res) : TW Y res Ω 291 [(4, vi x4)] [vr 14 s0] := by
  unfold fn_X17_strikes_291 at h
  refine zo_iload hY dX17_strikes_291 0 rfl ?_
  refine zo_sub [] rfl ?_
  exact ct_X17_strikes_293 hY hJ hCon hr N x4 s0 Ω _ h
def bd_X17_strikes_218 (N : Nat)  (K218 : Nat → Nat → Int32 → Int32 → Int32 → Int32 → zo_O → Option zo_R) (x0 : Nat) (x1 : Nat) (x2 : Int32) (x3 : Int32) (x4 : Int32) (x5 : Int32) (Ω : zo_O) : Option zo_R :=
  if x5 ≤ 0 then (
    if x3 = 0 then (
      fn_X17_strikes_287 N x0 Ω
      ) else
    if x2 = 0 then (
      ci (fn_X17_parts N x0 0 x3 x1 Ω) fun r5 Ω4 =>
      if r5 = 0 then (
        fn_X17_strikes_291 N x4 x0 Ω4
        ) else
      fn_X17_strikes_287 N x0 Ω4
      ) else
    fn_X17_strikes_291 N x4 x0 Ω
    ) else
  if x5 &&& x2 = x2 then (
    ci (fn_X17_isBetter N x0 x5 x4 Ω) fun r9 Ω8 =>
    if r9 = 0 then (
      fn_X17_strikes_257 N K218 x0 x1 x2 x3 x4 x5 Ω8
      ) else
    ci (fn_X17_parts N x0 x5 x3 x1 Ω8) fun r12 Ω11 =>
    if r12 = 0 then (
      fn_X17_strikes_257 N K218 x0 x1 x2 x3 x4 x5 Ω11
      ) else
    fn_X17_strikes_257 N K218 x0 x1 x2 x3 x5 x5 Ω11
    ) else
  fn_X17_strikes_257 N K218 x0 x1 x2 x3 x4 x5 Ω
theorem cb_X17_strikes_218 {Y : zo_Y} (hY : zo_Gd Y cX17_strikes 8 RX17 3) (hJ : zo_JC (zo_J Y)) (hCon : ∀ Ω, zo_J Y Ω → zo_Con Ω) (hr : zo_rt Y (Option.none : Option Jvm.ClassFile.FieldType)) (N : Nat)  (K218 : Nat → Nat → Int32 → Int32 → Int32 → Int32 → zo_O → Option zo_R)  (hK218 : ∀ (x0 : Nat) (x1 : Nat) (x2 : Int32) (x3 : Int32) (x4 : Int32) (x5 : Int32) (Ω : zo_O) (res : zo_R), K218 x0 x1 x2 x3 x4 x5 Ω = some res → TW Y res Ω 218 [(0, vr 14 x0), (1, vr 35 x1), (2, vi x2), (3, vi x3), (4, vi x4), (5, vi x5)] []) (x0 : Nat) (x1 : Nat) (x2 : Int32) (x3 : Int32) (x4 : Int32) (x5 : Int32) (Ω : zo_O) (res : zo_R) (h : bd_X17_strikes_218 N  K218 x0 x1 x2 x3 x4 x5 Ω = some res) : TW Y res Ω 218 [(0, vr 14 x0), (1, vr 35 x1), (2, vi x2), (3, vi x3), (4, vi x4), (5, vi x5)] [] := by
  unfold bd_X17_strikes_218 at h
  refine zo_iload hY dX17_strikes_218 5 rfl ?_
  refine zo_if_le hY 268 dX17_strikes_220 (by decide) h (fun c1 h => ?_) (fun c1 h => ?_)
  · refine zo_aload_n hY dX17_strikes_268 rfl 0 rfl ?_
    refine zo_iload_n hY dX17_strikes_269 rfl 3 rfl ?_
    refine zo_if_eq hY 287 dX17_strikes_270 (by decide) h (fun c2 h => ?_) (fun c2 h => ?_)
    · refine zo_sub [] rfl ?_
      exact ct_X17_strikes_287 hY hJ hCon hr N x0 Ω _ h
    · refine zo_iload_n hY dX17_strikes_273 rfl 2 rfl ?_
      refine zo_if_ne hY 291 dX17_strikes_274 (by decide) h (fun c3 h => ?_) (fun c3 h => ?_)
      · refine zo_aload_n hY dX17_strikes_277 rfl 0 rfl ?_
        refine zo_iconst hY 0 (by decide) dX17_strikes_278 ?_
        refine zo_iload_n hY dX17_strikes_279 rfl 3 rfl ?_
        refine zo_aload_n hY dX17_strikes_280 rfl 1 rfl ?_
        refine zo_callV hY (fun q hq => mt_X17_parts hJ hCon N x0 0 x3 x1 Ω q hq) (by decide) (by decide) (by decide) ⟨rfl, cn_X17_parts⟩ rfl q1045 q1047 qs29 q110 q1048 (Nat.le_of_ble_eq_true rfl) dX17_strikes_281 rfl h (ci_k (fun r5 Ω4 res h => ?_))
        refine zo_if_eq hY 291 dX17_strikes_284 (by decide) h (fun c6 h => ?_) (fun c6 h => ?_)
        · refine zo_sub [4] rfl ?_
          exact ct_X17_strikes_291 hY hJ hCon hr N x4 x0 Ω4 _ h
        · refine zo_sub [] rfl ?_
          exact ct_X17_strikes_287 hY hJ hCon hr N x0 Ω4 _ h
      · refine zo_sub [4] rfl ?_
        exact ct_X17_strikes_291 hY hJ hCon hr N x4 x0 Ω _ h
  · refine zo_iload hY dX17_strikes_223 5 rfl ?_
    refine zo_iload_n hY dX17_strikes_225 rfl 2 rfl ?_
    refine zo_iand hY dX17_strikes_226 ?_
    refine zo_iload_n hY dX17_strikes_227 rfl 2 rfl ?_
    refine zo_icmp_ne hY 257 dX17_strikes_228 (by decide) h (fun c7 h => ?_) (fun c7 h => ?_)
    · refine zo_aload_n hY dX17_strikes_231 rfl 0 rfl ?_
      refine zo_iload hY dX17_strikes_232 5 rfl ?_
      refine zo_iload hY dX17_strikes_234 4 rfl ?_
      refine zo_callV hY (fun q hq => mt_X17_isBetter hJ hCon N x0 x5 x4 Ω q hq) (by decide) (by decide) (by decide) ⟨rfl, cn_X17_isBetter⟩ rfl q1035 q1037 qs28 q110 q1038 (Nat.le_of_ble_eq_true rfl) dX17_strikes_236 rfl h (ci_k (fun r9 Ω8 res h => ?_))
      refine zo_if_eq hY 257 dX17_strikes_239 (by decide) h (fun c10 h => ?_) (fun c10 h => ?_)
      · exact ct_X17_strikes_257 hY hJ hCon hr N K218 hK218 x0 x1 x2 x3 x4 x5 Ω8 _ h
      · refine zo_aload_n hY dX17_strikes_242 rfl 0 rfl ?_
        refine zo_iload hY dX17_strikes_243 5 rfl ?_
        refine zo_iload_n hY dX17_strikes_245 rfl 3 rfl ?_
        refine zo_aload_n hY dX17_strikes_246 rfl 1 rfl ?_
        refine zo_callV hY (fun q hq => mt_X17_parts hJ hCon N x0 x5 x3 x1 Ω8 q hq) (by decide) (by decide) (by decide) ⟨rfl, cn_X17_parts⟩ rfl q1045 q1047 qs29 q110 q1048 (Nat.le_of_ble_eq_true rfl) dX17_strikes_247 rfl h (ci_k (fun r12 Ω11 res h => ?_))
        refine zo_if_eq hY 257 dX17_strikes_250 (by decide) h (fun c13 h => ?_) (fun c13 h => ?_)
        · exact ct_X17_strikes_257 hY hJ hCon hr N K218 hK218 x0 x1 x2 x3 x4 x5 Ω11 _ h
        · refine zo_iload hY dX17_strikes_253 5 rfl ?_
          refine zo_istore hY dX17_strikes_255 (by decide) rfl (ls' := [(4, vi x5), (0, vr 14 x0), (1, vr 35 x1), (2, vi x2), (3, vi x3), (5, vi x5)]) rfl ?_
          refine zo_sub [1, 2, 3, 4, 0, 5] rfl ?_
          exact ct_X17_strikes_257 hY hJ hCon hr N K218 hK218 x0 x1 x2 x3 x5 x5 Ω11 _ h
    · exact ct_X17_strikes_257 hY hJ hCon hr N K218 hK218 x0 x1 x2 x3 x4 x5 Ω _ h
def fn_X17_strikes_218 (N : Nat)  : Nat → Nat → Nat → Int32 → Int32 → Int32 → Int32 → zo_O → Option zo_R
  | 0, _, _, _, _, _, _, _ => none
  | n + 1, x0, x1, x2, x3, x4, x5, Ω => bd_X17_strikes_218 N  (fn_X17_strikes_218 N  n) x0 x1 x2 x3 x4 x5 Ω
theorem ct_X17_strikes_218 {Y : zo_Y} (hY : zo_Gd Y cX17_strikes 8 RX17 3) (hJ : zo_JC (zo_J Y)) (hCon : ∀ Ω, zo_J Y Ω → zo_Con Ω) (hr : zo_rt Y (Option.none : Option Jvm.ClassFile.FieldType)) (N : Nat)   : ∀ (n : Nat) (x0 : Nat) (x1 : Nat) (x2 : Int32) (x3 : Int32) (x4 : Int32) (x5 : Int32) (Ω : zo_O) (res : zo_R), fn_X17_strikes_218 N  n x0 x1 x2 x3 x4 x5 Ω = some res → TW Y res Ω 218 [(0, vr 14 x0), (1, vr 35 x1), (2, vi x2), (3, vi x3), (4, vi x4), (5, vi x5)] [] := by
  intro n
  induction n with
  | zero => intro x0 x1 x2 x3 x4 x5 Ω res h; exact nomatch (show (none : Option zo_R) = some res from h)
  | succ n ih => intro x0 x1 x2 x3 x4 x5 Ω res h; exact cb_X17_strikes_218 hY hJ hCon hr N  (fn_X17_strikes_218 N  n)  ih x0 x1 x2 x3 x4 x5 Ω res h
def bd_X17_strikes_12 (N : Nat)  (K12 : Nat → Nat → Int32 → Int32 → Int32 → zo_O → Option zo_R) (x0 : Nat) (x1 : Nat) (x2 : Int32) (x3 : Int32) (x4 : Int32) (Ω : zo_O) : Option zo_R :=
  bk (gR Ω 14 x0 0) 20 fun j1 =>
  ci (fn_J2_size N j1 Ω) fun r3 Ω2 =>
  if r3 ≤ x4 then (
    li (x3 ||| x2) fun y5 =>
    fn_X17_strikes_218 N N x0 x1 x2 y5 y5 y5 Ω2
    ) else
  bk (gR Ω2 14 x0 0) 20 fun j6 =>
  cr (fn_J2_get N j6 x4 Ω2) fun r8 Ω7 =>
  bk r8 16 fun j9 =>
  gd (gR Ω7 14 x0 3 = some (0, 0)) <|
  ci (fn_X20_at N j9 0 (gI Ω7 0 0 10) Ω7) fun r11 Ω10 =>
  if r11 ≤ 0 then (
    fn_X17_strikes_64 N K12 x0 x1 x2 x3 x4 j9 Ω10
    ) else
  li (x2 ||| ((1 : Int32) <<< ((gI Ω10 16 j9 0 : Int32) &&& 31))) fun y13 =>
  fn_X17_strikes_64 N K12 x0 x1 y13 x3 x4 j9 Ω10
theorem cb_X17_strikes_12 {Y : zo_Y} (hY : zo_Gd Y cX17_strikes 8 RX17 3) (hJ : zo_JC (zo_J Y)) (hCon : ∀ Ω, zo_J Y Ω → zo_Con Ω) (hr : zo_rt Y (Option.none : Option Jvm.ClassFile.FieldType)) (N : Nat)  (K12 : Nat → Nat → Int32 → Int32 → Int32 → zo_O → Option zo_R)  (hK12 : ∀ (x0 : Nat) (x1 : Nat) (x2 : Int32) (x3 : Int32) (x4 : Int32) (Ω : zo_O) (res : zo_R), K12 x0 x1 x2 x3 x4 Ω = some res → TW Y res Ω 12 [(0, vr 14 x0), (1, vr 35 x1), (2, vi x2), (3, vi x3), (4, vi x4)] []) (x0 : Nat) (x1 : Nat) (x2 : Int32) (x3 : Int32) (x4 : Int32) (Ω : zo_O) (res : zo_R) (h : bd_X17_strikes_12 N  K12 x0 x1 x2 x3 x4 Ω = some res) : TW Y res Ω 12 [(0, vr 14 x0), (1, vr 35 x1), (2, vi x2), (3, vi x3), (4, vi x4)] [] := by
  unfold bd_X17_strikes_12 at h
  refine zo_iload hY dX17_strikes_12 4 rfl ?_
  refine zo_aload_n hY dX17_strikes_14 rfl 0 rfl ?_
  refine zo_getK hY LX17_18_14 rfl dX17_strikes_15 h (fun j1 h => ?_)
  refine zo_callV hY (fun q hq => mt_J2_size hJ hCon N j1 Ω q hq) (by decide) (by decide) (by decide) ⟨rfl, cn_J2_size⟩ rfl q1029 q246 q247 q81 q248 (Nat.le_of_ble_eq_true rfl) dX17_strikes_18 rfl h (ci_k (fun r3 Ω2 res h => ?_))
  refine zo_icmp_ge hY 208 dX17_strikes_21 (by decide) h (fun c4 h => ?_) (fun c4 h => ?_)
  · refine zo_iload_n hY dX17_strikes_208 rfl 3 rfl ?_
    refine zo_iload_n hY dX17_strikes_209 rfl 2 rfl ?_
    refine zo_ior hY dX17_strikes_210 ?_
    refine zo_nmi h (fun y5 h => ?_)
    refine zo_istore_n hY dX17_strikes_211 rfl (by decide) rfl (ls' := [(3, vi y5), (0, vr 14 x0), (1, vr 35 x1), (2, vi x2), (4, vi x4)]) rfl ?_
    refine zo_iload_n hY dX17_strikes_212 rfl 0 rfl ?_
    refine zo_istore hY dX17_strikes_213 (by decide) rfl (ls' := [(4, vi y5), (3, vi y5), (0, vr 14 x0), (1, vr 35 x1), (2, vi x2)]) rfl ?_
    refine zo_iload_n hY dX17_strikes_215 rfl 1 rfl ?_
    refine zo_istore hY dX17_strikes_216 (by decide) rfl (ls' := [(5, vi y5), (4, vi y5), (3, vi y5), (0, vr 14 x0), (1, vr 35 x1), (2, vi x2)]) rfl ?_
    refine zo_sub [3, 4, 5, 2, 1, 0] rfl ?_
    exact ct_X17_strikes_218 hY hJ hCon hr N N x0 x1 x2 y5 y5 y5 Ω2 _ h
  · refine zo_aload_n hY dX17_strikes_24 rfl 0 rfl ?_
    refine zo_getK hY LX17_18_14 rfl dX17_strikes_25 h (fun j6 h => ?_)
    refine zo_iload hY dX17_strikes_28 4 rfl ?_
    refine zo_callV hY (fun q hq => mt_J2_get hJ hCon N j6 x4 Ω2 q hq) (by decide) (by decide) (by decide) ⟨rfl, cn_J2_get⟩ rfl q1030 q369 q370 q81 q371 (Nat.le_of_ble_eq_true rfl) dX17_strikes_30 rfl h (cr_k (fun r8 Ω7 res h => ?_))
    refine zo_castK hY (by decide) q973 (Or.inl rfl) dX17_strikes_33 h (fun j9 h => ?_)
    refine zo_astore hY dX17_strikes_36 (by decide) rfl (ls' := [(5, vr 16 j9), (0, vr 14 x0), (1, vr 35 x1), (2, vi x2), (3, vi x3), (4, vi x4)]) rfl ?_
    refine zo_aload hY dX17_strikes_38 0 rfl ?_
    refine zo_iconst hY 0 (by decide) dX17_strikes_40 ?_
    refine zo_aload_n hY dX17_strikes_41 rfl 1 rfl ?_
    refine zo_getG hY LX17_3_14 rfl dX17_strikes_42 h (fun h => ?_)
    refine zo_getI hY LX17_85_0 rfl dX17_strikes_45 ?_
    refine zo_callV hY (fun q hq => mt_X20_at hJ hCon N j9 0 (gI Ω7 0 0 10) Ω7 q hq) (by decide) (by decide) (by decide) ⟨rfl, cn_X20_at⟩ rfl q1031 q1032 q1033 q113 q1034 (Nat.le_of_ble_eq_true rfl) dX17_strikes_48 rfl h (ci_k (fun r11 Ω10 res h => ?_))
    refine zo_if_le hY 64 dX17_strikes_51 (by decide) h (fun c12 h => ?_) (fun c12 h => ?_)
    · refine zo_sub [1, 2, 3, 4, 5, 0] rfl ?_
      exact ct_X17_strikes_64 hY hJ hCon hr N K12 hK12 x0 x1 x2 x3 x4 j9 Ω10 _ h
    · refine zo_iload_n hY dX17_strikes_54 rfl 3 rfl ?_
      refine zo_iconst hY 1 (by decide) dX17_strikes_55 ?_
      refine zo_aload hY dX17_strikes_56 0 rfl ?_
      refine zo_getI hY LX17_92_16 rfl dX17_strikes_58 ?_
      refine zo_ishl hY dX17_strikes_61 ?_
      refine zo_ior hY dX17_strikes_62 ?_
      refine zo_nmi h (fun y13 h => ?_)
      refine zo_istore_n hY dX17_strikes_63 rfl (by decide) rfl (ls' := [(2, vi y13), (5, vr 16 j9), (0, vr 14 x0), (1, vr 35 x1), (3, vi x3), (4, vi x4)]) rfl ?_
      refine zo_sub [2, 3, 0, 4, 5, 1] rfl ?_
      exact ct_X17_strikes_64 hY hJ hCon hr N K12 hK12 x0 x1 y13 x3 x4 j9 Ω10 _ h
def fn_X17_strikes_12 (N : Nat)  : Nat → Nat → Nat → Int32 → Int32 → Int32 → zo_O → Option zo_R
  | 0, _, _, _, _, _, _ => none
  | n + 1, x0, x1, x2, x3, x4, Ω => bd_X17_strikes_12 N  (fn_X17_strikes_12 N  n) x0 x1 x2 x3 x4 Ω
theorem ct_X17_strikes_12 {Y : zo_Y} (hY : zo_Gd Y cX17_strikes 8 RX17 3) (hJ : zo_JC (zo_J Y)) (hCon : ∀ Ω, zo_J Y Ω → zo_Con Ω) (hr : zo_rt Y (Option.none : Option Jvm.ClassFile.FieldType)) (N : Nat)   : ∀ (n : Nat) (x0 : Nat) (x1 : Nat) (x2 : Int32) (x3 : Int32) (x4 : Int32) (Ω : zo_O) (res : zo_R), fn_X17_strikes_12 N  n x0 x1 x2 x3 x4 Ω = some res → TW Y res Ω 12 [(0, vr 14 x0), (1, vr 35 x1), (2, vi x2), (3, vi x3), (4, vi x4)] [] := by
  intro n
  induction n with
  | zero => intro x0 x1 x2 x3 x4 Ω res h; exact nomatch (show (none : Option zo_R) = some res from h)
  | succ n ih => intro x0 x1 x2 x3 x4 Ω res h; exact cb_X17_strikes_12 hY hJ hCon hr N  (fn_X17_strikes_12 N  n)  ih x0 x1 x2 x3 x4 Ω res h
def fn_X17_strikes (N : Nat) (x0 : Nat) (Ω : zo_O) : Option zo_R :=
  gd (¬ (14 : Int32) < 0 ∧ ((14 : Int32)).toNatClampNeg ≤ 65536) <| ad 1 ((14 : Int32)).toNatClampNeg <| lt (nw Ω 35 ((14 : Int32)).toNatClampNeg) fun Ω1 =>
  fn_X17_strikes_12 N N x0 (gC Ω 35) 0 0 0 Ω1
theorem mt_X17_strikes {G : zo_G} {J : zo_O → Prop} (hJ : zo_JC J) (hCon : ∀ Ω, J Ω → zo_Con Ω) (N : Nat) (x0 : Nat) (Ω : zo_O) (res : zo_R) (h : fn_X17_strikes N x0 Ω = some res) : zo_MT G J yX17_strikes cX17_strikes 8 (Option.none : Option Jvm.ClassFile.FieldType) 3 [vr 14 x0] Ω res := by
  refine zo_enter (by decide) rfl (Nat.le_of_ble_eq_true rfl) (fun Y hY eJ hr hmn => ?_)
  subst eJ
  show TW Y res Ω 0 [(0, vr 14 x0)] []
  unfold fn_X17_strikes at h
  refine zo_bipush hY 14 (by decide) dX17_strikes_0 ?_
  refine zo_newa hY hJ (k := 35) (aty := .int) (by decide) rfl rfl (Or.inl rfl) q233 dX17_strikes_2 h (fun Ω1 res h => ?_)
  refine zo_astore_n hY dX17_strikes_4 rfl (by decide) rfl (ls' := [(1, vr 35 (gC Ω 35)), (0, vr 14 x0)]) rfl ?_
  refine zo_iconst hY 0 (by decide) dX17_strikes_5 ?_
  refine zo_istore_n hY dX17_strikes_6 rfl (by decide) rfl (ls' := [(2, vi 0), (1, vr 35 (gC Ω 35)), (0, vr 14 x0)]) rfl ?_
  refine zo_iconst hY 0 (by decide) dX17_strikes_7 ?_
  refine zo_istore_n hY dX17_strikes_8 rfl (by decide) rfl (ls' := [(3, vi 0), (2, vi 0), (1, vr 35 (gC Ω 35)), (0, vr 14 x0)]) rfl ?_
  refine zo_iconst hY 0 (by decide) dX17_strikes_9 ?_
  refine zo_istore hY dX17_strikes_10 (by decide) rfl (ls' := [(4, vi 0), (3, vi 0), (2, vi 0), (1, vr 35 (gC Ω 35)), (0, vr 14 x0)]) rfl ?_
  refine zo_sub [4, 3, 2, 1, 0] rfl ?_
  exact ct_X17_strikes_12 hY hJ hCon hr N N x0 (gC Ω 35) 0 0 0 Ω1 _ h
