set_option maxRecDepth 100000
theorem LX1_26_0 : zo_FL RX1 26 0 3 := ⟨by decide, by decide, by decide, Or.inl ⟨_, q161, Or.inl rfl⟩⟩
theorem LX3_7_5 : zo_FL RX3 7 5 0 := ⟨by decide, by decide, by decide, Or.inl ⟨_, q270, Or.inl rfl⟩⟩
theorem LX7_7_5 : zo_FL RX7 7 5 1 := ⟨by decide, by decide, by decide, Or.inl ⟨_, q450, Or.inl rfl⟩⟩
theorem LX7_13_5 : zo_FL RX7 13 5 2 := ⟨by decide, by decide, by decide, Or.inl ⟨_, q452, Or.inl rfl⟩⟩
theorem LX7_16_5 : zo_FL RX7 16 5 3 := ⟨by decide, by decide, by decide, Or.inl ⟨_, q454, Or.inl rfl⟩⟩
theorem cn_X7_init : zo_Cn yX7_init 4 := ⟨by decide, by decide, by decide +kernel⟩
theorem LX1_29_0 : zo_FL RX1 29 0 4 := ⟨by decide, by decide, by decide, Or.inl ⟨_, q162, Or.inl rfl⟩⟩
theorem LX3_7_6 : zo_FL RX3 7 6 0 := ⟨by decide, by decide, by decide, Or.inl ⟨_, q270, Or.inl rfl⟩⟩
theorem LX8_7_6 : zo_FL RX8 7 6 1 := ⟨by decide, by decide, by decide, Or.inl ⟨_, q474, Or.inl rfl⟩⟩
theorem LX8_13_6 : zo_FL RX8 13 6 2 := ⟨by decide, by decide, by decide, Or.inl ⟨_, q476, Or.inl rfl⟩⟩
theorem LX8_16_6 : zo_FL RX8 16 6 3 := ⟨by decide, by decide, by decide, Or.inl ⟨_, q478, Or.inl rfl⟩⟩
theorem cn_X8_init : zo_Cn yX8_init 4 := ⟨by decide, by decide, by decide +kernel⟩
theorem LX1_32_0 : zo_FL RX1 32 0 5 := ⟨by decide, by decide, by decide, Or.inl ⟨_, q163, Or.inl rfl⟩⟩
theorem LX3_7_7 : zo_FL RX3 7 7 0 := ⟨by decide, by decide, by decide, Or.inl ⟨_, q270, Or.inl rfl⟩⟩
theorem LX9_7_7 : zo_FL RX9 7 7 1 := ⟨by decide, by decide, by decide, Or.inl ⟨_, q498, Or.inl rfl⟩⟩
theorem LX9_13_7 : zo_FL RX9 13 7 2 := ⟨by decide, by decide, by decide, Or.inl ⟨_, q500, Or.inl rfl⟩⟩
theorem LX9_16_7 : zo_FL RX9 16 7 3 := ⟨by decide, by decide, by decide, Or.inl ⟨_, q502, Or.inl rfl⟩⟩
theorem cn_X9_init : zo_Cn yX9_init 4 := ⟨by decide, by decide, by decide +kernel⟩
theorem LX1_35_0 : zo_FL RX1 35 0 6 := ⟨by decide, by decide, by decide, Or.inl ⟨_, q164, Or.inl rfl⟩⟩
theorem LX1_137_3 : zo_FL RX1 137 3 6 := ⟨by decide, by decide, by decide, Or.inr ⟨_, _, q397, Or.inl rfl⟩⟩
theorem LX1_141_3 : zo_FL RX1 141 3 1 := ⟨by decide, by decide, by decide, Or.inr ⟨_, _, q387, Or.inl rfl⟩⟩
theorem LX1_144_3 : zo_FL RX1 144 3 5 := ⟨by decide, by decide, by decide, Or.inr ⟨_, _, q395, Or.inl rfl⟩⟩
theorem LX3_7_8 : zo_FL RX3 7 8 0 := ⟨by decide, by decide, by decide, Or.inl ⟨_, q270, Or.inl rfl⟩⟩
theorem LX10_7_8 : zo_FL RX10 7 8 1 := ⟨by decide, by decide, by decide, Or.inl ⟨_, q522, Or.inl rfl⟩⟩
theorem LX10_13_8 : zo_FL RX10 13 8 2 := ⟨by decide, by decide, by decide, Or.inl ⟨_, q524, Or.inl rfl⟩⟩
theorem cn_X10_init : zo_Cn yX10_init 3 := ⟨by decide, by decide, by decide +kernel⟩
theorem LX1_42_0 : zo_FL RX1 42 0 9 := ⟨by decide, by decide, by decide, Or.inl ⟨_, q168, Or.inl rfl⟩⟩
theorem LX1_46_0 : zo_FL RX1 46 0 10 := ⟨by decide, by decide, by decide, Or.inl ⟨_, q169, Or.inl rfl⟩⟩
theorem LX1_49_0 : zo_FL RX1 49 0 11 := ⟨by decide, by decide, by decide, Or.inl ⟨_, q172, Or.inl rfl⟩⟩
theorem LX1_38_0 : zo_FL RX1 38 0 7 := ⟨by decide, by decide, by decide, Or.inl ⟨_, q166, Or.inl rfl⟩⟩
theorem LX1_159_2 : zo_FL RX1 159 2 1 := ⟨by decide, by decide, by decide, Or.inr ⟨_, _, q260, Or.inl rfl⟩⟩
theorem LX1_162_3 : zo_FL RX1 162 3 2 := ⟨by decide, by decide, by decide, Or.inr ⟨_, _, q389, Or.inl rfl⟩⟩
theorem LX1_165_3 : zo_FL RX1 165 3 3 := ⟨by decide, by decide, by decide, Or.inr ⟨_, _, q391, Or.inl rfl⟩⟩
theorem LX1_167_3 : zo_FL RX1 167 3 4 := ⟨by decide, by decide, by decide, Or.inr ⟨_, _, q393, Or.inl rfl⟩⟩
theorem LX1_170_3 : zo_FL RX1 170 3 7 := ⟨by decide, by decide, by decide, Or.inr ⟨_, _, q399, Or.inl rfl⟩⟩
theorem cn_X5_round : zo_Cn yX5_round 0 := ⟨by decide, by decide, by decide +kernel⟩
theorem LX1_177_2 : zo_FL RX1 177 2 2 := ⟨by decide, by decide, by decide, Or.inr ⟨_, _, q262, Or.inl rfl⟩⟩
theorem LX1_180_2 : zo_FL RX1 180 2 3 := ⟨by decide, by decide, by decide, Or.inr ⟨_, _, q264, Or.inl rfl⟩⟩
theorem LX1_52_0 : zo_FL RX1 52 0 12 := ⟨by decide, by decide, by decide, Or.inl ⟨_, q174, Or.inl rfl⟩⟩
theorem LX1_183_0 : zo_FL RX1 183 0 13 := ⟨by decide, by decide, by decide, Or.inl ⟨_, q176, Or.inl rfl⟩⟩
theorem cn_X1_four : zo_Cn yX1_four 1 := ⟨by decide, by decide, by decide +kernel⟩
theorem LX1_56_0 : zo_FL RX1 56 0 14 := ⟨by decide, by decide, by decide, Or.inl ⟨_, q177, Or.inl rfl⟩⟩
theorem LX1_59_0 : zo_FL RX1 59 0 15 := ⟨by decide, by decide, by decide, Or.inl ⟨_, q178, Or.inl rfl⟩⟩
def fn_X3_init_5 (N : Nat) (x0 : Nat) (x1 : Int32) (Ω : zo_O) : Option zo_R :=
  lt (sI Ω 5 x0 0 x1) fun Ω1 =>
  rV Ω1
theorem mt_X3_init_5 {G : zo_G} {J : zo_O → Prop} (hJ : zo_JC J) (hCon : ∀ Ω, J Ω → zo_Con Ω) (N : Nat) (x0 : Nat) (x1 : Int32) (Ω : zo_O) (res : zo_R) (h : fn_X3_init_5 N x0 x1 Ω = some res) : zo_MT G J yX3_init cX3_init 2 (Option.none : Option Jvm.ClassFile.FieldType) 1 [vr 5 x0, vi x1] Ω res := by
  refine zo_enter (by decide) rfl (Nat.le_of_ble_eq_true rfl) (fun Y hY eJ hr hmn => ?_)
  subst eJ
  have hmn := hmn rfl
  show TW Y res Ω 0 [(0, vr 5 x0), (1, vi x1)] []
  unfold fn_X3_init_5 at h
  refine zo_aload_n hY dX3_init_0 rfl 0 rfl ?_
  refine zo_oini hY (by decide) q257 (fun ρ => zo_room8 (Nat.le_of_ble_eq_true rfl)) dX3_init_1 ?_
  refine zo_aload_n hY dX3_init_4 rfl 0 rfl ?_
  refine zo_iload_n hY dX3_init_5 rfl 1 rfl ?_
  refine zo_putI hY hJ LX3_7_5 rfl (Or.inr ⟨rfl, hmn, rfl, _, q270, Or.inl rfl⟩) dX3_init_6 h (fun Ω1 h => ?_)
  exact zo_vret hY hr dX3_init_9 h
theorem dX7_init_0 : decode cX7_init 0 = .ok (.aload_n 0, 1) := by decide +kernel
theorem dX7_init_1 : decode cX7_init 1 = .ok (.iload_n 1, 1) := by decide +kernel
theorem dX7_init_2 : decode cX7_init 2 = .ok (.invokespecial 1, 3) := by decide +kernel
theorem dX7_init_5 : decode cX7_init 5 = .ok (.aload_n 0, 1) := by decide +kernel
theorem dX7_init_6 : decode cX7_init 6 = .ok (.iload_n 2, 1) := by decide +kernel
theorem dX7_init_7 : decode cX7_init 7 = .ok (.putfield 7, 3) := by decide +kernel
theorem dX7_init_10 : decode cX7_init 10 = .ok (.aload_n 0, 1) := by decide +kernel
theorem dX7_init_11 : decode cX7_init 11 = .ok (.iload_n 3, 1) := by decide +kernel
theorem dX7_init_12 : decode cX7_init 12 = .ok (.putfield 13, 3) := by decide +kernel
theorem dX7_init_15 : decode cX7_init 15 = .ok (.aload_n 0, 1) := by decide +kernel
theorem dX7_init_16 : decode cX7_init 16 = .ok (.iload 4, 2) := by decide +kernel
theorem dX7_init_18 : decode cX7_init 18 = .ok (.putfield 16, 3) := by decide +kernel
theorem dX7_init_21 : decode cX7_init 21 = .ok (.return_, 1) := by decide +kernel
def fn_X7_init (N : Nat) (x0 : Nat) (x1 : Int32) (x2 : Int32) (x3 : Int32) (x4 : Int32) (Ω : zo_O) : Option zo_R :=
  cv (fn_X3_init_5 N x0 x1 Ω) fun Ω1 =>
  lt (sI Ω1 5 x0 1 x2) fun Ω2 =>
  lt (sI Ω2 5 x0 2 x3) fun Ω3 =>
  lt (sI Ω3 5 x0 3 x4) fun Ω4 =>
  rV Ω4
theorem mt_X7_init {G : zo_G} {J : zo_O → Prop} (hJ : zo_JC J) (hCon : ∀ Ω, J Ω → zo_Con Ω) (N : Nat) (x0 : Nat) (x1 : Int32) (x2 : Int32) (x3 : Int32) (x4 : Int32) (Ω : zo_O) (res : zo_R) (h : fn_X7_init N x0 x1 x2 x3 x4 Ω = some res) : zo_MT G J yX7_init cX7_init 5 (Option.none : Option Jvm.ClassFile.FieldType) 2 [vr 5 x0, vi x1, vi x2, vi x3, vi x4] Ω res := by
  refine zo_enter (by decide) rfl (Nat.le_of_ble_eq_true rfl) (fun Y hY eJ hr hmn => ?_)
  subst eJ
  have hmn := hmn rfl
  show TW Y res Ω 0 [(0, vr 5 x0), (1, vi x1), (2, vi x2), (3, vi x3), (4, vi x4)] []
  unfold fn_X7_init at h
  refine zo_aload_n hY dX7_init_0 rfl 0 rfl ?_
  refine zo_iload_n hY dX7_init_1 rfl 1 rfl ?_
  refine zo_callI hY (fun q hq => mt_X3_init_5 hJ hCon N x0 x1 Ω q hq) (by decide) (by decide) cn_X3_init rfl rfl q449 q255 q83 q256 (Nat.le_of_ble_eq_true rfl) dX7_init_2 rfl h (cv_k (fun Ω1 res h => ?_))
  refine zo_aload_n hY dX7_init_5 rfl 0 rfl ?_
  refine zo_iload_n hY dX7_init_6 rfl 2 rfl ?_
  refine zo_putI hY hJ LX7_7_5 rfl (Or.inr ⟨rfl, hmn, rfl, _, q450, Or.inl rfl⟩) dX7_init_7 h (fun Ω2 h => ?_)
  refine zo_aload_n hY dX7_init_10 rfl 0 rfl ?_
  refine zo_iload_n hY dX7_init_11 rfl 3 rfl ?_
  refine zo_putI hY hJ LX7_13_5 rfl (Or.inr ⟨rfl, hmn, rfl, _, q452, Or.inl rfl⟩) dX7_init_12 h (fun Ω3 h => ?_)
  refine zo_aload_n hY dX7_init_15 rfl 0 rfl ?_
  refine zo_iload hY dX7_init_16 4 rfl ?_
  refine zo_putI hY hJ LX7_16_5 rfl (Or.inr ⟨rfl, hmn, rfl, _, q454, Or.inl rfl⟩) dX7_init_18 h (fun Ω4 h => ?_)
  exact zo_vret hY hr dX7_init_21 h
theorem dX1_twice_0 : decode cX1_twice 0 = .ok (.iload_n 1, 1) := by decide +kernel
theorem dX1_twice_1 : decode cX1_twice 1 = .ok (.invokestatic 111, 3) := by decide +kernel
theorem dX1_twice_4 : decode cX1_twice 4 = .ok (.ifCond .eq 50, 3) := by decide +kernel
theorem dX1_twice_7 : decode cX1_twice 7 = .ok (.iload_n 3, 1) := by decide +kernel
theorem dX1_twice_8 : decode cX1_twice 8 = .ok (.invokestatic 111, 3) := by decide +kernel
theorem dX1_twice_11 : decode cX1_twice 11 = .ok (.ifCond .eq 43, 3) := by decide +kernel
theorem dX1_twice_14 : decode cX1_twice 14 = .ok (.iload_n 1, 1) := by decide +kernel
theorem dX1_twice_15 : decode cX1_twice 15 = .ok (.iload_n 3, 1) := by decide +kernel
theorem dX1_twice_16 : decode cX1_twice 16 = .ok (.if_icmp .eq 38, 3) := by decide +kernel
theorem dX1_twice_19 : decode cX1_twice 19 = .ok (.iload_n 2, 1) := by decide +kernel
theorem dX1_twice_20 : decode cX1_twice 20 = .ok (.iconst 1, 1) := by decide +kernel
theorem dX1_twice_21 : decode cX1_twice 21 = .ok (.sipush 2000, 3) := by decide +kernel
theorem dX1_twice_24 : decode cX1_twice 24 = .ok (.invokestatic 3, 3) := by decide +kernel
theorem dX1_twice_27 : decode cX1_twice 27 = .ok (.ifCond .eq 27, 3) := by decide +kernel
theorem dX1_twice_30 : decode cX1_twice 30 = .ok (.iload 4, 2) := by decide +kernel
theorem dX1_twice_32 : decode cX1_twice 32 = .ok (.iconst 1, 1) := by decide +kernel
theorem dX1_twice_33 : decode cX1_twice 33 = .ok (.sipush 2000, 3) := by decide +kernel
theorem dX1_twice_36 : decode cX1_twice 36 = .ok (.invokestatic 3, 3) := by decide +kernel
theorem dX1_twice_39 : decode cX1_twice 39 = .ok (.ifCond .eq 15, 3) := by decide +kernel
theorem dX1_twice_42 : decode cX1_twice 42 = .ok (.aload_n 0, 1) := by decide +kernel
theorem dX1_twice_43 : decode cX1_twice 43 = .ok (.getfield 26, 3) := by decide +kernel
theorem dX1_twice_46 : decode cX1_twice 46 = .ok (.invokevirtual 85, 3) := by decide +kernel
theorem dX1_twice_49 : decode cX1_twice 49 = .ok (.bipush 40, 2) := by decide +kernel
theorem dX1_twice_51 : decode cX1_twice 51 = .ok (.if_icmp .ne 5, 3) := by decide +kernel
theorem dX1_twice_54 : decode cX1_twice 54 = .ok (.iconst 0, 1) := by decide +kernel
theorem dX1_twice_55 : decode cX1_twice 55 = .ok (.ireturn, 1) := by decide +kernel
theorem dX1_twice_56 : decode cX1_twice 56 = .ok (.aload_n 0, 1) := by decide +kernel
theorem dX1_twice_57 : decode cX1_twice 57 = .ok (.getfield 26, 3) := by decide +kernel
theorem dX1_twice_60 : decode cX1_twice 60 = .ok (.new 128, 3) := by decide +kernel
theorem dX1_twice_63 : decode cX1_twice 63 = .ok (.dup, 1) := by decide +kernel
theorem dX1_twice_64 : decode cX1_twice 64 = .ok (.aload_n 0, 1) := by decide +kernel
theorem dX1_twice_65 : decode cX1_twice 65 = .ok (.getfield 95, 3) := by decide +kernel
theorem dX1_twice_68 : decode cX1_twice 68 = .ok (.iload_n 1, 1) := by decide +kernel
theorem dX1_twice_69 : decode cX1_twice 69 = .ok (.iload_n 3, 1) := by decide +kernel
theorem dX1_twice_70 : decode cX1_twice 70 = .ok (.iload_n 2, 1) := by decide +kernel
theorem dX1_twice_71 : decode cX1_twice 71 = .ok (.iload 4, 2) := by decide +kernel
theorem dX1_twice_73 : decode cX1_twice 73 = .ok (.isub, 1) := by decide +kernel
theorem dX1_twice_74 : decode cX1_twice 74 = .ok (.invokespecial 130, 3) := by decide +kernel
theorem dX1_twice_77 : decode cX1_twice 77 = .ok (.invokevirtual 101, 3) := by decide +kernel
theorem dX1_twice_80 : decode cX1_twice 80 = .ok (.pop, 1) := by decide +kernel
theorem dX1_twice_81 : decode cX1_twice 81 = .ok (.iconst 1, 1) := by decide +kernel
theorem dX1_twice_82 : decode cX1_twice 82 = .ok (.ireturn, 1) := by decide +kernel
def fn_X1_twice_54 (N : Nat)   (Ω : zo_O) : Option zo_R :=
  rZ 0 Ω
theorem ct_X1_twice_54 {Y : zo_Y} (hY : zo_Gd Y cX1_twice 5 RX1 7) (hJ : zo_JC (zo_J Y)) (hCon : ∀ Ω, zo_J Y Ω → zo_Con Ω) (hr : zo_rt Y (Option.some Jvm.ClassFile.FieldType.boolean)) (N : Nat)    (Ω : zo_O) (res : zo_R) (h : fn_X1_twice_54 N   Ω = some res) : TW Y res Ω 54 [] [] := by
  unfold fn_X1_twice_54 at h
  refine zo_iconst hY 0 (by decide) dX1_twice_54 ?_
  exact zo_zret hY hr dX1_twice_55 h
def fn_X1_twice (N : Nat) (x1 : Int32) (x2 : Int32) (x3 : Int32) (x4 : Int32) (Ω : zo_O) : Option zo_R :=
  ci (fn_X1_isMeasurer N x1 Ω) fun r2 Ω1 =>
  if r2 = 0 then (
    fn_X1_twice_54 N Ω1
    ) else
  ci (fn_X1_isMeasurer N x3 Ω1) fun r5 Ω4 =>
  if r5 = 0 then (
    fn_X1_twice_54 N Ω4
    ) else
  if x1 = x3 then (
    fn_X1_twice_54 N Ω4
    ) else
  ci (fn_X1_in N x2 1 2000 Ω4) fun r9 Ω8 =>
  if r9 = 0 then (
    fn_X1_twice_54 N Ω8
    ) else
  ci (fn_X1_in N x4 1 2000 Ω8) fun r12 Ω11 =>
  if r12 = 0 then (
    fn_X1_twice_54 N Ω11
    ) else
  ci (fn_J2_size N 3 Ω11) fun r15 Ω14 =>
  if r15 = 40 then (
    fn_X1_twice_54 N Ω14
    ) else
  ad 1 4 <| lt (nw Ω14 5 0) fun Ω17 =>
  cv (fn_X7_init N (gC Ω14 5) (gI Ω17 0 0 8) x1 x3 (x2 - x4) Ω17) fun Ω18 =>
  ci (fn_J2_add N 3 (some (5, gC Ω14 5)) Ω18) fun r20 Ω19 =>
  rZ 1 Ω19
theorem mt_X1_twice {G : zo_G} {J : zo_O → Prop} (hJ : zo_JC J) (hCon : ∀ Ω, J Ω → zo_Con Ω) (N : Nat) (x1 : Int32) (x2 : Int32) (x3 : Int32) (x4 : Int32) (Ω : zo_O) (res : zo_R) (h : fn_X1_twice N x1 x2 x3 x4 Ω = some res) : zo_MT G J yX1_twice cX1_twice 5 (Option.some Jvm.ClassFile.FieldType.boolean) 7 [vr 0 0, vi x1, vi x2, vi x3, vi x4] Ω res := by
  refine zo_enter (by decide) rfl (Nat.le_of_ble_eq_true rfl) (fun Y hY eJ hr hmn => ?_)
  subst eJ
  show TW Y res Ω 0 [(0, vr 0 0), (1, vi x1), (2, vi x2), (3, vi x3), (4, vi x4)] []
  unfold fn_X1_twice at h
  refine zo_iload_n hY dX1_twice_0 rfl 1 rfl ?_
  refine zo_callS hY (fun q hq => mt_X1_isMeasurer hJ hCon N x1 Ω q hq) (by decide) (by decide) cn_X1_isMeasurer rfl q363 q364 q78 q365 (Nat.le_of_ble_eq_true rfl) dX1_twice_1 rfl h (ci_k (fun r2 Ω1 res h => ?_))
  refine zo_if_eq hY 54 dX1_twice_4 (by decide) h (fun c3 h => ?_) (fun c3 h => ?_)
  · refine zo_sub [] rfl ?_
    exact ct_X1_twice_54 hY hJ hCon hr N Ω1 _ h
  · refine zo_iload_n hY dX1_twice_7 rfl 3 rfl ?_
    refine zo_callS hY (fun q hq => mt_X1_isMeasurer hJ hCon N x3 Ω1 q hq) (by decide) (by decide) cn_X1_isMeasurer rfl q363 q364 q78 q365 (Nat.le_of_ble_eq_true rfl) dX1_twice_8 rfl h (ci_k (fun r5 Ω4 res h => ?_))
    refine zo_if_eq hY 54 dX1_twice_11 (by decide) h (fun c6 h => ?_) (fun c6 h => ?_)
    · refine zo_sub [] rfl ?_
      exact ct_X1_twice_54 hY hJ hCon hr N Ω4 _ h
    · refine zo_iload_n hY dX1_twice_14 rfl 1 rfl ?_
      refine zo_iload_n hY dX1_twice_15 rfl 3 rfl ?_
      refine zo_icmp_eq hY 54 dX1_twice_16 (by decide) h (fun c7 h => ?_) (fun c7 h => ?_)
      · refine zo_sub [] rfl ?_
        exact ct_X1_twice_54 hY hJ hCon hr N Ω4 _ h
      · refine zo_iload_n hY dX1_twice_19 rfl 2 rfl ?_
        refine zo_iconst hY 1 (by decide) dX1_twice_20 ?_
        refine zo_sipush hY 2000 (by decide) dX1_twice_21 ?_
        refine zo_callS hY (fun q hq => mt_X1_in hJ hCon N x2 1 2000 Ω4 q hq) (by decide) (by decide) cn_X1_in rfl q239 q240 q78 q241 (Nat.le_of_ble_eq_true rfl) dX1_twice_24 rfl h (ci_k (fun r9 Ω8 res h => ?_))
        refine zo_if_eq hY 54 dX1_twice_27 (by decide) h (fun c10 h => ?_) (fun c10 h => ?_)
        · refine zo_sub [] rfl ?_
          exact ct_X1_twice_54 hY hJ hCon hr N Ω8 _ h
        · refine zo_iload hY dX1_twice_30 4 rfl ?_
          refine zo_iconst hY 1 (by decide) dX1_twice_32 ?_
          refine zo_sipush hY 2000 (by decide) dX1_twice_33 ?_
          refine zo_callS hY (fun q hq => mt_X1_in hJ hCon N x4 1 2000 Ω8 q hq) (by decide) (by decide) cn_X1_in rfl q239 q240 q78 q241 (Nat.le_of_ble_eq_true rfl) dX1_twice_36 rfl h (ci_k (fun r12 Ω11 res h => ?_))
          refine zo_if_eq hY 54 dX1_twice_39 (by decide) h (fun c13 h => ?_) (fun c13 h => ?_)
          · refine zo_sub [] rfl ?_
            exact ct_X1_twice_54 hY hJ hCon hr N Ω11 _ h
          · refine zo_aload_n hY dX1_twice_42 rfl 0 rfl ?_
            refine zo_getC hY LX1_26_0 rfl (fun Ω q => (hCon Ω q).1 3 _ rfl) dX1_twice_43 ?_
            refine zo_callV hY (fun q hq => mt_J2_size hJ hCon N 3 Ω11 q hq) (by decide) (by decide) (by decide) ⟨rfl, cn_J2_size⟩ rfl q245 q246 q247 q81 q248 (Nat.le_of_ble_eq_true rfl) dX1_twice_46 rfl h (ci_k (fun r15 Ω14 res h => ?_))
            refine zo_bipush hY 40 (by decide) dX1_twice_49 ?_
            refine zo_icmp_ne hY 56 dX1_twice_51 (by decide) h (fun c16 h => ?_) (fun c16 h => ?_)
            · refine zo_sub [] rfl ?_
              exact ct_X1_twice_54 hY hJ hCon hr N Ω14 _ h
            · refine zo_aload_n hY dX1_twice_56 rfl 0 rfl ?_
              refine zo_getC hY LX1_26_0 rfl (fun Ω q => (hCon Ω q).1 3 _ rfl) dX1_twice_57 ?_
              refine zo_new hY hJ (k := 5) (by decide) (Or.inl rfl) rfl q444 q445 q93 dX1_twice_60 h (fun Ω17 res h => ?_)
              refine zo_dup hY dX1_twice_63 (Or.inr ⟨_, rfl⟩) ?_
              refine zo_aload_n hY dX1_twice_64 rfl 0 rfl ?_
              refine zo_getI hY LX1_95_0 rfl dX1_twice_65 ?_
              refine zo_iload_n hY dX1_twice_68 rfl 1 rfl ?_
              refine zo_iload_n hY dX1_twice_69 rfl 3 rfl ?_
              refine zo_iload_n hY dX1_twice_70 rfl 2 rfl ?_
              refine zo_iload hY dX1_twice_71 4 rfl ?_
              refine zo_isub hY dX1_twice_73 ?_
              refine zo_callI hY (fun q hq => mt_X7_init hJ hCon N (gC Ω14 5) (gI Ω17 0 0 8) x1 x3 (x2 - x4) Ω17 q hq) (by decide) (by decide) cn_X7_init rfl rfl q446 q447 q93 q448 (Nat.le_of_ble_eq_true rfl) dX1_twice_74 rfl h (cv_k (fun Ω18 res h => ?_))
              refine zo_callV hY (fun q hq => mt_J2_add hJ hCon N 3 (some (5, gC Ω14 5)) Ω18 q hq) (by decide) (by decide) (by decide) ⟨rfl, cn_J2_add⟩ rfl q284 q285 q286 q81 q287 (Nat.le_of_ble_eq_true rfl) dX1_twice_77 rfl h (ci_k (fun r20 Ω19 res h => ?_))
              refine zo_pop hY dX1_twice_80 (Or.inl rfl) ?_
              refine zo_iconst hY 1 (by decide) dX1_twice_81 ?_
              exact zo_zret hY hr dX1_twice_82 h
def fn_X3_init_6 (N : Nat) (x0 : Nat) (x1 : Int32) (Ω : zo_O) : Option zo_R :=
  lt (sI Ω 6 x0 0 x1) fun Ω1 =>
  rV Ω1
theorem mt_X3_init_6 {G : zo_G} {J : zo_O → Prop} (hJ : zo_JC J) (hCon : ∀ Ω, J Ω → zo_Con Ω) (N : Nat) (x0 : Nat) (x1 : Int32) (Ω : zo_O) (res : zo_R) (h : fn_X3_init_6 N x0 x1 Ω = some res) : zo_MT G J yX3_init cX3_init 2 (Option.none : Option Jvm.ClassFile.FieldType) 1 [vr 6 x0, vi x1] Ω res := by
  refine zo_enter (by decide) rfl (Nat.le_of_ble_eq_true rfl) (fun Y hY eJ hr hmn => ?_)
  subst eJ
  have hmn := hmn rfl
  show TW Y res Ω 0 [(0, vr 6 x0), (1, vi x1)] []
  unfold fn_X3_init_6 at h
  refine zo_aload_n hY dX3_init_0 rfl 0 rfl ?_
  refine zo_oini hY (by decide) q257 (fun ρ => zo_room8 (Nat.le_of_ble_eq_true rfl)) dX3_init_1 ?_
  refine zo_aload_n hY dX3_init_4 rfl 0 rfl ?_
  refine zo_iload_n hY dX3_init_5 rfl 1 rfl ?_
  refine zo_putI hY hJ LX3_7_6 rfl (Or.inr ⟨rfl, hmn, rfl, _, q270, Or.inl rfl⟩) dX3_init_6 h (fun Ω1 h => ?_)
  exact zo_vret hY hr dX3_init_9 h
theorem dX8_init_0 : decode cX8_init 0 = .ok (.aload_n 0, 1) := by decide +kernel
theorem dX8_init_1 : decode cX8_init 1 = .ok (.iload_n 1, 1) := by decide +kernel
theorem dX8_init_2 : decode cX8_init 2 = .ok (.invokespecial 1, 3) := by decide +kernel
theorem dX8_init_5 : decode cX8_init 5 = .ok (.aload_n 0, 1) := by decide +kernel
theorem dX8_init_6 : decode cX8_init 6 = .ok (.iload_n 2, 1) := by decide +kernel
theorem dX8_init_7 : decode cX8_init 7 = .ok (.putfield 7, 3) := by decide +kernel
theorem dX8_init_10 : decode cX8_init 10 = .ok (.aload_n 0, 1) := by decide +kernel
theorem dX8_init_11 : decode cX8_init 11 = .ok (.iload_n 3, 1) := by decide +kernel
theorem dX8_init_12 : decode cX8_init 12 = .ok (.putfield 13, 3) := by decide +kernel
theorem dX8_init_15 : decode cX8_init 15 = .ok (.aload_n 0, 1) := by decide +kernel
theorem dX8_init_16 : decode cX8_init 16 = .ok (.iload 4, 2) := by decide +kernel
theorem dX8_init_18 : decode cX8_init 18 = .ok (.putfield 16, 3) := by decide +kernel
theorem dX8_init_21 : decode cX8_init 21 = .ok (.return_, 1) := by decide +kernel
def fn_X8_init (N : Nat) (x0 : Nat) (x1 : Int32) (x2 : Int32) (x3 : Int32) (x4 : Int32) (Ω : zo_O) : Option zo_R :=
  cv (fn_X3_init_6 N x0 x1 Ω) fun Ω1 =>
  lt (sI Ω1 6 x0 1 x2) fun Ω2 =>
  lt (sI Ω2 6 x0 2 x3) fun Ω3 =>
  lt (sI Ω3 6 x0 3 x4) fun Ω4 =>
  rV Ω4
theorem mt_X8_init {G : zo_G} {J : zo_O → Prop} (hJ : zo_JC J) (hCon : ∀ Ω, J Ω → zo_Con Ω) (N : Nat) (x0 : Nat) (x1 : Int32) (x2 : Int32) (x3 : Int32) (x4 : Int32) (Ω : zo_O) (res : zo_R) (h : fn_X8_init N x0 x1 x2 x3 x4 Ω = some res) : zo_MT G J yX8_init cX8_init 5 (Option.none : Option Jvm.ClassFile.FieldType) 2 [vr 6 x0, vi x1, vi x2, vi x3, vi x4] Ω res := by
  refine zo_enter (by decide) rfl (Nat.le_of_ble_eq_true rfl) (fun Y hY eJ hr hmn => ?_)
  subst eJ
  have hmn := hmn rfl
  show TW Y res Ω 0 [(0, vr 6 x0), (1, vi x1), (2, vi x2), (3, vi x3), (4, vi x4)] []
  unfold fn_X8_init at h
  refine zo_aload_n hY dX8_init_0 rfl 0 rfl ?_
  refine zo_iload_n hY dX8_init_1 rfl 1 rfl ?_
  refine zo_callI hY (fun q hq => mt_X3_init_6 hJ hCon N x0 x1 Ω q hq) (by decide) (by decide) cn_X3_init rfl rfl q473 q255 q83 q256 (Nat.le_of_ble_eq_true rfl) dX8_init_2 rfl h (cv_k (fun Ω1 res h => ?_))
  refine zo_aload_n hY dX8_init_5 rfl 0 rfl ?_
  refine zo_iload_n hY dX8_init_6 rfl 2 rfl ?_
  refine zo_putI hY hJ LX8_7_6 rfl (Or.inr ⟨rfl, hmn, rfl, _, q474, Or.inl rfl⟩) dX8_init_7 h (fun Ω2 h => ?_)
  refine zo_aload_n hY dX8_init_10 rfl 0 rfl ?_
  refine zo_iload_n hY dX8_init_11 rfl 3 rfl ?_
  refine zo_putI hY hJ LX8_13_6 rfl (Or.inr ⟨rfl, hmn, rfl, _, q476, Or.inl rfl⟩) dX8_init_12 h (fun Ω3 h => ?_)
  refine zo_aload_n hY dX8_init_15 rfl 0 rfl ?_
  refine zo_iload hY dX8_init_16 4 rfl ?_
  refine zo_putI hY hJ LX8_16_6 rfl (Or.inr ⟨rfl, hmn, rfl, _, q478, Or.inl rfl⟩) dX8_init_18 h (fun Ω4 h => ?_)
  exact zo_vret hY hr dX8_init_21 h
theorem dX1_witness_0 : decode cX1_witness 0 = .ok (.aload_n 0, 1) := by decide +kernel
theorem dX1_witness_1 : decode cX1_witness 1 = .ok (.iload_n 1, 1) := by decide +kernel
theorem dX1_witness_2 : decode cX1_witness 2 = .ok (.invokevirtual 105, 3) := by decide +kernel
theorem dX1_witness_5 : decode cX1_witness 5 = .ok (.ifCond .eq 34, 3) := by decide +kernel
theorem dX1_witness_8 : decode cX1_witness 8 = .ok (.iload_n 2, 1) := by decide +kernel
theorem dX1_witness_9 : decode cX1_witness 9 = .ok (.invokestatic 89, 3) := by decide +kernel
theorem dX1_witness_12 : decode cX1_witness 12 = .ok (.ifCond .eq 27, 3) := by decide +kernel
theorem dX1_witness_15 : decode cX1_witness 15 = .ok (.iload_n 3, 1) := by decide +kernel
theorem dX1_witness_16 : decode cX1_witness 16 = .ok (.invokestatic 89, 3) := by decide +kernel
theorem dX1_witness_19 : decode cX1_witness 19 = .ok (.ifCond .eq 20, 3) := by decide +kernel
theorem dX1_witness_22 : decode cX1_witness 22 = .ok (.iload_n 2, 1) := by decide +kernel
theorem dX1_witness_23 : decode cX1_witness 23 = .ok (.iload_n 3, 1) := by decide +kernel
theorem dX1_witness_24 : decode cX1_witness 24 = .ok (.if_icmp .gt 15, 3) := by decide +kernel
theorem dX1_witness_27 : decode cX1_witness 27 = .ok (.aload_n 0, 1) := by decide +kernel
theorem dX1_witness_28 : decode cX1_witness 28 = .ok (.getfield 29, 3) := by decide +kernel
theorem dX1_witness_31 : decode cX1_witness 31 = .ok (.invokevirtual 85, 3) := by decide +kernel
theorem dX1_witness_34 : decode cX1_witness 34 = .ok (.bipush 20, 2) := by decide +kernel
theorem dX1_witness_36 : decode cX1_witness 36 = .ok (.if_icmp .ne 5, 3) := by decide +kernel
theorem dX1_witness_39 : decode cX1_witness 39 = .ok (.iconst 0, 1) := by decide +kernel
theorem dX1_witness_40 : decode cX1_witness 40 = .ok (.ireturn, 1) := by decide +kernel
theorem dX1_witness_41 : decode cX1_witness 41 = .ok (.aload_n 0, 1) := by decide +kernel
theorem dX1_witness_42 : decode cX1_witness 42 = .ok (.getfield 29, 3) := by decide +kernel
theorem dX1_witness_45 : decode cX1_witness 45 = .ok (.new 131, 3) := by decide +kernel
theorem dX1_witness_48 : decode cX1_witness 48 = .ok (.dup, 1) := by decide +kernel
theorem dX1_witness_49 : decode cX1_witness 49 = .ok (.aload_n 0, 1) := by decide +kernel
theorem dX1_witness_50 : decode cX1_witness 50 = .ok (.getfield 95, 3) := by decide +kernel
theorem dX1_witness_53 : decode cX1_witness 53 = .ok (.iload_n 1, 1) := by decide +kernel
theorem dX1_witness_54 : decode cX1_witness 54 = .ok (.iload_n 2, 1) := by decide +kernel
theorem dX1_witness_55 : decode cX1_witness 55 = .ok (.iload_n 3, 1) := by decide +kernel
theorem dX1_witness_56 : decode cX1_witness 56 = .ok (.invokespecial 133, 3) := by decide +kernel
theorem dX1_witness_59 : decode cX1_witness 59 = .ok (.invokevirtual 101, 3) := by decide +kernel
theorem dX1_witness_62 : decode cX1_witness 62 = .ok (.pop, 1) := by decide +kernel
theorem dX1_witness_63 : decode cX1_witness 63 = .ok (.iconst 1, 1) := by decide +kernel
theorem dX1_witness_64 : decode cX1_witness 64 = .ok (.ireturn, 1) := by decide +kernel
def fn_X1_witness_39 (N : Nat)   (Ω : zo_O) : Option zo_R :=
  rZ 0 Ω
theorem ct_X1_witness_39 {Y : zo_Y} (hY : zo_Gd Y cX1_witness 4 RX1 7) (hJ : zo_JC (zo_J Y)) (hCon : ∀ Ω, zo_J Y Ω → zo_Con Ω) (hr : zo_rt Y (Option.some Jvm.ClassFile.FieldType.boolean)) (N : Nat)    (Ω : zo_O) (res : zo_R) (h : fn_X1_witness_39 N   Ω = some res) : TW Y res Ω 39 [] [] := by
  unfold fn_X1_witness_39 at h
  refine zo_iconst hY 0 (by decide) dX1_witness_39 ?_
  exact zo_zret hY hr dX1_witness_40 h
def fn_X1_witness (N : Nat) (x1 : Int32) (x2 : Int32) (x3 : Int32) (Ω : zo_O) : Option zo_R :=
  ci (fn_X1_isSite N x1 Ω) fun r2 Ω1 =>
  if r2 = 0 then (
    fn_X1_witness_39 N Ω1
    ) else
  ci (fn_X1_isYear N x2 Ω1) fun r5 Ω4 =>
  if r5 = 0 then (
    fn_X1_witness_39 N Ω4
    ) else
  ci (fn_X1_isYear N x3 Ω4) fun r8 Ω7 =>
  if r8 = 0 then (
    fn_X1_witness_39 N Ω7
    ) else
  if x3 < x2 then (
    fn_X1_witness_39 N Ω7
    ) else
  ci (fn_J2_size N 4 Ω7) fun r12 Ω11 =>
  if r12 = 20 then (
    fn_X1_witness_39 N Ω11
    ) else
  ad 1 4 <| lt (nw Ω11 6 0) fun Ω14 =>
  cv (fn_X8_init N (gC Ω11 6) (gI Ω14 0 0 8) x1 x2 x3 Ω14) fun Ω15 =>
  ci (fn_J2_add N 4 (some (6, gC Ω11 6)) Ω15) fun r17 Ω16 =>
  rZ 1 Ω16
theorem mt_X1_witness {G : zo_G} {J : zo_O → Prop} (hJ : zo_JC J) (hCon : ∀ Ω, J Ω → zo_Con Ω) (N : Nat) (x1 : Int32) (x2 : Int32) (x3 : Int32) (Ω : zo_O) (res : zo_R) (h : fn_X1_witness N x1 x2 x3 Ω = some res) : zo_MT G J yX1_witness cX1_witness 4 (Option.some Jvm.ClassFile.FieldType.boolean) 7 [vr 0 0, vi x1, vi x2, vi x3] Ω res := by
  refine zo_enter (by decide) rfl (Nat.le_of_ble_eq_true rfl) (fun Y hY eJ hr hmn => ?_)
  subst eJ
  show TW Y res Ω 0 [(0, vr 0 0), (1, vi x1), (2, vi x2), (3, vi x3)] []
  unfold fn_X1_witness at h
  refine zo_aload_n hY dX1_witness_0 rfl 0 rfl ?_
  refine zo_iload_n hY dX1_witness_1 rfl 1 rfl ?_
  refine zo_callV hY (fun q hq => mt_X1_isSite hJ hCon N x1 Ω q hq) (by decide) (by decide) (by decide) ⟨rfl, cn_X1_isSite⟩ rfl q356 q358 qs3 q78 q359 (Nat.le_of_ble_eq_true rfl) dX1_witness_2 rfl h (ci_k (fun r2 Ω1 res h => ?_))
  refine zo_if_eq hY 39 dX1_witness_5 (by decide) h (fun c3 h => ?_) (fun c3 h => ?_)
  · refine zo_sub [] rfl ?_
    exact ct_X1_witness_39 hY hJ hCon hr N Ω1 _ h
  · refine zo_iload_n hY dX1_witness_8 rfl 2 rfl ?_
    refine zo_callS hY (fun q hq => mt_X1_isYear hJ hCon N x2 Ω1 q hq) (by decide) (by decide) cn_X1_isYear rfl q242 q243 q78 q244 (Nat.le_of_ble_eq_true rfl) dX1_witness_9 rfl h (ci_k (fun r5 Ω4 res h => ?_))
    refine zo_if_eq hY 39 dX1_witness_12 (by decide) h (fun c6 h => ?_) (fun c6 h => ?_)
    · refine zo_sub [] rfl ?_
      exact ct_X1_witness_39 hY hJ hCon hr N Ω4 _ h
    · refine zo_iload_n hY dX1_witness_15 rfl 3 rfl ?_
      refine zo_callS hY (fun q hq => mt_X1_isYear hJ hCon N x3 Ω4 q hq) (by decide) (by decide) cn_X1_isYear rfl q242 q243 q78 q244 (Nat.le_of_ble_eq_true rfl) dX1_witness_16 rfl h (ci_k (fun r8 Ω7 res h => ?_))
      refine zo_if_eq hY 39 dX1_witness_19 (by decide) h (fun c9 h => ?_) (fun c9 h => ?_)
      · refine zo_sub [] rfl ?_
        exact ct_X1_witness_39 hY hJ hCon hr N Ω7 _ h
      · refine zo_iload_n hY dX1_witness_22 rfl 2 rfl ?_
        refine zo_iload_n hY dX1_witness_23 rfl 3 rfl ?_
        refine zo_icmp_gt hY 39 dX1_witness_24 (by decide) h (fun c10 h => ?_) (fun c10 h => ?_)
        · refine zo_sub [] rfl ?_
          exact ct_X1_witness_39 hY hJ hCon hr N Ω7 _ h
        · refine zo_aload_n hY dX1_witness_27 rfl 0 rfl ?_
          refine zo_getC hY LX1_29_0 rfl (fun Ω q => (hCon Ω q).1 4 _ rfl) dX1_witness_28 ?_
          refine zo_callV hY (fun q hq => mt_J2_size hJ hCon N 4 Ω7 q hq) (by decide) (by decide) (by decide) ⟨rfl, cn_J2_size⟩ rfl q245 q246 q247 q81 q248 (Nat.le_of_ble_eq_true rfl) dX1_witness_31 rfl h (ci_k (fun r12 Ω11 res h => ?_))
          refine zo_bipush hY 20 (by decide) dX1_witness_34 ?_
          refine zo_icmp_ne hY 41 dX1_witness_36 (by decide) h (fun c13 h => ?_) (fun c13 h => ?_)
          · refine zo_sub [] rfl ?_
            exact ct_X1_witness_39 hY hJ hCon hr N Ω11 _ h
          · refine zo_aload_n hY dX1_witness_41 rfl 0 rfl ?_
            refine zo_getC hY LX1_29_0 rfl (fun Ω q => (hCon Ω q).1 4 _ rfl) dX1_witness_42 ?_
            refine zo_new hY hJ (k := 6) (by decide) (Or.inl rfl) rfl q468 q469 q94 dX1_witness_45 h (fun Ω14 res h => ?_)
            refine zo_dup hY dX1_witness_48 (Or.inr ⟨_, rfl⟩) ?_
            refine zo_aload_n hY dX1_witness_49 rfl 0 rfl ?_
            refine zo_getI hY LX1_95_0 rfl dX1_witness_50 ?_
            refine zo_iload_n hY dX1_witness_53 rfl 1 rfl ?_
            refine zo_iload_n hY dX1_witness_54 rfl 2 rfl ?_
            refine zo_iload_n hY dX1_witness_55 rfl 3 rfl ?_
            refine zo_callI hY (fun q hq => mt_X8_init hJ hCon N (gC Ω11 6) (gI Ω14 0 0 8) x1 x2 x3 Ω14 q hq) (by decide) (by decide) cn_X8_init rfl rfl q470 q471 q94 q472 (Nat.le_of_ble_eq_true rfl) dX1_witness_56 rfl h (cv_k (fun Ω15 res h => ?_))
            refine zo_callV hY (fun q hq => mt_J2_add hJ hCon N 4 (some (6, gC Ω11 6)) Ω15 q hq) (by decide) (by decide) (by decide) ⟨rfl, cn_J2_add⟩ rfl q284 q285 q286 q81 q287 (Nat.le_of_ble_eq_true rfl) dX1_witness_59 rfl h (ci_k (fun r17 Ω16 res h => ?_))
            refine zo_pop hY dX1_witness_62 (Or.inl rfl) ?_
            refine zo_iconst hY 1 (by decide) dX1_witness_63 ?_
            exact zo_zret hY hr dX1_witness_64 h
def fn_X3_init_7 (N : Nat) (x0 : Nat) (x1 : Int32) (Ω : zo_O) : Option zo_R :=
  lt (sI Ω 7 x0 0 x1) fun Ω1 =>
  rV Ω1
theorem mt_X3_init_7 {G : zo_G} {J : zo_O → Prop} (hJ : zo_JC J) (hCon : ∀ Ω, J Ω → zo_Con Ω) (N : Nat) (x0 : Nat) (x1 : Int32) (Ω : zo_O) (res : zo_R) (h : fn_X3_init_7 N x0 x1 Ω = some res) : zo_MT G J yX3_init cX3_init 2 (Option.none : Option Jvm.ClassFile.FieldType) 1 [vr 7 x0, vi x1] Ω res := by
  refine zo_enter (by decide) rfl (Nat.le_of_ble_eq_true rfl) (fun Y hY eJ hr hmn => ?_)
  subst eJ
  have hmn := hmn rfl
  show TW Y res Ω 0 [(0, vr 7 x0), (1, vi x1)] []
  unfold fn_X3_init_7 at h
  refine zo_aload_n hY dX3_init_0 rfl 0 rfl ?_
  refine zo_oini hY (by decide) q257 (fun ρ => zo_room8 (Nat.le_of_ble_eq_true rfl)) dX3_init_1 ?_
  refine zo_aload_n hY dX3_init_4 rfl 0 rfl ?_
  refine zo_iload_n hY dX3_init_5 rfl 1 rfl ?_
  refine zo_putI hY hJ LX3_7_7 rfl (Or.inr ⟨rfl, hmn, rfl, _, q270, Or.inl rfl⟩) dX3_init_6 h (fun Ω1 h => ?_)
  exact zo_vret hY hr dX3_init_9 h
theorem dX9_init_0 : decode cX9_init 0 = .ok (.aload_n 0, 1) := by decide +kernel
theorem dX9_init_1 : decode cX9_init 1 = .ok (.iload_n 1, 1) := by decide +kernel
theorem dX9_init_2 : decode cX9_init 2 = .ok (.invokespecial 1, 3) := by decide +kernel
theorem dX9_init_5 : decode cX9_init 5 = .ok (.aload_n 0, 1) := by decide +kernel
theorem dX9_init_6 : decode cX9_init 6 = .ok (.iload_n 2, 1) := by decide +kernel
theorem dX9_init_7 : decode cX9_init 7 = .ok (.putfield 7, 3) := by decide +kernel
theorem dX9_init_10 : decode cX9_init 10 = .ok (.aload_n 0, 1) := by decide +kernel
theorem dX9_init_11 : decode cX9_init 11 = .ok (.iload_n 3, 1) := by decide +kernel
theorem dX9_init_12 : decode cX9_init 12 = .ok (.putfield 13, 3) := by decide +kernel
theorem dX9_init_15 : decode cX9_init 15 = .ok (.aload_n 0, 1) := by decide +kernel
theorem dX9_init_16 : decode cX9_init 16 = .ok (.iload 4, 2) := by decide +kernel
theorem dX9_init_18 : decode cX9_init 18 = .ok (.putfield 16, 3) := by decide +kernel
theorem dX9_init_21 : decode cX9_init 21 = .ok (.return_, 1) := by decide +kernel
def fn_X9_init (N : Nat) (x0 : Nat) (x1 : Int32) (x2 : Int32) (x3 : Int32) (x4 : Int32) (Ω : zo_O) : Option zo_R :=
  cv (fn_X3_init_7 N x0 x1 Ω) fun Ω1 =>
  lt (sI Ω1 7 x0 1 x2) fun Ω2 =>
  lt (sI Ω2 7 x0 2 x3) fun Ω3 =>
  lt (sI Ω3 7 x0 3 x4) fun Ω4 =>
  rV Ω4
theorem mt_X9_init {G : zo_G} {J : zo_O → Prop} (hJ : zo_JC J) (hCon : ∀ Ω, J Ω → zo_Con Ω) (N : Nat) (x0 : Nat) (x1 : Int32) (x2 : Int32) (x3 : Int32) (x4 : Int32) (Ω : zo_O) (res : zo_R) (h : fn_X9_init N x0 x1 x2 x3 x4 Ω = some res) : zo_MT G J yX9_init cX9_init 5 (Option.none : Option Jvm.ClassFile.FieldType) 2 [vr 7 x0, vi x1, vi x2, vi x3, vi x4] Ω res := by
  refine zo_enter (by decide) rfl (Nat.le_of_ble_eq_true rfl) (fun Y hY eJ hr hmn => ?_)
  subst eJ
  have hmn := hmn rfl
  show TW Y res Ω 0 [(0, vr 7 x0), (1, vi x1), (2, vi x2), (3, vi x3), (4, vi x4)] []
  unfold fn_X9_init at h
  refine zo_aload_n hY dX9_init_0 rfl 0 rfl ?_
  refine zo_iload_n hY dX9_init_1 rfl 1 rfl ?_
  refine zo_callI hY (fun q hq => mt_X3_init_7 hJ hCon N x0 x1 Ω q hq) (by decide) (by decide) cn_X3_init rfl rfl q497 q255 q83 q256 (Nat.le_of_ble_eq_true rfl) dX9_init_2 rfl h (cv_k (fun Ω1 res h => ?_))
  refine zo_aload_n hY dX9_init_5 rfl 0 rfl ?_
  refine zo_iload_n hY dX9_init_6 rfl 2 rfl ?_
  refine zo_putI hY hJ LX9_7_7 rfl (Or.inr ⟨rfl, hmn, rfl, _, q498, Or.inl rfl⟩) dX9_init_7 h (fun Ω2 h => ?_)
  refine zo_aload_n hY dX9_init_10 rfl 0 rfl ?_
  refine zo_iload_n hY dX9_init_11 rfl 3 rfl ?_
  refine zo_putI hY hJ LX9_13_7 rfl (Or.inr ⟨rfl, hmn, rfl, _, q500, Or.inl rfl⟩) dX9_init_12 h (fun Ω3 h => ?_)
  refine zo_aload_n hY dX9_init_15 rfl 0 rfl ?_
  refine zo_iload hY dX9_init_16 4 rfl ?_
  refine zo_putI hY hJ LX9_16_7 rfl (Or.inr ⟨rfl, hmn, rfl, _, q502, Or.inl rfl⟩) dX9_init_18 h (fun Ω4 h => ?_)
  exact zo_vret hY hr dX9_init_21 h
theorem dX1_order_0 : decode cX1_order 0 = .ok (.aload_n 0, 1) := by decide +kernel
theorem dX1_order_1 : decode cX1_order 1 = .ok (.iload_n 1, 1) := by decide +kernel
theorem dX1_order_2 : decode cX1_order 2 = .ok (.invokevirtual 105, 3) := by decide +kernel
theorem dX1_order_5 : decode cX1_order 5 = .ok (.ifCond .eq 39, 3) := by decide +kernel
theorem dX1_order_8 : decode cX1_order 8 = .ok (.aload_n 0, 1) := by decide +kernel
theorem dX1_order_9 : decode cX1_order 9 = .ok (.iload_n 2, 1) := by decide +kernel
theorem dX1_order_10 : decode cX1_order 10 = .ok (.invokevirtual 105, 3) := by decide +kernel
theorem dX1_order_13 : decode cX1_order 13 = .ok (.ifCond .eq 31, 3) := by decide +kernel
theorem dX1_order_16 : decode cX1_order 16 = .ok (.iload_n 1, 1) := by decide +kernel
theorem dX1_order_17 : decode cX1_order 17 = .ok (.iload_n 2, 1) := by decide +kernel
theorem dX1_order_18 : decode cX1_order 18 = .ok (.if_icmp .eq 26, 3) := by decide +kernel
theorem dX1_order_21 : decode cX1_order 21 = .ok (.iload_n 3, 1) := by decide +kernel
theorem dX1_order_22 : decode cX1_order 22 = .ok (.iconst 0, 1) := by decide +kernel
theorem dX1_order_23 : decode cX1_order 23 = .ok (.sipush 500, 3) := by decide +kernel
theorem dX1_order_26 : decode cX1_order 26 = .ok (.invokestatic 3, 3) := by decide +kernel
theorem dX1_order_29 : decode cX1_order 29 = .ok (.ifCond .eq 15, 3) := by decide +kernel
theorem dX1_order_32 : decode cX1_order 32 = .ok (.aload_n 0, 1) := by decide +kernel
theorem dX1_order_33 : decode cX1_order 33 = .ok (.getfield 32, 3) := by decide +kernel
theorem dX1_order_36 : decode cX1_order 36 = .ok (.invokevirtual 85, 3) := by decide +kernel
theorem dX1_order_39 : decode cX1_order 39 = .ok (.bipush 40, 2) := by decide +kernel
theorem dX1_order_41 : decode cX1_order 41 = .ok (.if_icmp .ne 5, 3) := by decide +kernel
theorem dX1_order_44 : decode cX1_order 44 = .ok (.iconst 0, 1) := by decide +kernel
theorem dX1_order_45 : decode cX1_order 45 = .ok (.ireturn, 1) := by decide +kernel
theorem dX1_order_46 : decode cX1_order 46 = .ok (.aload_n 0, 1) := by decide +kernel
theorem dX1_order_47 : decode cX1_order 47 = .ok (.getfield 32, 3) := by decide +kernel
theorem dX1_order_50 : decode cX1_order 50 = .ok (.new 134, 3) := by decide +kernel
theorem dX1_order_53 : decode cX1_order 53 = .ok (.dup, 1) := by decide +kernel
theorem dX1_order_54 : decode cX1_order 54 = .ok (.aload_n 0, 1) := by decide +kernel
theorem dX1_order_55 : decode cX1_order 55 = .ok (.getfield 95, 3) := by decide +kernel
theorem dX1_order_58 : decode cX1_order 58 = .ok (.iload_n 1, 1) := by decide +kernel
theorem dX1_order_59 : decode cX1_order 59 = .ok (.iload_n 2, 1) := by decide +kernel
theorem dX1_order_60 : decode cX1_order 60 = .ok (.iload_n 3, 1) := by decide +kernel
theorem dX1_order_61 : decode cX1_order 61 = .ok (.invokespecial 136, 3) := by decide +kernel
theorem dX1_order_64 : decode cX1_order 64 = .ok (.invokevirtual 101, 3) := by decide +kernel
theorem dX1_order_67 : decode cX1_order 67 = .ok (.pop, 1) := by decide +kernel
theorem dX1_order_68 : decode cX1_order 68 = .ok (.iconst 1, 1) := by decide +kernel
theorem dX1_order_69 : decode cX1_order 69 = .ok (.ireturn, 1) := by decide +kernel
def fn_X1_order_44 (N : Nat)   (Ω : zo_O) : Option zo_R :=
  rZ 0 Ω
theorem ct_X1_order_44 {Y : zo_Y} (hY : zo_Gd Y cX1_order 4 RX1 7) (hJ : zo_JC (zo_J Y)) (hCon : ∀ Ω, zo_J Y Ω → zo_Con Ω) (hr : zo_rt Y (Option.some Jvm.ClassFile.FieldType.boolean)) (N : Nat)    (Ω : zo_O) (res : zo_R) (h : fn_X1_order_44 N   Ω = some res) : TW Y res Ω 44 [] [] := by
  unfold fn_X1_order_44 at h
  refine zo_iconst hY 0 (by decide) dX1_order_44 ?_
  exact zo_zret hY hr dX1_order_45 h
def fn_X1_order (N : Nat) (x1 : Int32) (x2 : Int32) (x3 : Int32) (Ω : zo_O) : Option zo_R :=
  ci (fn_X1_isSite N x1 Ω) fun r2 Ω1 =>
  if r2 = 0 then (
    fn_X1_order_44 N Ω1
    ) else
  ci (fn_X1_isSite N x2 Ω1) fun r5 Ω4 =>
  if r5 = 0 then (
    fn_X1_order_44 N Ω4
    ) else
  if x1 = x2 then (
    fn_X1_order_44 N Ω4
    ) else
  ci (fn_X1_in N x3 0 500 Ω4) fun r9 Ω8 =>
  if r9 = 0 then (
    fn_X1_order_44 N Ω8
    ) else
  ci (fn_J2_size N 5 Ω8) fun r12 Ω11 =>
  if r12 = 40 then (
    fn_X1_order_44 N Ω11
    ) else
  ad 1 4 <| lt (nw Ω11 7 0) fun Ω14 =>
  cv (fn_X9_init N (gC Ω11 7) (gI Ω14 0 0 8) x1 x2 x3 Ω14) fun Ω15 =>
  ci (fn_J2_add N 5 (some (7, gC Ω11 7)) Ω15) fun r17 Ω16 =>
  rZ 1 Ω16
theorem mt_X1_order {G : zo_G} {J : zo_O → Prop} (hJ : zo_JC J) (hCon : ∀ Ω, J Ω → zo_Con Ω) (N : Nat) (x1 : Int32) (x2 : Int32) (x3 : Int32) (Ω : zo_O) (res : zo_R) (h : fn_X1_order N x1 x2 x3 Ω = some res) : zo_MT G J yX1_order cX1_order 4 (Option.some Jvm.ClassFile.FieldType.boolean) 7 [vr 0 0, vi x1, vi x2, vi x3] Ω res := by
  refine zo_enter (by decide) rfl (Nat.le_of_ble_eq_true rfl) (fun Y hY eJ hr hmn => ?_)
  subst eJ
  show TW Y res Ω 0 [(0, vr 0 0), (1, vi x1), (2, vi x2), (3, vi x3)] []
  unfold fn_X1_order at h
  refine zo_aload_n hY dX1_order_0 rfl 0 rfl ?_
  refine zo_iload_n hY dX1_order_1 rfl 1 rfl ?_
  refine zo_callV hY (fun q hq => mt_X1_isSite hJ hCon N x1 Ω q hq) (by decide) (by decide) (by decide) ⟨rfl, cn_X1_isSite⟩ rfl q356 q358 qs3 q78 q359 (Nat.le_of_ble_eq_true rfl) dX1_order_2 rfl h (ci_k (fun r2 Ω1 res h => ?_))
  refine zo_if_eq hY 44 dX1_order_5 (by decide) h (fun c3 h => ?_) (fun c3 h => ?_)
  · refine zo_sub [] rfl ?_
    exact ct_X1_order_44 hY hJ hCon hr N Ω1 _ h
  · refine zo_aload_n hY dX1_order_8 rfl 0 rfl ?_
    refine zo_iload_n hY dX1_order_9 rfl 2 rfl ?_
    refine zo_callV hY (fun q hq => mt_X1_isSite hJ hCon N x2 Ω1 q hq) (by decide) (by decide) (by decide) ⟨rfl, cn_X1_isSite⟩ rfl q356 q358 qs3 q78 q359 (Nat.le_of_ble_eq_true rfl) dX1_order_10 rfl h (ci_k (fun r5 Ω4 res h => ?_))
    refine zo_if_eq hY 44 dX1_order_13 (by decide) h (fun c6 h => ?_) (fun c6 h => ?_)
    · refine zo_sub [] rfl ?_
      exact ct_X1_order_44 hY hJ hCon hr N Ω4 _ h
    · refine zo_iload_n hY dX1_order_16 rfl 1 rfl ?_
      refine zo_iload_n hY dX1_order_17 rfl 2 rfl ?_
      refine zo_icmp_eq hY 44 dX1_order_18 (by decide) h (fun c7 h => ?_) (fun c7 h => ?_)
      · refine zo_sub [] rfl ?_
        exact ct_X1_order_44 hY hJ hCon hr N Ω4 _ h
      · refine zo_iload_n hY dX1_order_21 rfl 3 rfl ?_
        refine zo_iconst hY 0 (by decide) dX1_order_22 ?_
        refine zo_sipush hY 500 (by decide) dX1_order_23 ?_
        refine zo_callS hY (fun q hq => mt_X1_in hJ hCon N x3 0 500 Ω4 q hq) (by decide) (by decide) cn_X1_in rfl q239 q240 q78 q241 (Nat.le_of_ble_eq_true rfl) dX1_order_26 rfl h (ci_k (fun r9 Ω8 res h => ?_))
        refine zo_if_eq hY 44 dX1_order_29 (by decide) h (fun c10 h => ?_) (fun c10 h => ?_)
        · refine zo_sub [] rfl ?_
          exact ct_X1_order_44 hY hJ hCon hr N Ω8 _ h
        · refine zo_aload_n hY dX1_order_32 rfl 0 rfl ?_
          refine zo_getC hY LX1_32_0 rfl (fun Ω q => (hCon Ω q).1 5 _ rfl) dX1_order_33 ?_
          refine zo_callV hY (fun q hq => mt_J2_size hJ hCon N 5 Ω8 q hq) (by decide) (by decide) (by decide) ⟨rfl, cn_J2_size⟩ rfl q245 q246 q247 q81 q248 (Nat.le_of_ble_eq_true rfl) dX1_order_36 rfl h (ci_k (fun r12 Ω11 res h => ?_))
          refine zo_bipush hY 40 (by decide) dX1_order_39 ?_
          refine zo_icmp_ne hY 46 dX1_order_41 (by decide) h (fun c13 h => ?_) (fun c13 h => ?_)
          · refine zo_sub [] rfl ?_
            exact ct_X1_order_44 hY hJ hCon hr N Ω11 _ h
          · refine zo_aload_n hY dX1_order_46 rfl 0 rfl ?_
            refine zo_getC hY LX1_32_0 rfl (fun Ω q => (hCon Ω q).1 5 _ rfl) dX1_order_47 ?_
            refine zo_new hY hJ (k := 7) (by decide) (Or.inl rfl) rfl q492 q493 q95 dX1_order_50 h (fun Ω14 res h => ?_)
            refine zo_dup hY dX1_order_53 (Or.inr ⟨_, rfl⟩) ?_
            refine zo_aload_n hY dX1_order_54 rfl 0 rfl ?_
            refine zo_getI hY LX1_95_0 rfl dX1_order_55 ?_
            refine zo_iload_n hY dX1_order_58 rfl 1 rfl ?_
            refine zo_iload_n hY dX1_order_59 rfl 2 rfl ?_
            refine zo_iload_n hY dX1_order_60 rfl 3 rfl ?_
            refine zo_callI hY (fun q hq => mt_X9_init hJ hCon N (gC Ω11 7) (gI Ω14 0 0 8) x1 x2 x3 Ω14 q hq) (by decide) (by decide) cn_X9_init rfl rfl q494 q495 q95 q496 (Nat.le_of_ble_eq_true rfl) dX1_order_61 rfl h (cv_k (fun Ω15 res h => ?_))
            refine zo_callV hY (fun q hq => mt_J2_add hJ hCon N 5 (some (7, gC Ω11 7)) Ω15 q hq) (by decide) (by decide) (by decide) ⟨rfl, cn_J2_add⟩ rfl q284 q285 q286 q81 q287 (Nat.le_of_ble_eq_true rfl) dX1_order_64 rfl h (ci_k (fun r17 Ω16 res h => ?_))
            refine zo_pop hY dX1_order_67 (Or.inl rfl) ?_
            refine zo_iconst hY 1 (by decide) dX1_order_68 ?_
            exact zo_zret hY hr dX1_order_69 h
def fn_X3_init_8 (N : Nat) (x0 : Nat) (x1 : Int32) (Ω : zo_O) : Option zo_R :=
  lt (sI Ω 8 x0 0 x1) fun Ω1 =>
  rV Ω1
theorem mt_X3_init_8 {G : zo_G} {J : zo_O → Prop} (hJ : zo_JC J) (hCon : ∀ Ω, J Ω → zo_Con Ω) (N : Nat) (x0 : Nat) (x1 : Int32) (Ω : zo_O) (res : zo_R) (h : fn_X3_init_8 N x0 x1 Ω = some res) : zo_MT G J yX3_init cX3_init 2 (Option.none : Option Jvm.ClassFile.FieldType) 1 [vr 8 x0, vi x1] Ω res := by
  refine zo_enter (by decide) rfl (Nat.le_of_ble_eq_true rfl) (fun Y hY eJ hr hmn => ?_)
  subst eJ
  have hmn := hmn rfl
  show TW Y res Ω 0 [(0, vr 8 x0), (1, vi x1)] []
  unfold fn_X3_init_8 at h
  refine zo_aload_n hY dX3_init_0 rfl 0 rfl ?_
  refine zo_oini hY (by decide) q257 (fun ρ => zo_room8 (Nat.le_of_ble_eq_true rfl)) dX3_init_1 ?_
  refine zo_aload_n hY dX3_init_4 rfl 0 rfl ?_
  refine zo_iload_n hY dX3_init_5 rfl 1 rfl ?_
  refine zo_putI hY hJ LX3_7_8 rfl (Or.inr ⟨rfl, hmn, rfl, _, q270, Or.inl rfl⟩) dX3_init_6 h (fun Ω1 h => ?_)
  exact zo_vret hY hr dX3_init_9 h
theorem dX10_init_0 : decode cX10_init 0 = .ok (.aload_n 0, 1) := by decide +kernel
theorem dX10_init_1 : decode cX10_init 1 = .ok (.iload_n 1, 1) := by decide +kernel
theorem dX10_init_2 : decode cX10_init 2 = .ok (.invokespecial 1, 3) := by decide +kernel
theorem dX10_init_5 : decode cX10_init 5 = .ok (.aload_n 0, 1) := by decide +kernel
theorem dX10_init_6 : decode cX10_init 6 = .ok (.iload_n 2, 1) := by decide +kernel
theorem dX10_init_7 : decode cX10_init 7 = .ok (.putfield 7, 3) := by decide +kernel
theorem dX10_init_10 : decode cX10_init 10 = .ok (.aload_n 0, 1) := by decide +kernel
theorem dX10_init_11 : decode cX10_init 11 = .ok (.iload_n 3, 1) := by decide +kernel
theorem dX10_init_12 : decode cX10_init 12 = .ok (.putfield 13, 3) := by decide +kernel
theorem dX10_init_15 : decode cX10_init 15 = .ok (.return_, 1) := by decide +kernel
def fn_X10_init (N : Nat) (x0 : Nat) (x1 : Int32) (x2 : Int32) (x3 : Int32) (Ω : zo_O) : Option zo_R :=
  cv (fn_X3_init_8 N x0 x1 Ω) fun Ω1 =>
  lt (sI Ω1 8 x0 1 x2) fun Ω2 =>
  lt (sI Ω2 8 x0 2 x3) fun Ω3 =>
  rV Ω3
theorem mt_X10_init {G : zo_G} {J : zo_O → Prop} (hJ : zo_JC J) (hCon : ∀ Ω, J Ω → zo_Con Ω) (N : Nat) (x0 : Nat) (x1 : Int32) (x2 : Int32) (x3 : Int32) (Ω : zo_O) (res : zo_R) (h : fn_X10_init N x0 x1 x2 x3 Ω = some res) : zo_MT G J yX10_init cX10_init 4 (Option.none : Option Jvm.ClassFile.FieldType) 2 [vr 8 x0, vi x1, vi x2, vi x3] Ω res := by
  refine zo_enter (by decide) rfl (Nat.le_of_ble_eq_true rfl) (fun Y hY eJ hr hmn => ?_)
  subst eJ
  have hmn := hmn rfl
  show TW Y res Ω 0 [(0, vr 8 x0), (1, vi x1), (2, vi x2), (3, vi x3)] []
  unfold fn_X10_init at h
  refine zo_aload_n hY dX10_init_0 rfl 0 rfl ?_
  refine zo_iload_n hY dX10_init_1 rfl 1 rfl ?_
  refine zo_callI hY (fun q hq => mt_X3_init_8 hJ hCon N x0 x1 Ω q hq) (by decide) (by decide) cn_X3_init rfl rfl q521 q255 q83 q256 (Nat.le_of_ble_eq_true rfl) dX10_init_2 rfl h (cv_k (fun Ω1 res h => ?_))
  refine zo_aload_n hY dX10_init_5 rfl 0 rfl ?_
  refine zo_iload_n hY dX10_init_6 rfl 2 rfl ?_
  refine zo_putI hY hJ LX10_7_8 rfl (Or.inr ⟨rfl, hmn, rfl, _, q522, Or.inl rfl⟩) dX10_init_7 h (fun Ω2 h => ?_)
  refine zo_aload_n hY dX10_init_10 rfl 0 rfl ?_
  refine zo_iload_n hY dX10_init_11 rfl 3 rfl ?_
  refine zo_putI hY hJ LX10_13_8 rfl (Or.inr ⟨rfl, hmn, rfl, _, q524, Or.inl rfl⟩) dX10_init_12 h (fun Ω3 h => ?_)
  exact zo_vret hY hr dX10_init_15 h
theorem dX1_again_0 : decode cX1_again 0 = .ok (.iload_n 1, 1) := by decide +kernel
theorem dX1_again_1 : decode cX1_again 1 = .ok (.iconst 0, 1) := by decide +kernel
theorem dX1_again_2 : decode cX1_again 2 = .ok (.aload_n 0, 1) := by decide +kernel
theorem dX1_again_3 : decode cX1_again 3 = .ok (.getfield 20, 3) := by decide +kernel
theorem dX1_again_6 : decode cX1_again 6 = .ok (.invokevirtual 85, 3) := by decide +kernel
theorem dX1_again_9 : decode cX1_again 9 = .ok (.iconst 1, 1) := by decide +kernel
theorem dX1_again_10 : decode cX1_again 10 = .ok (.isub, 1) := by decide +kernel
theorem dX1_again_11 : decode cX1_again 11 = .ok (.invokestatic 3, 3) := by decide +kernel
theorem dX1_again_14 : decode cX1_again 14 = .ok (.ifCond .eq 32, 3) := by decide +kernel
theorem dX1_again_17 : decode cX1_again 17 = .ok (.iload_n 2, 1) := by decide +kernel
theorem dX1_again_18 : decode cX1_again 18 = .ok (.iconst 0, 1) := by decide +kernel
theorem dX1_again_19 : decode cX1_again 19 = .ok (.aload_n 0, 1) := by decide +kernel
theorem dX1_again_20 : decode cX1_again 20 = .ok (.getfield 20, 3) := by decide +kernel
theorem dX1_again_23 : decode cX1_again 23 = .ok (.invokevirtual 85, 3) := by decide +kernel
theorem dX1_again_26 : decode cX1_again 26 = .ok (.iconst 1, 1) := by decide +kernel
theorem dX1_again_27 : decode cX1_again 27 = .ok (.isub, 1) := by decide +kernel
theorem dX1_again_28 : decode cX1_again 28 = .ok (.invokestatic 3, 3) := by decide +kernel
theorem dX1_again_31 : decode cX1_again 31 = .ok (.ifCond .eq 15, 3) := by decide +kernel
theorem dX1_again_34 : decode cX1_again 34 = .ok (.aload_n 0, 1) := by decide +kernel
theorem dX1_again_35 : decode cX1_again 35 = .ok (.getfield 35, 3) := by decide +kernel
theorem dX1_again_38 : decode cX1_again 38 = .ok (.invokevirtual 85, 3) := by decide +kernel
theorem dX1_again_41 : decode cX1_again 41 = .ok (.bipush 30, 2) := by decide +kernel
theorem dX1_again_43 : decode cX1_again 43 = .ok (.if_icmp .ne 5, 3) := by decide +kernel
theorem dX1_again_46 : decode cX1_again 46 = .ok (.iconst (-1), 1) := by decide +kernel
theorem dX1_again_47 : decode cX1_again 47 = .ok (.ireturn, 1) := by decide +kernel
theorem dX1_again_48 : decode cX1_again 48 = .ok (.aload_n 0, 1) := by decide +kernel
theorem dX1_again_49 : decode cX1_again 49 = .ok (.getfield 20, 3) := by decide +kernel
theorem dX1_again_52 : decode cX1_again 52 = .ok (.iload_n 1, 1) := by decide +kernel
theorem dX1_again_53 : decode cX1_again 53 = .ok (.invokevirtual 116, 3) := by decide +kernel
theorem dX1_again_56 : decode cX1_again 56 = .ok (.checkcast 114, 3) := by decide +kernel
theorem dX1_again_59 : decode cX1_again 59 = .ok (.astore_n 3, 1) := by decide +kernel
theorem dX1_again_60 : decode cX1_again 60 = .ok (.aload_n 0, 1) := by decide +kernel
theorem dX1_again_61 : decode cX1_again 61 = .ok (.getfield 20, 3) := by decide +kernel
theorem dX1_again_64 : decode cX1_again 64 = .ok (.iload_n 2, 1) := by decide +kernel
theorem dX1_again_65 : decode cX1_again 65 = .ok (.invokevirtual 116, 3) := by decide +kernel
theorem dX1_again_68 : decode cX1_again 68 = .ok (.checkcast 114, 3) := by decide +kernel
theorem dX1_again_71 : decode cX1_again 71 = .ok (.astore 4, 2) := by decide +kernel
theorem dX1_again_73 : decode cX1_again 73 = .ok (.aload_n 3, 1) := by decide +kernel
theorem dX1_again_74 : decode cX1_again 74 = .ok (.getfield 137, 3) := by decide +kernel
theorem dX1_again_77 : decode cX1_again 77 = .ok (.aload 4, 2) := by decide +kernel
theorem dX1_again_79 : decode cX1_again 79 = .ok (.getfield 137, 3) := by decide +kernel
theorem dX1_again_82 : decode cX1_again 82 = .ok (.if_acmp .ne 27, 3) := by decide +kernel
theorem dX1_again_85 : decode cX1_again 85 = .ok (.aload_n 3, 1) := by decide +kernel
theorem dX1_again_86 : decode cX1_again 86 = .ok (.getfield 141, 3) := by decide +kernel
theorem dX1_again_89 : decode cX1_again 89 = .ok (.aload 4, 2) := by decide +kernel
theorem dX1_again_91 : decode cX1_again 91 = .ok (.getfield 141, 3) := by decide +kernel
theorem dX1_again_94 : decode cX1_again 94 = .ok (.if_icmp .ne 15, 3) := by decide +kernel
theorem dX1_again_97 : decode cX1_again 97 = .ok (.aload 4, 2) := by decide +kernel
theorem dX1_again_99 : decode cX1_again 99 = .ok (.getfield 144, 3) := by decide +kernel
theorem dX1_again_102 : decode cX1_again 102 = .ok (.aload_n 3, 1) := by decide +kernel
theorem dX1_again_103 : decode cX1_again 103 = .ok (.getfield 144, 3) := by decide +kernel
theorem dX1_again_106 : decode cX1_again 106 = .ok (.if_icmp .gt 5, 3) := by decide +kernel
theorem dX1_again_109 : decode cX1_again 109 = .ok (.iconst (-1), 1) := by decide +kernel
theorem dX1_again_110 : decode cX1_again 110 = .ok (.ireturn, 1) := by decide +kernel
theorem dX1_again_111 : decode cX1_again 111 = .ok (.aload_n 0, 1) := by decide +kernel
theorem dX1_again_112 : decode cX1_again 112 = .ok (.getfield 35, 3) := by decide +kernel
theorem dX1_again_115 : decode cX1_again 115 = .ok (.new 147, 3) := by decide +kernel
theorem dX1_again_118 : decode cX1_again 118 = .ok (.dup, 1) := by decide +kernel
theorem dX1_again_119 : decode cX1_again 119 = .ok (.aload_n 0, 1) := by decide +kernel
theorem dX1_again_120 : decode cX1_again 120 = .ok (.getfield 95, 3) := by decide +kernel
theorem dX1_again_123 : decode cX1_again 123 = .ok (.iload_n 1, 1) := by decide +kernel
theorem dX1_again_124 : decode cX1_again 124 = .ok (.iload_n 2, 1) := by decide +kernel
theorem dX1_again_125 : decode cX1_again 125 = .ok (.invokespecial 149, 3) := by decide +kernel
theorem dX1_again_128 : decode cX1_again 128 = .ok (.invokevirtual 101, 3) := by decide +kernel
theorem dX1_again_131 : decode cX1_again 131 = .ok (.pop, 1) := by decide +kernel
theorem dX1_again_132 : decode cX1_again 132 = .ok (.aload_n 0, 1) := by decide +kernel
theorem dX1_again_133 : decode cX1_again 133 = .ok (.getfield 35, 3) := by decide +kernel
theorem dX1_again_136 : decode cX1_again 136 = .ok (.invokevirtual 85, 3) := by decide +kernel
theorem dX1_again_139 : decode cX1_again 139 = .ok (.iconst 1, 1) := by decide +kernel
theorem dX1_again_140 : decode cX1_again 140 = .ok (.isub, 1) := by decide +kernel
theorem dX1_again_141 : decode cX1_again 141 = .ok (.ireturn, 1) := by decide +kernel
def fn_X1_again_46 (N : Nat)   (Ω : zo_O) : Option zo_R :=
  rI ((-1)) Ω
theorem ct_X1_again_46 {Y : zo_Y} (hY : zo_Gd Y cX1_again 5 RX1 7) (hJ : zo_JC (zo_J Y)) (hCon : ∀ Ω, zo_J Y Ω → zo_Con Ω) (hr : zo_rt Y (Option.some Jvm.ClassFile.FieldType.int)) (N : Nat)    (Ω : zo_O) (res : zo_R) (h : fn_X1_again_46 N   Ω = some res) : TW Y res Ω 46 [] [] := by
  unfold fn_X1_again_46 at h
  refine zo_iconst hY (-1) (by decide) dX1_again_46 ?_
  exact zo_iret hY hr dX1_again_47 h
def fn_X1_again_109 (N : Nat)   (Ω : zo_O) : Option zo_R :=
  rI ((-1)) Ω
theorem ct_X1_again_109 {Y : zo_Y} (hY : zo_Gd Y cX1_again 5 RX1 7) (hJ : zo_JC (zo_J Y)) (hCon : ∀ Ω, zo_J Y Ω → zo_Con Ω) (hr : zo_rt Y (Option.some Jvm.ClassFile.FieldType.int)) (N : Nat)    (Ω : zo_O) (res : zo_R) (h : fn_X1_again_109 N   Ω = some res) : TW Y res Ω 109 [] [] := by
  unfold fn_X1_again_109 at h
  refine zo_iconst hY (-1) (by decide) dX1_again_109 ?_
  exact zo_iret hY hr dX1_again_110 h
def fn_X1_again (N : Nat) (x1 : Int32) (x2 : Int32) (Ω : zo_O) : Option zo_R :=
  ci (fn_J2_size N 1 Ω) fun r2 Ω1 =>
  ci (fn_X1_in N x1 0 (r2 - 1) Ω1) fun r4 Ω3 =>
  if r4 = 0 then (
    fn_X1_again_46 N Ω3
    ) else
  ci (fn_J2_size N 1 Ω3) fun r7 Ω6 =>
  ci (fn_X1_in N x2 0 (r7 - 1) Ω6) fun r9 Ω8 =>
  if r9 = 0 then (
    fn_X1_again_46 N Ω8
    ) else
  ci (fn_J2_size N 6 Ω8) fun r12 Ω11 =>
  if r12 = 30 then (
    fn_X1_again_46 N Ω11
    ) else
  cr (fn_J2_get N 1 x1 Ω11) fun r15 Ω14 =>
  bk r15 3 fun j16 =>
  cr (fn_J2_get N 1 x2 Ω14) fun r18 Ω17 =>
  bk r18 3 fun j19 =>
  bk (gR Ω17 3 j16 6) 2 fun j20 =>
  bk (gR Ω17 3 j19 6) 2 fun j21 =>
  if j20 = j21 then (
    if gI Ω17 3 j16 1 = gI Ω17 3 j19 1 then (
      if gI Ω17 3 j16 5 < gI Ω17 3 j19 5 then (
        ad 1 3 <| lt (nw Ω17 8 0) fun Ω25 =>
        cv (fn_X10_init N (gC Ω17 8) (gI Ω25 0 0 8) x1 x2 Ω25) fun Ω26 =>
        ci (fn_J2_add N 6 (some (8, gC Ω17 8)) Ω26) fun r28 Ω27 =>
        ci (fn_J2_size N 6 Ω27) fun r30 Ω29 =>
        rI (r30 - 1) Ω29
        ) else
      fn_X1_again_109 N Ω17
      ) else
    fn_X1_again_109 N Ω17
    ) else
  fn_X1_again_109 N Ω17
theorem mt_X1_again {G : zo_G} {J : zo_O → Prop} (hJ : zo_JC J) (hCon : ∀ Ω, J Ω → zo_Con Ω) (N : Nat) (x1 : Int32) (x2 : Int32) (Ω : zo_O) (res : zo_R) (h : fn_X1_again N x1 x2 Ω = some res) : zo_MT G J yX1_again cX1_again 5 (Option.some Jvm.ClassFile.FieldType.int) 7 [vr 0 0, vi x1, vi x2] Ω res := by
  refine zo_enter (by decide) rfl (Nat.le_of_ble_eq_true rfl) (fun Y hY eJ hr hmn => ?_)
  subst eJ
  show TW Y res Ω 0 [(0, vr 0 0), (1, vi x1), (2, vi x2)] []
  unfold fn_X1_again at h
  refine zo_iload_n hY dX1_again_0 rfl 1 rfl ?_
  refine zo_iconst hY 0 (by decide) dX1_again_1 ?_
  refine zo_aload_n hY dX1_again_2 rfl 0 rfl ?_
  refine zo_getC hY LX1_20_0 rfl (fun Ω q => (hCon Ω q).1 1 _ rfl) dX1_again_3 ?_
  refine zo_callV hY (fun q hq => mt_J2_size hJ hCon N 1 Ω q hq) (by decide) (by decide) (by decide) ⟨rfl, cn_J2_size⟩ rfl q245 q246 q247 q81 q248 (Nat.le_of_ble_eq_true rfl) dX1_again_6 rfl h (ci_k (fun r2 Ω1 res h => ?_))
  refine zo_iconst hY 1 (by decide) dX1_again_9 ?_
  refine zo_isub hY dX1_again_10 ?_
  refine zo_callS hY (fun q hq => mt_X1_in hJ hCon N x1 0 (r2 - 1) Ω1 q hq) (by decide) (by decide) cn_X1_in rfl q239 q240 q78 q241 (Nat.le_of_ble_eq_true rfl) dX1_again_11 rfl h (ci_k (fun r4 Ω3 res h => ?_))
  refine zo_if_eq hY 46 dX1_again_14 (by decide) h (fun c5 h => ?_) (fun c5 h => ?_)
  · refine zo_sub [] rfl ?_
    exact ct_X1_again_46 hY hJ hCon hr N Ω3 _ h
  · refine zo_iload_n hY dX1_again_17 rfl 2 rfl ?_
    refine zo_iconst hY 0 (by decide) dX1_again_18 ?_
    refine zo_aload_n hY dX1_again_19 rfl 0 rfl ?_
    refine zo_getC hY LX1_20_0 rfl (fun Ω q => (hCon Ω q).1 1 _ rfl) dX1_again_20 ?_
    refine zo_callV hY (fun q hq => mt_J2_size hJ hCon N 1 Ω3 q hq) (by decide) (by decide) (by decide) ⟨rfl, cn_J2_size⟩ rfl q245 q246 q247 q81 q248 (Nat.le_of_ble_eq_true rfl) dX1_again_23 rfl h (ci_k (fun r7 Ω6 res h => ?_))
    refine zo_iconst hY 1 (by decide) dX1_again_26 ?_
    refine zo_isub hY dX1_again_27 ?_
    refine zo_callS hY (fun q hq => mt_X1_in hJ hCon N x2 0 (r7 - 1) Ω6 q hq) (by decide) (by decide) cn_X1_in rfl q239 q240 q78 q241 (Nat.le_of_ble_eq_true rfl) dX1_again_28 rfl h (ci_k (fun r9 Ω8 res h => ?_))
    refine zo_if_eq hY 46 dX1_again_31 (by decide) h (fun c10 h => ?_) (fun c10 h => ?_)
    · refine zo_sub [] rfl ?_
      exact ct_X1_again_46 hY hJ hCon hr N Ω8 _ h
    · refine zo_aload_n hY dX1_again_34 rfl 0 rfl ?_
      refine zo_getC hY LX1_35_0 rfl (fun Ω q => (hCon Ω q).1 6 _ rfl) dX1_again_35 ?_
      refine zo_callV hY (fun q hq => mt_J2_size hJ hCon N 6 Ω8 q hq) (by decide) (by decide) (by decide) ⟨rfl, cn_J2_size⟩ rfl q245 q246 q247 q81 q248 (Nat.le_of_ble_eq_true rfl) dX1_again_38 rfl h (ci_k (fun r12 Ω11 res h => ?_))
      refine zo_bipush hY 30 (by decide) dX1_again_41 ?_
      refine zo_icmp_ne hY 48 dX1_again_43 (by decide) h (fun c13 h => ?_) (fun c13 h => ?_)
      · refine zo_sub [] rfl ?_
        exact ct_X1_again_46 hY hJ hCon hr N Ω11 _ h
      · refine zo_aload_n hY dX1_again_48 rfl 0 rfl ?_
        refine zo_getC hY LX1_20_0 rfl (fun Ω q => (hCon Ω q).1 1 _ rfl) dX1_again_49 ?_
        refine zo_iload_n hY dX1_again_52 rfl 1 rfl ?_
        refine zo_callV hY (fun q hq => mt_J2_get hJ hCon N 1 x1 Ω11 q hq) (by decide) (by decide) (by decide) ⟨rfl, cn_J2_get⟩ rfl q368 q369 q370 q81 q371 (Nat.le_of_ble_eq_true rfl) dX1_again_53 rfl h (cr_k (fun r15 Ω14 res h => ?_))
        refine zo_castK hY (by decide) q366 (Or.inl rfl) dX1_again_56 h (fun j16 h => ?_)
        refine zo_astore_n hY dX1_again_59 rfl (by decide) rfl (ls' := [(3, vr 3 j16), (0, vr 0 0), (1, vi x1), (2, vi x2)]) rfl ?_
        refine zo_aload_n hY dX1_again_60 rfl 1 rfl ?_
        refine zo_getC hY LX1_20_0 rfl (fun Ω q => (hCon Ω q).1 1 _ rfl) dX1_again_61 ?_
        refine zo_iload_n hY dX1_again_64 rfl 3 rfl ?_
        refine zo_callV hY (fun q hq => mt_J2_get hJ hCon N 1 x2 Ω14 q hq) (by decide) (by decide) (by decide) ⟨rfl, cn_J2_get⟩ rfl q368 q369 q370 q81 q371 (Nat.le_of_ble_eq_true rfl) dX1_again_65 rfl h (cr_k (fun r18 Ω17 res h => ?_))
        refine zo_castK hY (by decide) q366 (Or.inl rfl) dX1_again_68 h (fun j19 h => ?_)
        refine zo_astore hY dX1_again_71 (by decide) rfl (ls' := [(4, vr 3 j19), (3, vr 3 j16), (0, vr 0 0), (1, vi x1), (2, vi x2)]) rfl ?_
        refine zo_aload_n hY dX1_again_73 rfl 1 rfl ?_
        refine zo_getK hY LX1_137_3 rfl dX1_again_74 h (fun j20 h => ?_)
        refine zo_aload hY dX1_again_77 0 rfl ?_
        refine zo_getK hY LX1_137_3 rfl dX1_again_79 h (fun j21 h => ?_)
        refine zo_acmp_ne hY (by decide) 109 dX1_again_82 (by decide) h (fun c22 h => ?_) (fun c22 h => ?_)
        · refine zo_aload_n hY dX1_again_85 rfl 1 rfl ?_
          refine zo_getI hY LX1_141_3 rfl dX1_again_86 ?_
          refine zo_aload hY dX1_again_89 0 rfl ?_
          refine zo_getI hY LX1_141_3 rfl dX1_again_91 ?_
          refine zo_icmp_ne hY 109 dX1_again_94 (by decide) h (fun c23 h => ?_) (fun c23 h => ?_)
          · refine zo_aload hY dX1_again_97 0 rfl ?_
            refine zo_getI hY LX1_144_3 rfl dX1_again_99 ?_
            refine zo_aload_n hY dX1_again_102 rfl 1 rfl ?_
            refine zo_getI hY LX1_144_3 rfl dX1_again_103 ?_
            refine zo_icmp_gt hY 111 dX1_again_106 (by decide) h (fun c24 h => ?_) (fun c24 h => ?_)
            · refine zo_aload_n hY dX1_again_111 rfl 2 rfl ?_
              refine zo_getC hY LX1_35_0 rfl (fun Ω q => (hCon Ω q).1 6 _ rfl) dX1_again_112 ?_
              refine zo_new hY hJ (k := 8) (by decide) (Or.inl rfl) rfl q516 q517 q96 dX1_again_115 h (fun Ω25 res h => ?_)
              refine zo_dup hY dX1_again_118 (Or.inr ⟨_, rfl⟩) ?_
              refine zo_aload_n hY dX1_again_119 rfl 2 rfl ?_
              refine zo_getI hY LX1_95_0 rfl dX1_again_120 ?_
              refine zo_iload_n hY dX1_again_123 rfl 3 rfl ?_
              refine zo_iload_n hY dX1_again_124 rfl 4 rfl ?_
              refine zo_callI hY (fun q hq => mt_X10_init hJ hCon N (gC Ω17 8) (gI Ω25 0 0 8) x1 x2 Ω25 q hq) (by decide) (by decide) cn_X10_init rfl rfl q518 q519 q96 q520 (Nat.le_of_ble_eq_true rfl) dX1_again_125 rfl h (cv_k (fun Ω26 res h => ?_))
              refine zo_callV hY (fun q hq => mt_J2_add hJ hCon N 6 (some (8, gC Ω17 8)) Ω26 q hq) (by decide) (by decide) (by decide) ⟨rfl, cn_J2_add⟩ rfl q284 q285 q286 q81 q287 (Nat.le_of_ble_eq_true rfl) dX1_again_128 rfl h (ci_k (fun r28 Ω27 res h => ?_))
              refine zo_pop hY dX1_again_131 (Or.inl rfl) ?_
              refine zo_aload_n hY dX1_again_132 rfl 2 rfl ?_
              refine zo_getC hY LX1_35_0 rfl (fun Ω q => (hCon Ω q).1 6 _ rfl) dX1_again_133 ?_
              refine zo_callV hY (fun q hq => mt_J2_size hJ hCon N 6 Ω27 q hq) (by decide) (by decide) (by decide) ⟨rfl, cn_J2_size⟩ rfl q245 q246 q247 q81 q248 (Nat.le_of_ble_eq_true rfl) dX1_again_136 rfl h (ci_k (fun r30 Ω29 res h => ?_))
              refine zo_iconst hY 1 (by decide) dX1_again_139 ?_
              refine zo_isub hY dX1_again_140 ?_
              exact zo_iret hY hr dX1_again_141 h
            · refine zo_sub [] rfl ?_
              exact ct_X1_again_109 hY hJ hCon hr N Ω17 _ h
          · refine zo_sub [] rfl ?_
            exact ct_X1_again_109 hY hJ hCon hr N Ω17 _ h
        · refine zo_sub [] rfl ?_
          exact ct_X1_again_109 hY hJ hCon hr N Ω17 _ h
theorem dX1_house_0 : decode cX1_house 0 = .ok (.iload_n 1, 1) := by decide +kernel
theorem dX1_house_1 : decode cX1_house 1 = .ok (.iconst 0, 1) := by decide +kernel
theorem dX1_house_2 : decode cX1_house 2 = .ok (.bipush 30, 2) := by decide +kernel
theorem dX1_house_4 : decode cX1_house 4 = .ok (.invokestatic 3, 3) := by decide +kernel
theorem dX1_house_7 : decode cX1_house 7 = .ok (.ifCond .eq 24, 3) := by decide +kernel
theorem dX1_house_10 : decode cX1_house 10 = .ok (.iload_n 2, 1) := by decide +kernel
theorem dX1_house_11 : decode cX1_house 11 = .ok (.iconst 1, 1) := by decide +kernel
theorem dX1_house_12 : decode cX1_house 12 = .ok (.bipush 40, 2) := by decide +kernel
theorem dX1_house_14 : decode cX1_house 14 = .ok (.invokestatic 3, 3) := by decide +kernel
theorem dX1_house_17 : decode cX1_house 17 = .ok (.ifCond .eq 14, 3) := by decide +kernel
theorem dX1_house_20 : decode cX1_house 20 = .ok (.iload_n 3, 1) := by decide +kernel
theorem dX1_house_21 : decode cX1_house 21 = .ok (.iconst 1, 1) := by decide +kernel
theorem dX1_house_22 : decode cX1_house 22 = .ok (.sipush 999, 3) := by decide +kernel
theorem dX1_house_25 : decode cX1_house 25 = .ok (.invokestatic 3, 3) := by decide +kernel
theorem dX1_house_28 : decode cX1_house 28 = .ok (.ifCond .ne 5, 3) := by decide +kernel
theorem dX1_house_31 : decode cX1_house 31 = .ok (.iconst 0, 1) := by decide +kernel
theorem dX1_house_32 : decode cX1_house 32 = .ok (.ireturn, 1) := by decide +kernel
theorem dX1_house_33 : decode cX1_house 33 = .ok (.aload_n 0, 1) := by decide +kernel
theorem dX1_house_34 : decode cX1_house 34 = .ok (.iload_n 1, 1) := by decide +kernel
theorem dX1_house_35 : decode cX1_house 35 = .ok (.putfield 42, 3) := by decide +kernel
theorem dX1_house_38 : decode cX1_house 38 = .ok (.aload_n 0, 1) := by decide +kernel
theorem dX1_house_39 : decode cX1_house 39 = .ok (.iload_n 2, 1) := by decide +kernel
theorem dX1_house_40 : decode cX1_house 40 = .ok (.putfield 46, 3) := by decide +kernel
theorem dX1_house_43 : decode cX1_house 43 = .ok (.aload_n 0, 1) := by decide +kernel
theorem dX1_house_44 : decode cX1_house 44 = .ok (.iload_n 3, 1) := by decide +kernel
theorem dX1_house_45 : decode cX1_house 45 = .ok (.putfield 49, 3) := by decide +kernel
theorem dX1_house_48 : decode cX1_house 48 = .ok (.iconst 1, 1) := by decide +kernel
theorem dX1_house_49 : decode cX1_house 49 = .ok (.ireturn, 1) := by decide +kernel
def fn_X1_house_31 (N : Nat)   (Ω : zo_O) : Option zo_R :=
  rZ 0 Ω
theorem ct_X1_house_31 {Y : zo_Y} (hY : zo_Gd Y cX1_house 4 RX1 1) (hJ : zo_JC (zo_J Y)) (hCon : ∀ Ω, zo_J Y Ω → zo_Con Ω) (hr : zo_rt Y (Option.some Jvm.ClassFile.FieldType.boolean)) (N : Nat)    (Ω : zo_O) (res : zo_R) (h : fn_X1_house_31 N   Ω = some res) : TW Y res Ω 31 [] [] := by
  unfold fn_X1_house_31 at h
  refine zo_iconst hY 0 (by decide) dX1_house_31 ?_
  exact zo_zret hY hr dX1_house_32 h
def fn_X1_house (N : Nat) (x1 : Int32) (x2 : Int32) (x3 : Int32) (Ω : zo_O) : Option zo_R :=
  ci (fn_X1_in N x1 0 30 Ω) fun r2 Ω1 =>
  if r2 = 0 then (
    fn_X1_house_31 N Ω1
    ) else
  ci (fn_X1_in N x2 1 40 Ω1) fun r5 Ω4 =>
  if r5 = 0 then (
    fn_X1_house_31 N Ω4
    ) else
  ci (fn_X1_in N x3 1 999 Ω4) fun r8 Ω7 =>
  if r8 = 0 then (
    fn_X1_house_31 N Ω7
    ) else
  lt (sI Ω7 0 0 9 x1) fun Ω10 =>
  lt (sI Ω10 0 0 10 x2) fun Ω11 =>
  lt (sI Ω11 0 0 11 x3) fun Ω12 =>
  rZ 1 Ω12
theorem mt_X1_house {G : zo_G} {J : zo_O → Prop} (hJ : zo_JC J) (hCon : ∀ Ω, J Ω → zo_Con Ω) (N : Nat) (x1 : Int32) (x2 : Int32) (x3 : Int32) (Ω : zo_O) (res : zo_R) (h : fn_X1_house N x1 x2 x3 Ω = some res) : zo_MT G J yX1_house cX1_house 4 (Option.some Jvm.ClassFile.FieldType.boolean) 1 [vr 0 0, vi x1, vi x2, vi x3] Ω res := by
  refine zo_enter (by decide) rfl (Nat.le_of_ble_eq_true rfl) (fun Y hY eJ hr hmn => ?_)
  subst eJ
  show TW Y res Ω 0 [(0, vr 0 0), (1, vi x1), (2, vi x2), (3, vi x3)] []
  unfold fn_X1_house at h
  refine zo_iload_n hY dX1_house_0 rfl 1 rfl ?_
  refine zo_iconst hY 0 (by decide) dX1_house_1 ?_
  refine zo_bipush hY 30 (by decide) dX1_house_2 ?_
  refine zo_callS hY (fun q hq => mt_X1_in hJ hCon N x1 0 30 Ω q hq) (by decide) (by decide) cn_X1_in rfl q239 q240 q78 q241 (Nat.le_of_ble_eq_true rfl) dX1_house_4 rfl h (ci_k (fun r2 Ω1 res h => ?_))
  refine zo_if_eq hY 31 dX1_house_7 (by decide) h (fun c3 h => ?_) (fun c3 h => ?_)
  · refine zo_sub [] rfl ?_
    exact ct_X1_house_31 hY hJ hCon hr N Ω1 _ h
  · refine zo_iload_n hY dX1_house_10 rfl 2 rfl ?_
    refine zo_iconst hY 1 (by decide) dX1_house_11 ?_
    refine zo_bipush hY 40 (by decide) dX1_house_12 ?_
    refine zo_callS hY (fun q hq => mt_X1_in hJ hCon N x2 1 40 Ω1 q hq) (by decide) (by decide) cn_X1_in rfl q239 q240 q78 q241 (Nat.le_of_ble_eq_true rfl) dX1_house_14 rfl h (ci_k (fun r5 Ω4 res h => ?_))
    refine zo_if_eq hY 31 dX1_house_17 (by decide) h (fun c6 h => ?_) (fun c6 h => ?_)
    · refine zo_sub [] rfl ?_
      exact ct_X1_house_31 hY hJ hCon hr N Ω4 _ h
    · refine zo_iload_n hY dX1_house_20 rfl 3 rfl ?_
      refine zo_iconst hY 1 (by decide) dX1_house_21 ?_
      refine zo_sipush hY 999 (by decide) dX1_house_22 ?_
      refine zo_callS hY (fun q hq => mt_X1_in hJ hCon N x3 1 999 Ω4 q hq) (by decide) (by decide) cn_X1_in rfl q239 q240 q78 q241 (Nat.le_of_ble_eq_true rfl) dX1_house_25 rfl h (ci_k (fun r8 Ω7 res h => ?_))
      refine zo_if_ne hY 33 dX1_house_28 (by decide) h (fun c9 h => ?_) (fun c9 h => ?_)
      · refine zo_sub [] rfl ?_
        exact ct_X1_house_31 hY hJ hCon hr N Ω7 _ h
      · refine zo_aload_n hY dX1_house_33 rfl 0 rfl ?_
        refine zo_iload_n hY dX1_house_34 rfl 1 rfl ?_
        refine zo_putI hY hJ LX1_42_0 rfl (Or.inl rfl) dX1_house_35 h (fun Ω10 h => ?_)
        refine zo_aload_n hY dX1_house_38 rfl 0 rfl ?_
        refine zo_iload_n hY dX1_house_39 rfl 2 rfl ?_
        refine zo_putI hY hJ LX1_46_0 rfl (Or.inl rfl) dX1_house_40 h (fun Ω11 h => ?_)
        refine zo_aload_n hY dX1_house_43 rfl 0 rfl ?_
        refine zo_iload_n hY dX1_house_44 rfl 3 rfl ?_
        refine zo_putI hY hJ LX1_49_0 rfl (Or.inl rfl) dX1_house_45 h (fun Ω12 h => ?_)
        refine zo_iconst hY 1 (by decide) dX1_house_48 ?_
        exact zo_zret hY hr dX1_house_49 h
theorem dX1_delay_0 : decode cX1_delay 0 = .ok (.iload_n 1, 1) := by decide +kernel
theorem dX1_delay_1 : decode cX1_delay 1 = .ok (.invokestatic 108, 3) := by decide +kernel
theorem dX1_delay_4 : decode cX1_delay 4 = .ok (.ifCond .eq 13, 3) := by decide +kernel
theorem dX1_delay_7 : decode cX1_delay 7 = .ok (.iload_n 2, 1) := by decide +kernel
theorem dX1_delay_8 : decode cX1_delay 8 = .ok (.iconst 0, 1) := by decide +kernel
theorem dX1_delay_9 : decode cX1_delay 9 = .ok (.bipush 60, 2) := by decide +kernel
theorem dX1_delay_11 : decode cX1_delay 11 = .ok (.invokestatic 3, 3) := by decide +kernel
theorem dX1_delay_14 : decode cX1_delay 14 = .ok (.ifCond .ne 5, 3) := by decide +kernel
theorem dX1_delay_17 : decode cX1_delay 17 = .ok (.iconst 0, 1) := by decide +kernel
theorem dX1_delay_18 : decode cX1_delay 18 = .ok (.ireturn, 1) := by decide +kernel
theorem dX1_delay_19 : decode cX1_delay 19 = .ok (.aload_n 0, 1) := by decide +kernel
theorem dX1_delay_20 : decode cX1_delay 20 = .ok (.getfield 38, 3) := by decide +kernel
theorem dX1_delay_23 : decode cX1_delay 23 = .ok (.iload_n 1, 1) := by decide +kernel
theorem dX1_delay_24 : decode cX1_delay 24 = .ok (.iload_n 2, 1) := by decide +kernel
theorem dX1_delay_25 : decode cX1_delay 25 = .ok (.iastore, 1) := by decide +kernel
theorem dX1_delay_26 : decode cX1_delay 26 = .ok (.iconst 1, 1) := by decide +kernel
theorem dX1_delay_27 : decode cX1_delay 27 = .ok (.ireturn, 1) := by decide +kernel
def fn_X1_delay_17 (N : Nat)   (Ω : zo_O) : Option zo_R :=
  rZ 0 Ω
theorem ct_X1_delay_17 {Y : zo_Y} (hY : zo_Gd Y cX1_delay 3 RX1 2) (hJ : zo_JC (zo_J Y)) (hCon : ∀ Ω, zo_J Y Ω → zo_Con Ω) (hr : zo_rt Y (Option.some Jvm.ClassFile.FieldType.boolean)) (N : Nat)    (Ω : zo_O) (res : zo_R) (h : fn_X1_delay_17 N   Ω = some res) : TW Y res Ω 17 [] [] := by
  unfold fn_X1_delay_17 at h
  refine zo_iconst hY 0 (by decide) dX1_delay_17 ?_
  exact zo_zret hY hr dX1_delay_18 h
def fn_X1_delay (N : Nat) (x1 : Int32) (x2 : Int32) (Ω : zo_O) : Option zo_R :=
  ci (fn_X1_isKind N x1 Ω) fun r2 Ω1 =>
  if r2 = 0 then (
    fn_X1_delay_17 N Ω1
    ) else
  ci (fn_X1_in N x2 0 60 Ω1) fun r5 Ω4 =>
  if r5 = 0 then (
    fn_X1_delay_17 N Ω4
    ) else
  ix x1 3 fun j7 => lt (sI Ω4 43 0 j7 x2) fun Ω8 =>
  rZ 1 Ω8
theorem mt_X1_delay {G : zo_G} {J : zo_O → Prop} (hJ : zo_JC J) (hCon : ∀ Ω, J Ω → zo_Con Ω) (N : Nat) (x1 : Int32) (x2 : Int32) (Ω : zo_O) (res : zo_R) (h : fn_X1_delay N x1 x2 Ω = some res) : zo_MT G J yX1_delay cX1_delay 3 (Option.some Jvm.ClassFile.FieldType.boolean) 2 [vr 0 0, vi x1, vi x2] Ω res := by
  refine zo_enter (by decide) rfl (Nat.le_of_ble_eq_true rfl) (fun Y hY eJ hr hmn => ?_)
  subst eJ
  show TW Y res Ω 0 [(0, vr 0 0), (1, vi x1), (2, vi x2)] []
  unfold fn_X1_delay at h
  refine zo_iload_n hY dX1_delay_0 rfl 1 rfl ?_
  refine zo_callS hY (fun q hq => mt_X1_isKind hJ hCon N x1 Ω q hq) (by decide) (by decide) cn_X1_isKind rfl q360 q361 q78 q362 (Nat.le_of_ble_eq_true rfl) dX1_delay_1 rfl h (ci_k (fun r2 Ω1 res h => ?_))
  refine zo_if_eq hY 17 dX1_delay_4 (by decide) h (fun c3 h => ?_) (fun c3 h => ?_)
  · refine zo_sub [] rfl ?_
    exact ct_X1_delay_17 hY hJ hCon hr N Ω1 _ h
  · refine zo_iload_n hY dX1_delay_7 rfl 2 rfl ?_
    refine zo_iconst hY 0 (by decide) dX1_delay_8 ?_
    refine zo_bipush hY 60 (by decide) dX1_delay_9 ?_
    refine zo_callS hY (fun q hq => mt_X1_in hJ hCon N x2 0 60 Ω1 q hq) (by decide) (by decide) cn_X1_in rfl q239 q240 q78 q241 (Nat.le_of_ble_eq_true rfl) dX1_delay_11 rfl h (ci_k (fun r5 Ω4 res h => ?_))
    refine zo_if_ne hY 19 dX1_delay_14 (by decide) h (fun c6 h => ?_) (fun c6 h => ?_)
    · refine zo_sub [] rfl ?_
      exact ct_X1_delay_17 hY hJ hCon hr N Ω4 _ h
    · refine zo_aload_n hY dX1_delay_19 rfl 0 rfl ?_
      refine zo_getC hY LX1_38_0 rfl (fun Ω q => (hCon Ω q).1 7 _ rfl) dX1_delay_20 ?_
      refine zo_iload_n hY dX1_delay_23 rfl 1 rfl ?_
      refine zo_iload_n hY dX1_delay_24 rfl 2 rfl ?_
      refine zo_ast hY hJ (by decide) (Or.inl ⟨rfl, rfl, dX1_delay_25⟩) (fun q => (hCon _ q).2.2.2 43 0 3 rfl) h (fun j7 Ω8 h => ?_)
      refine zo_iconst hY 1 (by decide) dX1_delay_26 ?_
      exact zo_zret hY hr dX1_delay_27 h
theorem dX1_day_0 : decode cX1_day 0 = .ok (.iload_n 1, 1) := by decide +kernel
theorem dX1_day_1 : decode cX1_day 1 = .ok (.iconst 0, 1) := by decide +kernel
theorem dX1_day_2 : decode cX1_day 2 = .ok (.sipush 1000, 3) := by decide +kernel
theorem dX1_day_5 : decode cX1_day 5 = .ok (.invokestatic 3, 3) := by decide +kernel
theorem dX1_day_8 : decode cX1_day 8 = .ok (.ifCond .eq 14, 3) := by decide +kernel
theorem dX1_day_11 : decode cX1_day 11 = .ok (.aload_n 0, 1) := by decide +kernel
theorem dX1_day_12 : decode cX1_day 12 = .ok (.getfield 95, 3) := by decide +kernel
theorem dX1_day_15 : decode cX1_day 15 = .ok (.iload_n 1, 1) := by decide +kernel
theorem dX1_day_16 : decode cX1_day 16 = .ok (.iadd, 1) := by decide +kernel
theorem dX1_day_17 : decode cX1_day 17 = .ok (.ldc 152, 2) := by decide +kernel
theorem dX1_day_19 : decode cX1_day 19 = .ok (.if_icmp .le 5, 3) := by decide +kernel
theorem dX1_day_22 : decode cX1_day 22 = .ok (.iconst (-1), 1) := by decide +kernel
theorem dX1_day_23 : decode cX1_day 23 = .ok (.ireturn, 1) := by decide +kernel
theorem dX1_day_24 : decode cX1_day 24 = .ok (.aload_n 0, 1) := by decide +kernel
theorem dX1_day_25 : decode cX1_day 25 = .ok (.dup, 1) := by decide +kernel
theorem dX1_day_26 : decode cX1_day 26 = .ok (.getfield 95, 3) := by decide +kernel
theorem dX1_day_29 : decode cX1_day 29 = .ok (.iload_n 1, 1) := by decide +kernel
theorem dX1_day_30 : decode cX1_day 30 = .ok (.iadd, 1) := by decide +kernel
theorem dX1_day_31 : decode cX1_day 31 = .ok (.putfield 95, 3) := by decide +kernel
theorem dX1_day_34 : decode cX1_day 34 = .ok (.aload_n 0, 1) := by decide +kernel
theorem dX1_day_35 : decode cX1_day 35 = .ok (.getfield 95, 3) := by decide +kernel
theorem dX1_day_38 : decode cX1_day 38 = .ok (.ireturn, 1) := by decide +kernel
def fn_X1_day_22 (N : Nat)   (Ω : zo_O) : Option zo_R :=
  rI ((-1)) Ω
theorem ct_X1_day_22 {Y : zo_Y} (hY : zo_Gd Y cX1_day 2 RX1 1) (hJ : zo_JC (zo_J Y)) (hCon : ∀ Ω, zo_J Y Ω → zo_Con Ω) (hr : zo_rt Y (Option.some Jvm.ClassFile.FieldType.int)) (N : Nat)    (Ω : zo_O) (res : zo_R) (h : fn_X1_day_22 N   Ω = some res) : TW Y res Ω 22 [] [] := by
  unfold fn_X1_day_22 at h
  refine zo_iconst hY (-1) (by decide) dX1_day_22 ?_
  exact zo_iret hY hr dX1_day_23 h
def fn_X1_day (N : Nat) (x1 : Int32) (Ω : zo_O) : Option zo_R :=
  ci (fn_X1_in N x1 0 1000 Ω) fun r2 Ω1 =>
  if r2 = 0 then (
    fn_X1_day_22 N Ω1
    ) else
  if (gI Ω1 0 0 8) + x1 ≤ 100000 then (
    lt (sI Ω1 0 0 8 ((gI Ω1 0 0 8) + x1)) fun Ω5 =>
    rI (gI Ω5 0 0 8) Ω5
    ) else
  fn_X1_day_22 N Ω1
theorem mt_X1_day {G : zo_G} {J : zo_O → Prop} (hJ : zo_JC J) (hCon : ∀ Ω, J Ω → zo_Con Ω) (N : Nat) (x1 : Int32) (Ω : zo_O) (res : zo_R) (h : fn_X1_day N x1 Ω = some res) : zo_MT G J yX1_day cX1_day 2 (Option.some Jvm.ClassFile.FieldType.int) 1 [vr 0 0, vi x1] Ω res := by
  refine zo_enter (by decide) rfl (Nat.le_of_ble_eq_true rfl) (fun Y hY eJ hr hmn => ?_)
  subst eJ
  show TW Y res Ω 0 [(0, vr 0 0), (1, vi x1)] []
  unfold fn_X1_day at h
  refine zo_iload_n hY dX1_day_0 rfl 1 rfl ?_
  refine zo_iconst hY 0 (by decide) dX1_day_1 ?_
  refine zo_sipush hY 1000 (by decide) dX1_day_2 ?_
  refine zo_callS hY (fun q hq => mt_X1_in hJ hCon N x1 0 1000 Ω q hq) (by decide) (by decide) cn_X1_in rfl q239 q240 q78 q241 (Nat.le_of_ble_eq_true rfl) dX1_day_5 rfl h (ci_k (fun r2 Ω1 res h => ?_))
  refine zo_if_eq hY 22 dX1_day_8 (by decide) h (fun c3 h => ?_) (fun c3 h => ?_)
  · refine zo_sub [] rfl ?_
    exact ct_X1_day_22 hY hJ hCon hr N Ω1 _ h
  · refine zo_aload_n hY dX1_day_11 rfl 0 rfl ?_
    refine zo_getI hY LX1_95_0 rfl dX1_day_12 ?_
    refine zo_iload_n hY dX1_day_15 rfl 1 rfl ?_
    refine zo_iadd hY dX1_day_16 ?_
    refine zo_ldc hY q544 dX1_day_17 ?_
    refine zo_icmp_le hY 24 dX1_day_19 (by decide) h (fun c4 h => ?_) (fun c4 h => ?_)
    · refine zo_aload_n hY dX1_day_24 rfl 0 rfl ?_
      refine zo_dup hY dX1_day_25 (Or.inr ⟨_, rfl⟩) ?_
      refine zo_getI hY LX1_95_0 rfl dX1_day_26 ?_
      refine zo_iload_n hY dX1_day_29 rfl 1 rfl ?_
      refine zo_iadd hY dX1_day_30 ?_
      refine zo_putI hY hJ LX1_95_0 rfl (Or.inl rfl) dX1_day_31 h (fun Ω5 h => ?_)
      refine zo_aload_n hY dX1_day_34 rfl 0 rfl ?_
      refine zo_getI hY LX1_95_0 rfl dX1_day_35 ?_
      exact zo_iret hY hr dX1_day_38 h
    · refine zo_sub [] rfl ?_
      exact ct_X1_day_22 hY hJ hCon hr N Ω1 _ h
theorem dX5_round_0 : decode cX5_round 0 = .ok (.bipush 100, 2) := by decide +kernel
theorem dX5_round_2 : decode cX5_round 2 = .ok (.aload_n 0, 1) := by decide +kernel
theorem dX5_round_3 : decode cX5_round 3 = .ok (.getfield 23, 3) := by decide +kernel
theorem dX5_round_6 : decode cX5_round 6 = .ok (.imul, 1) := by decide +kernel
theorem dX5_round_7 : decode cX5_round 7 = .ok (.aload_n 0, 1) := by decide +kernel
theorem dX5_round_8 : decode cX5_round 8 = .ok (.getfield 20, 3) := by decide +kernel
theorem dX5_round_11 : decode cX5_round 11 = .ok (.idiv, 1) := by decide +kernel
theorem dX5_round_12 : decode cX5_round 12 = .ok (.ireturn, 1) := by decide +kernel
def fn_X5_round (N : Nat) (x0 : Nat) (Ω : zo_O) : Option zo_R :=
  gd (¬ (gI Ω 3 x0 3) = 0) <|
  rI ((100 * (gI Ω 3 x0 4)) / (gI Ω 3 x0 3)) Ω
theorem mt_X5_round {G : zo_G} {J : zo_O → Prop} (hJ : zo_JC J) (hCon : ∀ Ω, J Ω → zo_Con Ω) (N : Nat) (x0 : Nat) (Ω : zo_O) (res : zo_R) (h : fn_X5_round N x0 Ω = some res) : zo_MT G J yX5_round cX5_round 1 (Option.some Jvm.ClassFile.FieldType.int) 0 [vr 3 x0] Ω res := by
  refine zo_enter (by decide) rfl (Nat.le_of_ble_eq_true rfl) (fun Y hY eJ hr hmn => ?_)
  subst eJ
  show TW Y res Ω 0 [(0, vr 3 x0)] []
  unfold fn_X5_round at h
  refine zo_bipush hY 100 (by decide) dX5_round_0 ?_
  refine zo_aload_n hY dX5_round_2 rfl 0 rfl ?_
  refine zo_getI hY LX5_23_3 rfl dX5_round_3 ?_
  refine zo_imul hY dX5_round_6 ?_
  refine zo_aload_n hY dX5_round_7 rfl 0 rfl ?_
  refine zo_getI hY LX5_20_3 rfl dX5_round_8 ?_
  refine zo_idiv hY dX5_round_11 h (fun h => ?_)
  exact zo_iret hY hr dX5_round_12 h
theorem dX1_value_0 : decode cX1_value 0 = .ok (.iload_n 0, 1) := by decide +kernel
theorem dX1_value_1 : decode cX1_value 1 = .ok (.tableswitch 110 0 8 #[51, 59, 64, 69, 74, 79, 84, 97, 102], 51) := by decide +kernel
theorem dX1_value_52 : decode cX1_value 52 = .ok (.aload_n 1, 1) := by decide +kernel
theorem dX1_value_53 : decode cX1_value 53 = .ok (.getfield 137, 3) := by decide +kernel
theorem dX1_value_56 : decode cX1_value 56 = .ok (.getfield 159, 3) := by decide +kernel
theorem dX1_value_59 : decode cX1_value 59 = .ok (.ireturn, 1) := by decide +kernel
theorem dX1_value_60 : decode cX1_value 60 = .ok (.aload_n 1, 1) := by decide +kernel
theorem dX1_value_61 : decode cX1_value 61 = .ok (.getfield 141, 3) := by decide +kernel
theorem dX1_value_64 : decode cX1_value 64 = .ok (.ireturn, 1) := by decide +kernel
theorem dX1_value_65 : decode cX1_value 65 = .ok (.aload_n 1, 1) := by decide +kernel
theorem dX1_value_66 : decode cX1_value 66 = .ok (.getfield 162, 3) := by decide +kernel
theorem dX1_value_69 : decode cX1_value 69 = .ok (.ireturn, 1) := by decide +kernel
theorem dX1_value_70 : decode cX1_value 70 = .ok (.aload_n 1, 1) := by decide +kernel
theorem dX1_value_71 : decode cX1_value 71 = .ok (.getfield 165, 3) := by decide +kernel
theorem dX1_value_74 : decode cX1_value 74 = .ok (.ireturn, 1) := by decide +kernel
theorem dX1_value_75 : decode cX1_value 75 = .ok (.aload_n 1, 1) := by decide +kernel
theorem dX1_value_76 : decode cX1_value 76 = .ok (.getfield 167, 3) := by decide +kernel
theorem dX1_value_79 : decode cX1_value 79 = .ok (.ireturn, 1) := by decide +kernel
theorem dX1_value_80 : decode cX1_value 80 = .ok (.aload_n 1, 1) := by decide +kernel
theorem dX1_value_81 : decode cX1_value 81 = .ok (.getfield 144, 3) := by decide +kernel
theorem dX1_value_84 : decode cX1_value 84 = .ok (.ireturn, 1) := by decide +kernel
theorem dX1_value_85 : decode cX1_value 85 = .ok (.aload_n 1, 1) := by decide +kernel
theorem dX1_value_86 : decode cX1_value 86 = .ok (.getfield 170, 3) := by decide +kernel
theorem dX1_value_89 : decode cX1_value 89 = .ok (.ifCond .eq 7, 3) := by decide +kernel
theorem dX1_value_92 : decode cX1_value 92 = .ok (.iconst 1, 1) := by decide +kernel
theorem dX1_value_93 : decode cX1_value 93 = .ok (.goto 4, 3) := by decide +kernel
theorem dX1_value_96 : decode cX1_value 96 = .ok (.iconst 0, 1) := by decide +kernel
theorem dX1_value_97 : decode cX1_value 97 = .ok (.ireturn, 1) := by decide +kernel
theorem dX1_value_98 : decode cX1_value 98 = .ok (.aload_n 1, 1) := by decide +kernel
theorem dX1_value_99 : decode cX1_value 99 = .ok (.invokevirtual 174, 3) := by decide +kernel
theorem dX1_value_102 : decode cX1_value 102 = .ok (.ireturn, 1) := by decide +kernel
theorem dX1_value_103 : decode cX1_value 103 = .ok (.aload_n 1, 1) := by decide +kernel
theorem dX1_value_104 : decode cX1_value 104 = .ok (.getfield 137, 3) := by decide +kernel
theorem dX1_value_107 : decode cX1_value 107 = .ok (.getfield 177, 3) := by decide +kernel
theorem dX1_value_110 : decode cX1_value 110 = .ok (.ireturn, 1) := by decide +kernel
theorem dX1_value_111 : decode cX1_value 111 = .ok (.aload_n 1, 1) := by decide +kernel
theorem dX1_value_112 : decode cX1_value 112 = .ok (.getfield 137, 3) := by decide +kernel
theorem dX1_value_115 : decode cX1_value 115 = .ok (.getfield 180, 3) := by decide +kernel
theorem dX1_value_118 : decode cX1_value 118 = .ok (.ireturn, 1) := by decide +kernel
def fn_X1_value_97 (N : Nat)  (s0 : Int32) (Ω : zo_O) : Option zo_R :=
  rI s0 Ω
theorem ct_X1_value_97 {Y : zo_Y} (hY : zo_Gd Y cX1_value 2 RX1 1) (hJ : zo_JC (zo_J Y)) (hCon : ∀ Ω, zo_J Y Ω → zo_Con Ω) (hr : zo_rt Y (Option.some Jvm.ClassFile.FieldType.int)) (N : Nat)   (s0 : Int32) (Ω : zo_O) (res : zo_R) (h : fn_X1_value_97 N  s0 Ω = some res) : TW Y res Ω 97 [] [vi s0] := by
  unfold fn_X1_value_97 at h
  exact zo_iret hY hr dX1_value_97 h
def fn_X1_value (N : Nat) (x0 : Int32) (x1 : Nat) (Ω : zo_O) : Option zo_R :=
  if x0 = 0 then (
    bk (gR Ω 3 x1 6) 2 fun j2 =>
    rI (gI Ω 2 j2 1) Ω
    ) else
  if x0 = 1 then (
    rI (gI Ω 3 x1 1) Ω
    ) else
  if x0 = 2 then (
    rI (gI Ω 3 x1 2) Ω
    ) else
  if x0 = 3 then (
    rI (gI Ω 3 x1 3) Ω
    ) else
  if x0 = 4 then (
    rI (gI Ω 3 x1 4) Ω
    ) else
  if x0 = 5 then (
    rI (gI Ω 3 x1 5) Ω
    ) else
  if x0 = 6 then (
    if gI Ω 3 x1 7 = 0 then (
      fn_X1_value_97 N 0 Ω
      ) else
    fn_X1_value_97 N 1 Ω
    ) else
  if x0 = 7 then (
    ci (fn_X5_round N x1 Ω) fun r12 Ω11 =>
    rI r12 Ω11
    ) else
  if x0 = 8 then (
    bk (gR Ω 3 x1 6) 2 fun j14 =>
    rI (gI Ω 2 j14 2) Ω
    ) else
  bk (gR Ω 3 x1 6) 2 fun j15 =>
  rI (gI Ω 2 j15 3) Ω
theorem mt_X1_value {G : zo_G} {J : zo_O → Prop} (hJ : zo_JC J) (hCon : ∀ Ω, J Ω → zo_Con Ω) (N : Nat) (x0 : Int32) (x1 : Nat) (Ω : zo_O) (res : zo_R) (h : fn_X1_value N x0 x1 Ω = some res) : zo_MT G J yX1_value cX1_value 2 (Option.some Jvm.ClassFile.FieldType.int) 1 [vi x0, vr 3 x1] Ω res := by
  refine zo_enter (by decide) rfl (Nat.le_of_ble_eq_true rfl) (fun Y hY eJ hr hmn => ?_)
  subst eJ
  show TW Y res Ω 0 [(0, vi x0), (1, vr 3 x1)] []
  unfold fn_X1_value at h
  refine zo_iload_n hY dX1_value_0 rfl 0 rfl ?_
  by_cases c1 : x0 = 0
  · rw [if_pos c1] at h
    refine zo_tsIn hY (off := 51) 0 52 c1 dX1_value_1 (by decide) (by decide) (by decide) (by decide) ?_
    refine zo_aload_n hY dX1_value_52 rfl 1 rfl ?_
    refine zo_getK hY LX1_137_3 rfl dX1_value_53 h (fun j2 h => ?_)
    refine zo_getI hY LX1_159_2 rfl dX1_value_56 ?_
    exact zo_iret hY hr dX1_value_59 h
  · rw [if_neg c1] at h
    by_cases c3 : x0 = 1
    · rw [if_pos c3] at h
      refine zo_tsIn hY (off := 59) 1 60 c3 dX1_value_1 (by decide) (by decide) (by decide) (by decide) ?_
      refine zo_aload_n hY dX1_value_60 rfl 1 rfl ?_
      refine zo_getI hY LX1_141_3 rfl dX1_value_61 ?_
      exact zo_iret hY hr dX1_value_64 h
    · rw [if_neg c3] at h
      by_cases c4 : x0 = 2
      · rw [if_pos c4] at h
        refine zo_tsIn hY (off := 64) 2 65 c4 dX1_value_1 (by decide) (by decide) (by decide) (by decide) ?_
        refine zo_aload_n hY dX1_value_65 rfl 1 rfl ?_
        refine zo_getI hY LX1_162_3 rfl dX1_value_66 ?_
        exact zo_iret hY hr dX1_value_69 h
      · rw [if_neg c4] at h
        by_cases c5 : x0 = 3
        · rw [if_pos c5] at h
          refine zo_tsIn hY (off := 69) 3 70 c5 dX1_value_1 (by decide) (by decide) (by decide) (by decide) ?_
          refine zo_aload_n hY dX1_value_70 rfl 1 rfl ?_
          refine zo_getI hY LX1_165_3 rfl dX1_value_71 ?_
          exact zo_iret hY hr dX1_value_74 h
        · rw [if_neg c5] at h
          by_cases c6 : x0 = 4
          · rw [if_pos c6] at h
            refine zo_tsIn hY (off := 74) 4 75 c6 dX1_value_1 (by decide) (by decide) (by decide) (by decide) ?_
            refine zo_aload_n hY dX1_value_75 rfl 1 rfl ?_
            refine zo_getI hY LX1_167_3 rfl dX1_value_76 ?_
            exact zo_iret hY hr dX1_value_79 h
          · rw [if_neg c6] at h
            by_cases c7 : x0 = 5
            · rw [if_pos c7] at h
              refine zo_tsIn hY (off := 79) 5 80 c7 dX1_value_1 (by decide) (by decide) (by decide) (by decide) ?_
              refine zo_aload_n hY dX1_value_80 rfl 1 rfl ?_
              refine zo_getI hY LX1_144_3 rfl dX1_value_81 ?_
              exact zo_iret hY hr dX1_value_84 h
            · rw [if_neg c7] at h
              by_cases c8 : x0 = 6
              · rw [if_pos c8] at h
                refine zo_tsIn hY (off := 84) 6 85 c8 dX1_value_1 (by decide) (by decide) (by decide) (by decide) ?_
                refine zo_aload_n hY dX1_value_85 rfl 1 rfl ?_
                refine zo_getI hY LX1_170_3 rfl dX1_value_86 ?_
                refine zo_if_eq hY 96 dX1_value_89 (by decide) h (fun c9 h => ?_) (fun c9 h => ?_)
                · refine zo_iconst hY 0 (by decide) dX1_value_96 ?_
                  refine zo_sub [] rfl ?_
                  exact ct_X1_value_97 hY hJ hCon hr N 0 Ω _ h
                · refine zo_iconst hY 1 (by decide) dX1_value_92 ?_
                  refine zo_goto hY 97 dX1_value_93 (by decide) ?_
                  refine zo_sub [] rfl ?_
                  exact ct_X1_value_97 hY hJ hCon hr N 1 Ω _ h
              · rw [if_neg c8] at h
                by_cases c10 : x0 = 7
                · rw [if_pos c10] at h
                  refine zo_tsIn hY (off := 97) 7 98 c10 dX1_value_1 (by decide) (by decide) (by decide) (by decide) ?_
                  refine zo_aload_n hY dX1_value_98 rfl 1 rfl ?_
                  refine zo_callV hY (fun q hq => mt_X5_round hJ hCon N x1 Ω q hq) (by decide) (by decide) (by decide) ⟨rfl, cn_X5_round⟩ rfl q853 q854 q855 q89 q856 (Nat.le_of_ble_eq_true rfl) dX1_value_99 rfl h (ci_k (fun r12 Ω11 res h => ?_))
                  exact zo_iret hY hr dX1_value_102 h
                · rw [if_neg c10] at h
                  by_cases c13 : x0 = 8
                  · rw [if_pos c13] at h
                    refine zo_tsIn hY (off := 102) 8 103 c13 dX1_value_1 (by decide) (by decide) (by decide) (by decide) ?_
                    refine zo_aload_n hY dX1_value_103 rfl 1 rfl ?_
                    refine zo_getK hY LX1_137_3 rfl dX1_value_104 h (fun j14 h => ?_)
                    refine zo_getI hY LX1_177_2 rfl dX1_value_107 ?_
                    exact zo_iret hY hr dX1_value_110 h
                  · rw [if_neg c13] at h
                    refine zo_tsOut hY 111 dX1_value_1 (by have z0 := lv_neT (a := 0) c1 (by decide); have z1 := lv_neT (a := 1) c3 (by decide); have z2 := lv_neT (a := 2) c4 (by decide); have z3 := lv_neT (a := 3) c5 (by decide); have z4 := lv_neT (a := 4) c6 (by decide); have z5 := lv_neT (a := 5) c7 (by decide); have z6 := lv_neT (a := 6) c8 (by decide); have z7 := lv_neT (a := 7) c10 (by decide); have z8 := lv_neT (a := 8) c13 (by decide); omega) (by decide) ?_
                    refine zo_aload_n hY dX1_value_111 rfl 1 rfl ?_
                    refine zo_getK hY LX1_137_3 rfl dX1_value_112 h (fun j15 h => ?_)
                    refine zo_getI hY LX1_180_2 rfl dX1_value_115 ?_
                    exact zo_iret hY hr dX1_value_118 h
theorem dX1_four_0 : decode cX1_four 0 = .ok (.bipush 24, 2) := by decide +kernel
theorem dX1_four_2 : decode cX1_four 2 = .ok (.istore_n 2, 1) := by decide +kernel
theorem dX1_four_3 : decode cX1_four 3 = .ok (.iload_n 2, 1) := by decide +kernel
theorem dX1_four_4 : decode cX1_four 4 = .ok (.ifCond .lt 32, 3) := by decide +kernel
theorem dX1_four_7 : decode cX1_four 7 = .ok (.aload_n 0, 1) := by decide +kernel
theorem dX1_four_8 : decode cX1_four 8 = .ok (.getfield 52, 3) := by decide +kernel
theorem dX1_four_11 : decode cX1_four 11 = .ok (.aload_n 0, 1) := by decide +kernel
theorem dX1_four_12 : decode cX1_four 12 = .ok (.getfield 183, 3) := by decide +kernel
theorem dX1_four_15 : decode cX1_four 15 = .ok (.iload_n 1, 1) := by decide +kernel
theorem dX1_four_16 : decode cX1_four 16 = .ok (.iload_n 2, 1) := by decide +kernel
theorem dX1_four_17 : decode cX1_four 17 = .ok (.ishr, 1) := by decide +kernel
theorem dX1_four_18 : decode cX1_four 18 = .ok (.i2b, 1) := by decide +kernel
theorem dX1_four_19 : decode cX1_four 19 = .ok (.bastore, 1) := by decide +kernel
theorem dX1_four_20 : decode cX1_four 20 = .ok (.aload_n 0, 1) := by decide +kernel
theorem dX1_four_21 : decode cX1_four 21 = .ok (.dup, 1) := by decide +kernel
theorem dX1_four_22 : decode cX1_four 22 = .ok (.getfield 183, 3) := by decide +kernel
theorem dX1_four_25 : decode cX1_four 25 = .ok (.iconst 1, 1) := by decide +kernel
theorem dX1_four_26 : decode cX1_four 26 = .ok (.iadd, 1) := by decide +kernel
theorem dX1_four_27 : decode cX1_four 27 = .ok (.putfield 183, 3) := by decide +kernel
theorem dX1_four_30 : decode cX1_four 30 = .ok (.iinc 2 (-8), 3) := by decide +kernel
theorem dX1_four_33 : decode cX1_four 33 = .ok (.goto (-30), 3) := by decide +kernel
theorem dX1_four_36 : decode cX1_four 36 = .ok (.return_, 1) := by decide +kernel
def bd_X1_four_3 (N : Nat)  (K3 : Int32 → Int32 → zo_O → Option zo_R) (x1 : Int32) (x2 : Int32) (Ω : zo_O) : Option zo_R :=
  if x2 < 0 then (
    rV Ω
    ) else
  ix (gI Ω 0 0 13) 300 fun j2 => lt (sI Ω 38 0 j2 (((x1 >>> ((x2 : Int32) &&& 31)).toInt8.toInt32).toInt8.toInt32)) fun Ω3 =>
  lt (sI Ω3 0 0 13 ((gI Ω3 0 0 13) + 1)) fun Ω4 =>
  K3 x1 (x2 + (-8)) Ω4
theorem cb_X1_four_3 {Y : zo_Y} (hY : zo_Gd Y cX1_four 3 RX1 0) (hJ : zo_JC (zo_J Y)) (hCon : ∀ Ω, zo_J Y Ω → zo_Con Ω) (hr : zo_rt Y (Option.none : Option Jvm.ClassFile.FieldType)) (N : Nat)  (K3 : Int32 → Int32 → zo_O → Option zo_R)  (hK3 : ∀ (x1 : Int32) (x2 : Int32) (Ω : zo_O) (res : zo_R), K3 x1 x2 Ω = some res → TW Y res Ω 3 [(0, vr 0 0), (1, vi x1), (2, vi x2)] []) (x1 : Int32) (x2 : Int32) (Ω : zo_O) (res : zo_R) (h : bd_X1_four_3 N  K3 x1 x2 Ω = some res) : TW Y res Ω 3 [(0, vr 0 0), (1, vi x1), (2, vi x2)] [] := by
  unfold bd_X1_four_3 at h
  refine zo_iload_n hY dX1_four_3 rfl 2 rfl ?_
  refine zo_if_lt hY 36 dX1_four_4 (by decide) h (fun c1 h => ?_) (fun c1 h => ?_)
  · exact zo_vret hY hr dX1_four_36 h
  · refine zo_aload_n hY dX1_four_7 rfl 0 rfl ?_
    refine zo_getC hY LX1_52_0 rfl (fun Ω q => (hCon Ω q).1 12 _ rfl) dX1_four_8 ?_
    refine zo_aload_n hY dX1_four_11 rfl 0 rfl ?_
    refine zo_getI hY LX1_183_0 rfl dX1_four_12 ?_
    refine zo_iload_n hY dX1_four_15 rfl 1 rfl ?_
    refine zo_iload_n hY dX1_four_16 rfl 2 rfl ?_
    refine zo_ishr hY dX1_four_17 ?_
    refine zo_i2b hY dX1_four_18 ?_
    refine zo_ast hY hJ (by decide) (Or.inr (Or.inl ⟨rfl, rfl, dX1_four_19⟩)) (fun q => (hCon _ q).2.2.2 38 0 300 rfl) h (fun j2 Ω3 h => ?_)
    refine zo_aload_n hY dX1_four_20 rfl 0 rfl ?_
    refine zo_dup hY dX1_four_21 (Or.inr ⟨_, rfl⟩) ?_
    refine zo_getI hY LX1_183_0 rfl dX1_four_22 ?_
    refine zo_iconst hY 1 (by decide) dX1_four_25 ?_
    refine zo_iadd hY dX1_four_26 ?_
    refine zo_putI hY hJ LX1_183_0 rfl (Or.inl rfl) dX1_four_27 h (fun Ω4 h => ?_)
    refine zo_iinc hY (-8) dX1_four_30 (by decide) (by decide) 2 rfl rfl (ls' := [(2, vi (x2 + (-8))), (0, vr 0 0), (1, vi x1)]) rfl ?_
    refine zo_goto hY 3 dX1_four_33 (by decide) ?_
    refine zo_sub [1, 2, 0] rfl ?_
    exact hK3 x1 (x2 + (-8)) Ω4 _ h
def fn_X1_four_3 (N : Nat)  : Nat → Int32 → Int32 → zo_O → Option zo_R
  | 0, _, _, _ => none
  | n + 1, x1, x2, Ω => bd_X1_four_3 N  (fn_X1_four_3 N  n) x1 x2 Ω
theorem ct_X1_four_3 {Y : zo_Y} (hY : zo_Gd Y cX1_four 3 RX1 0) (hJ : zo_JC (zo_J Y)) (hCon : ∀ Ω, zo_J Y Ω → zo_Con Ω) (hr : zo_rt Y (Option.none : Option Jvm.ClassFile.FieldType)) (N : Nat)   : ∀ (n : Nat) (x1 : Int32) (x2 : Int32) (Ω : zo_O) (res : zo_R), fn_X1_four_3 N  n x1 x2 Ω = some res → TW Y res Ω 3 [(0, vr 0 0), (1, vi x1), (2, vi x2)] [] := by
  intro n
  induction n with
  | zero => intro x1 x2 Ω res h; exact nomatch (show (none : Option zo_R) = some res from h)
  | succ n ih => intro x1 x2 Ω res h; exact cb_X1_four_3 hY hJ hCon hr N  (fn_X1_four_3 N  n)  ih x1 x2 Ω res h
def fn_X1_four (N : Nat) (x1 : Int32) (Ω : zo_O) : Option zo_R :=
  fn_X1_four_3 N N x1 24 Ω
theorem mt_X1_four {G : zo_G} {J : zo_O → Prop} (hJ : zo_JC J) (hCon : ∀ Ω, J Ω → zo_Con Ω) (N : Nat) (x1 : Int32) (Ω : zo_O) (res : zo_R) (h : fn_X1_four N x1 Ω = some res) : zo_MT G J yX1_four cX1_four 3 (Option.none : Option Jvm.ClassFile.FieldType) 0 [vr 0 0, vi x1] Ω res := by
  refine zo_enter (by decide) rfl (Nat.le_of_ble_eq_true rfl) (fun Y hY eJ hr hmn => ?_)
  subst eJ
  show TW Y res Ω 0 [(0, vr 0 0), (1, vi x1)] []
  unfold fn_X1_four at h
  refine zo_bipush hY 24 (by decide) dX1_four_0 ?_
  refine zo_istore_n hY dX1_four_2 rfl (by decide) rfl (ls' := [(2, vi 24), (0, vr 0 0), (1, vi x1)]) rfl ?_
  refine zo_sub [1, 2, 0] rfl ?_
  exact ct_X1_four_3 hY hJ hCon hr N N x1 24 Ω _ h
theorem dX1_feed_0 : decode cX1_feed 0 = .ok (.aload_n 0, 1) := by decide +kernel
theorem dX1_feed_1 : decode cX1_feed 1 = .ok (.getfield 183, 3) := by decide +kernel
theorem dX1_feed_4 : decode cX1_feed 4 = .ok (.bipush 20, 2) := by decide +kernel
theorem dX1_feed_6 : decode cX1_feed 6 = .ok (.iadd, 1) := by decide +kernel
theorem dX1_feed_7 : decode cX1_feed 7 = .ok (.sipush 300, 3) := by decide +kernel
theorem dX1_feed_10 : decode cX1_feed 10 = .ok (.if_icmp .le 5, 3) := by decide +kernel
theorem dX1_feed_13 : decode cX1_feed 13 = .ok (.iconst (-1), 1) := by decide +kernel
theorem dX1_feed_14 : decode cX1_feed 14 = .ok (.ireturn, 1) := by decide +kernel
theorem dX1_feed_15 : decode cX1_feed 15 = .ok (.aload_n 0, 1) := by decide +kernel
theorem dX1_feed_16 : decode cX1_feed 16 = .ok (.iload_n 1, 1) := by decide +kernel
theorem dX1_feed_17 : decode cX1_feed 17 = .ok (.invokevirtual 186, 3) := by decide +kernel
theorem dX1_feed_20 : decode cX1_feed 20 = .ok (.aload_n 0, 1) := by decide +kernel
theorem dX1_feed_21 : decode cX1_feed 21 = .ok (.iload_n 2, 1) := by decide +kernel
theorem dX1_feed_22 : decode cX1_feed 22 = .ok (.invokevirtual 186, 3) := by decide +kernel
theorem dX1_feed_25 : decode cX1_feed 25 = .ok (.aload_n 0, 1) := by decide +kernel
theorem dX1_feed_26 : decode cX1_feed 26 = .ok (.iload_n 3, 1) := by decide +kernel
theorem dX1_feed_27 : decode cX1_feed 27 = .ok (.invokevirtual 186, 3) := by decide +kernel
theorem dX1_feed_30 : decode cX1_feed 30 = .ok (.aload_n 0, 1) := by decide +kernel
theorem dX1_feed_31 : decode cX1_feed 31 = .ok (.iload 4, 2) := by decide +kernel
theorem dX1_feed_33 : decode cX1_feed 33 = .ok (.invokevirtual 186, 3) := by decide +kernel
theorem dX1_feed_36 : decode cX1_feed 36 = .ok (.aload_n 0, 1) := by decide +kernel
theorem dX1_feed_37 : decode cX1_feed 37 = .ok (.iload 5, 2) := by decide +kernel
theorem dX1_feed_39 : decode cX1_feed 39 = .ok (.invokevirtual 186, 3) := by decide +kernel
theorem dX1_feed_42 : decode cX1_feed 42 = .ok (.aload_n 0, 1) := by decide +kernel
theorem dX1_feed_43 : decode cX1_feed 43 = .ok (.getfield 183, 3) := by decide +kernel
theorem dX1_feed_46 : decode cX1_feed 46 = .ok (.ireturn, 1) := by decide +kernel
def fn_X1_feed (N : Nat) (x1 : Int32) (x2 : Int32) (x3 : Int32) (x4 : Int32) (x5 : Int32) (Ω : zo_O) : Option zo_R :=
  if (gI Ω 0 0 13) + 20 ≤ 300 then (
    cv (fn_X1_four N x1 Ω) fun Ω2 =>
    cv (fn_X1_four N x2 Ω2) fun Ω3 =>
    cv (fn_X1_four N x3 Ω3) fun Ω4 =>
    cv (fn_X1_four N x4 Ω4) fun Ω5 =>
    cv (fn_X1_four N x5 Ω5) fun Ω6 =>
    rI (gI Ω6 0 0 13) Ω6
    ) else
  rI ((-1)) Ω
theorem mt_X1_feed {G : zo_G} {J : zo_O → Prop} (hJ : zo_JC J) (hCon : ∀ Ω, J Ω → zo_Con Ω) (N : Nat) (x1 : Int32) (x2 : Int32) (x3 : Int32) (x4 : Int32) (x5 : Int32) (Ω : zo_O) (res : zo_R) (h : fn_X1_feed N x1 x2 x3 x4 x5 Ω = some res) : zo_MT G J yX1_feed cX1_feed 6 (Option.some Jvm.ClassFile.FieldType.int) 1 [vr 0 0, vi x1, vi x2, vi x3, vi x4, vi x5] Ω res := by
  refine zo_enter (by decide) rfl (Nat.le_of_ble_eq_true rfl) (fun Y hY eJ hr hmn => ?_)
  subst eJ
  show TW Y res Ω 0 [(0, vr 0 0), (1, vi x1), (2, vi x2), (3, vi x3), (4, vi x4), (5, vi x5)] []
  unfold fn_X1_feed at h
  refine zo_aload_n hY dX1_feed_0 rfl 0 rfl ?_
  refine zo_getI hY LX1_183_0 rfl dX1_feed_1 ?_
  refine zo_bipush hY 20 (by decide) dX1_feed_4 ?_
  refine zo_iadd hY dX1_feed_6 ?_
  refine zo_sipush hY 300 (by decide) dX1_feed_7 ?_
  refine zo_icmp_le hY 15 dX1_feed_10 (by decide) h (fun c1 h => ?_) (fun c1 h => ?_)
  · refine zo_aload_n hY dX1_feed_15 rfl 0 rfl ?_
    refine zo_iload_n hY dX1_feed_16 rfl 1 rfl ?_
    refine zo_callV hY (fun q hq => mt_X1_four hJ hCon N x1 Ω q hq) (by decide) (by decide) (by decide) ⟨rfl, cn_X1_four⟩ rfl q549 q551 qs4 q78 q552 (Nat.le_of_ble_eq_true rfl) dX1_feed_17 rfl h (cv_k (fun Ω2 res h => ?_))
    refine zo_aload_n hY dX1_feed_20 rfl 0 rfl ?_
    refine zo_iload_n hY dX1_feed_21 rfl 2 rfl ?_
    refine zo_callV hY (fun q hq => mt_X1_four hJ hCon N x2 Ω2 q hq) (by decide) (by decide) (by decide) ⟨rfl, cn_X1_four⟩ rfl q549 q551 qs4 q78 q552 (Nat.le_of_ble_eq_true rfl) dX1_feed_22 rfl h (cv_k (fun Ω3 res h => ?_))
    refine zo_aload_n hY dX1_feed_25 rfl 0 rfl ?_
    refine zo_iload_n hY dX1_feed_26 rfl 3 rfl ?_
    refine zo_callV hY (fun q hq => mt_X1_four hJ hCon N x3 Ω3 q hq) (by decide) (by decide) (by decide) ⟨rfl, cn_X1_four⟩ rfl q549 q551 qs4 q78 q552 (Nat.le_of_ble_eq_true rfl) dX1_feed_27 rfl h (cv_k (fun Ω4 res h => ?_))
    refine zo_aload_n hY dX1_feed_30 rfl 0 rfl ?_
    refine zo_iload hY dX1_feed_31 4 rfl ?_
    refine zo_callV hY (fun q hq => mt_X1_four hJ hCon N x4 Ω4 q hq) (by decide) (by decide) (by decide) ⟨rfl, cn_X1_four⟩ rfl q549 q551 qs4 q78 q552 (Nat.le_of_ble_eq_true rfl) dX1_feed_33 rfl h (cv_k (fun Ω5 res h => ?_))
    refine zo_aload_n hY dX1_feed_36 rfl 0 rfl ?_
    refine zo_iload hY dX1_feed_37 5 rfl ?_
    refine zo_callV hY (fun q hq => mt_X1_four hJ hCon N x5 Ω5 q hq) (by decide) (by decide) (by decide) ⟨rfl, cn_X1_four⟩ rfl q549 q551 qs4 q78 q552 (Nat.le_of_ble_eq_true rfl) dX1_feed_39 rfl h (cv_k (fun Ω6 res h => ?_))
    refine zo_aload_n hY dX1_feed_42 rfl 0 rfl ?_
    refine zo_getI hY LX1_183_0 rfl dX1_feed_43 ?_
    exact zo_iret hY hr dX1_feed_46 h
  · refine zo_iconst hY (-1) (by decide) dX1_feed_13 ?_
    exact zo_iret hY hr dX1_feed_14 h
theorem dX1_end_0 : decode cX1_end 0 = .ok (.iload_n 1, 1) := by decide +kernel
theorem dX1_end_1 : decode cX1_end 1 = .ok (.iconst 0, 1) := by decide +kernel
theorem dX1_end_2 : decode cX1_end 2 = .ok (.aload_n 0, 1) := by decide +kernel
theorem dX1_end_3 : decode cX1_end 3 = .ok (.getfield 183, 3) := by decide +kernel
theorem dX1_end_6 : decode cX1_end 6 = .ok (.invokestatic 3, 3) := by decide +kernel
theorem dX1_end_9 : decode cX1_end 9 = .ok (.ifCond .ne 5, 3) := by decide +kernel
theorem dX1_end_12 : decode cX1_end 12 = .ok (.iconst (-1), 1) := by decide +kernel
theorem dX1_end_13 : decode cX1_end 13 = .ok (.ireturn, 1) := by decide +kernel
theorem dX1_end_14 : decode cX1_end 14 = .ok (.aload_n 0, 1) := by decide +kernel
theorem dX1_end_15 : decode cX1_end 15 = .ok (.iload_n 1, 1) := by decide +kernel
theorem dX1_end_16 : decode cX1_end 16 = .ok (.putfield 183, 3) := by decide +kernel
theorem dX1_end_19 : decode cX1_end 19 = .ok (.iload_n 1, 1) := by decide +kernel
theorem dX1_end_20 : decode cX1_end 20 = .ok (.ireturn, 1) := by decide +kernel
def fn_X1_end (N : Nat) (x1 : Int32) (Ω : zo_O) : Option zo_R :=
  ci (fn_X1_in N x1 0 (gI Ω 0 0 13) Ω) fun r2 Ω1 =>
  if r2 = 0 then (
    rI ((-1)) Ω1
    ) else
  lt (sI Ω1 0 0 13 x1) fun Ω4 =>
  rI x1 Ω4
theorem mt_X1_end {G : zo_G} {J : zo_O → Prop} (hJ : zo_JC J) (hCon : ∀ Ω, J Ω → zo_Con Ω) (N : Nat) (x1 : Int32) (Ω : zo_O) (res : zo_R) (h : fn_X1_end N x1 Ω = some res) : zo_MT G J yX1_end cX1_end 2 (Option.some Jvm.ClassFile.FieldType.int) 1 [vr 0 0, vi x1] Ω res := by
  refine zo_enter (by decide) rfl (Nat.le_of_ble_eq_true rfl) (fun Y hY eJ hr hmn => ?_)
  subst eJ
  show TW Y res Ω 0 [(0, vr 0 0), (1, vi x1)] []
  unfold fn_X1_end at h
  refine zo_iload_n hY dX1_end_0 rfl 1 rfl ?_
  refine zo_iconst hY 0 (by decide) dX1_end_1 ?_
  refine zo_aload_n hY dX1_end_2 rfl 0 rfl ?_
  refine zo_getI hY LX1_183_0 rfl dX1_end_3 ?_
  refine zo_callS hY (fun q hq => mt_X1_in hJ hCon N x1 0 (gI Ω 0 0 13) Ω q hq) (by decide) (by decide) cn_X1_in rfl q239 q240 q78 q241 (Nat.le_of_ble_eq_true rfl) dX1_end_6 rfl h (ci_k (fun r2 Ω1 res h => ?_))
  refine zo_if_ne hY 14 dX1_end_9 (by decide) h (fun c3 h => ?_) (fun c3 h => ?_)
  · refine zo_iconst hY (-1) (by decide) dX1_end_12 ?_
    exact zo_iret hY hr dX1_end_13 h
  · refine zo_aload_n hY dX1_end_14 rfl 0 rfl ?_
    refine zo_iload_n hY dX1_end_15 rfl 1 rfl ?_
    refine zo_putI hY hJ LX1_183_0 rfl (Or.inl rfl) dX1_end_16 h (fun Ω4 h => ?_)
    refine zo_iload_n hY dX1_end_19 rfl 1 rfl ?_
    exact zo_iret hY hr dX1_end_20 h
theorem dX1_place_0 : decode cX1_place 0 = .ok (.aload_n 0, 1) := by decide +kernel
theorem dX1_place_1 : decode cX1_place 1 = .ok (.getfield 56, 3) := by decide +kernel
theorem dX1_place_4 : decode cX1_place 4 = .ok (.ireturn, 1) := by decide +kernel
def fn_X1_place (N : Nat)  (Ω : zo_O) : Option zo_R :=
  rI (gI Ω 0 0 14) Ω
theorem mt_X1_place {G : zo_G} {J : zo_O → Prop} (hJ : zo_JC J) (hCon : ∀ Ω, J Ω → zo_Con Ω) (N : Nat)  (Ω : zo_O) (res : zo_R) (h : fn_X1_place N  Ω = some res) : zo_MT G J yX1_place cX1_place 1 (Option.some Jvm.ClassFile.FieldType.int) 0 [vr 0 0] Ω res := by
  refine zo_enter (by decide) rfl (Nat.le_of_ble_eq_true rfl) (fun Y hY eJ hr hmn => ?_)
  subst eJ
  show TW Y res Ω 0 [(0, vr 0 0)] []
  unfold fn_X1_place at h
  refine zo_aload_n hY dX1_place_0 rfl 0 rfl ?_
  refine zo_getI hY LX1_56_0 rfl dX1_place_1 ?_
  exact zo_iret hY hr dX1_place_4 h
theorem dX1_count_0 : decode cX1_count 0 = .ok (.iload_n 1, 1) := by decide +kernel
theorem dX1_count_1 : decode cX1_count 1 = .ok (.bipush 13, 2) := by decide +kernel
theorem dX1_count_3 : decode cX1_count 3 = .ok (.bipush 15, 2) := by decide +kernel
theorem dX1_count_5 : decode cX1_count 5 = .ok (.invokestatic 3, 3) := by decide +kernel
theorem dX1_count_8 : decode cX1_count 8 = .ok (.ifCond .eq 13, 3) := by decide +kernel
theorem dX1_count_11 : decode cX1_count 11 = .ok (.aload_n 0, 1) := by decide +kernel
theorem dX1_count_12 : decode cX1_count 12 = .ok (.getfield 38, 3) := by decide +kernel
theorem dX1_count_15 : decode cX1_count 15 = .ok (.iload_n 1, 1) := by decide +kernel
theorem dX1_count_16 : decode cX1_count 16 = .ok (.bipush 13, 2) := by decide +kernel
theorem dX1_count_18 : decode cX1_count 18 = .ok (.isub, 1) := by decide +kernel
theorem dX1_count_19 : decode cX1_count 19 = .ok (.iaload, 1) := by decide +kernel
theorem dX1_count_20 : decode cX1_count 20 = .ok (.ireturn, 1) := by decide +kernel
theorem dX1_count_21 : decode cX1_count 21 = .ok (.iload_n 1, 1) := by decide +kernel
theorem dX1_count_22 : decode cX1_count 22 = .ok (.tableswitch 155 0 12 #[66, 74, 82, 90, 98, 106, 114, 122, 127, 132, 140, 145, 150], 66) := by decide +kernel
theorem dX1_count_88 : decode cX1_count 88 = .ok (.aload_n 0, 1) := by decide +kernel
theorem dX1_count_89 : decode cX1_count 89 = .ok (.getfield 16, 3) := by decide +kernel
theorem dX1_count_92 : decode cX1_count 92 = .ok (.invokevirtual 85, 3) := by decide +kernel
theorem dX1_count_95 : decode cX1_count 95 = .ok (.ireturn, 1) := by decide +kernel
theorem dX1_count_96 : decode cX1_count 96 = .ok (.aload_n 0, 1) := by decide +kernel
theorem dX1_count_97 : decode cX1_count 97 = .ok (.getfield 20, 3) := by decide +kernel
theorem dX1_count_100 : decode cX1_count 100 = .ok (.invokevirtual 85, 3) := by decide +kernel
theorem dX1_count_103 : decode cX1_count 103 = .ok (.ireturn, 1) := by decide +kernel
theorem dX1_count_104 : decode cX1_count 104 = .ok (.aload_n 0, 1) := by decide +kernel
theorem dX1_count_105 : decode cX1_count 105 = .ok (.getfield 23, 3) := by decide +kernel
theorem dX1_count_108 : decode cX1_count 108 = .ok (.invokevirtual 85, 3) := by decide +kernel
theorem dX1_count_111 : decode cX1_count 111 = .ok (.ireturn, 1) := by decide +kernel
theorem dX1_count_112 : decode cX1_count 112 = .ok (.aload_n 0, 1) := by decide +kernel
theorem dX1_count_113 : decode cX1_count 113 = .ok (.getfield 26, 3) := by decide +kernel
theorem dX1_count_116 : decode cX1_count 116 = .ok (.invokevirtual 85, 3) := by decide +kernel
theorem dX1_count_119 : decode cX1_count 119 = .ok (.ireturn, 1) := by decide +kernel
theorem dX1_count_120 : decode cX1_count 120 = .ok (.aload_n 0, 1) := by decide +kernel
theorem dX1_count_121 : decode cX1_count 121 = .ok (.getfield 29, 3) := by decide +kernel
theorem dX1_count_124 : decode cX1_count 124 = .ok (.invokevirtual 85, 3) := by decide +kernel
theorem dX1_count_127 : decode cX1_count 127 = .ok (.ireturn, 1) := by decide +kernel
theorem dX1_count_128 : decode cX1_count 128 = .ok (.aload_n 0, 1) := by decide +kernel
theorem dX1_count_129 : decode cX1_count 129 = .ok (.getfield 32, 3) := by decide +kernel
theorem dX1_count_132 : decode cX1_count 132 = .ok (.invokevirtual 85, 3) := by decide +kernel
theorem dX1_count_135 : decode cX1_count 135 = .ok (.ireturn, 1) := by decide +kernel
theorem dX1_count_136 : decode cX1_count 136 = .ok (.aload_n 0, 1) := by decide +kernel
theorem dX1_count_137 : decode cX1_count 137 = .ok (.getfield 35, 3) := by decide +kernel
theorem dX1_count_140 : decode cX1_count 140 = .ok (.invokevirtual 85, 3) := by decide +kernel
theorem dX1_count_143 : decode cX1_count 143 = .ok (.ireturn, 1) := by decide +kernel
theorem dX1_count_144 : decode cX1_count 144 = .ok (.aload_n 0, 1) := by decide +kernel
theorem dX1_count_145 : decode cX1_count 145 = .ok (.getfield 95, 3) := by decide +kernel
theorem dX1_count_148 : decode cX1_count 148 = .ok (.ireturn, 1) := by decide +kernel
theorem dX1_count_149 : decode cX1_count 149 = .ok (.aload_n 0, 1) := by decide +kernel
theorem dX1_count_150 : decode cX1_count 150 = .ok (.getfield 183, 3) := by decide +kernel
theorem dX1_count_153 : decode cX1_count 153 = .ok (.ireturn, 1) := by decide +kernel
theorem dX1_count_154 : decode cX1_count 154 = .ok (.aload_n 0, 1) := by decide +kernel
theorem dX1_count_155 : decode cX1_count 155 = .ok (.getfield 59, 3) := by decide +kernel
theorem dX1_count_158 : decode cX1_count 158 = .ok (.invokevirtual 85, 3) := by decide +kernel
theorem dX1_count_161 : decode cX1_count 161 = .ok (.ireturn, 1) := by decide +kernel
theorem dX1_count_162 : decode cX1_count 162 = .ok (.aload_n 0, 1) := by decide +kernel
theorem dX1_count_163 : decode cX1_count 163 = .ok (.getfield 42, 3) := by decide +kernel
theorem dX1_count_166 : decode cX1_count 166 = .ok (.ireturn, 1) := by decide +kernel
theorem dX1_count_167 : decode cX1_count 167 = .ok (.aload_n 0, 1) := by decide +kernel
theorem dX1_count_168 : decode cX1_count 168 = .ok (.getfield 46, 3) := by decide +kernel
theorem dX1_count_171 : decode cX1_count 171 = .ok (.ireturn, 1) := by decide +kernel
theorem dX1_count_172 : decode cX1_count 172 = .ok (.aload_n 0, 1) := by decide +kernel
theorem dX1_count_173 : decode cX1_count 173 = .ok (.getfield 49, 3) := by decide +kernel
theorem dX1_count_176 : decode cX1_count 176 = .ok (.ireturn, 1) := by decide +kernel
theorem dX1_count_177 : decode cX1_count 177 = .ok (.iconst (-1), 1) := by decide +kernel
theorem dX1_count_178 : decode cX1_count 178 = .ok (.ireturn, 1) := by decide +kernel
def fn_X1_count (N : Nat) (x1 : Int32) (Ω : zo_O) : Option zo_R :=
  ci (fn_X1_in N x1 13 15 Ω) fun r2 Ω1 =>
  if r2 = 0 then (
    if x1 = 0 then (
      ci (fn_J2_size N 0 Ω1) fun r6 Ω5 =>
      rI r6 Ω5
      ) else
    if x1 = 1 then (
      ci (fn_J2_size N 1 Ω1) fun r9 Ω8 =>
      rI r9 Ω8
      ) else
    if x1 = 2 then (
      ci (fn_J2_size N 2 Ω1) fun r12 Ω11 =>
      rI r12 Ω11
      ) else
    if x1 = 3 then (
      ci (fn_J2_size N 3 Ω1) fun r15 Ω14 =>
      rI r15 Ω14
      ) else
    if x1 = 4 then (
      ci (fn_J2_size N 4 Ω1) fun r18 Ω17 =>
      rI r18 Ω17
      ) else
    if x1 = 5 then (
      ci (fn_J2_size N 5 Ω1) fun r21 Ω20 =>
      rI r21 Ω20
      ) else
    if x1 = 6 then (
      ci (fn_J2_size N 6 Ω1) fun r24 Ω23 =>
      rI r24 Ω23
      ) else
    if x1 = 7 then (
      rI (gI Ω1 0 0 8) Ω1
      ) else
    if x1 = 8 then (
      rI (gI Ω1 0 0 13) Ω1
      ) else
    if x1 = 9 then (
      bk (gR Ω1 0 0 15) 20 fun j28 =>
      ci (fn_J2_size N j28 Ω1) fun r30 Ω29 =>
      rI r30 Ω29
      ) else
    if x1 = 10 then (
      rI (gI Ω1 0 0 9) Ω1
      ) else
    if x1 = 11 then (
      rI (gI Ω1 0 0 10) Ω1
      ) else
    if x1 = 12 then (
      rI (gI Ω1 0 0 11) Ω1
      ) else
    rI ((-1)) Ω1
    ) else
  ix (x1 - 13) 3 fun j34 =>
  rI (gI Ω1 43 0 j34) Ω1
theorem mt_X1_count {G : zo_G} {J : zo_O → Prop} (hJ : zo_JC J) (hCon : ∀ Ω, J Ω → zo_Con Ω) (N : Nat) (x1 : Int32) (Ω : zo_O) (res : zo_R) (h : fn_X1_count N x1 Ω = some res) : zo_MT G J yX1_count cX1_count 2 (Option.some Jvm.ClassFile.FieldType.int) 1 [vr 0 0, vi x1] Ω res := by
  refine zo_enter (by decide) rfl (Nat.le_of_ble_eq_true rfl) (fun Y hY eJ hr hmn => ?_)
  subst eJ
  show TW Y res Ω 0 [(0, vr 0 0), (1, vi x1)] []
  unfold fn_X1_count at h
  refine zo_iload_n hY dX1_count_0 rfl 1 rfl ?_
  refine zo_bipush hY 13 (by decide) dX1_count_1 ?_
  refine zo_bipush hY 15 (by decide) dX1_count_3 ?_
  refine zo_callS hY (fun q hq => mt_X1_in hJ hCon N x1 13 15 Ω q hq) (by decide) (by decide) cn_X1_in rfl q239 q240 q78 q241 (Nat.le_of_ble_eq_true rfl) dX1_count_5 rfl h (ci_k (fun r2 Ω1 res h => ?_))
  refine zo_if_eq hY 21 dX1_count_8 (by decide) h (fun c3 h => ?_) (fun c3 h => ?_)
  · refine zo_iload_n hY dX1_count_21 rfl 1 rfl ?_
    by_cases c4 : x1 = 0
    · rw [if_pos c4] at h
      refine zo_tsIn hY (off := 66) 0 88 c4 dX1_count_22 (by decide) (by decide) (by decide) (by decide) ?_
      refine zo_aload_n hY dX1_count_88 rfl 0 rfl ?_
      refine zo_getC hY LX1_16_0 rfl (fun Ω q => (hCon Ω q).1 0 _ rfl) dX1_count_89 ?_
      refine zo_callV hY (fun q hq => mt_J2_size hJ hCon N 0 Ω1 q hq) (by decide) (by decide) (by decide) ⟨rfl, cn_J2_size⟩ rfl q245 q246 q247 q81 q248 (Nat.le_of_ble_eq_true rfl) dX1_count_92 rfl h (ci_k (fun r6 Ω5 res h => ?_))
      exact zo_iret hY hr dX1_count_95 h
    · rw [if_neg c4] at h
      by_cases c7 : x1 = 1
      · rw [if_pos c7] at h
        refine zo_tsIn hY (off := 74) 1 96 c7 dX1_count_22 (by decide) (by decide) (by decide) (by decide) ?_
        refine zo_aload_n hY dX1_count_96 rfl 0 rfl ?_
        refine zo_getC hY LX1_20_0 rfl (fun Ω q => (hCon Ω q).1 1 _ rfl) dX1_count_97 ?_
        refine zo_callV hY (fun q hq => mt_J2_size hJ hCon N 1 Ω1 q hq) (by decide) (by decide) (by decide) ⟨rfl, cn_J2_size⟩ rfl q245 q246 q247 q81 q248 (Nat.le_of_ble_eq_true rfl) dX1_count_100 rfl h (ci_k (fun r9 Ω8 res h => ?_))
        exact zo_iret hY hr dX1_count_103 h
      · rw [if_neg c7] at h
        by_cases c10 : x1 = 2
        · rw [if_pos c10] at h
          refine zo_tsIn hY (off := 82) 2 104 c10 dX1_count_22 (by decide) (by decide) (by decide) (by decide) ?_
          refine zo_aload_n hY dX1_count_104 rfl 0 rfl ?_
          refine zo_getC hY LX1_23_0 rfl (fun Ω q => (hCon Ω q).1 2 _ rfl) dX1_count_105 ?_
          refine zo_callV hY (fun q hq => mt_J2_size hJ hCon N 2 Ω1 q hq) (by decide) (by decide) (by decide) ⟨rfl, cn_J2_size⟩ rfl q245 q246 q247 q81 q248 (Nat.le_of_ble_eq_true rfl) dX1_count_108 rfl h (ci_k (fun r12 Ω11 res h => ?_))
          exact zo_iret hY hr dX1_count_111 h
        · rw [if_neg c10] at h
          by_cases c13 : x1 = 3
          · rw [if_pos c13] at h
            refine zo_tsIn hY (off := 90) 3 112 c13 dX1_count_22 (by decide) (by decide) (by decide) (by decide) ?_
            refine zo_aload_n hY dX1_count_112 rfl 0 rfl ?_
            refine zo_getC hY LX1_26_0 rfl (fun Ω q => (hCon Ω q).1 3 _ rfl) dX1_count_113 ?_
            refine zo_callV hY (fun q hq => mt_J2_size hJ hCon N 3 Ω1 q hq) (by decide) (by decide) (by decide) ⟨rfl, cn_J2_size⟩ rfl q245 q246 q247 q81 q248 (Nat.le_of_ble_eq_true rfl) dX1_count_116 rfl h (ci_k (fun r15 Ω14 res h => ?_))
            exact zo_iret hY hr dX1_count_119 h
          · rw [if_neg c13] at h
            by_cases c16 : x1 = 4
            · rw [if_pos c16] at h
              refine zo_tsIn hY (off := 98) 4 120 c16 dX1_count_22 (by decide) (by decide) (by decide) (by decide) ?_
              refine zo_aload_n hY dX1_count_120 rfl 0 rfl ?_
              refine zo_getC hY LX1_29_0 rfl (fun Ω q => (hCon Ω q).1 4 _ rfl) dX1_count_121 ?_
              refine zo_callV hY (fun q hq => mt_J2_size hJ hCon N 4 Ω1 q hq) (by decide) (by decide) (by decide) ⟨rfl, cn_J2_size⟩ rfl q245 q246 q247 q81 q248 (Nat.le_of_ble_eq_true rfl) dX1_count_124 rfl h (ci_k (fun r18 Ω17 res h => ?_))
              exact zo_iret hY hr dX1_count_127 h
            · rw [if_neg c16] at h
              by_cases c19 : x1 = 5
              · rw [if_pos c19] at h
                refine zo_tsIn hY (off := 106) 5 128 c19 dX1_count_22 (by decide) (by decide) (by decide) (by decide) ?_
                refine zo_aload_n hY dX1_count_128 rfl 0 rfl ?_
                refine zo_getC hY LX1_32_0 rfl (fun Ω q => (hCon Ω q).1 5 _ rfl) dX1_count_129 ?_
                refine zo_callV hY (fun q hq => mt_J2_size hJ hCon N 5 Ω1 q hq) (by decide) (by decide) (by decide) ⟨rfl, cn_J2_size⟩ rfl q245 q246 q247 q81 q248 (Nat.le_of_ble_eq_true rfl) dX1_count_132 rfl h (ci_k (fun r21 Ω20 res h => ?_))
                exact zo_iret hY hr dX1_count_135 h
              · rw [if_neg c19] at h
                by_cases c22 : x1 = 6
                · rw [if_pos c22] at h
                  refine zo_tsIn hY (off := 114) 6 136 c22 dX1_count_22 (by decide) (by decide) (by decide) (by decide) ?_
                  refine zo_aload_n hY dX1_count_136 rfl 0 rfl ?_
                  refine zo_getC hY LX1_35_0 rfl (fun Ω q => (hCon Ω q).1 6 _ rfl) dX1_count_137 ?_
                  refine zo_callV hY (fun q hq => mt_J2_size hJ hCon N 6 Ω1 q hq) (by decide) (by decide) (by decide) ⟨rfl, cn_J2_size⟩ rfl q245 q246 q247 q81 q248 (Nat.le_of_ble_eq_true rfl) dX1_count_140 rfl h (ci_k (fun r24 Ω23 res h => ?_))
                  exact zo_iret hY hr dX1_count_143 h
                · rw [if_neg c22] at h
                  by_cases c25 : x1 = 7
                  · rw [if_pos c25] at h
                    refine zo_tsIn hY (off := 122) 7 144 c25 dX1_count_22 (by decide) (by decide) (by decide) (by decide) ?_
                    refine zo_aload_n hY dX1_count_144 rfl 0 rfl ?_
                    refine zo_getI hY LX1_95_0 rfl dX1_count_145 ?_
                    exact zo_iret hY hr dX1_count_148 h
                  · rw [if_neg c25] at h
                    by_cases c26 : x1 = 8
                    · rw [if_pos c26] at h
                      refine zo_tsIn hY (off := 127) 8 149 c26 dX1_count_22 (by decide) (by decide) (by decide) (by decide) ?_
                      refine zo_aload_n hY dX1_count_149 rfl 0 rfl ?_
                      refine zo_getI hY LX1_183_0 rfl dX1_count_150 ?_
                      exact zo_iret hY hr dX1_count_153 h
                    · rw [if_neg c26] at h
                      by_cases c27 : x1 = 9
                      · rw [if_pos c27] at h
                        refine zo_tsIn hY (off := 132) 9 154 c27 dX1_count_22 (by decide) (by decide) (by decide) (by decide) ?_
                        refine zo_aload_n hY dX1_count_154 rfl 0 rfl ?_
                        refine zo_getK hY LX1_59_0 rfl dX1_count_155 h (fun j28 h => ?_)
                        refine zo_callV hY (fun q hq => mt_J2_size hJ hCon N j28 Ω1 q hq) (by decide) (by decide) (by decide) ⟨rfl, cn_J2_size⟩ rfl q245 q246 q247 q81 q248 (Nat.le_of_ble_eq_true rfl) dX1_count_158 rfl h (ci_k (fun r30 Ω29 res h => ?_))
                        exact zo_iret hY hr dX1_count_161 h
                      · rw [if_neg c27] at h
                        by_cases c31 : x1 = 10
                        · rw [if_pos c31] at h
                          refine zo_tsIn hY (off := 140) 10 162 c31 dX1_count_22 (by decide) (by decide) (by decide) (by decide) ?_
                          refine zo_aload_n hY dX1_count_162 rfl 0 rfl ?_
                          refine zo_getI hY LX1_42_0 rfl dX1_count_163 ?_
                          exact zo_iret hY hr dX1_count_166 h
                        · rw [if_neg c31] at h
                          by_cases c32 : x1 = 11
                          · rw [if_pos c32] at h
                            refine zo_tsIn hY (off := 145) 11 167 c32 dX1_count_22 (by decide) (by decide) (by decide) (by decide) ?_
                            refine zo_aload_n hY dX1_count_167 rfl 0 rfl ?_
                            refine zo_getI hY LX1_46_0 rfl dX1_count_168 ?_
                            exact zo_iret hY hr dX1_count_171 h
                          · rw [if_neg c32] at h
                            by_cases c33 : x1 = 12
                            · rw [if_pos c33] at h
                              refine zo_tsIn hY (off := 150) 12 172 c33 dX1_count_22 (by decide) (by decide) (by decide) (by decide) ?_
                              refine zo_aload_n hY dX1_count_172 rfl 0 rfl ?_
                              refine zo_getI hY LX1_49_0 rfl dX1_count_173 ?_
                              exact zo_iret hY hr dX1_count_176 h
                            · rw [if_neg c33] at h
                              refine zo_tsOut hY 177 dX1_count_22 (by have z0 := lv_neT (a := 0) c4 (by decide); have z1 := lv_neT (a := 1) c7 (by decide); have z2 := lv_neT (a := 2) c10 (by decide); have z3 := lv_neT (a := 3) c13 (by decide); have z4 := lv_neT (a := 4) c16 (by decide); have z5 := lv_neT (a := 5) c19 (by decide); have z6 := lv_neT (a := 6) c22 (by decide); have z7 := lv_neT (a := 7) c25 (by decide); have z8 := lv_neT (a := 8) c26 (by decide); have z9 := lv_neT (a := 9) c27 (by decide); have z10 := lv_neT (a := 10) c31 (by decide); have z11 := lv_neT (a := 11) c32 (by decide); have z12 := lv_neT (a := 12) c33 (by decide); omega) (by decide) ?_
                              refine zo_iconst hY (-1) (by decide) dX1_count_177 ?_
                              exact zo_iret hY hr dX1_count_178 h
  · refine zo_aload_n hY dX1_count_11 rfl 0 rfl ?_
    refine zo_getC hY LX1_38_0 rfl (fun Ω q => (hCon Ω q).1 7 _ rfl) dX1_count_12 ?_
    refine zo_iload_n hY dX1_count_15 rfl 1 rfl ?_
    refine zo_bipush hY 13 (by decide) dX1_count_16 ?_
    refine zo_isub hY dX1_count_18 ?_
    refine zo_ald hY (by decide) (Or.inl ⟨rfl, dX1_count_19⟩) (fun q => (hCon _ q).2.2.2 43 0 3 rfl) h (fun j34 h => ?_)
    exact zo_iret hY hr dX1_count_20 h
