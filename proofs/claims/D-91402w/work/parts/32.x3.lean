set_option maxRecDepth 100000
theorem LX16_7_13 : zo_FL RX16 7 13 0 := ⟨by decide, by decide, by decide, Or.inl ⟨_, q789, Or.inl rfl⟩⟩
theorem cn_X1_value : zo_Cn yX1_value 2 := ⟨by decide, by decide, by decide +kernel⟩
theorem LX16_13_13 : zo_FL RX16 13 13 1 := ⟨by decide, by decide, by decide, Or.inl ⟨_, q790, Or.inl rfl⟩⟩
theorem LX16_16_13 : zo_FL RX16 16 13 2 := ⟨by decide, by decide, by decide, Or.inl ⟨_, q791, Or.inl rfl⟩⟩
theorem LX16_19_13 : zo_FL RX16 19 13 3 := ⟨by decide, by decide, by decide, Or.inl ⟨_, q792, Or.inl rfl⟩⟩
theorem LX13_10_11 : zo_FL RX13 10 11 0 := ⟨by decide, by decide, by decide, Or.inl ⟨_, q747, Or.inl rfl⟩⟩
theorem LX13_10_12 : zo_FL RX13 10 12 0 := ⟨by decide, by decide, by decide, Or.inl ⟨_, q747, Or.inl rfl⟩⟩
theorem cn_X16_holds : zo_Cn yX16_holds 1 := ⟨by decide, by decide, by decide +kernel⟩
theorem LX1_224_0 : zo_FL RX1 224 0 17 := ⟨by decide, by decide, by decide, Or.inl ⟨_, q180, Or.inl rfl⟩⟩
theorem LX1_64_0 : zo_FL RX1 64 0 16 := ⟨by decide, by decide, by decide, Or.inl ⟨_, q179, Or.inl rfl⟩⟩
theorem cn_X1_isLed : zo_Cn yX1_isLed 1 := ⟨by decide, by decide, by decide +kernel⟩
theorem cn_X13_holds : zo_Cn yX13_holds 1 := ⟨by decide, by decide, by decide +kernel⟩
theorem LX1_209_5 : zo_FL RX1 209 5 1 := ⟨by decide, by decide, by decide, Or.inr ⟨_, _, q451, Or.inl rfl⟩⟩
theorem LX1_212_5 : zo_FL RX1 212 5 2 := ⟨by decide, by decide, by decide, Or.inr ⟨_, _, q453, Or.inl rfl⟩⟩
theorem LX1_215_5 : zo_FL RX1 215 5 3 := ⟨by decide, by decide, by decide, Or.inr ⟨_, _, q455, Or.inl rfl⟩⟩
theorem cn_X1_findHabits : zo_Cn yX1_findHabits 1 := ⟨by decide, by decide, by decide +kernel⟩
theorem cn_X1_circleAt : zo_Cn yX1_circleAt 2 := ⟨by decide, by decide, by decide +kernel⟩
theorem cn_X1_isUsed : zo_Cn yX1_isUsed 2 := ⟨by decide, by decide, by decide +kernel⟩
theorem cn_X1_least : zo_Cn yX1_least 1 := ⟨by decide, by decide, by decide +kernel⟩
theorem cn_X1_most : zo_Cn yX1_most 1 := ⟨by decide, by decide, by decide +kernel⟩
theorem dX16_holds_0 : decode cX16_holds 0 = .ok (.aload_n 0, 1) := by decide +kernel
theorem dX16_holds_1 : decode cX16_holds 1 = .ok (.getfield 7, 3) := by decide +kernel
theorem dX16_holds_4 : decode cX16_holds 4 = .ok (.aload_n 1, 1) := by decide +kernel
theorem dX16_holds_5 : decode cX16_holds 5 = .ok (.invokestatic 23, 3) := by decide +kernel
theorem dX16_holds_8 : decode cX16_holds 8 = .ok (.istore_n 2, 1) := by decide +kernel
theorem dX16_holds_9 : decode cX16_holds 9 = .ok (.aload_n 0, 1) := by decide +kernel
theorem dX16_holds_10 : decode cX16_holds 10 = .ok (.getfield 13, 3) := by decide +kernel
theorem dX16_holds_13 : decode cX16_holds 13 = .ok (.bipush 60, 2) := by decide +kernel
theorem dX16_holds_15 : decode cX16_holds 15 = .ok (.if_icmp .ne 19, 3) := by decide +kernel
theorem dX16_holds_18 : decode cX16_holds 18 = .ok (.iload_n 2, 1) := by decide +kernel
theorem dX16_holds_19 : decode cX16_holds 19 = .ok (.aload_n 0, 1) := by decide +kernel
theorem dX16_holds_20 : decode cX16_holds 20 = .ok (.getfield 16, 3) := by decide +kernel
theorem dX16_holds_23 : decode cX16_holds 23 = .ok (.if_icmp .ge 7, 3) := by decide +kernel
theorem dX16_holds_26 : decode cX16_holds 26 = .ok (.iconst 1, 1) := by decide +kernel
theorem dX16_holds_27 : decode cX16_holds 27 = .ok (.goto 45, 3) := by decide +kernel
theorem dX16_holds_30 : decode cX16_holds 30 = .ok (.iconst 0, 1) := by decide +kernel
theorem dX16_holds_31 : decode cX16_holds 31 = .ok (.goto 41, 3) := by decide +kernel
theorem dX16_holds_34 : decode cX16_holds 34 = .ok (.aload_n 0, 1) := by decide +kernel
theorem dX16_holds_35 : decode cX16_holds 35 = .ok (.getfield 13, 3) := by decide +kernel
theorem dX16_holds_38 : decode cX16_holds 38 = .ok (.bipush 62, 2) := by decide +kernel
theorem dX16_holds_40 : decode cX16_holds 40 = .ok (.if_icmp .ne 19, 3) := by decide +kernel
theorem dX16_holds_43 : decode cX16_holds 43 = .ok (.iload_n 2, 1) := by decide +kernel
theorem dX16_holds_44 : decode cX16_holds 44 = .ok (.aload_n 0, 1) := by decide +kernel
theorem dX16_holds_45 : decode cX16_holds 45 = .ok (.getfield 16, 3) := by decide +kernel
theorem dX16_holds_48 : decode cX16_holds 48 = .ok (.if_icmp .le 7, 3) := by decide +kernel
theorem dX16_holds_51 : decode cX16_holds 51 = .ok (.iconst 1, 1) := by decide +kernel
theorem dX16_holds_52 : decode cX16_holds 52 = .ok (.goto 20, 3) := by decide +kernel
theorem dX16_holds_55 : decode cX16_holds 55 = .ok (.iconst 0, 1) := by decide +kernel
theorem dX16_holds_56 : decode cX16_holds 56 = .ok (.goto 16, 3) := by decide +kernel
theorem dX16_holds_59 : decode cX16_holds 59 = .ok (.iload_n 2, 1) := by decide +kernel
theorem dX16_holds_60 : decode cX16_holds 60 = .ok (.aload_n 0, 1) := by decide +kernel
theorem dX16_holds_61 : decode cX16_holds 61 = .ok (.getfield 16, 3) := by decide +kernel
theorem dX16_holds_64 : decode cX16_holds 64 = .ok (.if_icmp .ne 7, 3) := by decide +kernel
theorem dX16_holds_67 : decode cX16_holds 67 = .ok (.iconst 1, 1) := by decide +kernel
theorem dX16_holds_68 : decode cX16_holds 68 = .ok (.goto 4, 3) := by decide +kernel
theorem dX16_holds_71 : decode cX16_holds 71 = .ok (.iconst 0, 1) := by decide +kernel
theorem dX16_holds_72 : decode cX16_holds 72 = .ok (.istore_n 3, 1) := by decide +kernel
theorem dX16_holds_73 : decode cX16_holds 73 = .ok (.iload_n 3, 1) := by decide +kernel
theorem dX16_holds_74 : decode cX16_holds 74 = .ok (.aload_n 0, 1) := by decide +kernel
theorem dX16_holds_75 : decode cX16_holds 75 = .ok (.getfield 19, 3) := by decide +kernel
theorem dX16_holds_78 : decode cX16_holds 78 = .ok (.if_icmp .eq 7, 3) := by decide +kernel
theorem dX16_holds_81 : decode cX16_holds 81 = .ok (.iconst 1, 1) := by decide +kernel
theorem dX16_holds_82 : decode cX16_holds 82 = .ok (.goto 4, 3) := by decide +kernel
theorem dX16_holds_85 : decode cX16_holds 85 = .ok (.iconst 0, 1) := by decide +kernel
theorem dX16_holds_86 : decode cX16_holds 86 = .ok (.ireturn, 1) := by decide +kernel
def fn_X16_holds_86 (N : Nat)  (s0 : Int32) (Ω : zo_O) : Option zo_R :=
  rZ s0 Ω
theorem ct_X16_holds_86 {Y : zo_Y} (hY : zo_Gd Y cX16_holds 4 RX16 2) (hJ : zo_JC (zo_J Y)) (hCon : ∀ Ω, zo_J Y Ω → zo_Con Ω) (hr : zo_rt Y (Option.some Jvm.ClassFile.FieldType.boolean)) (N : Nat)   (s0 : Int32) (Ω : zo_O) (res : zo_R) (h : fn_X16_holds_86 N  s0 Ω = some res) : TW Y res Ω 86 [] [vi s0] := by
  unfold fn_X16_holds_86 at h
  exact zo_zret hY hr dX16_holds_86 h
def fn_X16_holds_72 (N : Nat)  (x0 : Nat) (s0 : Int32) (Ω : zo_O) : Option zo_R :=
  if s0 = gI Ω 13 x0 3 then (
    fn_X16_holds_86 N 0 Ω
    ) else
  fn_X16_holds_86 N 1 Ω
theorem ct_X16_holds_72 {Y : zo_Y} (hY : zo_Gd Y cX16_holds 4 RX16 2) (hJ : zo_JC (zo_J Y)) (hCon : ∀ Ω, zo_J Y Ω → zo_Con Ω) (hr : zo_rt Y (Option.some Jvm.ClassFile.FieldType.boolean)) (N : Nat)   (x0 : Nat) (s0 : Int32) (Ω : zo_O) (res : zo_R) (h : fn_X16_holds_72 N  x0 s0 Ω = some res) : TW Y res Ω 72 [(0, vr 13 x0)] [vi s0] := by
  unfold fn_X16_holds_72 at h
  refine zo_istore_n hY dX16_holds_72 rfl (by decide) rfl (ls' := [(3, vi s0), (0, vr 13 x0)]) rfl ?_
  refine zo_iload_n hY dX16_holds_73 rfl 0 rfl ?_
  refine zo_aload_n hY dX16_holds_74 rfl 1 rfl ?_
  refine zo_getI hY LX16_19_13 rfl dX16_holds_75 ?_
  refine zo_icmp_eq hY 85 dX16_holds_78 (by decide) h (fun c1 h => ?_) (fun c1 h => ?_)
  · refine zo_iconst hY 0 (by decide) dX16_holds_85 ?_
    refine zo_sub [] rfl ?_
    exact ct_X16_holds_86 hY hJ hCon hr N 0 Ω _ h
  · refine zo_iconst hY 1 (by decide) dX16_holds_81 ?_
    refine zo_goto hY 86 dX16_holds_82 (by decide) ?_
    refine zo_sub [] rfl ?_
    exact ct_X16_holds_86 hY hJ hCon hr N 1 Ω _ h
def fn_X16_holds (N : Nat) (x0 : Nat) (x1 : Nat) (Ω : zo_O) : Option zo_R :=
  ci (fn_X1_value N (gI Ω 13 x0 0) x1 Ω) fun r2 Ω1 =>
  if gI Ω1 13 x0 1 = 60 then (
    if gI Ω1 13 x0 2 ≤ r2 then (
      fn_X16_holds_72 N x0 0 Ω1
      ) else
    fn_X16_holds_72 N x0 1 Ω1
    ) else
  if gI Ω1 13 x0 1 = 62 then (
    if r2 ≤ gI Ω1 13 x0 2 then (
      fn_X16_holds_72 N x0 0 Ω1
      ) else
    fn_X16_holds_72 N x0 1 Ω1
    ) else
  if r2 = gI Ω1 13 x0 2 then (
    fn_X16_holds_72 N x0 1 Ω1
    ) else
  fn_X16_holds_72 N x0 0 Ω1
theorem mt_X16_holds {G : zo_G} {J : zo_O → Prop} (hJ : zo_JC J) (hCon : ∀ Ω, J Ω → zo_Con Ω) (N : Nat) (x0 : Nat) (x1 : Nat) (Ω : zo_O) (res : zo_R) (h : fn_X16_holds N x0 x1 Ω = some res) : zo_MT G J yX16_holds cX16_holds 4 (Option.some Jvm.ClassFile.FieldType.boolean) 2 [vr 13 x0, vr 3 x1] Ω res := by
  refine zo_enter (by decide) rfl (Nat.le_of_ble_eq_true rfl) (fun Y hY eJ hr hmn => ?_)
  subst eJ
  show TW Y res Ω 0 [(0, vr 13 x0), (1, vr 3 x1)] []
  unfold fn_X16_holds at h
  refine zo_aload_n hY dX16_holds_0 rfl 0 rfl ?_
  refine zo_getI hY LX16_7_13 rfl dX16_holds_1 ?_
  refine zo_aload_n hY dX16_holds_4 rfl 1 rfl ?_
  refine zo_callSN hY (fun q hq => mt_X1_value hJ hCon N (gI Ω 13 x0 0) x1 Ω q hq) (by decide) (by decide) cn_X1_value rfl q850 q851 q78 q852 (Nat.le_of_ble_eq_true rfl) dX16_holds_5 rfl h (ci_k (fun r2 Ω1 res h => ?_))
  refine zo_istore_n hY dX16_holds_8 rfl (by decide) rfl (ls' := [(2, vi r2), (0, vr 13 x0), (1, vr 3 x1)]) rfl ?_
  refine zo_aload_n hY dX16_holds_9 rfl 1 rfl ?_
  refine zo_getI hY LX16_13_13 rfl dX16_holds_10 ?_
  refine zo_bipush hY 60 (by decide) dX16_holds_13 ?_
  refine zo_icmp_ne hY 34 dX16_holds_15 (by decide) h (fun c3 h => ?_) (fun c3 h => ?_)
  · refine zo_iload_n hY dX16_holds_18 rfl 0 rfl ?_
    refine zo_aload_n hY dX16_holds_19 rfl 1 rfl ?_
    refine zo_getI hY LX16_16_13 rfl dX16_holds_20 ?_
    refine zo_icmp_ge hY 30 dX16_holds_23 (by decide) h (fun c4 h => ?_) (fun c4 h => ?_)
    · refine zo_iconst hY 0 (by decide) dX16_holds_30 ?_
      refine zo_goto hY 72 dX16_holds_31 (by decide) ?_
      refine zo_sub [1] rfl ?_
      exact ct_X16_holds_72 hY hJ hCon hr N x0 0 Ω1 _ h
    · refine zo_iconst hY 1 (by decide) dX16_holds_26 ?_
      refine zo_goto hY 72 dX16_holds_27 (by decide) ?_
      refine zo_sub [1] rfl ?_
      exact ct_X16_holds_72 hY hJ hCon hr N x0 1 Ω1 _ h
  · refine zo_aload_n hY dX16_holds_34 rfl 1 rfl ?_
    refine zo_getI hY LX16_13_13 rfl dX16_holds_35 ?_
    refine zo_bipush hY 62 (by decide) dX16_holds_38 ?_
    refine zo_icmp_ne hY 59 dX16_holds_40 (by decide) h (fun c5 h => ?_) (fun c5 h => ?_)
    · refine zo_iload_n hY dX16_holds_43 rfl 0 rfl ?_
      refine zo_aload_n hY dX16_holds_44 rfl 1 rfl ?_
      refine zo_getI hY LX16_16_13 rfl dX16_holds_45 ?_
      refine zo_icmp_le hY 55 dX16_holds_48 (by decide) h (fun c6 h => ?_) (fun c6 h => ?_)
      · refine zo_iconst hY 0 (by decide) dX16_holds_55 ?_
        refine zo_goto hY 72 dX16_holds_56 (by decide) ?_
        refine zo_sub [1] rfl ?_
        exact ct_X16_holds_72 hY hJ hCon hr N x0 0 Ω1 _ h
      · refine zo_iconst hY 1 (by decide) dX16_holds_51 ?_
        refine zo_goto hY 72 dX16_holds_52 (by decide) ?_
        refine zo_sub [1] rfl ?_
        exact ct_X16_holds_72 hY hJ hCon hr N x0 1 Ω1 _ h
    · refine zo_iload_n hY dX16_holds_59 rfl 0 rfl ?_
      refine zo_aload_n hY dX16_holds_60 rfl 1 rfl ?_
      refine zo_getI hY LX16_16_13 rfl dX16_holds_61 ?_
      refine zo_icmp_ne hY 71 dX16_holds_64 (by decide) h (fun c7 h => ?_) (fun c7 h => ?_)
      · refine zo_iconst hY 1 (by decide) dX16_holds_67 ?_
        refine zo_goto hY 72 dX16_holds_68 (by decide) ?_
        refine zo_sub [1] rfl ?_
        exact ct_X16_holds_72 hY hJ hCon hr N x0 1 Ω1 _ h
      · refine zo_iconst hY 0 (by decide) dX16_holds_71 ?_
        refine zo_sub [1] rfl ?_
        exact ct_X16_holds_72 hY hJ hCon hr N x0 0 Ω1 _ h
theorem dX13_holds_0 : decode cX13_holds 0 = .ok (.iconst 1, 1) := by decide +kernel
theorem dX13_holds_1 : decode cX13_holds 1 = .ok (.istore_n 2, 1) := by decide +kernel
theorem dX13_holds_2 : decode cX13_holds 2 = .ok (.iconst 0, 1) := by decide +kernel
theorem dX13_holds_3 : decode cX13_holds 3 = .ok (.istore_n 3, 1) := by decide +kernel
theorem dX13_holds_4 : decode cX13_holds 4 = .ok (.iload_n 3, 1) := by decide +kernel
theorem dX13_holds_5 : decode cX13_holds 5 = .ok (.aload_n 0, 1) := by decide +kernel
theorem dX13_holds_6 : decode cX13_holds 6 = .ok (.getfield 10, 3) := by decide +kernel
theorem dX13_holds_9 : decode cX13_holds 9 = .ok (.invokevirtual 16, 3) := by decide +kernel
theorem dX13_holds_12 : decode cX13_holds 12 = .ok (.if_icmp .ge 37, 3) := by decide +kernel
theorem dX13_holds_15 : decode cX13_holds 15 = .ok (.iload_n 2, 1) := by decide +kernel
theorem dX13_holds_16 : decode cX13_holds 16 = .ok (.ifCond .eq 25, 3) := by decide +kernel
theorem dX13_holds_19 : decode cX13_holds 19 = .ok (.aload_n 0, 1) := by decide +kernel
theorem dX13_holds_20 : decode cX13_holds 20 = .ok (.getfield 10, 3) := by decide +kernel
theorem dX13_holds_23 : decode cX13_holds 23 = .ok (.iload_n 3, 1) := by decide +kernel
theorem dX13_holds_24 : decode cX13_holds 24 = .ok (.invokevirtual 20, 3) := by decide +kernel
theorem dX13_holds_27 : decode cX13_holds 27 = .ok (.checkcast 24, 3) := by decide +kernel
theorem dX13_holds_30 : decode cX13_holds 30 = .ok (.aload_n 1, 1) := by decide +kernel
theorem dX13_holds_31 : decode cX13_holds 31 = .ok (.invokevirtual 26, 3) := by decide +kernel
theorem dX13_holds_34 : decode cX13_holds 34 = .ok (.ifCond .eq 7, 3) := by decide +kernel
theorem dX13_holds_37 : decode cX13_holds 37 = .ok (.iconst 1, 1) := by decide +kernel
theorem dX13_holds_38 : decode cX13_holds 38 = .ok (.goto 4, 3) := by decide +kernel
theorem dX13_holds_41 : decode cX13_holds 41 = .ok (.iconst 0, 1) := by decide +kernel
theorem dX13_holds_42 : decode cX13_holds 42 = .ok (.istore_n 2, 1) := by decide +kernel
theorem dX13_holds_43 : decode cX13_holds 43 = .ok (.iinc 3 1, 3) := by decide +kernel
theorem dX13_holds_46 : decode cX13_holds 46 = .ok (.goto (-42), 3) := by decide +kernel
theorem dX13_holds_49 : decode cX13_holds 49 = .ok (.iload_n 2, 1) := by decide +kernel
theorem dX13_holds_50 : decode cX13_holds 50 = .ok (.ireturn, 1) := by decide +kernel
def fn_X13_holds_42 (N : Nat) (K4 : Option zo_T → Nat → Int32 → Int32 → zo_O → Option zo_R) (x0 : Option zo_T) (x1 : Nat) (x3 : Int32) (s0 : Int32) (Ω : zo_O) : Option zo_R :=
  K4 x0 x1 s0 (x3 + 1) Ω
theorem ct_X13_holds_42 {Y : zo_Y} (hY : zo_Gd Y cX13_holds 4 RX13 3) (hJ : zo_JC (zo_J Y)) (hCon : ∀ Ω, zo_J Y Ω → zo_Con Ω) (hr : zo_rt Y (Option.some Jvm.ClassFile.FieldType.boolean)) (N : Nat) (K4 : Option zo_T → Nat → Int32 → Int32 → zo_O → Option zo_R) (hK4 : ∀ (x0 : Option zo_T) (x1 : Nat) (x2 : Int32) (x3 : Int32) (Ω : zo_O) (res : zo_R), K4 x0 x1 x2 x3 Ω = some res → TW Y res Ω 4 [(0, vo x0), (1, vr 3 x1), (2, vi x2), (3, vi x3)] []) (x0 : Option zo_T) (x1 : Nat) (x3 : Int32) (s0 : Int32) (Ω : zo_O) (res : zo_R) (h : fn_X13_holds_42 N K4 x0 x1 x3 s0 Ω = some res) : TW Y res Ω 42 [(0, vo x0), (1, vr 3 x1), (3, vi x3)] [vi s0] := by
  unfold fn_X13_holds_42 at h
  refine zo_istore_n hY dX13_holds_42 rfl (by decide) rfl (ls' := [(2, vi s0), (0, vo x0), (1, vr 3 x1), (3, vi x3)]) rfl ?_
  refine zo_iinc hY 1 dX13_holds_43 (by decide) (by decide) 3 rfl rfl (ls' := [(3, vi (x3 + 1)), (2, vi s0), (0, vo x0), (1, vr 3 x1)]) rfl ?_
  refine zo_goto hY 4 dX13_holds_46 (by decide) ?_
  refine zo_sub [2, 3, 1, 0] rfl ?_
  exact hK4 x0 x1 s0 (x3 + 1) Ω _ h
def fn_X13_holds_41 (N : Nat) (K4 : Option zo_T → Nat → Int32 → Int32 → zo_O → Option zo_R) (x0 : Option zo_T) (x1 : Nat) (x3 : Int32) (Ω : zo_O) : Option zo_R :=
  fn_X13_holds_42 N K4 x0 x1 x3 0 Ω
theorem ct_X13_holds_41 {Y : zo_Y} (hY : zo_Gd Y cX13_holds 4 RX13 3) (hJ : zo_JC (zo_J Y)) (hCon : ∀ Ω, zo_J Y Ω → zo_Con Ω) (hr : zo_rt Y (Option.some Jvm.ClassFile.FieldType.boolean)) (N : Nat) (K4 : Option zo_T → Nat → Int32 → Int32 → zo_O → Option zo_R) (hK4 : ∀ (x0 : Option zo_T) (x1 : Nat) (x2 : Int32) (x3 : Int32) (Ω : zo_O) (res : zo_R), K4 x0 x1 x2 x3 Ω = some res → TW Y res Ω 4 [(0, vo x0), (1, vr 3 x1), (2, vi x2), (3, vi x3)] []) (x0 : Option zo_T) (x1 : Nat) (x3 : Int32) (Ω : zo_O) (res : zo_R) (h : fn_X13_holds_41 N K4 x0 x1 x3 Ω = some res) : TW Y res Ω 41 [(0, vo x0), (1, vr 3 x1), (3, vi x3)] [] := by
  unfold fn_X13_holds_41 at h
  refine zo_iconst hY 0 (by decide) dX13_holds_41 ?_
  exact ct_X13_holds_42 hY hJ hCon hr N K4 hK4 x0 x1 x3 0 Ω _ h
def bd_X13_holds_4 (N : Nat)  (K4 : Option zo_T → Nat → Int32 → Int32 → zo_O → Option zo_R) (x0 : Option zo_T) (x1 : Nat) (x2 : Int32) (x3 : Int32) (Ω : zo_O) : Option zo_R :=
  gT Ω x0 fun j1 =>
  ci (fn_J2_size N j1 Ω) fun r3 Ω2 =>
  if r3 ≤ x3 then (
    rZ x2 Ω2
    ) else
  if x2 = 0 then (
    fn_X13_holds_41 N K4 x0 x1 x3 Ω2
    ) else
  gT Ω2 x0 fun j6 =>
  cr (fn_J2_get N j6 x3 Ω2) fun r8 Ω7 =>
  bk r8 13 fun j9 =>
  ci (fn_X16_holds N j9 x1 Ω7) fun r11 Ω10 =>
  if r11 = 0 then (
    fn_X13_holds_41 N K4 x0 x1 x3 Ω10
    ) else
  fn_X13_holds_42 N K4 x0 x1 x3 1 Ω10
theorem cb_X13_holds_4 {Y : zo_Y} (hY : zo_Gd Y cX13_holds 4 RX13 3) (hJ : zo_JC (zo_J Y)) (hCon : ∀ Ω, zo_J Y Ω → zo_Con Ω) (hr : zo_rt Y (Option.some Jvm.ClassFile.FieldType.boolean)) (N : Nat)  (K4 : Option zo_T → Nat → Int32 → Int32 → zo_O → Option zo_R)  (hK4 : ∀ (x0 : Option zo_T) (x1 : Nat) (x2 : Int32) (x3 : Int32) (Ω : zo_O) (res : zo_R), K4 x0 x1 x2 x3 Ω = some res → TW Y res Ω 4 [(0, vo x0), (1, vr 3 x1), (2, vi x2), (3, vi x3)] []) (x0 : Option zo_T) (x1 : Nat) (x2 : Int32) (x3 : Int32) (Ω : zo_O) (res : zo_R) (h : bd_X13_holds_4 N  K4 x0 x1 x2 x3 Ω = some res) : TW Y res Ω 4 [(0, vo x0), (1, vr 3 x1), (2, vi x2), (3, vi x3)] [] := by
  unfold bd_X13_holds_4 at h
  refine zo_iload_n hY dX13_holds_4 rfl 3 rfl ?_
  refine zo_aload_n hY dX13_holds_5 rfl 0 rfl ?_
  refine zo_getS hY LX13_10_11 LX13_10_12 dX13_holds_6 h (fun j1 h => ?_)
  refine zo_callV hY (fun q hq => mt_J2_size hJ hCon N j1 Ω q hq) (by decide) (by decide) (by decide) ⟨rfl, cn_J2_size⟩ rfl q843 q246 q247 q81 q248 (Nat.le_of_ble_eq_true rfl) dX13_holds_9 rfl h (ci_k (fun r3 Ω2 res h => ?_))
  refine zo_icmp_ge hY 49 dX13_holds_12 (by decide) h (fun c4 h => ?_) (fun c4 h => ?_)
  · refine zo_iload_n hY dX13_holds_49 rfl 2 rfl ?_
    exact zo_zret hY hr dX13_holds_50 h
  · refine zo_iload_n hY dX13_holds_15 rfl 2 rfl ?_
    refine zo_if_eq hY 41 dX13_holds_16 (by decide) h (fun c5 h => ?_) (fun c5 h => ?_)
    · refine zo_sub [0, 1, 3] rfl ?_
      exact ct_X13_holds_41 hY hJ hCon hr N K4 hK4 x0 x1 x3 Ω2 _ h
    · refine zo_aload_n hY dX13_holds_19 rfl 0 rfl ?_
      refine zo_getS hY LX13_10_11 LX13_10_12 dX13_holds_20 h (fun j6 h => ?_)
      refine zo_iload_n hY dX13_holds_23 rfl 3 rfl ?_
      refine zo_callV hY (fun q hq => mt_J2_get hJ hCon N j6 x3 Ω2 q hq) (by decide) (by decide) (by decide) ⟨rfl, cn_J2_get⟩ rfl q844 q369 q370 q81 q371 (Nat.le_of_ble_eq_true rfl) dX13_holds_24 rfl h (cr_k (fun r8 Ω7 res h => ?_))
      refine zo_castK hY (by decide) q845 (Or.inl rfl) dX13_holds_27 h (fun j9 h => ?_)
      refine zo_aload_n hY dX13_holds_30 rfl 1 rfl ?_
      refine zo_callV hY (fun q hq => mt_X16_holds hJ hCon N j9 x1 Ω7 q hq) (by decide) (by decide) (by decide) ⟨rfl, cn_X16_holds⟩ rfl q846 q847 q848 q107 q849 (Nat.le_of_ble_eq_true rfl) dX13_holds_31 rfl h (ci_k (fun r11 Ω10 res h => ?_))
      refine zo_if_eq hY 41 dX13_holds_34 (by decide) h (fun c12 h => ?_) (fun c12 h => ?_)
      · refine zo_sub [0, 1, 3] rfl ?_
        exact ct_X13_holds_41 hY hJ hCon hr N K4 hK4 x0 x1 x3 Ω10 _ h
      · refine zo_iconst hY 1 (by decide) dX13_holds_37 ?_
        refine zo_goto hY 42 dX13_holds_38 (by decide) ?_
        refine zo_sub [0, 1, 3] rfl ?_
        exact ct_X13_holds_42 hY hJ hCon hr N K4 hK4 x0 x1 x3 1 Ω10 _ h
def fn_X13_holds_4 (N : Nat)  : Nat → Option zo_T → Nat → Int32 → Int32 → zo_O → Option zo_R
  | 0, _, _, _, _, _ => none
  | n + 1, x0, x1, x2, x3, Ω => bd_X13_holds_4 N  (fn_X13_holds_4 N  n) x0 x1 x2 x3 Ω
theorem ct_X13_holds_4 {Y : zo_Y} (hY : zo_Gd Y cX13_holds 4 RX13 3) (hJ : zo_JC (zo_J Y)) (hCon : ∀ Ω, zo_J Y Ω → zo_Con Ω) (hr : zo_rt Y (Option.some Jvm.ClassFile.FieldType.boolean)) (N : Nat)   : ∀ (n : Nat) (x0 : Option zo_T) (x1 : Nat) (x2 : Int32) (x3 : Int32) (Ω : zo_O) (res : zo_R), fn_X13_holds_4 N  n x0 x1 x2 x3 Ω = some res → TW Y res Ω 4 [(0, vo x0), (1, vr 3 x1), (2, vi x2), (3, vi x3)] [] := by
  intro n
  induction n with
  | zero => intro x0 x1 x2 x3 Ω res h; exact nomatch (show (none : Option zo_R) = some res from h)
  | succ n ih => intro x0 x1 x2 x3 Ω res h; exact cb_X13_holds_4 hY hJ hCon hr N  (fn_X13_holds_4 N  n)  ih x0 x1 x2 x3 Ω res h
def fn_X13_holds (N : Nat) (x0 : Option zo_T) (x1 : Nat) (Ω : zo_O) : Option zo_R :=
  fn_X13_holds_4 N N x0 x1 1 0 Ω
theorem mt_X13_holds {G : zo_G} {J : zo_O → Prop} (hJ : zo_JC J) (hCon : ∀ Ω, J Ω → zo_Con Ω) (N : Nat) (x0 : Option zo_T) (x1 : Nat) (Ω : zo_O) (res : zo_R) (h : fn_X13_holds N x0 x1 Ω = some res) : zo_MT G J yX13_holds cX13_holds 4 (Option.some Jvm.ClassFile.FieldType.boolean) 3 [vo x0, vr 3 x1] Ω res := by
  refine zo_enter (by decide) rfl (Nat.le_of_ble_eq_true rfl) (fun Y hY eJ hr hmn => ?_)
  subst eJ
  show TW Y res Ω 0 [(0, vo x0), (1, vr 3 x1)] []
  unfold fn_X13_holds at h
  refine zo_iconst hY 1 (by decide) dX13_holds_0 ?_
  refine zo_istore_n hY dX13_holds_1 rfl (by decide) rfl (ls' := [(2, vi 1), (0, vo x0), (1, vr 3 x1)]) rfl ?_
  refine zo_iconst hY 0 (by decide) dX13_holds_2 ?_
  refine zo_istore_n hY dX13_holds_3 rfl (by decide) rfl (ls' := [(3, vi 0), (2, vi 1), (0, vo x0), (1, vr 3 x1)]) rfl ?_
  refine zo_sub [2, 3, 1, 0] rfl ?_
  exact ct_X13_holds_4 hY hJ hCon hr N N x0 x1 1 0 Ω _ h
theorem dX1_isLed_0 : decode cX1_isLed 0 = .ok (.aload_n 0, 1) := by decide +kernel
theorem dX1_isLed_1 : decode cX1_isLed 1 = .ok (.getfield 224, 3) := by decide +kernel
theorem dX1_isLed_4 : decode cX1_isLed 4 = .ok (.ifCond .ne 20, 3) := by decide +kernel
theorem dX1_isLed_7 : decode cX1_isLed 7 = .ok (.aload_n 0, 1) := by decide +kernel
theorem dX1_isLed_8 : decode cX1_isLed 8 = .ok (.getfield 64, 3) := by decide +kernel
theorem dX1_isLed_11 : decode cX1_isLed 11 = .ok (.iload_n 1, 1) := by decide +kernel
theorem dX1_isLed_12 : decode cX1_isLed 12 = .ok (.aaload, 1) := by decide +kernel
theorem dX1_isLed_13 : decode cX1_isLed 13 = .ok (.iconst 0, 1) := by decide +kernel
theorem dX1_isLed_14 : decode cX1_isLed 14 = .ok (.iaload, 1) := by decide +kernel
theorem dX1_isLed_15 : decode cX1_isLed 15 = .ok (.ldc 207, 2) := by decide +kernel
theorem dX1_isLed_17 : decode cX1_isLed 17 = .ok (.if_icmp .ge 7, 3) := by decide +kernel
theorem dX1_isLed_20 : decode cX1_isLed 20 = .ok (.iconst 1, 1) := by decide +kernel
theorem dX1_isLed_21 : decode cX1_isLed 21 = .ok (.goto 4, 3) := by decide +kernel
theorem dX1_isLed_24 : decode cX1_isLed 24 = .ok (.iconst 0, 1) := by decide +kernel
theorem dX1_isLed_25 : decode cX1_isLed 25 = .ok (.ireturn, 1) := by decide +kernel
def fn_X1_isLed_25 (N : Nat)  (s0 : Int32) (Ω : zo_O) : Option zo_R :=
  rZ s0 Ω
theorem ct_X1_isLed_25 {Y : zo_Y} (hY : zo_Gd Y cX1_isLed 2 RX1 0) (hJ : zo_JC (zo_J Y)) (hCon : ∀ Ω, zo_J Y Ω → zo_Con Ω) (hr : zo_rt Y (Option.some Jvm.ClassFile.FieldType.boolean)) (N : Nat)   (s0 : Int32) (Ω : zo_O) (res : zo_R) (h : fn_X1_isLed_25 N  s0 Ω = some res) : TW Y res Ω 25 [] [vi s0] := by
  unfold fn_X1_isLed_25 at h
  exact zo_zret hY hr dX1_isLed_25 h
def fn_X1_isLed_24 (N : Nat)   (Ω : zo_O) : Option zo_R :=
  fn_X1_isLed_25 N 0 Ω
theorem ct_X1_isLed_24 {Y : zo_Y} (hY : zo_Gd Y cX1_isLed 2 RX1 0) (hJ : zo_JC (zo_J Y)) (hCon : ∀ Ω, zo_J Y Ω → zo_Con Ω) (hr : zo_rt Y (Option.some Jvm.ClassFile.FieldType.boolean)) (N : Nat)    (Ω : zo_O) (res : zo_R) (h : fn_X1_isLed_24 N   Ω = some res) : TW Y res Ω 24 [] [] := by
  unfold fn_X1_isLed_24 at h
  refine zo_iconst hY 0 (by decide) dX1_isLed_24 ?_
  exact ct_X1_isLed_25 hY hJ hCon hr N 0 Ω _ h
def fn_X1_isLed (N : Nat) (x1 : Int32) (Ω : zo_O) : Option zo_R :=
  if gI Ω 0 0 17 = 0 then (
    ix x1 5 fun j2 =>
    ix 0 (gL Ω 36 j2) fun j3 =>
    if 1000000 ≤ gI Ω 36 j2 j3 then (
      fn_X1_isLed_24 N Ω
      ) else
    fn_X1_isLed_25 N 1 Ω
    ) else
  fn_X1_isLed_24 N Ω
theorem mt_X1_isLed {G : zo_G} {J : zo_O → Prop} (hJ : zo_JC J) (hCon : ∀ Ω, J Ω → zo_Con Ω) (N : Nat) (x1 : Int32) (Ω : zo_O) (res : zo_R) (h : fn_X1_isLed N x1 Ω = some res) : zo_MT G J yX1_isLed cX1_isLed 2 (Option.some Jvm.ClassFile.FieldType.boolean) 0 [vr 0 0, vi x1] Ω res := by
  refine zo_enter (by decide) rfl (Nat.le_of_ble_eq_true rfl) (fun Y hY eJ hr hmn => ?_)
  subst eJ
  show TW Y res Ω 0 [(0, vr 0 0), (1, vi x1)] []
  unfold fn_X1_isLed at h
  refine zo_aload_n hY dX1_isLed_0 rfl 0 rfl ?_
  refine zo_getI hY LX1_224_0 rfl dX1_isLed_1 ?_
  refine zo_if_ne hY 24 dX1_isLed_4 (by decide) h (fun c1 h => ?_) (fun c1 h => ?_)
  · refine zo_aload_n hY dX1_isLed_7 rfl 0 rfl ?_
    refine zo_getC hY LX1_64_0 rfl (fun Ω q => (hCon Ω q).1 16 _ rfl) dX1_isLed_8 ?_
    refine zo_iload_n hY dX1_isLed_11 rfl 1 rfl ?_
    refine zo_aldW hY hCon dX1_isLed_12 h (fun j2 h => ?_)
    refine zo_iconst hY 0 (by decide) dX1_isLed_13 ?_
    refine zo_ald hY (by decide) (Or.inl ⟨rfl, dX1_isLed_14⟩) (fun _ => rfl) h (fun j3 h => ?_)
    refine zo_ldc hY q824 dX1_isLed_15 ?_
    refine zo_icmp_ge hY 24 dX1_isLed_17 (by decide) h (fun c4 h => ?_) (fun c4 h => ?_)
    · refine zo_sub [] rfl ?_
      exact ct_X1_isLed_24 hY hJ hCon hr N Ω _ h
    · refine zo_iconst hY 1 (by decide) dX1_isLed_20 ?_
      refine zo_goto hY 25 dX1_isLed_21 (by decide) ?_
      refine zo_sub [] rfl ?_
      exact ct_X1_isLed_25 hY hJ hCon hr N 1 Ω _ h
  · refine zo_sub [] rfl ?_
    exact ct_X1_isLed_24 hY hJ hCon hr N Ω _ h
def fn_X3_isBy_3_13 (N : Nat)  (s0 : Int32) (Ω : zo_O) : Option zo_R :=
  rZ s0 Ω
theorem ct_X3_isBy_3_13 {Y : zo_Y} (hY : zo_Gd Y cX3_isBy 2 RX3 0) (hJ : zo_JC (zo_J Y)) (hCon : ∀ Ω, zo_J Y Ω → zo_Con Ω) (hr : zo_rt Y (Option.some Jvm.ClassFile.FieldType.boolean)) (N : Nat)   (s0 : Int32) (Ω : zo_O) (res : zo_R) (h : fn_X3_isBy_3_13 N  s0 Ω = some res) : TW Y res Ω 13 [] [vi s0] := by
  unfold fn_X3_isBy_3_13 at h
  exact zo_zret hY hr dX3_isBy_13 h
def fn_X3_isBy_3 (N : Nat) (x0 : Nat) (x1 : Int32) (Ω : zo_O) : Option zo_R :=
  if x1 < gI Ω 3 x0 0 then (
    fn_X3_isBy_3_13 N 0 Ω
    ) else
  fn_X3_isBy_3_13 N 1 Ω
theorem mt_X3_isBy_3 {G : zo_G} {J : zo_O → Prop} (hJ : zo_JC J) (hCon : ∀ Ω, J Ω → zo_Con Ω) (N : Nat) (x0 : Nat) (x1 : Int32) (Ω : zo_O) (res : zo_R) (h : fn_X3_isBy_3 N x0 x1 Ω = some res) : zo_MT G J yX3_isBy cX3_isBy 2 (Option.some Jvm.ClassFile.FieldType.boolean) 0 [vr 3 x0, vi x1] Ω res := by
  refine zo_enter (by decide) rfl (Nat.le_of_ble_eq_true rfl) (fun Y hY eJ hr hmn => ?_)
  subst eJ
  show TW Y res Ω 0 [(0, vr 3 x0), (1, vi x1)] []
  unfold fn_X3_isBy_3 at h
  refine zo_aload_n hY dX3_isBy_0 rfl 0 rfl ?_
  refine zo_getI hY LX3_7_3 rfl dX3_isBy_1 ?_
  refine zo_iload_n hY dX3_isBy_4 rfl 1 rfl ?_
  refine zo_icmp_gt hY 12 dX3_isBy_5 (by decide) h (fun c1 h => ?_) (fun c1 h => ?_)
  · refine zo_iconst hY 0 (by decide) dX3_isBy_12 ?_
    refine zo_sub [] rfl ?_
    exact ct_X3_isBy_3_13 hY hJ hCon hr N 0 Ω _ h
  · refine zo_iconst hY 1 (by decide) dX3_isBy_8 ?_
    refine zo_goto hY 13 dX3_isBy_9 (by decide) ?_
    refine zo_sub [] rfl ?_
    exact ct_X3_isBy_3_13 hY hJ hCon hr N 1 Ω _ h
theorem dX1_isUsed_0 : decode cX1_isUsed 0 = .ok (.iconst 1, 1) := by decide +kernel
theorem dX1_isUsed_1 : decode cX1_isUsed 1 = .ok (.istore_n 3, 1) := by decide +kernel
theorem dX1_isUsed_2 : decode cX1_isUsed 2 = .ok (.iconst 0, 1) := by decide +kernel
theorem dX1_isUsed_3 : decode cX1_isUsed 3 = .ok (.istore 4, 2) := by decide +kernel
theorem dX1_isUsed_5 : decode cX1_isUsed 5 = .ok (.iload 4, 2) := by decide +kernel
theorem dX1_isUsed_7 : decode cX1_isUsed 7 = .ok (.aload_n 0, 1) := by decide +kernel
theorem dX1_isUsed_8 : decode cX1_isUsed 8 = .ok (.getfield 59, 3) := by decide +kernel
theorem dX1_isUsed_11 : decode cX1_isUsed 11 = .ok (.invokevirtual 85, 3) := by decide +kernel
theorem dX1_isUsed_14 : decode cX1_isUsed 14 = .ok (.if_icmp .ge 44, 3) := by decide +kernel
theorem dX1_isUsed_17 : decode cX1_isUsed 17 = .ok (.aload_n 0, 1) := by decide +kernel
theorem dX1_isUsed_18 : decode cX1_isUsed 18 = .ok (.getfield 59, 3) := by decide +kernel
theorem dX1_isUsed_21 : decode cX1_isUsed 21 = .ok (.iload 4, 2) := by decide +kernel
theorem dX1_isUsed_23 : decode cX1_isUsed 23 = .ok (.invokevirtual 116, 3) := by decide +kernel
theorem dX1_isUsed_26 : decode cX1_isUsed 26 = .ok (.checkcast 236, 3) := by decide +kernel
theorem dX1_isUsed_29 : decode cX1_isUsed 29 = .ok (.aload_n 1, 1) := by decide +kernel
theorem dX1_isUsed_30 : decode cX1_isUsed 30 = .ok (.invokevirtual 238, 3) := by decide +kernel
theorem dX1_isUsed_33 : decode cX1_isUsed 33 = .ok (.ifCond .eq 19, 3) := by decide +kernel
theorem dX1_isUsed_36 : decode cX1_isUsed 36 = .ok (.aload_n 0, 1) := by decide +kernel
theorem dX1_isUsed_37 : decode cX1_isUsed 37 = .ok (.getfield 59, 3) := by decide +kernel
theorem dX1_isUsed_40 : decode cX1_isUsed 40 = .ok (.iload 4, 2) := by decide +kernel
theorem dX1_isUsed_42 : decode cX1_isUsed 42 = .ok (.invokevirtual 116, 3) := by decide +kernel
theorem dX1_isUsed_45 : decode cX1_isUsed 45 = .ok (.checkcast 236, 3) := by decide +kernel
theorem dX1_isUsed_48 : decode cX1_isUsed 48 = .ok (.invokevirtual 242, 3) := by decide +kernel
theorem dX1_isUsed_51 : decode cX1_isUsed 51 = .ok (.istore_n 3, 1) := by decide +kernel
theorem dX1_isUsed_52 : decode cX1_isUsed 52 = .ok (.iinc 4 1, 3) := by decide +kernel
theorem dX1_isUsed_55 : decode cX1_isUsed 55 = .ok (.goto (-50), 3) := by decide +kernel
theorem dX1_isUsed_58 : decode cX1_isUsed 58 = .ok (.iload_n 3, 1) := by decide +kernel
theorem dX1_isUsed_59 : decode cX1_isUsed 59 = .ok (.ifCond .eq 26, 3) := by decide +kernel
theorem dX1_isUsed_62 : decode cX1_isUsed 62 = .ok (.aload_n 1, 1) := by decide +kernel
theorem dX1_isUsed_63 : decode cX1_isUsed 63 = .ok (.iload_n 2, 1) := by decide +kernel
theorem dX1_isUsed_64 : decode cX1_isUsed 64 = .ok (.invokevirtual 246, 3) := by decide +kernel
theorem dX1_isUsed_67 : decode cX1_isUsed 67 = .ok (.ifCond .eq 18, 3) := by decide +kernel
theorem dX1_isUsed_70 : decode cX1_isUsed 70 = .ok (.aload_n 0, 1) := by decide +kernel
theorem dX1_isUsed_71 : decode cX1_isUsed 71 = .ok (.aload_n 1, 1) := by decide +kernel
theorem dX1_isUsed_72 : decode cX1_isUsed 72 = .ok (.getfield 162, 3) := by decide +kernel
theorem dX1_isUsed_75 : decode cX1_isUsed 75 = .ok (.invokevirtual 233, 3) := by decide +kernel
theorem dX1_isUsed_78 : decode cX1_isUsed 78 = .ok (.ifCond .eq 7, 3) := by decide +kernel
theorem dX1_isUsed_81 : decode cX1_isUsed 81 = .ok (.iconst 1, 1) := by decide +kernel
theorem dX1_isUsed_82 : decode cX1_isUsed 82 = .ok (.goto 4, 3) := by decide +kernel
theorem dX1_isUsed_85 : decode cX1_isUsed 85 = .ok (.iconst 0, 1) := by decide +kernel
theorem dX1_isUsed_86 : decode cX1_isUsed 86 = .ok (.ireturn, 1) := by decide +kernel
def fn_X1_isUsed_52 (N : Nat) (K5 : Nat → Int32 → Int32 → Int32 → zo_O → Option zo_R) (x1 : Nat) (x2 : Int32) (x3 : Int32) (x4 : Int32) (Ω : zo_O) : Option zo_R :=
  K5 x1 x2 x3 (x4 + 1) Ω
theorem ct_X1_isUsed_52 {Y : zo_Y} (hY : zo_Gd Y cX1_isUsed 5 RX1 4) (hJ : zo_JC (zo_J Y)) (hCon : ∀ Ω, zo_J Y Ω → zo_Con Ω) (hr : zo_rt Y (Option.some Jvm.ClassFile.FieldType.boolean)) (N : Nat) (K5 : Nat → Int32 → Int32 → Int32 → zo_O → Option zo_R) (hK5 : ∀ (x1 : Nat) (x2 : Int32) (x3 : Int32) (x4 : Int32) (Ω : zo_O) (res : zo_R), K5 x1 x2 x3 x4 Ω = some res → TW Y res Ω 5 [(0, vr 0 0), (1, vr 3 x1), (2, vi x2), (3, vi x3), (4, vi x4)] []) (x1 : Nat) (x2 : Int32) (x3 : Int32) (x4 : Int32) (Ω : zo_O) (res : zo_R) (h : fn_X1_isUsed_52 N K5 x1 x2 x3 x4 Ω = some res) : TW Y res Ω 52 [(0, vr 0 0), (1, vr 3 x1), (2, vi x2), (3, vi x3), (4, vi x4)] [] := by
  unfold fn_X1_isUsed_52 at h
  refine zo_iinc hY 1 dX1_isUsed_52 (by decide) (by decide) 4 rfl rfl (ls' := [(4, vi (x4 + 1)), (0, vr 0 0), (1, vr 3 x1), (2, vi x2), (3, vi x3)]) rfl ?_
  refine zo_goto hY 5 dX1_isUsed_55 (by decide) ?_
  refine zo_sub [1, 2, 3, 4, 0] rfl ?_
  exact hK5 x1 x2 x3 (x4 + 1) Ω _ h
def fn_X1_isUsed_86 (N : Nat)  (s0 : Int32) (Ω : zo_O) : Option zo_R :=
  rZ s0 Ω
theorem ct_X1_isUsed_86 {Y : zo_Y} (hY : zo_Gd Y cX1_isUsed 5 RX1 4) (hJ : zo_JC (zo_J Y)) (hCon : ∀ Ω, zo_J Y Ω → zo_Con Ω) (hr : zo_rt Y (Option.some Jvm.ClassFile.FieldType.boolean)) (N : Nat)   (s0 : Int32) (Ω : zo_O) (res : zo_R) (h : fn_X1_isUsed_86 N  s0 Ω = some res) : TW Y res Ω 86 [] [vi s0] := by
  unfold fn_X1_isUsed_86 at h
  exact zo_zret hY hr dX1_isUsed_86 h
def fn_X1_isUsed_85 (N : Nat)   (Ω : zo_O) : Option zo_R :=
  fn_X1_isUsed_86 N 0 Ω
theorem ct_X1_isUsed_85 {Y : zo_Y} (hY : zo_Gd Y cX1_isUsed 5 RX1 4) (hJ : zo_JC (zo_J Y)) (hCon : ∀ Ω, zo_J Y Ω → zo_Con Ω) (hr : zo_rt Y (Option.some Jvm.ClassFile.FieldType.boolean)) (N : Nat)    (Ω : zo_O) (res : zo_R) (h : fn_X1_isUsed_85 N   Ω = some res) : TW Y res Ω 85 [] [] := by
  unfold fn_X1_isUsed_85 at h
  refine zo_iconst hY 0 (by decide) dX1_isUsed_85 ?_
  exact ct_X1_isUsed_86 hY hJ hCon hr N 0 Ω _ h
def bd_X1_isUsed_5 (N : Nat)  (K5 : Nat → Int32 → Int32 → Int32 → zo_O → Option zo_R) (x1 : Nat) (x2 : Int32) (x3 : Int32) (x4 : Int32) (Ω : zo_O) : Option zo_R :=
  bk (gR Ω 0 0 15) 20 fun j1 =>
  ci (fn_J2_size N j1 Ω) fun r3 Ω2 =>
  if r3 ≤ x4 then (
    if x3 = 0 then (
      fn_X1_isUsed_85 N Ω2
      ) else
    ci (fn_X3_isBy_3 N x1 x2 Ω2) fun r7 Ω6 =>
    if r7 = 0 then (
      fn_X1_isUsed_85 N Ω6
      ) else
    ci (fn_X1_isLed N (gI Ω6 3 x1 2) Ω6) fun r10 Ω9 =>
    if r10 = 0 then (
      fn_X1_isUsed_85 N Ω9
      ) else
    fn_X1_isUsed_86 N 1 Ω9
    ) else
  bk (gR Ω2 0 0 15) 20 fun j12 =>
  cr (fn_J2_get N j12 x4 Ω2) fun r14 Ω13 =>
  gd (zo_isS r14 = true) <|
  gd (zo_isS r14 = true) <| ci (fn_X13_holds N r14 x1 Ω13) fun r16 Ω15 =>
  if r16 = 0 then (
    fn_X1_isUsed_52 N K5 x1 x2 x3 x4 Ω15
    ) else
  bk (gR Ω15 0 0 15) 20 fun j18 =>
  cr (fn_J2_get N j18 x4 Ω15) fun r20 Ω19 =>
  gd (zo_isS r20 = true) <|
  gd (zo_isS r20 = true) <|
  li (zo_us r20) fun y21 =>
  fn_X1_isUsed_52 N K5 x1 x2 y21 x4 Ω19
theorem cb_X1_isUsed_5 {Y : zo_Y} (hY : zo_Gd Y cX1_isUsed 5 RX1 4) (hJ : zo_JC (zo_J Y)) (hCon : ∀ Ω, zo_J Y Ω → zo_Con Ω) (hr : zo_rt Y (Option.some Jvm.ClassFile.FieldType.boolean)) (N : Nat)  (K5 : Nat → Int32 → Int32 → Int32 → zo_O → Option zo_R)  (hK5 : ∀ (x1 : Nat) (x2 : Int32) (x3 : Int32) (x4 : Int32) (Ω : zo_O) (res : zo_R), K5 x1 x2 x3 x4 Ω = some res → TW Y res Ω 5 [(0, vr 0 0), (1, vr 3 x1), (2, vi x2), (3, vi x3), (4, vi x4)] []) (x1 : Nat) (x2 : Int32) (x3 : Int32) (x4 : Int32) (Ω : zo_O) (res : zo_R) (h : bd_X1_isUsed_5 N  K5 x1 x2 x3 x4 Ω = some res) : TW Y res Ω 5 [(0, vr 0 0), (1, vr 3 x1), (2, vi x2), (3, vi x3), (4, vi x4)] [] := by
  unfold bd_X1_isUsed_5 at h
  refine zo_iload hY dX1_isUsed_5 4 rfl ?_
  refine zo_aload_n hY dX1_isUsed_7 rfl 0 rfl ?_
  refine zo_getK hY LX1_59_0 rfl dX1_isUsed_8 h (fun j1 h => ?_)
  refine zo_callV hY (fun q hq => mt_J2_size hJ hCon N j1 Ω q hq) (by decide) (by decide) (by decide) ⟨rfl, cn_J2_size⟩ rfl q245 q246 q247 q81 q248 (Nat.le_of_ble_eq_true rfl) dX1_isUsed_11 rfl h (ci_k (fun r3 Ω2 res h => ?_))
  refine zo_icmp_ge hY 58 dX1_isUsed_14 (by decide) h (fun c4 h => ?_) (fun c4 h => ?_)
  · refine zo_iload_n hY dX1_isUsed_58 rfl 3 rfl ?_
    refine zo_if_eq hY 85 dX1_isUsed_59 (by decide) h (fun c5 h => ?_) (fun c5 h => ?_)
    · refine zo_sub [] rfl ?_
      exact ct_X1_isUsed_85 hY hJ hCon hr N Ω2 _ h
    · refine zo_aload_n hY dX1_isUsed_62 rfl 1 rfl ?_
      refine zo_iload_n hY dX1_isUsed_63 rfl 2 rfl ?_
      refine zo_callU hY (fun q hq => mt_X3_isBy_3 hJ hCon N x1 x2 Ω2 q hq) (by decide) (by decide) (by decide) cn_X3_isBy rfl rfl q866 q867 q868 q829 q83 q830 (Nat.le_of_ble_eq_true rfl) dX1_isUsed_64 rfl h (ci_k (fun r7 Ω6 res h => ?_))
      refine zo_if_eq hY 85 dX1_isUsed_67 (by decide) h (fun c8 h => ?_) (fun c8 h => ?_)
      · refine zo_sub [] rfl ?_
        exact ct_X1_isUsed_85 hY hJ hCon hr N Ω6 _ h
      · refine zo_aload_n hY dX1_isUsed_70 rfl 0 rfl ?_
        refine zo_aload_n hY dX1_isUsed_71 rfl 1 rfl ?_
        refine zo_getI hY LX1_162_3 rfl dX1_isUsed_72 ?_
        refine zo_callV hY (fun q hq => mt_X1_isLed hJ hCon N (gI Ω6 3 x1 2) Ω6 q hq) (by decide) (by decide) (by decide) ⟨rfl, cn_X1_isLed⟩ rfl q869 q871 qs20 q78 q872 (Nat.le_of_ble_eq_true rfl) dX1_isUsed_75 rfl h (ci_k (fun r10 Ω9 res h => ?_))
        refine zo_if_eq hY 85 dX1_isUsed_78 (by decide) h (fun c11 h => ?_) (fun c11 h => ?_)
        · refine zo_sub [] rfl ?_
          exact ct_X1_isUsed_85 hY hJ hCon hr N Ω9 _ h
        · refine zo_iconst hY 1 (by decide) dX1_isUsed_81 ?_
          refine zo_goto hY 86 dX1_isUsed_82 (by decide) ?_
          refine zo_sub [] rfl ?_
          exact ct_X1_isUsed_86 hY hJ hCon hr N 1 Ω9 _ h
  · refine zo_aload_n hY dX1_isUsed_17 rfl 0 rfl ?_
    refine zo_getK hY LX1_59_0 rfl dX1_isUsed_18 h (fun j12 h => ?_)
    refine zo_iload hY dX1_isUsed_21 4 rfl ?_
    refine zo_callV hY (fun q hq => mt_J2_get hJ hCon N j12 x4 Ω2 q hq) (by decide) (by decide) (by decide) ⟨rfl, cn_J2_get⟩ rfl q368 q369 q370 q81 q371 (Nat.le_of_ble_eq_true rfl) dX1_isUsed_23 rfl h (cr_k (fun r14 Ω13 res h => ?_))
    refine zo_castS hY q836 dX1_isUsed_26 h (fun h => ?_)
    refine zo_aload_n hY dX1_isUsed_29 rfl 1 rfl ?_
    refine zo_callVO hY (fun q hq => mt_X13_holds hJ hCon N r14 x1 Ω13 q hq) (by decide) (by decide) cn_X13_holds rfl q837 q838 q841 q840 q104 q842 (Nat.le_of_ble_eq_true rfl) dX1_isUsed_30 rfl h (ci_k (fun r16 Ω15 res h => ?_))
    refine zo_if_eq hY 52 dX1_isUsed_33 (by decide) h (fun c17 h => ?_) (fun c17 h => ?_)
    · exact ct_X1_isUsed_52 hY hJ hCon hr N K5 hK5 x1 x2 x3 x4 Ω15 _ h
    · refine zo_aload_n hY dX1_isUsed_36 rfl 0 rfl ?_
      refine zo_getK hY LX1_59_0 rfl dX1_isUsed_37 h (fun j18 h => ?_)
      refine zo_iload hY dX1_isUsed_40 4 rfl ?_
      refine zo_callV hY (fun q hq => mt_J2_get hJ hCon N j18 x4 Ω15 q hq) (by decide) (by decide) (by decide) ⟨rfl, cn_J2_get⟩ rfl q368 q369 q370 q81 q371 (Nat.le_of_ble_eq_true rfl) dX1_isUsed_42 rfl h (cr_k (fun r20 Ω19 res h => ?_))
      refine zo_castS hY q836 dX1_isUsed_45 h (fun h => ?_)
      refine zo_uses hY (fun j => mt_X14_uses hJ hCon N j _ _ rfl) (fun j => mt_X15_uses hJ hCon N j _ _ rfl) (by decide) q857 (Nat.le_of_ble_eq_true rfl) dX1_isUsed_48 h (fun h => ?_)
      refine zo_nmi h (fun y21 h => ?_)
      refine zo_istore_n hY dX1_isUsed_51 rfl (by decide) rfl (ls' := [(3, vi y21), (0, vr 0 0), (1, vr 3 x1), (2, vi x2), (4, vi x4)]) rfl ?_
      refine zo_sub [1, 2, 3, 0, 4] rfl ?_
      exact ct_X1_isUsed_52 hY hJ hCon hr N K5 hK5 x1 x2 y21 x4 Ω19 _ h
def fn_X1_isUsed_5 (N : Nat)  : Nat → Nat → Int32 → Int32 → Int32 → zo_O → Option zo_R
  | 0, _, _, _, _, _ => none
  | n + 1, x1, x2, x3, x4, Ω => bd_X1_isUsed_5 N  (fn_X1_isUsed_5 N  n) x1 x2 x3 x4 Ω
theorem ct_X1_isUsed_5 {Y : zo_Y} (hY : zo_Gd Y cX1_isUsed 5 RX1 4) (hJ : zo_JC (zo_J Y)) (hCon : ∀ Ω, zo_J Y Ω → zo_Con Ω) (hr : zo_rt Y (Option.some Jvm.ClassFile.FieldType.boolean)) (N : Nat)   : ∀ (n : Nat) (x1 : Nat) (x2 : Int32) (x3 : Int32) (x4 : Int32) (Ω : zo_O) (res : zo_R), fn_X1_isUsed_5 N  n x1 x2 x3 x4 Ω = some res → TW Y res Ω 5 [(0, vr 0 0), (1, vr 3 x1), (2, vi x2), (3, vi x3), (4, vi x4)] [] := by
  intro n
  induction n with
  | zero => intro x1 x2 x3 x4 Ω res h; exact nomatch (show (none : Option zo_R) = some res from h)
  | succ n ih => intro x1 x2 x3 x4 Ω res h; exact cb_X1_isUsed_5 hY hJ hCon hr N  (fn_X1_isUsed_5 N  n)  ih x1 x2 x3 x4 Ω res h
def fn_X1_isUsed (N : Nat) (x1 : Nat) (x2 : Int32) (Ω : zo_O) : Option zo_R :=
  fn_X1_isUsed_5 N N x1 x2 1 0 Ω
theorem mt_X1_isUsed {G : zo_G} {J : zo_O → Prop} (hJ : zo_JC J) (hCon : ∀ Ω, J Ω → zo_Con Ω) (N : Nat) (x1 : Nat) (x2 : Int32) (Ω : zo_O) (res : zo_R) (h : fn_X1_isUsed N x1 x2 Ω = some res) : zo_MT G J yX1_isUsed cX1_isUsed 5 (Option.some Jvm.ClassFile.FieldType.boolean) 4 [vr 0 0, vr 3 x1, vi x2] Ω res := by
  refine zo_enter (by decide) rfl (Nat.le_of_ble_eq_true rfl) (fun Y hY eJ hr hmn => ?_)
  subst eJ
  show TW Y res Ω 0 [(0, vr 0 0), (1, vr 3 x1), (2, vi x2)] []
  unfold fn_X1_isUsed at h
  refine zo_iconst hY 1 (by decide) dX1_isUsed_0 ?_
  refine zo_istore_n hY dX1_isUsed_1 rfl (by decide) rfl (ls' := [(3, vi 1), (0, vr 0 0), (1, vr 3 x1), (2, vi x2)]) rfl ?_
  refine zo_iconst hY 0 (by decide) dX1_isUsed_2 ?_
  refine zo_istore hY dX1_isUsed_3 (by decide) rfl (ls' := [(4, vi 0), (3, vi 1), (0, vr 0 0), (1, vr 3 x1), (2, vi x2)]) rfl ?_
  refine zo_sub [2, 3, 4, 1, 0] rfl ?_
  exact ct_X1_isUsed_5 hY hJ hCon hr N N x1 x2 1 0 Ω _ h
def fn_X3_isBy_5_13 (N : Nat)  (s0 : Int32) (Ω : zo_O) : Option zo_R :=
  rZ s0 Ω
theorem ct_X3_isBy_5_13 {Y : zo_Y} (hY : zo_Gd Y cX3_isBy 2 RX3 0) (hJ : zo_JC (zo_J Y)) (hCon : ∀ Ω, zo_J Y Ω → zo_Con Ω) (hr : zo_rt Y (Option.some Jvm.ClassFile.FieldType.boolean)) (N : Nat)   (s0 : Int32) (Ω : zo_O) (res : zo_R) (h : fn_X3_isBy_5_13 N  s0 Ω = some res) : TW Y res Ω 13 [] [vi s0] := by
  unfold fn_X3_isBy_5_13 at h
  exact zo_zret hY hr dX3_isBy_13 h
def fn_X3_isBy_5 (N : Nat) (x0 : Nat) (x1 : Int32) (Ω : zo_O) : Option zo_R :=
  if x1 < gI Ω 5 x0 0 then (
    fn_X3_isBy_5_13 N 0 Ω
    ) else
  fn_X3_isBy_5_13 N 1 Ω
theorem mt_X3_isBy_5 {G : zo_G} {J : zo_O → Prop} (hJ : zo_JC J) (hCon : ∀ Ω, J Ω → zo_Con Ω) (N : Nat) (x0 : Nat) (x1 : Int32) (Ω : zo_O) (res : zo_R) (h : fn_X3_isBy_5 N x0 x1 Ω = some res) : zo_MT G J yX3_isBy cX3_isBy 2 (Option.some Jvm.ClassFile.FieldType.boolean) 0 [vr 5 x0, vi x1] Ω res := by
  refine zo_enter (by decide) rfl (Nat.le_of_ble_eq_true rfl) (fun Y hY eJ hr hmn => ?_)
  subst eJ
  show TW Y res Ω 0 [(0, vr 5 x0), (1, vi x1)] []
  unfold fn_X3_isBy_5 at h
  refine zo_aload_n hY dX3_isBy_0 rfl 0 rfl ?_
  refine zo_getI hY LX3_7_5 rfl dX3_isBy_1 ?_
  refine zo_iload_n hY dX3_isBy_4 rfl 1 rfl ?_
  refine zo_icmp_gt hY 12 dX3_isBy_5 (by decide) h (fun c1 h => ?_) (fun c1 h => ?_)
  · refine zo_iconst hY 0 (by decide) dX3_isBy_12 ?_
    refine zo_sub [] rfl ?_
    exact ct_X3_isBy_5_13 hY hJ hCon hr N 0 Ω _ h
  · refine zo_iconst hY 1 (by decide) dX3_isBy_8 ?_
    refine zo_goto hY 13 dX3_isBy_9 (by decide) ?_
    refine zo_sub [] rfl ?_
    exact ct_X3_isBy_5_13 hY hJ hCon hr N 1 Ω _ h
theorem dX1_findHabits_0 : decode cX1_findHabits 0 = .ok (.iconst 0, 1) := by decide +kernel
theorem dX1_findHabits_1 : decode cX1_findHabits 1 = .ok (.istore_n 2, 1) := by decide +kernel
theorem dX1_findHabits_2 : decode cX1_findHabits 2 = .ok (.iload_n 2, 1) := by decide +kernel
theorem dX1_findHabits_3 : decode cX1_findHabits 3 = .ok (.iconst 5, 1) := by decide +kernel
theorem dX1_findHabits_4 : decode cX1_findHabits 4 = .ok (.if_icmp .ge 41, 3) := by decide +kernel
theorem dX1_findHabits_7 : decode cX1_findHabits 7 = .ok (.iconst 0, 1) := by decide +kernel
theorem dX1_findHabits_8 : decode cX1_findHabits 8 = .ok (.istore_n 3, 1) := by decide +kernel
theorem dX1_findHabits_9 : decode cX1_findHabits 9 = .ok (.iload_n 3, 1) := by decide +kernel
theorem dX1_findHabits_10 : decode cX1_findHabits 10 = .ok (.iconst 5, 1) := by decide +kernel
theorem dX1_findHabits_11 : decode cX1_findHabits 11 = .ok (.if_icmp .ge 28, 3) := by decide +kernel
theorem dX1_findHabits_14 : decode cX1_findHabits 14 = .ok (.aload_n 0, 1) := by decide +kernel
theorem dX1_findHabits_15 : decode cX1_findHabits 15 = .ok (.getfield 64, 3) := by decide +kernel
theorem dX1_findHabits_18 : decode cX1_findHabits 18 = .ok (.iload_n 2, 1) := by decide +kernel
theorem dX1_findHabits_19 : decode cX1_findHabits 19 = .ok (.aaload, 1) := by decide +kernel
theorem dX1_findHabits_20 : decode cX1_findHabits 20 = .ok (.iload_n 3, 1) := by decide +kernel
theorem dX1_findHabits_21 : decode cX1_findHabits 21 = .ok (.iload_n 2, 1) := by decide +kernel
theorem dX1_findHabits_22 : decode cX1_findHabits 22 = .ok (.iload_n 3, 1) := by decide +kernel
theorem dX1_findHabits_23 : decode cX1_findHabits 23 = .ok (.if_icmp .ne 7, 3) := by decide +kernel
theorem dX1_findHabits_26 : decode cX1_findHabits 26 = .ok (.iconst 0, 1) := by decide +kernel
theorem dX1_findHabits_27 : decode cX1_findHabits 27 = .ok (.goto 5, 3) := by decide +kernel
theorem dX1_findHabits_30 : decode cX1_findHabits 30 = .ok (.ldc 207, 2) := by decide +kernel
theorem dX1_findHabits_32 : decode cX1_findHabits 32 = .ok (.iastore, 1) := by decide +kernel
theorem dX1_findHabits_33 : decode cX1_findHabits 33 = .ok (.iinc 3 1, 3) := by decide +kernel
theorem dX1_findHabits_36 : decode cX1_findHabits 36 = .ok (.goto (-27), 3) := by decide +kernel
theorem dX1_findHabits_39 : decode cX1_findHabits 39 = .ok (.iinc 2 1, 3) := by decide +kernel
theorem dX1_findHabits_42 : decode cX1_findHabits 42 = .ok (.goto (-40), 3) := by decide +kernel
theorem dX1_findHabits_45 : decode cX1_findHabits 45 = .ok (.iconst 0, 1) := by decide +kernel
theorem dX1_findHabits_46 : decode cX1_findHabits 46 = .ok (.istore_n 2, 1) := by decide +kernel
theorem dX1_findHabits_47 : decode cX1_findHabits 47 = .ok (.iload_n 2, 1) := by decide +kernel
theorem dX1_findHabits_48 : decode cX1_findHabits 48 = .ok (.aload_n 0, 1) := by decide +kernel
theorem dX1_findHabits_49 : decode cX1_findHabits 49 = .ok (.getfield 26, 3) := by decide +kernel
theorem dX1_findHabits_52 : decode cX1_findHabits 52 = .ok (.invokevirtual 85, 3) := by decide +kernel
theorem dX1_findHabits_55 : decode cX1_findHabits 55 = .ok (.if_icmp .ge 112, 3) := by decide +kernel
theorem dX1_findHabits_58 : decode cX1_findHabits 58 = .ok (.aload_n 0, 1) := by decide +kernel
theorem dX1_findHabits_59 : decode cX1_findHabits 59 = .ok (.getfield 26, 3) := by decide +kernel
theorem dX1_findHabits_62 : decode cX1_findHabits 62 = .ok (.iload_n 2, 1) := by decide +kernel
theorem dX1_findHabits_63 : decode cX1_findHabits 63 = .ok (.invokevirtual 116, 3) := by decide +kernel
theorem dX1_findHabits_66 : decode cX1_findHabits 66 = .ok (.checkcast 128, 3) := by decide +kernel
theorem dX1_findHabits_69 : decode cX1_findHabits 69 = .ok (.astore_n 3, 1) := by decide +kernel
theorem dX1_findHabits_70 : decode cX1_findHabits 70 = .ok (.aload_n 3, 1) := by decide +kernel
theorem dX1_findHabits_71 : decode cX1_findHabits 71 = .ok (.iload_n 1, 1) := by decide +kernel
theorem dX1_findHabits_72 : decode cX1_findHabits 72 = .ok (.invokevirtual 208, 3) := by decide +kernel
theorem dX1_findHabits_75 : decode cX1_findHabits 75 = .ok (.ifCond .ne 6, 3) := by decide +kernel
theorem dX1_findHabits_78 : decode cX1_findHabits 78 = .ok (.goto 83, 3) := by decide +kernel
theorem dX1_findHabits_81 : decode cX1_findHabits 81 = .ok (.aload_n 0, 1) := by decide +kernel
theorem dX1_findHabits_82 : decode cX1_findHabits 82 = .ok (.getfield 64, 3) := by decide +kernel
theorem dX1_findHabits_85 : decode cX1_findHabits 85 = .ok (.aload_n 3, 1) := by decide +kernel
theorem dX1_findHabits_86 : decode cX1_findHabits 86 = .ok (.getfield 209, 3) := by decide +kernel
theorem dX1_findHabits_89 : decode cX1_findHabits 89 = .ok (.aaload, 1) := by decide +kernel
theorem dX1_findHabits_90 : decode cX1_findHabits 90 = .ok (.aload_n 3, 1) := by decide +kernel
theorem dX1_findHabits_91 : decode cX1_findHabits 91 = .ok (.getfield 212, 3) := by decide +kernel
theorem dX1_findHabits_94 : decode cX1_findHabits 94 = .ok (.aload_n 0, 1) := by decide +kernel
theorem dX1_findHabits_95 : decode cX1_findHabits 95 = .ok (.getfield 64, 3) := by decide +kernel
theorem dX1_findHabits_98 : decode cX1_findHabits 98 = .ok (.aload_n 3, 1) := by decide +kernel
theorem dX1_findHabits_99 : decode cX1_findHabits 99 = .ok (.getfield 209, 3) := by decide +kernel
theorem dX1_findHabits_102 : decode cX1_findHabits 102 = .ok (.aaload, 1) := by decide +kernel
theorem dX1_findHabits_103 : decode cX1_findHabits 103 = .ok (.aload_n 3, 1) := by decide +kernel
theorem dX1_findHabits_104 : decode cX1_findHabits 104 = .ok (.getfield 212, 3) := by decide +kernel
theorem dX1_findHabits_107 : decode cX1_findHabits 107 = .ok (.iaload, 1) := by decide +kernel
theorem dX1_findHabits_108 : decode cX1_findHabits 108 = .ok (.aload_n 3, 1) := by decide +kernel
theorem dX1_findHabits_109 : decode cX1_findHabits 109 = .ok (.getfield 215, 3) := by decide +kernel
theorem dX1_findHabits_112 : decode cX1_findHabits 112 = .ok (.aload_n 0, 1) := by decide +kernel
theorem dX1_findHabits_113 : decode cX1_findHabits 113 = .ok (.getfield 42, 3) := by decide +kernel
theorem dX1_findHabits_116 : decode cX1_findHabits 116 = .ok (.iadd, 1) := by decide +kernel
theorem dX1_findHabits_117 : decode cX1_findHabits 117 = .ok (.invokestatic 218, 3) := by decide +kernel
theorem dX1_findHabits_120 : decode cX1_findHabits 120 = .ok (.iastore, 1) := by decide +kernel
theorem dX1_findHabits_121 : decode cX1_findHabits 121 = .ok (.aload_n 0, 1) := by decide +kernel
theorem dX1_findHabits_122 : decode cX1_findHabits 122 = .ok (.getfield 64, 3) := by decide +kernel
theorem dX1_findHabits_125 : decode cX1_findHabits 125 = .ok (.aload_n 3, 1) := by decide +kernel
theorem dX1_findHabits_126 : decode cX1_findHabits 126 = .ok (.getfield 212, 3) := by decide +kernel
theorem dX1_findHabits_129 : decode cX1_findHabits 129 = .ok (.aaload, 1) := by decide +kernel
theorem dX1_findHabits_130 : decode cX1_findHabits 130 = .ok (.aload_n 3, 1) := by decide +kernel
theorem dX1_findHabits_131 : decode cX1_findHabits 131 = .ok (.getfield 209, 3) := by decide +kernel
theorem dX1_findHabits_134 : decode cX1_findHabits 134 = .ok (.aload_n 0, 1) := by decide +kernel
theorem dX1_findHabits_135 : decode cX1_findHabits 135 = .ok (.getfield 64, 3) := by decide +kernel
theorem dX1_findHabits_138 : decode cX1_findHabits 138 = .ok (.aload_n 3, 1) := by decide +kernel
theorem dX1_findHabits_139 : decode cX1_findHabits 139 = .ok (.getfield 212, 3) := by decide +kernel
theorem dX1_findHabits_142 : decode cX1_findHabits 142 = .ok (.aaload, 1) := by decide +kernel
theorem dX1_findHabits_143 : decode cX1_findHabits 143 = .ok (.aload_n 3, 1) := by decide +kernel
theorem dX1_findHabits_144 : decode cX1_findHabits 144 = .ok (.getfield 209, 3) := by decide +kernel
theorem dX1_findHabits_147 : decode cX1_findHabits 147 = .ok (.iaload, 1) := by decide +kernel
theorem dX1_findHabits_148 : decode cX1_findHabits 148 = .ok (.aload_n 0, 1) := by decide +kernel
theorem dX1_findHabits_149 : decode cX1_findHabits 149 = .ok (.getfield 42, 3) := by decide +kernel
theorem dX1_findHabits_152 : decode cX1_findHabits 152 = .ok (.aload_n 3, 1) := by decide +kernel
theorem dX1_findHabits_153 : decode cX1_findHabits 153 = .ok (.getfield 215, 3) := by decide +kernel
theorem dX1_findHabits_156 : decode cX1_findHabits 156 = .ok (.isub, 1) := by decide +kernel
theorem dX1_findHabits_157 : decode cX1_findHabits 157 = .ok (.invokestatic 218, 3) := by decide +kernel
theorem dX1_findHabits_160 : decode cX1_findHabits 160 = .ok (.iastore, 1) := by decide +kernel
theorem dX1_findHabits_161 : decode cX1_findHabits 161 = .ok (.iinc 2 1, 3) := by decide +kernel
theorem dX1_findHabits_164 : decode cX1_findHabits 164 = .ok (.goto (-117), 3) := by decide +kernel
theorem dX1_findHabits_167 : decode cX1_findHabits 167 = .ok (.iconst 0, 1) := by decide +kernel
theorem dX1_findHabits_168 : decode cX1_findHabits 168 = .ok (.istore_n 2, 1) := by decide +kernel
theorem dX1_findHabits_169 : decode cX1_findHabits 169 = .ok (.iload_n 2, 1) := by decide +kernel
theorem dX1_findHabits_170 : decode cX1_findHabits 170 = .ok (.iconst 5, 1) := by decide +kernel
theorem dX1_findHabits_171 : decode cX1_findHabits 171 = .ok (.if_icmp .ge 103, 3) := by decide +kernel
theorem dX1_findHabits_174 : decode cX1_findHabits 174 = .ok (.iconst 0, 1) := by decide +kernel
theorem dX1_findHabits_175 : decode cX1_findHabits 175 = .ok (.istore_n 3, 1) := by decide +kernel
theorem dX1_findHabits_176 : decode cX1_findHabits 176 = .ok (.iload_n 3, 1) := by decide +kernel
theorem dX1_findHabits_177 : decode cX1_findHabits 177 = .ok (.iconst 5, 1) := by decide +kernel
theorem dX1_findHabits_178 : decode cX1_findHabits 178 = .ok (.if_icmp .ge 90, 3) := by decide +kernel
theorem dX1_findHabits_181 : decode cX1_findHabits 181 = .ok (.iconst 0, 1) := by decide +kernel
theorem dX1_findHabits_182 : decode cX1_findHabits 182 = .ok (.istore 4, 2) := by decide +kernel
theorem dX1_findHabits_184 : decode cX1_findHabits 184 = .ok (.iload 4, 2) := by decide +kernel
theorem dX1_findHabits_186 : decode cX1_findHabits 186 = .ok (.iconst 5, 1) := by decide +kernel
theorem dX1_findHabits_187 : decode cX1_findHabits 187 = .ok (.if_icmp .ge 75, 3) := by decide +kernel
theorem dX1_findHabits_190 : decode cX1_findHabits 190 = .ok (.aload_n 0, 1) := by decide +kernel
theorem dX1_findHabits_191 : decode cX1_findHabits 191 = .ok (.getfield 64, 3) := by decide +kernel
theorem dX1_findHabits_194 : decode cX1_findHabits 194 = .ok (.iload_n 3, 1) := by decide +kernel
theorem dX1_findHabits_195 : decode cX1_findHabits 195 = .ok (.aaload, 1) := by decide +kernel
theorem dX1_findHabits_196 : decode cX1_findHabits 196 = .ok (.iload_n 2, 1) := by decide +kernel
theorem dX1_findHabits_197 : decode cX1_findHabits 197 = .ok (.iaload, 1) := by decide +kernel
theorem dX1_findHabits_198 : decode cX1_findHabits 198 = .ok (.ldc 207, 2) := by decide +kernel
theorem dX1_findHabits_200 : decode cX1_findHabits 200 = .ok (.if_icmp .ge 56, 3) := by decide +kernel
theorem dX1_findHabits_203 : decode cX1_findHabits 203 = .ok (.aload_n 0, 1) := by decide +kernel
theorem dX1_findHabits_204 : decode cX1_findHabits 204 = .ok (.getfield 64, 3) := by decide +kernel
theorem dX1_findHabits_207 : decode cX1_findHabits 207 = .ok (.iload_n 2, 1) := by decide +kernel
theorem dX1_findHabits_208 : decode cX1_findHabits 208 = .ok (.aaload, 1) := by decide +kernel
theorem dX1_findHabits_209 : decode cX1_findHabits 209 = .ok (.iload 4, 2) := by decide +kernel
theorem dX1_findHabits_211 : decode cX1_findHabits 211 = .ok (.iaload, 1) := by decide +kernel
theorem dX1_findHabits_212 : decode cX1_findHabits 212 = .ok (.ldc 207, 2) := by decide +kernel
theorem dX1_findHabits_214 : decode cX1_findHabits 214 = .ok (.if_icmp .ge 42, 3) := by decide +kernel
theorem dX1_findHabits_217 : decode cX1_findHabits 217 = .ok (.aload_n 0, 1) := by decide +kernel
theorem dX1_findHabits_218 : decode cX1_findHabits 218 = .ok (.getfield 64, 3) := by decide +kernel
theorem dX1_findHabits_221 : decode cX1_findHabits 221 = .ok (.iload_n 3, 1) := by decide +kernel
theorem dX1_findHabits_222 : decode cX1_findHabits 222 = .ok (.aaload, 1) := by decide +kernel
theorem dX1_findHabits_223 : decode cX1_findHabits 223 = .ok (.iload 4, 2) := by decide +kernel
theorem dX1_findHabits_225 : decode cX1_findHabits 225 = .ok (.aload_n 0, 1) := by decide +kernel
theorem dX1_findHabits_226 : decode cX1_findHabits 226 = .ok (.getfield 64, 3) := by decide +kernel
theorem dX1_findHabits_229 : decode cX1_findHabits 229 = .ok (.iload_n 3, 1) := by decide +kernel
theorem dX1_findHabits_230 : decode cX1_findHabits 230 = .ok (.aaload, 1) := by decide +kernel
theorem dX1_findHabits_231 : decode cX1_findHabits 231 = .ok (.iload 4, 2) := by decide +kernel
theorem dX1_findHabits_233 : decode cX1_findHabits 233 = .ok (.iaload, 1) := by decide +kernel
theorem dX1_findHabits_234 : decode cX1_findHabits 234 = .ok (.aload_n 0, 1) := by decide +kernel
theorem dX1_findHabits_235 : decode cX1_findHabits 235 = .ok (.getfield 64, 3) := by decide +kernel
theorem dX1_findHabits_238 : decode cX1_findHabits 238 = .ok (.iload_n 3, 1) := by decide +kernel
theorem dX1_findHabits_239 : decode cX1_findHabits 239 = .ok (.aaload, 1) := by decide +kernel
theorem dX1_findHabits_240 : decode cX1_findHabits 240 = .ok (.iload_n 2, 1) := by decide +kernel
theorem dX1_findHabits_241 : decode cX1_findHabits 241 = .ok (.iaload, 1) := by decide +kernel
theorem dX1_findHabits_242 : decode cX1_findHabits 242 = .ok (.aload_n 0, 1) := by decide +kernel
theorem dX1_findHabits_243 : decode cX1_findHabits 243 = .ok (.getfield 64, 3) := by decide +kernel
theorem dX1_findHabits_246 : decode cX1_findHabits 246 = .ok (.iload_n 2, 1) := by decide +kernel
theorem dX1_findHabits_247 : decode cX1_findHabits 247 = .ok (.aaload, 1) := by decide +kernel
theorem dX1_findHabits_248 : decode cX1_findHabits 248 = .ok (.iload 4, 2) := by decide +kernel
theorem dX1_findHabits_250 : decode cX1_findHabits 250 = .ok (.iaload, 1) := by decide +kernel
theorem dX1_findHabits_251 : decode cX1_findHabits 251 = .ok (.iadd, 1) := by decide +kernel
theorem dX1_findHabits_252 : decode cX1_findHabits 252 = .ok (.invokestatic 218, 3) := by decide +kernel
theorem dX1_findHabits_255 : decode cX1_findHabits 255 = .ok (.iastore, 1) := by decide +kernel
theorem dX1_findHabits_256 : decode cX1_findHabits 256 = .ok (.iinc 4 1, 3) := by decide +kernel
theorem dX1_findHabits_259 : decode cX1_findHabits 259 = .ok (.goto (-75), 3) := by decide +kernel
theorem dX1_findHabits_262 : decode cX1_findHabits 262 = .ok (.iinc 3 1, 3) := by decide +kernel
theorem dX1_findHabits_265 : decode cX1_findHabits 265 = .ok (.goto (-89), 3) := by decide +kernel
theorem dX1_findHabits_268 : decode cX1_findHabits 268 = .ok (.iinc 2 1, 3) := by decide +kernel
theorem dX1_findHabits_271 : decode cX1_findHabits 271 = .ok (.goto (-102), 3) := by decide +kernel
theorem dX1_findHabits_274 : decode cX1_findHabits 274 = .ok (.aload_n 0, 1) := by decide +kernel
theorem dX1_findHabits_275 : decode cX1_findHabits 275 = .ok (.iconst 0, 1) := by decide +kernel
theorem dX1_findHabits_276 : decode cX1_findHabits 276 = .ok (.putfield 224, 3) := by decide +kernel
theorem dX1_findHabits_279 : decode cX1_findHabits 279 = .ok (.iconst 0, 1) := by decide +kernel
theorem dX1_findHabits_280 : decode cX1_findHabits 280 = .ok (.istore_n 2, 1) := by decide +kernel
theorem dX1_findHabits_281 : decode cX1_findHabits 281 = .ok (.iload_n 2, 1) := by decide +kernel
theorem dX1_findHabits_282 : decode cX1_findHabits 282 = .ok (.iconst 5, 1) := by decide +kernel
theorem dX1_findHabits_283 : decode cX1_findHabits 283 = .ok (.if_icmp .ge 36, 3) := by decide +kernel
theorem dX1_findHabits_286 : decode cX1_findHabits 286 = .ok (.aload_n 0, 1) := by decide +kernel
theorem dX1_findHabits_287 : decode cX1_findHabits 287 = .ok (.aload_n 0, 1) := by decide +kernel
theorem dX1_findHabits_288 : decode cX1_findHabits 288 = .ok (.getfield 224, 3) := by decide +kernel
theorem dX1_findHabits_291 : decode cX1_findHabits 291 = .ok (.ifCond .ne 14, 3) := by decide +kernel
theorem dX1_findHabits_294 : decode cX1_findHabits 294 = .ok (.aload_n 0, 1) := by decide +kernel
theorem dX1_findHabits_295 : decode cX1_findHabits 295 = .ok (.getfield 64, 3) := by decide +kernel
theorem dX1_findHabits_298 : decode cX1_findHabits 298 = .ok (.iload_n 2, 1) := by decide +kernel
theorem dX1_findHabits_299 : decode cX1_findHabits 299 = .ok (.aaload, 1) := by decide +kernel
theorem dX1_findHabits_300 : decode cX1_findHabits 300 = .ok (.iload_n 2, 1) := by decide +kernel
theorem dX1_findHabits_301 : decode cX1_findHabits 301 = .ok (.iaload, 1) := by decide +kernel
theorem dX1_findHabits_302 : decode cX1_findHabits 302 = .ok (.ifCond .ge 7, 3) := by decide +kernel
theorem dX1_findHabits_305 : decode cX1_findHabits 305 = .ok (.iconst 1, 1) := by decide +kernel
theorem dX1_findHabits_306 : decode cX1_findHabits 306 = .ok (.goto 4, 3) := by decide +kernel
theorem dX1_findHabits_309 : decode cX1_findHabits 309 = .ok (.iconst 0, 1) := by decide +kernel
theorem dX1_findHabits_310 : decode cX1_findHabits 310 = .ok (.putfield 224, 3) := by decide +kernel
theorem dX1_findHabits_313 : decode cX1_findHabits 313 = .ok (.iinc 2 1, 3) := by decide +kernel
theorem dX1_findHabits_316 : decode cX1_findHabits 316 = .ok (.goto (-35), 3) := by decide +kernel
theorem dX1_findHabits_319 : decode cX1_findHabits 319 = .ok (.return_, 1) := by decide +kernel
def fn_X1_findHabits_32 (N : Nat) (K2 : Int32 → Int32 → zo_O → Option zo_R) (K9 : Int32 → Int32 → Int32 → zo_O → Option zo_R) (x1 : Int32) (x2 : Int32) (x3 : Int32) (s0 : Int32) (s1 : Int32) (s2 : Nat) (Ω : zo_O) : Option zo_R :=
  ix s1 (gL Ω 36 s2) fun j1 => lt (sI Ω 36 s2 j1 s0) fun Ω2 =>
  K9 x1 x2 (x3 + 1) Ω2
theorem ct_X1_findHabits_32 {Y : zo_Y} (hY : zo_Gd Y cX1_findHabits 5 RX1 3) (hJ : zo_JC (zo_J Y)) (hCon : ∀ Ω, zo_J Y Ω → zo_Con Ω) (hr : zo_rt Y (Option.none : Option Jvm.ClassFile.FieldType)) (N : Nat) (K2 : Int32 → Int32 → zo_O → Option zo_R) (K9 : Int32 → Int32 → Int32 → zo_O → Option zo_R) (hK2 : ∀ (x1 : Int32) (x2 : Int32) (Ω : zo_O) (res : zo_R), K2 x1 x2 Ω = some res → TW Y res Ω 2 [(0, vr 0 0), (1, vi x1), (2, vi x2)] []) (hK9 : ∀ (x1 : Int32) (x2 : Int32) (x3 : Int32) (Ω : zo_O) (res : zo_R), K9 x1 x2 x3 Ω = some res → TW Y res Ω 9 [(0, vr 0 0), (1, vi x1), (2, vi x2), (3, vi x3)] []) (x1 : Int32) (x2 : Int32) (x3 : Int32) (s0 : Int32) (s1 : Int32) (s2 : Nat) (Ω : zo_O) (res : zo_R) (h : fn_X1_findHabits_32 N K2 K9 x1 x2 x3 s0 s1 s2 Ω = some res) : TW Y res Ω 32 [(0, vr 0 0), (1, vi x1), (2, vi x2), (3, vi x3)] [vi s0, vi s1, vr 36 s2] := by
  unfold fn_X1_findHabits_32 at h
  refine zo_ast hY hJ (by decide) (Or.inl ⟨rfl, rfl, dX1_findHabits_32⟩) (fun _ => rfl) h (fun j1 Ω2 h => ?_)
  refine zo_iinc hY 1 dX1_findHabits_33 (by decide) (by decide) 3 rfl rfl (ls' := [(3, vi (x3 + 1)), (0, vr 0 0), (1, vi x1), (2, vi x2)]) rfl ?_
  refine zo_goto hY 9 dX1_findHabits_36 (by decide) ?_
  refine zo_sub [1, 2, 3, 0] rfl ?_
  exact hK9 x1 x2 (x3 + 1) Ω2 _ h
def bd_X1_findHabits_9 (N : Nat) (K2 : Int32 → Int32 → zo_O → Option zo_R) (K9 : Int32 → Int32 → Int32 → zo_O → Option zo_R) (x1 : Int32) (x2 : Int32) (x3 : Int32) (Ω : zo_O) : Option zo_R :=
  if 5 ≤ x3 then (
    K2 x1 (x2 + 1) Ω
    ) else
  ix x2 5 fun j2 =>
  if x2 = x3 then (
    fn_X1_findHabits_32 N K2 K9 x1 x2 x3 0 x3 j2 Ω
    ) else
  fn_X1_findHabits_32 N K2 K9 x1 x2 x3 1000000 x3 j2 Ω
theorem cb_X1_findHabits_9 {Y : zo_Y} (hY : zo_Gd Y cX1_findHabits 5 RX1 3) (hJ : zo_JC (zo_J Y)) (hCon : ∀ Ω, zo_J Y Ω → zo_Con Ω) (hr : zo_rt Y (Option.none : Option Jvm.ClassFile.FieldType)) (N : Nat) (K2 : Int32 → Int32 → zo_O → Option zo_R) (K9 : Int32 → Int32 → Int32 → zo_O → Option zo_R) (hK2 : ∀ (x1 : Int32) (x2 : Int32) (Ω : zo_O) (res : zo_R), K2 x1 x2 Ω = some res → TW Y res Ω 2 [(0, vr 0 0), (1, vi x1), (2, vi x2)] []) (hK9 : ∀ (x1 : Int32) (x2 : Int32) (x3 : Int32) (Ω : zo_O) (res : zo_R), K9 x1 x2 x3 Ω = some res → TW Y res Ω 9 [(0, vr 0 0), (1, vi x1), (2, vi x2), (3, vi x3)] []) (x1 : Int32) (x2 : Int32) (x3 : Int32) (Ω : zo_O) (res : zo_R) (h : bd_X1_findHabits_9 N K2 K9 x1 x2 x3 Ω = some res) : TW Y res Ω 9 [(0, vr 0 0), (1, vi x1), (2, vi x2), (3, vi x3)] [] := by
  unfold bd_X1_findHabits_9 at h
  refine zo_iload_n hY dX1_findHabits_9 rfl 3 rfl ?_
  refine zo_iconst hY 5 (by decide) dX1_findHabits_10 ?_
  refine zo_icmp_ge hY 39 dX1_findHabits_11 (by decide) h (fun c1 h => ?_) (fun c1 h => ?_)
  · refine zo_iinc hY 1 dX1_findHabits_39 (by decide) (by decide) 2 rfl rfl (ls' := [(2, vi (x2 + 1)), (0, vr 0 0), (1, vi x1), (3, vi x3)]) rfl ?_
    refine zo_goto hY 2 dX1_findHabits_42 (by decide) ?_
    refine zo_sub [1, 2, 0] rfl ?_
    exact hK2 x1 (x2 + 1) Ω _ h
  · refine zo_aload_n hY dX1_findHabits_14 rfl 0 rfl ?_
    refine zo_getC hY LX1_64_0 rfl (fun Ω q => (hCon Ω q).1 16 _ rfl) dX1_findHabits_15 ?_
    refine zo_iload_n hY dX1_findHabits_18 rfl 2 rfl ?_
    refine zo_aldW hY hCon dX1_findHabits_19 h (fun j2 h => ?_)
    refine zo_iload_n hY dX1_findHabits_20 rfl 3 rfl ?_
    refine zo_iload_n hY dX1_findHabits_21 rfl 2 rfl ?_
    refine zo_iload_n hY dX1_findHabits_22 rfl 3 rfl ?_
    refine zo_icmp_ne hY 30 dX1_findHabits_23 (by decide) h (fun c3 h => ?_) (fun c3 h => ?_)
    · refine zo_iconst hY 0 (by decide) dX1_findHabits_26 ?_
      refine zo_goto hY 32 dX1_findHabits_27 (by decide) ?_
      exact ct_X1_findHabits_32 hY hJ hCon hr N K2 K9 hK2 hK9 x1 x2 x3 0 x3 j2 Ω _ h
    · refine zo_ldc hY q824 dX1_findHabits_30 ?_
      exact ct_X1_findHabits_32 hY hJ hCon hr N K2 K9 hK2 hK9 x1 x2 x3 1000000 x3 j2 Ω _ h
def fn_X1_findHabits_9 (N : Nat) (K2 : Int32 → Int32 → zo_O → Option zo_R) : Nat → Int32 → Int32 → Int32 → zo_O → Option zo_R
  | 0, _, _, _, _ => none
  | n + 1, x1, x2, x3, Ω => bd_X1_findHabits_9 N K2 (fn_X1_findHabits_9 N K2 n) x1 x2 x3 Ω
theorem ct_X1_findHabits_9 {Y : zo_Y} (hY : zo_Gd Y cX1_findHabits 5 RX1 3) (hJ : zo_JC (zo_J Y)) (hCon : ∀ Ω, zo_J Y Ω → zo_Con Ω) (hr : zo_rt Y (Option.none : Option Jvm.ClassFile.FieldType)) (N : Nat) (K2 : Int32 → Int32 → zo_O → Option zo_R) (hK2 : ∀ (x1 : Int32) (x2 : Int32) (Ω : zo_O) (res : zo_R), K2 x1 x2 Ω = some res → TW Y res Ω 2 [(0, vr 0 0), (1, vi x1), (2, vi x2)] []) : ∀ (n : Nat) (x1 : Int32) (x2 : Int32) (x3 : Int32) (Ω : zo_O) (res : zo_R), fn_X1_findHabits_9 N K2 n x1 x2 x3 Ω = some res → TW Y res Ω 9 [(0, vr 0 0), (1, vi x1), (2, vi x2), (3, vi x3)] [] := by
  intro n
  induction n with
  | zero => intro x1 x2 x3 Ω res h; exact nomatch (show (none : Option zo_R) = some res from h)
  | succ n ih => intro x1 x2 x3 Ω res h; exact cb_X1_findHabits_9 hY hJ hCon hr N K2 (fn_X1_findHabits_9 N K2 n) hK2 ih x1 x2 x3 Ω res h
def fn_X1_findHabits_161 (N : Nat) (K47 : Int32 → Int32 → zo_O → Option zo_R) (x1 : Int32) (x2 : Int32) (Ω : zo_O) : Option zo_R :=
  K47 x1 (x2 + 1) Ω
theorem ct_X1_findHabits_161 {Y : zo_Y} (hY : zo_Gd Y cX1_findHabits 5 RX1 3) (hJ : zo_JC (zo_J Y)) (hCon : ∀ Ω, zo_J Y Ω → zo_Con Ω) (hr : zo_rt Y (Option.none : Option Jvm.ClassFile.FieldType)) (N : Nat) (K47 : Int32 → Int32 → zo_O → Option zo_R) (hK47 : ∀ (x1 : Int32) (x2 : Int32) (Ω : zo_O) (res : zo_R), K47 x1 x2 Ω = some res → TW Y res Ω 47 [(0, vr 0 0), (1, vi x1), (2, vi x2)] []) (x1 : Int32) (x2 : Int32) (Ω : zo_O) (res : zo_R) (h : fn_X1_findHabits_161 N K47 x1 x2 Ω = some res) : TW Y res Ω 161 [(0, vr 0 0), (1, vi x1), (2, vi x2)] [] := by
  unfold fn_X1_findHabits_161 at h
  refine zo_iinc hY 1 dX1_findHabits_161 (by decide) (by decide) 2 rfl rfl (ls' := [(2, vi (x2 + 1)), (0, vr 0 0), (1, vi x1)]) rfl ?_
  refine zo_goto hY 47 dX1_findHabits_164 (by decide) ?_
  refine zo_sub [1, 2, 0] rfl ?_
  exact hK47 x1 (x2 + 1) Ω _ h
def fn_X1_findHabits_256 (N : Nat) (K169 : Int32 → zo_O → Option zo_R) (K176 : Int32 → Int32 → zo_O → Option zo_R) (K184 : Int32 → Int32 → Int32 → zo_O → Option zo_R) (x2 : Int32) (x3 : Int32) (x4 : Int32) (Ω : zo_O) : Option zo_R :=
  K184 x2 x3 (x4 + 1) Ω
theorem ct_X1_findHabits_256 {Y : zo_Y} (hY : zo_Gd Y cX1_findHabits 5 RX1 3) (hJ : zo_JC (zo_J Y)) (hCon : ∀ Ω, zo_J Y Ω → zo_Con Ω) (hr : zo_rt Y (Option.none : Option Jvm.ClassFile.FieldType)) (N : Nat) (K169 : Int32 → zo_O → Option zo_R) (K176 : Int32 → Int32 → zo_O → Option zo_R) (K184 : Int32 → Int32 → Int32 → zo_O → Option zo_R) (hK169 : ∀ (x2 : Int32) (Ω : zo_O) (res : zo_R), K169 x2 Ω = some res → TW Y res Ω 169 [(0, vr 0 0), (2, vi x2)] []) (hK176 : ∀ (x2 : Int32) (x3 : Int32) (Ω : zo_O) (res : zo_R), K176 x2 x3 Ω = some res → TW Y res Ω 176 [(0, vr 0 0), (2, vi x2), (3, vi x3)] []) (hK184 : ∀ (x2 : Int32) (x3 : Int32) (x4 : Int32) (Ω : zo_O) (res : zo_R), K184 x2 x3 x4 Ω = some res → TW Y res Ω 184 [(0, vr 0 0), (2, vi x2), (3, vi x3), (4, vi x4)] []) (x2 : Int32) (x3 : Int32) (x4 : Int32) (Ω : zo_O) (res : zo_R) (h : fn_X1_findHabits_256 N K169 K176 K184 x2 x3 x4 Ω = some res) : TW Y res Ω 256 [(0, vr 0 0), (2, vi x2), (3, vi x3), (4, vi x4)] [] := by
  unfold fn_X1_findHabits_256 at h
  refine zo_iinc hY 1 dX1_findHabits_256 (by decide) (by decide) 3 rfl rfl (ls' := [(4, vi (x4 + 1)), (0, vr 0 0), (2, vi x2), (3, vi x3)]) rfl ?_
  refine zo_goto hY 184 dX1_findHabits_259 (by decide) ?_
  refine zo_sub [1, 2, 3, 0] rfl ?_
  exact hK184 x2 x3 (x4 + 1) Ω _ h
def bd_X1_findHabits_184 (N : Nat) (K169 : Int32 → zo_O → Option zo_R) (K176 : Int32 → Int32 → zo_O → Option zo_R) (K184 : Int32 → Int32 → Int32 → zo_O → Option zo_R) (x2 : Int32) (x3 : Int32) (x4 : Int32) (Ω : zo_O) : Option zo_R :=
  if 5 ≤ x4 then (
    K176 x2 (x3 + 1) Ω
    ) else
  ix x3 5 fun j2 =>
  ix x2 (gL Ω 36 j2) fun j3 =>
  if 1000000 ≤ gI Ω 36 j2 j3 then (
    fn_X1_findHabits_256 N K169 K176 K184 x2 x3 x4 Ω
    ) else
  ix x2 5 fun j5 =>
  ix x4 (gL Ω 36 j5) fun j6 =>
  if 1000000 ≤ gI Ω 36 j5 j6 then (
    fn_X1_findHabits_256 N K169 K176 K184 x2 x3 x4 Ω
    ) else
  ix x3 5 fun j8 =>
  ix x3 5 fun j9 =>
  ix x4 (gL Ω 36 j9) fun j10 =>
  ix x3 5 fun j11 =>
  ix x2 (gL Ω 36 j11) fun j12 =>
  ix x2 5 fun j13 =>
  ix x4 (gL Ω 36 j13) fun j14 =>
  ix x4 (gL Ω 36 j8) fun j15 => lt (sI Ω 36 j8 j15 (mn (gI Ω 36 j9 j10) ((gI Ω 36 j11 j12) + (gI Ω 36 j13 j14)))) fun Ω16 =>
  fn_X1_findHabits_256 N K169 K176 K184 x2 x3 x4 Ω16
theorem cb_X1_findHabits_184 {Y : zo_Y} (hY : zo_Gd Y cX1_findHabits 5 RX1 3) (hJ : zo_JC (zo_J Y)) (hCon : ∀ Ω, zo_J Y Ω → zo_Con Ω) (hr : zo_rt Y (Option.none : Option Jvm.ClassFile.FieldType)) (N : Nat) (K169 : Int32 → zo_O → Option zo_R) (K176 : Int32 → Int32 → zo_O → Option zo_R) (K184 : Int32 → Int32 → Int32 → zo_O → Option zo_R) (hK169 : ∀ (x2 : Int32) (Ω : zo_O) (res : zo_R), K169 x2 Ω = some res → TW Y res Ω 169 [(0, vr 0 0), (2, vi x2)] []) (hK176 : ∀ (x2 : Int32) (x3 : Int32) (Ω : zo_O) (res : zo_R), K176 x2 x3 Ω = some res → TW Y res Ω 176 [(0, vr 0 0), (2, vi x2), (3, vi x3)] []) (hK184 : ∀ (x2 : Int32) (x3 : Int32) (x4 : Int32) (Ω : zo_O) (res : zo_R), K184 x2 x3 x4 Ω = some res → TW Y res Ω 184 [(0, vr 0 0), (2, vi x2), (3, vi x3), (4, vi x4)] []) (x2 : Int32) (x3 : Int32) (x4 : Int32) (Ω : zo_O) (res : zo_R) (h : bd_X1_findHabits_184 N K169 K176 K184 x2 x3 x4 Ω = some res) : TW Y res Ω 184 [(0, vr 0 0), (2, vi x2), (3, vi x3), (4, vi x4)] [] := by
  unfold bd_X1_findHabits_184 at h
  refine zo_iload hY dX1_findHabits_184 3 rfl ?_
  refine zo_iconst hY 5 (by decide) dX1_findHabits_186 ?_
  refine zo_icmp_ge hY 262 dX1_findHabits_187 (by decide) h (fun c1 h => ?_) (fun c1 h => ?_)
  · refine zo_iinc hY 1 dX1_findHabits_262 (by decide) (by decide) 2 rfl rfl (ls' := [(3, vi (x3 + 1)), (0, vr 0 0), (2, vi x2), (4, vi x4)]) rfl ?_
    refine zo_goto hY 176 dX1_findHabits_265 (by decide) ?_
    refine zo_sub [1, 2, 0] rfl ?_
    exact hK176 x2 (x3 + 1) Ω _ h
  · refine zo_aload_n hY dX1_findHabits_190 rfl 0 rfl ?_
    refine zo_getC hY LX1_64_0 rfl (fun Ω q => (hCon Ω q).1 16 _ rfl) dX1_findHabits_191 ?_
    refine zo_iload_n hY dX1_findHabits_194 rfl 2 rfl ?_
    refine zo_aldW hY hCon dX1_findHabits_195 h (fun j2 h => ?_)
    refine zo_iload_n hY dX1_findHabits_196 rfl 1 rfl ?_
    refine zo_ald hY (by decide) (Or.inl ⟨rfl, dX1_findHabits_197⟩) (fun _ => rfl) h (fun j3 h => ?_)
    refine zo_ldc hY q824 dX1_findHabits_198 ?_
    refine zo_icmp_ge hY 256 dX1_findHabits_200 (by decide) h (fun c4 h => ?_) (fun c4 h => ?_)
    · exact ct_X1_findHabits_256 hY hJ hCon hr N K169 K176 K184 hK169 hK176 hK184 x2 x3 x4 Ω _ h
    · refine zo_aload_n hY dX1_findHabits_203 rfl 0 rfl ?_
      refine zo_getC hY LX1_64_0 rfl (fun Ω q => (hCon Ω q).1 16 _ rfl) dX1_findHabits_204 ?_
      refine zo_iload_n hY dX1_findHabits_207 rfl 1 rfl ?_
      refine zo_aldW hY hCon dX1_findHabits_208 h (fun j5 h => ?_)
      refine zo_iload hY dX1_findHabits_209 3 rfl ?_
      refine zo_ald hY (by decide) (Or.inl ⟨rfl, dX1_findHabits_211⟩) (fun _ => rfl) h (fun j6 h => ?_)
      refine zo_ldc hY q824 dX1_findHabits_212 ?_
      refine zo_icmp_ge hY 256 dX1_findHabits_214 (by decide) h (fun c7 h => ?_) (fun c7 h => ?_)
      · exact ct_X1_findHabits_256 hY hJ hCon hr N K169 K176 K184 hK169 hK176 hK184 x2 x3 x4 Ω _ h
      · refine zo_aload_n hY dX1_findHabits_217 rfl 0 rfl ?_
        refine zo_getC hY LX1_64_0 rfl (fun Ω q => (hCon Ω q).1 16 _ rfl) dX1_findHabits_218 ?_
        refine zo_iload_n hY dX1_findHabits_221 rfl 2 rfl ?_
        refine zo_aldW hY hCon dX1_findHabits_222 h (fun j8 h => ?_)
        refine zo_iload hY dX1_findHabits_223 3 rfl ?_
        refine zo_aload_n hY dX1_findHabits_225 rfl 0 rfl ?_
        refine zo_getC hY LX1_64_0 rfl (fun Ω q => (hCon Ω q).1 16 _ rfl) dX1_findHabits_226 ?_
        refine zo_iload_n hY dX1_findHabits_229 rfl 2 rfl ?_
        refine zo_aldW hY hCon dX1_findHabits_230 h (fun j9 h => ?_)
        refine zo_iload hY dX1_findHabits_231 3 rfl ?_
        refine zo_ald hY (by decide) (Or.inl ⟨rfl, dX1_findHabits_233⟩) (fun _ => rfl) h (fun j10 h => ?_)
        refine zo_aload_n hY dX1_findHabits_234 rfl 0 rfl ?_
        refine zo_getC hY LX1_64_0 rfl (fun Ω q => (hCon Ω q).1 16 _ rfl) dX1_findHabits_235 ?_
        refine zo_iload_n hY dX1_findHabits_238 rfl 2 rfl ?_
        refine zo_aldW hY hCon dX1_findHabits_239 h (fun j11 h => ?_)
        refine zo_iload_n hY dX1_findHabits_240 rfl 1 rfl ?_
        refine zo_ald hY (by decide) (Or.inl ⟨rfl, dX1_findHabits_241⟩) (fun _ => rfl) h (fun j12 h => ?_)
        refine zo_aload_n hY dX1_findHabits_242 rfl 0 rfl ?_
        refine zo_getC hY LX1_64_0 rfl (fun Ω q => (hCon Ω q).1 16 _ rfl) dX1_findHabits_243 ?_
        refine zo_iload_n hY dX1_findHabits_246 rfl 1 rfl ?_
        refine zo_aldW hY hCon dX1_findHabits_247 h (fun j13 h => ?_)
        refine zo_iload hY dX1_findHabits_248 3 rfl ?_
        refine zo_ald hY (by decide) (Or.inl ⟨rfl, dX1_findHabits_250⟩) (fun _ => rfl) h (fun j14 h => ?_)
        refine zo_iadd hY dX1_findHabits_251 ?_
        refine zo_mmin hY (by decide) q831 (Nat.le_of_ble_eq_true rfl) dX1_findHabits_252 ?_
        refine zo_ast hY hJ (by decide) (Or.inl ⟨rfl, rfl, dX1_findHabits_255⟩) (fun _ => rfl) h (fun j15 Ω16 h => ?_)
        exact ct_X1_findHabits_256 hY hJ hCon hr N K169 K176 K184 hK169 hK176 hK184 x2 x3 x4 Ω16 _ h
def fn_X1_findHabits_184 (N : Nat) (K169 : Int32 → zo_O → Option zo_R) (K176 : Int32 → Int32 → zo_O → Option zo_R) : Nat → Int32 → Int32 → Int32 → zo_O → Option zo_R
  | 0, _, _, _, _ => none
  | n + 1, x2, x3, x4, Ω => bd_X1_findHabits_184 N K169 K176 (fn_X1_findHabits_184 N K169 K176 n) x2 x3 x4 Ω
theorem ct_X1_findHabits_184 {Y : zo_Y} (hY : zo_Gd Y cX1_findHabits 5 RX1 3) (hJ : zo_JC (zo_J Y)) (hCon : ∀ Ω, zo_J Y Ω → zo_Con Ω) (hr : zo_rt Y (Option.none : Option Jvm.ClassFile.FieldType)) (N : Nat) (K169 : Int32 → zo_O → Option zo_R) (K176 : Int32 → Int32 → zo_O → Option zo_R) (hK169 : ∀ (x2 : Int32) (Ω : zo_O) (res : zo_R), K169 x2 Ω = some res → TW Y res Ω 169 [(0, vr 0 0), (2, vi x2)] []) (hK176 : ∀ (x2 : Int32) (x3 : Int32) (Ω : zo_O) (res : zo_R), K176 x2 x3 Ω = some res → TW Y res Ω 176 [(0, vr 0 0), (2, vi x2), (3, vi x3)] []) : ∀ (n : Nat) (x2 : Int32) (x3 : Int32) (x4 : Int32) (Ω : zo_O) (res : zo_R), fn_X1_findHabits_184 N K169 K176 n x2 x3 x4 Ω = some res → TW Y res Ω 184 [(0, vr 0 0), (2, vi x2), (3, vi x3), (4, vi x4)] [] := by
  intro n
  induction n with
  | zero => intro x2 x3 x4 Ω res h; exact nomatch (show (none : Option zo_R) = some res from h)
  | succ n ih => intro x2 x3 x4 Ω res h; exact cb_X1_findHabits_184 hY hJ hCon hr N K169 K176 (fn_X1_findHabits_184 N K169 K176 n) hK169 hK176 ih x2 x3 x4 Ω res h
def bd_X1_findHabits_176 (N : Nat) (K169 : Int32 → zo_O → Option zo_R) (K176 : Int32 → Int32 → zo_O → Option zo_R) (x2 : Int32) (x3 : Int32) (Ω : zo_O) : Option zo_R :=
  if 5 ≤ x3 then (
    K169 (x2 + 1) Ω
    ) else
  fn_X1_findHabits_184 N K169 K176 N x2 x3 0 Ω
theorem cb_X1_findHabits_176 {Y : zo_Y} (hY : zo_Gd Y cX1_findHabits 5 RX1 3) (hJ : zo_JC (zo_J Y)) (hCon : ∀ Ω, zo_J Y Ω → zo_Con Ω) (hr : zo_rt Y (Option.none : Option Jvm.ClassFile.FieldType)) (N : Nat) (K169 : Int32 → zo_O → Option zo_R) (K176 : Int32 → Int32 → zo_O → Option zo_R) (hK169 : ∀ (x2 : Int32) (Ω : zo_O) (res : zo_R), K169 x2 Ω = some res → TW Y res Ω 169 [(0, vr 0 0), (2, vi x2)] []) (hK176 : ∀ (x2 : Int32) (x3 : Int32) (Ω : zo_O) (res : zo_R), K176 x2 x3 Ω = some res → TW Y res Ω 176 [(0, vr 0 0), (2, vi x2), (3, vi x3)] []) (x2 : Int32) (x3 : Int32) (Ω : zo_O) (res : zo_R) (h : bd_X1_findHabits_176 N K169 K176 x2 x3 Ω = some res) : TW Y res Ω 176 [(0, vr 0 0), (2, vi x2), (3, vi x3)] [] := by
  unfold bd_X1_findHabits_176 at h
  refine zo_iload_n hY dX1_findHabits_176 rfl 2 rfl ?_
  refine zo_iconst hY 5 (by decide) dX1_findHabits_177 ?_
  refine zo_icmp_ge hY 268 dX1_findHabits_178 (by decide) h (fun c1 h => ?_) (fun c1 h => ?_)
  · refine zo_iinc hY 1 dX1_findHabits_268 (by decide) (by decide) 1 rfl rfl (ls' := [(2, vi (x2 + 1)), (0, vr 0 0), (3, vi x3)]) rfl ?_
    refine zo_goto hY 169 dX1_findHabits_271 (by decide) ?_
    refine zo_sub [1, 0] rfl ?_
    exact hK169 (x2 + 1) Ω _ h
  · refine zo_iconst hY 0 (by decide) dX1_findHabits_181 ?_
    refine zo_istore hY dX1_findHabits_182 (by decide) rfl (ls' := [(4, vi 0), (0, vr 0 0), (2, vi x2), (3, vi x3)]) rfl ?_
    refine zo_sub [1, 2, 3, 0] rfl ?_
    exact ct_X1_findHabits_184 hY hJ hCon hr N K169 K176 hK169 hK176 N x2 x3 0 Ω _ h
def fn_X1_findHabits_176 (N : Nat) (K169 : Int32 → zo_O → Option zo_R) : Nat → Int32 → Int32 → zo_O → Option zo_R
  | 0, _, _, _ => none
  | n + 1, x2, x3, Ω => bd_X1_findHabits_176 N K169 (fn_X1_findHabits_176 N K169 n) x2 x3 Ω
theorem ct_X1_findHabits_176 {Y : zo_Y} (hY : zo_Gd Y cX1_findHabits 5 RX1 3) (hJ : zo_JC (zo_J Y)) (hCon : ∀ Ω, zo_J Y Ω → zo_Con Ω) (hr : zo_rt Y (Option.none : Option Jvm.ClassFile.FieldType)) (N : Nat) (K169 : Int32 → zo_O → Option zo_R) (hK169 : ∀ (x2 : Int32) (Ω : zo_O) (res : zo_R), K169 x2 Ω = some res → TW Y res Ω 169 [(0, vr 0 0), (2, vi x2)] []) : ∀ (n : Nat) (x2 : Int32) (x3 : Int32) (Ω : zo_O) (res : zo_R), fn_X1_findHabits_176 N K169 n x2 x3 Ω = some res → TW Y res Ω 176 [(0, vr 0 0), (2, vi x2), (3, vi x3)] [] := by
  intro n
  induction n with
  | zero => intro x2 x3 Ω res h; exact nomatch (show (none : Option zo_R) = some res from h)
  | succ n ih => intro x2 x3 Ω res h; exact cb_X1_findHabits_176 hY hJ hCon hr N K169 (fn_X1_findHabits_176 N K169 n) hK169 ih x2 x3 Ω res h
def fn_X1_findHabits_310 (N : Nat) (K281 : Int32 → zo_O → Option zo_R) (x2 : Int32) (s0 : Int32) (Ω : zo_O) : Option zo_R :=
  gd (s0 = 0 ∨ s0 = 1) <| lt (sI Ω 0 0 17 s0) fun Ω1 =>
  K281 (x2 + 1) Ω1
theorem ct_X1_findHabits_310 {Y : zo_Y} (hY : zo_Gd Y cX1_findHabits 5 RX1 3) (hJ : zo_JC (zo_J Y)) (hCon : ∀ Ω, zo_J Y Ω → zo_Con Ω) (hr : zo_rt Y (Option.none : Option Jvm.ClassFile.FieldType)) (N : Nat) (K281 : Int32 → zo_O → Option zo_R) (hK281 : ∀ (x2 : Int32) (Ω : zo_O) (res : zo_R), K281 x2 Ω = some res → TW Y res Ω 281 [(0, vr 0 0), (2, vi x2)] []) (x2 : Int32) (s0 : Int32) (Ω : zo_O) (res : zo_R) (h : fn_X1_findHabits_310 N K281 x2 s0 Ω = some res) : TW Y res Ω 310 [(0, vr 0 0), (2, vi x2)] [vi s0, vr 0 0] := by
  unfold fn_X1_findHabits_310 at h
  refine zo_putZ hY hJ LX1_224_0 rfl (Or.inl rfl) dX1_findHabits_310 h (fun Ω1 h => ?_)
  refine zo_iinc hY 1 dX1_findHabits_313 (by decide) (by decide) 1 rfl rfl (ls' := [(2, vi (x2 + 1)), (0, vr 0 0)]) rfl ?_
  refine zo_goto hY 281 dX1_findHabits_316 (by decide) ?_
  refine zo_sub [1, 0] rfl ?_
  exact hK281 (x2 + 1) Ω1 _ h
def fn_X1_findHabits_305 (N : Nat) (K281 : Int32 → zo_O → Option zo_R) (x2 : Int32) (Ω : zo_O) : Option zo_R :=
  fn_X1_findHabits_310 N K281 x2 1 Ω
theorem ct_X1_findHabits_305 {Y : zo_Y} (hY : zo_Gd Y cX1_findHabits 5 RX1 3) (hJ : zo_JC (zo_J Y)) (hCon : ∀ Ω, zo_J Y Ω → zo_Con Ω) (hr : zo_rt Y (Option.none : Option Jvm.ClassFile.FieldType)) (N : Nat) (K281 : Int32 → zo_O → Option zo_R) (hK281 : ∀ (x2 : Int32) (Ω : zo_O) (res : zo_R), K281 x2 Ω = some res → TW Y res Ω 281 [(0, vr 0 0), (2, vi x2)] []) (x2 : Int32) (Ω : zo_O) (res : zo_R) (h : fn_X1_findHabits_305 N K281 x2 Ω = some res) : TW Y res Ω 305 [(0, vr 0 0), (2, vi x2)] [vr 0 0] := by
  unfold fn_X1_findHabits_305 at h
  refine zo_iconst hY 1 (by decide) dX1_findHabits_305 ?_
  refine zo_goto hY 310 dX1_findHabits_306 (by decide) ?_
  exact ct_X1_findHabits_310 hY hJ hCon hr N K281 hK281 x2 1 Ω _ h
def bd_X1_findHabits_281 (N : Nat)  (K281 : Int32 → zo_O → Option zo_R) (x2 : Int32) (Ω : zo_O) : Option zo_R :=
  if 5 ≤ x2 then (
    rV Ω
    ) else
  if gI Ω 0 0 17 = 0 then (
    ix x2 5 fun j3 =>
    ix x2 (gL Ω 36 j3) fun j4 =>
    if 0 ≤ gI Ω 36 j3 j4 then (
      fn_X1_findHabits_310 N K281 x2 0 Ω
      ) else
    fn_X1_findHabits_305 N K281 x2 Ω
    ) else
  fn_X1_findHabits_305 N K281 x2 Ω
theorem cb_X1_findHabits_281 {Y : zo_Y} (hY : zo_Gd Y cX1_findHabits 5 RX1 3) (hJ : zo_JC (zo_J Y)) (hCon : ∀ Ω, zo_J Y Ω → zo_Con Ω) (hr : zo_rt Y (Option.none : Option Jvm.ClassFile.FieldType)) (N : Nat)  (K281 : Int32 → zo_O → Option zo_R)  (hK281 : ∀ (x2 : Int32) (Ω : zo_O) (res : zo_R), K281 x2 Ω = some res → TW Y res Ω 281 [(0, vr 0 0), (2, vi x2)] []) (x2 : Int32) (Ω : zo_O) (res : zo_R) (h : bd_X1_findHabits_281 N  K281 x2 Ω = some res) : TW Y res Ω 281 [(0, vr 0 0), (2, vi x2)] [] := by
  unfold bd_X1_findHabits_281 at h
  refine zo_iload_n hY dX1_findHabits_281 rfl 1 rfl ?_
  refine zo_iconst hY 5 (by decide) dX1_findHabits_282 ?_
  refine zo_icmp_ge hY 319 dX1_findHabits_283 (by decide) h (fun c1 h => ?_) (fun c1 h => ?_)
  · exact zo_vret hY hr dX1_findHabits_319 h
  · refine zo_aload_n hY dX1_findHabits_286 rfl 0 rfl ?_
    refine zo_aload_n hY dX1_findHabits_287 rfl 0 rfl ?_
    refine zo_getI hY LX1_224_0 rfl dX1_findHabits_288 ?_
    refine zo_if_ne hY 305 dX1_findHabits_291 (by decide) h (fun c2 h => ?_) (fun c2 h => ?_)
    · refine zo_aload_n hY dX1_findHabits_294 rfl 0 rfl ?_
      refine zo_getC hY LX1_64_0 rfl (fun Ω q => (hCon Ω q).1 16 _ rfl) dX1_findHabits_295 ?_
      refine zo_iload_n hY dX1_findHabits_298 rfl 1 rfl ?_
      refine zo_aldW hY hCon dX1_findHabits_299 h (fun j3 h => ?_)
      refine zo_iload_n hY dX1_findHabits_300 rfl 1 rfl ?_
      refine zo_ald hY (by decide) (Or.inl ⟨rfl, dX1_findHabits_301⟩) (fun _ => rfl) h (fun j4 h => ?_)
      refine zo_if_ge hY 309 dX1_findHabits_302 (by decide) h (fun c5 h => ?_) (fun c5 h => ?_)
      · refine zo_iconst hY 0 (by decide) dX1_findHabits_309 ?_
        exact ct_X1_findHabits_310 hY hJ hCon hr N K281 hK281 x2 0 Ω _ h
      · exact ct_X1_findHabits_305 hY hJ hCon hr N K281 hK281 x2 Ω _ h
    · exact ct_X1_findHabits_305 hY hJ hCon hr N K281 hK281 x2 Ω _ h
def fn_X1_findHabits_281 (N : Nat)  : Nat → Int32 → zo_O → Option zo_R
  | 0, _, _ => none
  | n + 1, x2, Ω => bd_X1_findHabits_281 N  (fn_X1_findHabits_281 N  n) x2 Ω
theorem ct_X1_findHabits_281 {Y : zo_Y} (hY : zo_Gd Y cX1_findHabits 5 RX1 3) (hJ : zo_JC (zo_J Y)) (hCon : ∀ Ω, zo_J Y Ω → zo_Con Ω) (hr : zo_rt Y (Option.none : Option Jvm.ClassFile.FieldType)) (N : Nat)   : ∀ (n : Nat) (x2 : Int32) (Ω : zo_O) (res : zo_R), fn_X1_findHabits_281 N  n x2 Ω = some res → TW Y res Ω 281 [(0, vr 0 0), (2, vi x2)] [] := by
  intro n
  induction n with
  | zero => intro x2 Ω res h; exact nomatch (show (none : Option zo_R) = some res from h)
  | succ n ih => intro x2 Ω res h; exact cb_X1_findHabits_281 hY hJ hCon hr N  (fn_X1_findHabits_281 N  n)  ih x2 Ω res h
def bd_X1_findHabits_169 (N : Nat)  (K169 : Int32 → zo_O → Option zo_R) (x2 : Int32) (Ω : zo_O) : Option zo_R :=
  if 5 ≤ x2 then (
    gd ((0 : Int32) = 0 ∨ (0 : Int32) = 1) <| lt (sI Ω 0 0 17 0) fun Ω2 =>
    fn_X1_findHabits_281 N N 0 Ω2
    ) else
  fn_X1_findHabits_176 N K169 N x2 0 Ω
theorem cb_X1_findHabits_169 {Y : zo_Y} (hY : zo_Gd Y cX1_findHabits 5 RX1 3) (hJ : zo_JC (zo_J Y)) (hCon : ∀ Ω, zo_J Y Ω → zo_Con Ω) (hr : zo_rt Y (Option.none : Option Jvm.ClassFile.FieldType)) (N : Nat)  (K169 : Int32 → zo_O → Option zo_R)  (hK169 : ∀ (x2 : Int32) (Ω : zo_O) (res : zo_R), K169 x2 Ω = some res → TW Y res Ω 169 [(0, vr 0 0), (2, vi x2)] []) (x2 : Int32) (Ω : zo_O) (res : zo_R) (h : bd_X1_findHabits_169 N  K169 x2 Ω = some res) : TW Y res Ω 169 [(0, vr 0 0), (2, vi x2)] [] := by
  unfold bd_X1_findHabits_169 at h
  refine zo_iload_n hY dX1_findHabits_169 rfl 1 rfl ?_
  refine zo_iconst hY 5 (by decide) dX1_findHabits_170 ?_
  refine zo_icmp_ge hY 274 dX1_findHabits_171 (by decide) h (fun c1 h => ?_) (fun c1 h => ?_)
  · refine zo_aload_n hY dX1_findHabits_274 rfl 0 rfl ?_
    refine zo_iconst hY 0 (by decide) dX1_findHabits_275 ?_
    refine zo_putZ hY hJ LX1_224_0 rfl (Or.inl rfl) dX1_findHabits_276 h (fun Ω2 h => ?_)
    refine zo_iconst hY 0 (by decide) dX1_findHabits_279 ?_
    refine zo_istore_n hY dX1_findHabits_280 rfl (by decide) rfl (ls' := [(2, vi 0), (0, vr 0 0)]) rfl ?_
    refine zo_sub [1, 0] rfl ?_
    exact ct_X1_findHabits_281 hY hJ hCon hr N N 0 Ω2 _ h
  · refine zo_iconst hY 0 (by decide) dX1_findHabits_174 ?_
    refine zo_istore_n hY dX1_findHabits_175 rfl (by decide) rfl (ls' := [(3, vi 0), (0, vr 0 0), (2, vi x2)]) rfl ?_
    refine zo_sub [1, 2, 0] rfl ?_
    exact ct_X1_findHabits_176 hY hJ hCon hr N K169 hK169 N x2 0 Ω _ h
def fn_X1_findHabits_169 (N : Nat)  : Nat → Int32 → zo_O → Option zo_R
  | 0, _, _ => none
  | n + 1, x2, Ω => bd_X1_findHabits_169 N  (fn_X1_findHabits_169 N  n) x2 Ω
theorem ct_X1_findHabits_169 {Y : zo_Y} (hY : zo_Gd Y cX1_findHabits 5 RX1 3) (hJ : zo_JC (zo_J Y)) (hCon : ∀ Ω, zo_J Y Ω → zo_Con Ω) (hr : zo_rt Y (Option.none : Option Jvm.ClassFile.FieldType)) (N : Nat)   : ∀ (n : Nat) (x2 : Int32) (Ω : zo_O) (res : zo_R), fn_X1_findHabits_169 N  n x2 Ω = some res → TW Y res Ω 169 [(0, vr 0 0), (2, vi x2)] [] := by
  intro n
  induction n with
  | zero => intro x2 Ω res h; exact nomatch (show (none : Option zo_R) = some res from h)
  | succ n ih => intro x2 Ω res h; exact cb_X1_findHabits_169 hY hJ hCon hr N  (fn_X1_findHabits_169 N  n)  ih x2 Ω res h
def bd_X1_findHabits_47 (N : Nat)  (K47 : Int32 → Int32 → zo_O → Option zo_R) (x1 : Int32) (x2 : Int32) (Ω : zo_O) : Option zo_R :=
  ci (fn_J2_size N 3 Ω) fun r2 Ω1 =>
  if r2 ≤ x2 then (
    fn_X1_findHabits_169 N N 0 Ω1
    ) else
  cr (fn_J2_get N 3 x2 Ω1) fun r5 Ω4 =>
  bk r5 5 fun j6 =>
  ci (fn_X3_isBy_5 N j6 x1 Ω4) fun r8 Ω7 =>
  if r8 = 0 then (
    fn_X1_findHabits_161 N K47 x1 x2 Ω7
    ) else
  ix (gI Ω7 5 j6 1) 5 fun j10 =>
  ix (gI Ω7 5 j6 1) 5 fun j11 =>
  ix (gI Ω7 5 j6 2) (gL Ω7 36 j11) fun j12 =>
  ix (gI Ω7 5 j6 2) (gL Ω7 36 j10) fun j13 => lt (sI Ω7 36 j10 j13 (mn (gI Ω7 36 j11 j12) ((gI Ω7 5 j6 3) + (gI Ω7 0 0 9)))) fun Ω14 =>
  ix (gI Ω14 5 j6 2) 5 fun j15 =>
  ix (gI Ω14 5 j6 2) 5 fun j16 =>
  ix (gI Ω14 5 j6 1) (gL Ω14 36 j16) fun j17 =>
  ix (gI Ω14 5 j6 1) (gL Ω14 36 j15) fun j18 => lt (sI Ω14 36 j15 j18 (mn (gI Ω14 36 j16 j17) ((gI Ω14 0 0 9) - (gI Ω14 5 j6 3)))) fun Ω19 =>
  fn_X1_findHabits_161 N K47 x1 x2 Ω19
theorem cb_X1_findHabits_47 {Y : zo_Y} (hY : zo_Gd Y cX1_findHabits 5 RX1 3) (hJ : zo_JC (zo_J Y)) (hCon : ∀ Ω, zo_J Y Ω → zo_Con Ω) (hr : zo_rt Y (Option.none : Option Jvm.ClassFile.FieldType)) (N : Nat)  (K47 : Int32 → Int32 → zo_O → Option zo_R)  (hK47 : ∀ (x1 : Int32) (x2 : Int32) (Ω : zo_O) (res : zo_R), K47 x1 x2 Ω = some res → TW Y res Ω 47 [(0, vr 0 0), (1, vi x1), (2, vi x2)] []) (x1 : Int32) (x2 : Int32) (Ω : zo_O) (res : zo_R) (h : bd_X1_findHabits_47 N  K47 x1 x2 Ω = some res) : TW Y res Ω 47 [(0, vr 0 0), (1, vi x1), (2, vi x2)] [] := by
  unfold bd_X1_findHabits_47 at h
  refine zo_iload_n hY dX1_findHabits_47 rfl 2 rfl ?_
  refine zo_aload_n hY dX1_findHabits_48 rfl 0 rfl ?_
  refine zo_getC hY LX1_26_0 rfl (fun Ω q => (hCon Ω q).1 3 _ rfl) dX1_findHabits_49 ?_
  refine zo_callV hY (fun q hq => mt_J2_size hJ hCon N 3 Ω q hq) (by decide) (by decide) (by decide) ⟨rfl, cn_J2_size⟩ rfl q245 q246 q247 q81 q248 (Nat.le_of_ble_eq_true rfl) dX1_findHabits_52 rfl h (ci_k (fun r2 Ω1 res h => ?_))
  refine zo_icmp_ge hY 167 dX1_findHabits_55 (by decide) h (fun c3 h => ?_) (fun c3 h => ?_)
  · refine zo_iconst hY 0 (by decide) dX1_findHabits_167 ?_
    refine zo_istore_n hY dX1_findHabits_168 rfl (by decide) rfl (ls' := [(2, vi 0), (0, vr 0 0), (1, vi x1)]) rfl ?_
    refine zo_sub [1, 0] rfl ?_
    exact ct_X1_findHabits_169 hY hJ hCon hr N N 0 Ω1 _ h
  · refine zo_aload_n hY dX1_findHabits_58 rfl 0 rfl ?_
    refine zo_getC hY LX1_26_0 rfl (fun Ω q => (hCon Ω q).1 3 _ rfl) dX1_findHabits_59 ?_
    refine zo_iload_n hY dX1_findHabits_62 rfl 2 rfl ?_
    refine zo_callV hY (fun q hq => mt_J2_get hJ hCon N 3 x2 Ω1 q hq) (by decide) (by decide) (by decide) ⟨rfl, cn_J2_get⟩ rfl q368 q369 q370 q81 q371 (Nat.le_of_ble_eq_true rfl) dX1_findHabits_63 rfl h (cr_k (fun r5 Ω4 res h => ?_))
    refine zo_castK hY (by decide) q444 (Or.inl rfl) dX1_findHabits_66 h (fun j6 h => ?_)
    refine zo_astore_n hY dX1_findHabits_69 rfl (by decide) rfl (ls' := [(3, vr 5 j6), (0, vr 0 0), (1, vi x1), (2, vi x2)]) rfl ?_
    refine zo_aload_n hY dX1_findHabits_70 rfl 0 rfl ?_
    refine zo_iload_n hY dX1_findHabits_71 rfl 2 rfl ?_
    refine zo_callU hY (fun q hq => mt_X3_isBy_5 hJ hCon N j6 x1 Ω4 q hq) (by decide) (by decide) (by decide) cn_X3_isBy rfl rfl q825 q826 q828 q829 q83 q830 (Nat.le_of_ble_eq_true rfl) dX1_findHabits_72 rfl h (ci_k (fun r8 Ω7 res h => ?_))
    refine zo_if_ne hY 81 dX1_findHabits_75 (by decide) h (fun c9 h => ?_) (fun c9 h => ?_)
    · refine zo_goto hY 161 dX1_findHabits_78 (by decide) ?_
      refine zo_sub [1, 2, 3] rfl ?_
      exact ct_X1_findHabits_161 hY hJ hCon hr N K47 hK47 x1 x2 Ω7 _ h
    · refine zo_aload_n hY dX1_findHabits_81 rfl 1 rfl ?_
      refine zo_getC hY LX1_64_0 rfl (fun Ω q => (hCon Ω q).1 16 _ rfl) dX1_findHabits_82 ?_
      refine zo_aload_n hY dX1_findHabits_85 rfl 0 rfl ?_
      refine zo_getI hY LX1_209_5 rfl dX1_findHabits_86 ?_
      refine zo_aldW hY hCon dX1_findHabits_89 h (fun j10 h => ?_)
      refine zo_aload_n hY dX1_findHabits_90 rfl 0 rfl ?_
      refine zo_getI hY LX1_212_5 rfl dX1_findHabits_91 ?_
      refine zo_aload_n hY dX1_findHabits_94 rfl 1 rfl ?_
      refine zo_getC hY LX1_64_0 rfl (fun Ω q => (hCon Ω q).1 16 _ rfl) dX1_findHabits_95 ?_
      refine zo_aload_n hY dX1_findHabits_98 rfl 0 rfl ?_
      refine zo_getI hY LX1_209_5 rfl dX1_findHabits_99 ?_
      refine zo_aldW hY hCon dX1_findHabits_102 h (fun j11 h => ?_)
      refine zo_aload_n hY dX1_findHabits_103 rfl 0 rfl ?_
      refine zo_getI hY LX1_212_5 rfl dX1_findHabits_104 ?_
      refine zo_ald hY (by decide) (Or.inl ⟨rfl, dX1_findHabits_107⟩) (fun _ => rfl) h (fun j12 h => ?_)
      refine zo_aload_n hY dX1_findHabits_108 rfl 0 rfl ?_
      refine zo_getI hY LX1_215_5 rfl dX1_findHabits_109 ?_
      refine zo_aload_n hY dX1_findHabits_112 rfl 1 rfl ?_
      refine zo_getI hY LX1_42_0 rfl dX1_findHabits_113 ?_
      refine zo_iadd hY dX1_findHabits_116 ?_
      refine zo_mmin hY (by decide) q831 (Nat.le_of_ble_eq_true rfl) dX1_findHabits_117 ?_
      refine zo_ast hY hJ (by decide) (Or.inl ⟨rfl, rfl, dX1_findHabits_120⟩) (fun _ => rfl) h (fun j13 Ω14 h => ?_)
      refine zo_aload_n hY dX1_findHabits_121 rfl 1 rfl ?_
      refine zo_getC hY LX1_64_0 rfl (fun Ω q => (hCon Ω q).1 16 _ rfl) dX1_findHabits_122 ?_
      refine zo_aload_n hY dX1_findHabits_125 rfl 0 rfl ?_
      refine zo_getI hY LX1_212_5 rfl dX1_findHabits_126 ?_
      refine zo_aldW hY hCon dX1_findHabits_129 h (fun j15 h => ?_)
      refine zo_aload_n hY dX1_findHabits_130 rfl 0 rfl ?_
      refine zo_getI hY LX1_209_5 rfl dX1_findHabits_131 ?_
      refine zo_aload_n hY dX1_findHabits_134 rfl 1 rfl ?_
      refine zo_getC hY LX1_64_0 rfl (fun Ω q => (hCon Ω q).1 16 _ rfl) dX1_findHabits_135 ?_
      refine zo_aload_n hY dX1_findHabits_138 rfl 0 rfl ?_
      refine zo_getI hY LX1_212_5 rfl dX1_findHabits_139 ?_
      refine zo_aldW hY hCon dX1_findHabits_142 h (fun j16 h => ?_)
      refine zo_aload_n hY dX1_findHabits_143 rfl 0 rfl ?_
      refine zo_getI hY LX1_209_5 rfl dX1_findHabits_144 ?_
      refine zo_ald hY (by decide) (Or.inl ⟨rfl, dX1_findHabits_147⟩) (fun _ => rfl) h (fun j17 h => ?_)
      refine zo_aload_n hY dX1_findHabits_148 rfl 1 rfl ?_
      refine zo_getI hY LX1_42_0 rfl dX1_findHabits_149 ?_
      refine zo_aload_n hY dX1_findHabits_152 rfl 0 rfl ?_
      refine zo_getI hY LX1_215_5 rfl dX1_findHabits_153 ?_
      refine zo_isub hY dX1_findHabits_156 ?_
      refine zo_mmin hY (by decide) q831 (Nat.le_of_ble_eq_true rfl) dX1_findHabits_157 ?_
      refine zo_ast hY hJ (by decide) (Or.inl ⟨rfl, rfl, dX1_findHabits_160⟩) (fun _ => rfl) h (fun j18 Ω19 h => ?_)
      refine zo_sub [1, 2, 3] rfl ?_
      exact ct_X1_findHabits_161 hY hJ hCon hr N K47 hK47 x1 x2 Ω19 _ h
def fn_X1_findHabits_47 (N : Nat)  : Nat → Int32 → Int32 → zo_O → Option zo_R
  | 0, _, _, _ => none
  | n + 1, x1, x2, Ω => bd_X1_findHabits_47 N  (fn_X1_findHabits_47 N  n) x1 x2 Ω
theorem ct_X1_findHabits_47 {Y : zo_Y} (hY : zo_Gd Y cX1_findHabits 5 RX1 3) (hJ : zo_JC (zo_J Y)) (hCon : ∀ Ω, zo_J Y Ω → zo_Con Ω) (hr : zo_rt Y (Option.none : Option Jvm.ClassFile.FieldType)) (N : Nat)   : ∀ (n : Nat) (x1 : Int32) (x2 : Int32) (Ω : zo_O) (res : zo_R), fn_X1_findHabits_47 N  n x1 x2 Ω = some res → TW Y res Ω 47 [(0, vr 0 0), (1, vi x1), (2, vi x2)] [] := by
  intro n
  induction n with
  | zero => intro x1 x2 Ω res h; exact nomatch (show (none : Option zo_R) = some res from h)
  | succ n ih => intro x1 x2 Ω res h; exact cb_X1_findHabits_47 hY hJ hCon hr N  (fn_X1_findHabits_47 N  n)  ih x1 x2 Ω res h
def bd_X1_findHabits_2 (N : Nat)  (K2 : Int32 → Int32 → zo_O → Option zo_R) (x1 : Int32) (x2 : Int32) (Ω : zo_O) : Option zo_R :=
  if 5 ≤ x2 then (
    fn_X1_findHabits_47 N N x1 0 Ω
    ) else
  fn_X1_findHabits_9 N K2 N x1 x2 0 Ω
theorem cb_X1_findHabits_2 {Y : zo_Y} (hY : zo_Gd Y cX1_findHabits 5 RX1 3) (hJ : zo_JC (zo_J Y)) (hCon : ∀ Ω, zo_J Y Ω → zo_Con Ω) (hr : zo_rt Y (Option.none : Option Jvm.ClassFile.FieldType)) (N : Nat)  (K2 : Int32 → Int32 → zo_O → Option zo_R)  (hK2 : ∀ (x1 : Int32) (x2 : Int32) (Ω : zo_O) (res : zo_R), K2 x1 x2 Ω = some res → TW Y res Ω 2 [(0, vr 0 0), (1, vi x1), (2, vi x2)] []) (x1 : Int32) (x2 : Int32) (Ω : zo_O) (res : zo_R) (h : bd_X1_findHabits_2 N  K2 x1 x2 Ω = some res) : TW Y res Ω 2 [(0, vr 0 0), (1, vi x1), (2, vi x2)] [] := by
  unfold bd_X1_findHabits_2 at h
  refine zo_iload_n hY dX1_findHabits_2 rfl 2 rfl ?_
  refine zo_iconst hY 5 (by decide) dX1_findHabits_3 ?_
  refine zo_icmp_ge hY 45 dX1_findHabits_4 (by decide) h (fun c1 h => ?_) (fun c1 h => ?_)
  · refine zo_iconst hY 0 (by decide) dX1_findHabits_45 ?_
    refine zo_istore_n hY dX1_findHabits_46 rfl (by decide) rfl (ls' := [(2, vi 0), (0, vr 0 0), (1, vi x1)]) rfl ?_
    refine zo_sub [1, 2, 0] rfl ?_
    exact ct_X1_findHabits_47 hY hJ hCon hr N N x1 0 Ω _ h
  · refine zo_iconst hY 0 (by decide) dX1_findHabits_7 ?_
    refine zo_istore_n hY dX1_findHabits_8 rfl (by decide) rfl (ls' := [(3, vi 0), (0, vr 0 0), (1, vi x1), (2, vi x2)]) rfl ?_
    refine zo_sub [1, 2, 3, 0] rfl ?_
    exact ct_X1_findHabits_9 hY hJ hCon hr N K2 hK2 N x1 x2 0 Ω _ h
def fn_X1_findHabits_2 (N : Nat)  : Nat → Int32 → Int32 → zo_O → Option zo_R
  | 0, _, _, _ => none
  | n + 1, x1, x2, Ω => bd_X1_findHabits_2 N  (fn_X1_findHabits_2 N  n) x1 x2 Ω
theorem ct_X1_findHabits_2 {Y : zo_Y} (hY : zo_Gd Y cX1_findHabits 5 RX1 3) (hJ : zo_JC (zo_J Y)) (hCon : ∀ Ω, zo_J Y Ω → zo_Con Ω) (hr : zo_rt Y (Option.none : Option Jvm.ClassFile.FieldType)) (N : Nat)   : ∀ (n : Nat) (x1 : Int32) (x2 : Int32) (Ω : zo_O) (res : zo_R), fn_X1_findHabits_2 N  n x1 x2 Ω = some res → TW Y res Ω 2 [(0, vr 0 0), (1, vi x1), (2, vi x2)] [] := by
  intro n
  induction n with
  | zero => intro x1 x2 Ω res h; exact nomatch (show (none : Option zo_R) = some res from h)
  | succ n ih => intro x1 x2 Ω res h; exact cb_X1_findHabits_2 hY hJ hCon hr N  (fn_X1_findHabits_2 N  n)  ih x1 x2 Ω res h
def fn_X1_findHabits (N : Nat) (x1 : Int32) (Ω : zo_O) : Option zo_R :=
  fn_X1_findHabits_2 N N x1 0 Ω
theorem mt_X1_findHabits {G : zo_G} {J : zo_O → Prop} (hJ : zo_JC J) (hCon : ∀ Ω, J Ω → zo_Con Ω) (N : Nat) (x1 : Int32) (Ω : zo_O) (res : zo_R) (h : fn_X1_findHabits N x1 Ω = some res) : zo_MT G J yX1_findHabits cX1_findHabits 5 (Option.none : Option Jvm.ClassFile.FieldType) 3 [vr 0 0, vi x1] Ω res := by
  refine zo_enter (by decide) rfl (Nat.le_of_ble_eq_true rfl) (fun Y hY eJ hr hmn => ?_)
  subst eJ
  show TW Y res Ω 0 [(0, vr 0 0), (1, vi x1)] []
  unfold fn_X1_findHabits at h
  refine zo_iconst hY 0 (by decide) dX1_findHabits_0 ?_
  refine zo_istore_n hY dX1_findHabits_1 rfl (by decide) rfl (ls' := [(2, vi 0), (0, vr 0 0), (1, vi x1)]) rfl ?_
  refine zo_sub [1, 2, 0] rfl ?_
  exact ct_X1_findHabits_2 hY hJ hCon hr N N x1 0 Ω _ h
theorem dX1_habit_0 : decode cX1_habit 0 = .ok (.iload_n 1, 1) := by decide +kernel
theorem dX1_habit_1 : decode cX1_habit 1 = .ok (.invokestatic 111, 3) := by decide +kernel
theorem dX1_habit_4 : decode cX1_habit 4 = .ok (.ifCond .eq 20, 3) := by decide +kernel
theorem dX1_habit_7 : decode cX1_habit 7 = .ok (.aload_n 0, 1) := by decide +kernel
theorem dX1_habit_8 : decode cX1_habit 8 = .ok (.iload_n 2, 1) := by decide +kernel
theorem dX1_habit_9 : decode cX1_habit 9 = .ok (.invokevirtual 153, 3) := by decide +kernel
theorem dX1_habit_12 : decode cX1_habit 12 = .ok (.ifCond .eq 12, 3) := by decide +kernel
theorem dX1_habit_15 : decode cX1_habit 15 = .ok (.iload_n 3, 1) := by decide +kernel
theorem dX1_habit_16 : decode cX1_habit 16 = .ok (.iconst 0, 1) := by decide +kernel
theorem dX1_habit_17 : decode cX1_habit 17 = .ok (.iconst 1, 1) := by decide +kernel
theorem dX1_habit_18 : decode cX1_habit 18 = .ok (.invokestatic 3, 3) := by decide +kernel
theorem dX1_habit_21 : decode cX1_habit 21 = .ok (.ifCond .ne 11, 3) := by decide +kernel
theorem dX1_habit_24 : decode cX1_habit 24 = .ok (.new 227, 3) := by decide +kernel
theorem dX1_habit_27 : decode cX1_habit 27 = .ok (.dup, 1) := by decide +kernel
theorem dX1_habit_28 : decode cX1_habit 28 = .ok (.invokespecial 229, 3) := by decide +kernel
theorem dX1_habit_31 : decode cX1_habit 31 = .ok (.athrow, 1) := by decide +kernel
theorem dX1_habit_32 : decode cX1_habit 32 = .ok (.aload_n 0, 1) := by decide +kernel
theorem dX1_habit_33 : decode cX1_habit 33 = .ok (.iload_n 2, 1) := by decide +kernel
theorem dX1_habit_34 : decode cX1_habit 34 = .ok (.invokevirtual 230, 3) := by decide +kernel
theorem dX1_habit_37 : decode cX1_habit 37 = .ok (.aload_n 0, 1) := by decide +kernel
theorem dX1_habit_38 : decode cX1_habit 38 = .ok (.iload_n 1, 1) := by decide +kernel
theorem dX1_habit_39 : decode cX1_habit 39 = .ok (.invokevirtual 233, 3) := by decide +kernel
theorem dX1_habit_42 : decode cX1_habit 42 = .ok (.ifCond .ne 11, 3) := by decide +kernel
theorem dX1_habit_45 : decode cX1_habit 45 = .ok (.new 227, 3) := by decide +kernel
theorem dX1_habit_48 : decode cX1_habit 48 = .ok (.dup, 1) := by decide +kernel
theorem dX1_habit_49 : decode cX1_habit 49 = .ok (.invokespecial 229, 3) := by decide +kernel
theorem dX1_habit_52 : decode cX1_habit 52 = .ok (.athrow, 1) := by decide +kernel
theorem dX1_habit_53 : decode cX1_habit 53 = .ok (.iload_n 3, 1) := by decide +kernel
theorem dX1_habit_54 : decode cX1_habit 54 = .ok (.ifCond .ne 15, 3) := by decide +kernel
theorem dX1_habit_57 : decode cX1_habit 57 = .ok (.aload_n 0, 1) := by decide +kernel
theorem dX1_habit_58 : decode cX1_habit 58 = .ok (.getfield 64, 3) := by decide +kernel
theorem dX1_habit_61 : decode cX1_habit 61 = .ok (.iconst 0, 1) := by decide +kernel
theorem dX1_habit_62 : decode cX1_habit 62 = .ok (.aaload, 1) := by decide +kernel
theorem dX1_habit_63 : decode cX1_habit 63 = .ok (.iload_n 1, 1) := by decide +kernel
theorem dX1_habit_64 : decode cX1_habit 64 = .ok (.iaload, 1) := by decide +kernel
theorem dX1_habit_65 : decode cX1_habit 65 = .ok (.ineg, 1) := by decide +kernel
theorem dX1_habit_66 : decode cX1_habit 66 = .ok (.goto 11, 3) := by decide +kernel
theorem dX1_habit_69 : decode cX1_habit 69 = .ok (.aload_n 0, 1) := by decide +kernel
theorem dX1_habit_70 : decode cX1_habit 70 = .ok (.getfield 64, 3) := by decide +kernel
theorem dX1_habit_73 : decode cX1_habit 73 = .ok (.iload_n 1, 1) := by decide +kernel
theorem dX1_habit_74 : decode cX1_habit 74 = .ok (.aaload, 1) := by decide +kernel
theorem dX1_habit_75 : decode cX1_habit 75 = .ok (.iconst 0, 1) := by decide +kernel
theorem dX1_habit_76 : decode cX1_habit 76 = .ok (.iaload, 1) := by decide +kernel
theorem dX1_habit_77 : decode cX1_habit 77 = .ok (.ireturn, 1) := by decide +kernel
def fn_X1_habit_24 (N : Nat)   (Ω : zo_O) : Option zo_R :=
  rE Ω
theorem ct_X1_habit_24 {Y : zo_Y} (hY : zo_Gd Y cX1_habit 4 RX1 6) (hJ : zo_JC (zo_J Y)) (hCon : ∀ Ω, zo_J Y Ω → zo_Con Ω) (hr : zo_rtX Y (Option.some Jvm.ClassFile.FieldType.int)) (N : Nat)    (Ω : zo_O) (res : zo_R) (h : fn_X1_habit_24 N   Ω = some res) : TW Y res Ω 24 [] [] := by
  unfold fn_X1_habit_24 at h
  exact zo_throwN hY hr (by decide) q1242 dX1_habit_24 dX1_habit_27 dX1_habit_28 dX1_habit_31 h
def fn_X1_habit_77 (N : Nat)  (s0 : Int32) (Ω : zo_O) : Option zo_R :=
  rI s0 Ω
theorem ct_X1_habit_77 {Y : zo_Y} (hY : zo_Gd Y cX1_habit 4 RX1 6) (hJ : zo_JC (zo_J Y)) (hCon : ∀ Ω, zo_J Y Ω → zo_Con Ω) (hr : zo_rtX Y (Option.some Jvm.ClassFile.FieldType.int)) (N : Nat)   (s0 : Int32) (Ω : zo_O) (res : zo_R) (h : fn_X1_habit_77 N  s0 Ω = some res) : TW Y res Ω 77 [] [vi s0] := by
  unfold fn_X1_habit_77 at h
  exact zo_iretX hY hr dX1_habit_77 h
def fn_X1_habit (N : Nat) (x1 : Int32) (x2 : Int32) (x3 : Int32) (Ω : zo_O) : Option zo_R :=
  ci (fn_X1_isMeasurer N x1 Ω) fun r2 Ω1 =>
  if r2 = 0 then (
    fn_X1_habit_24 N Ω1
    ) else
  ci (fn_X1_isKnown N x2 Ω1) fun r5 Ω4 =>
  if r5 = 0 then (
    fn_X1_habit_24 N Ω4
    ) else
  ci (fn_X1_in N x3 0 1 Ω4) fun r8 Ω7 =>
  if r8 = 0 then (
    fn_X1_habit_24 N Ω7
    ) else
  cv (fn_X1_findHabits N x2 Ω7) fun Ω10 =>
  ci (fn_X1_isLed N x1 Ω10) fun r12 Ω11 =>
  if r12 = 0 then (
    rE Ω11
    ) else
  if x3 = 0 then (
    ix 0 5 fun j15 =>
    ix x1 (gL Ω11 36 j15) fun j16 =>
    fn_X1_habit_77 N (-(gI Ω11 36 j15 j16)) Ω11
    ) else
  ix x1 5 fun j17 =>
  ix 0 (gL Ω11 36 j17) fun j18 =>
  fn_X1_habit_77 N (gI Ω11 36 j17 j18) Ω11
theorem mt_X1_habit {G : zo_G} {J : zo_O → Prop} (hJ : zo_JC J) (hCon : ∀ Ω, J Ω → zo_Con Ω) (N : Nat) (x1 : Int32) (x2 : Int32) (x3 : Int32) (Ω : zo_O) (res : zo_R) (h : fn_X1_habit N x1 x2 x3 Ω = some res) : zo_MX G J yX1_habit cX1_habit 4 (Option.some Jvm.ClassFile.FieldType.int) 6 [vr 0 0, vi x1, vi x2, vi x3] Ω res := by
  refine zo_enterX (by decide) rfl (Nat.le_of_ble_eq_true rfl) (fun Y hY eJ hr hmn => ?_)
  subst eJ
  show TW Y res Ω 0 [(0, vr 0 0), (1, vi x1), (2, vi x2), (3, vi x3)] []
  unfold fn_X1_habit at h
  refine zo_iload_n hY dX1_habit_0 rfl 1 rfl ?_
  refine zo_callS hY (fun q hq => mt_X1_isMeasurer hJ hCon N x1 Ω q hq) (by decide) (by decide) cn_X1_isMeasurer rfl q363 q364 q78 q365 (Nat.le_of_ble_eq_true rfl) dX1_habit_1 rfl h (ci_k (fun r2 Ω1 res h => ?_))
  refine zo_if_eq hY 24 dX1_habit_4 (by decide) h (fun c3 h => ?_) (fun c3 h => ?_)
  · refine zo_sub [] rfl ?_
    exact ct_X1_habit_24 hY hJ hCon hr N Ω1 _ h
  · refine zo_aload_n hY dX1_habit_7 rfl 0 rfl ?_
    refine zo_iload_n hY dX1_habit_8 rfl 2 rfl ?_
    refine zo_callV hY (fun q hq => mt_X1_isKnown hJ hCon N x2 Ω1 q hq) (by decide) (by decide) (by decide) ⟨rfl, cn_X1_isKnown⟩ rfl q816 q818 qs17 q78 q819 (Nat.le_of_ble_eq_true rfl) dX1_habit_9 rfl h (ci_k (fun r5 Ω4 res h => ?_))
    refine zo_if_eq hY 24 dX1_habit_12 (by decide) h (fun c6 h => ?_) (fun c6 h => ?_)
    · refine zo_sub [] rfl ?_
      exact ct_X1_habit_24 hY hJ hCon hr N Ω4 _ h
    · refine zo_iload_n hY dX1_habit_15 rfl 3 rfl ?_
      refine zo_iconst hY 0 (by decide) dX1_habit_16 ?_
      refine zo_iconst hY 1 (by decide) dX1_habit_17 ?_
      refine zo_callS hY (fun q hq => mt_X1_in hJ hCon N x3 0 1 Ω4 q hq) (by decide) (by decide) cn_X1_in rfl q239 q240 q78 q241 (Nat.le_of_ble_eq_true rfl) dX1_habit_18 rfl h (ci_k (fun r8 Ω7 res h => ?_))
      refine zo_if_ne hY 32 dX1_habit_21 (by decide) h (fun c9 h => ?_) (fun c9 h => ?_)
      · refine zo_sub [] rfl ?_
        exact ct_X1_habit_24 hY hJ hCon hr N Ω7 _ h
      · refine zo_aload_n hY dX1_habit_32 rfl 0 rfl ?_
        refine zo_iload_n hY dX1_habit_33 rfl 2 rfl ?_
        refine zo_callV hY (fun q hq => mt_X1_findHabits hJ hCon N x2 Ω7 q hq) (by decide) (by decide) (by decide) ⟨rfl, cn_X1_findHabits⟩ rfl q820 q822 qs18 q78 q823 (Nat.le_of_ble_eq_true rfl) dX1_habit_34 rfl h (cv_k (fun Ω10 res h => ?_))
        refine zo_aload_n hY dX1_habit_37 rfl 0 rfl ?_
        refine zo_iload_n hY dX1_habit_38 rfl 1 rfl ?_
        refine zo_callV hY (fun q hq => mt_X1_isLed hJ hCon N x1 Ω10 q hq) (by decide) (by decide) (by decide) ⟨rfl, cn_X1_isLed⟩ rfl q869 q871 qs20 q78 q872 (Nat.le_of_ble_eq_true rfl) dX1_habit_39 rfl h (ci_k (fun r12 Ω11 res h => ?_))
        refine zo_if_ne hY 53 dX1_habit_42 (by decide) h (fun c13 h => ?_) (fun c13 h => ?_)
        · exact zo_throwN hY hr (by decide) q1242 dX1_habit_45 dX1_habit_48 dX1_habit_49 dX1_habit_52 h
        · refine zo_iload_n hY dX1_habit_53 rfl 3 rfl ?_
          refine zo_if_ne hY 69 dX1_habit_54 (by decide) h (fun c14 h => ?_) (fun c14 h => ?_)
          · refine zo_aload_n hY dX1_habit_57 rfl 0 rfl ?_
            refine zo_getC hY LX1_64_0 rfl (fun Ω q => (hCon Ω q).1 16 _ rfl) dX1_habit_58 ?_
            refine zo_iconst hY 0 (by decide) dX1_habit_61 ?_
            refine zo_aldW hY hCon dX1_habit_62 h (fun j15 h => ?_)
            refine zo_iload_n hY dX1_habit_63 rfl 1 rfl ?_
            refine zo_ald hY (by decide) (Or.inl ⟨rfl, dX1_habit_64⟩) (fun _ => rfl) h (fun j16 h => ?_)
            refine zo_ineg hY dX1_habit_65 ?_
            refine zo_goto hY 77 dX1_habit_66 (by decide) ?_
            refine zo_sub [] rfl ?_
            exact ct_X1_habit_77 hY hJ hCon hr N (-(gI Ω11 36 j15 j16)) Ω11 _ h
          · refine zo_aload_n hY dX1_habit_69 rfl 0 rfl ?_
            refine zo_getC hY LX1_64_0 rfl (fun Ω q => (hCon Ω q).1 16 _ rfl) dX1_habit_70 ?_
            refine zo_iload_n hY dX1_habit_73 rfl 1 rfl ?_
            refine zo_aldW hY hCon dX1_habit_74 h (fun j17 h => ?_)
            refine zo_iconst hY 0 (by decide) dX1_habit_75 ?_
            refine zo_ald hY (by decide) (Or.inl ⟨rfl, dX1_habit_76⟩) (fun _ => rfl) h (fun j18 h => ?_)
            refine zo_sub [] rfl ?_
            exact ct_X1_habit_77 hY hJ hCon hr N (gI Ω11 36 j17 j18) Ω11 _ h
theorem dX1_least_0 : decode cX1_least 0 = .ok (.iconst 0, 1) := by decide +kernel
theorem dX1_least_1 : decode cX1_least 1 = .ok (.aload_n 1, 1) := by decide +kernel
theorem dX1_least_2 : decode cX1_least 2 = .ok (.getfield 165, 3) := by decide +kernel
theorem dX1_least_5 : decode cX1_least 5 = .ok (.aload_n 0, 1) := by decide +kernel
theorem dX1_least_6 : decode cX1_least 6 = .ok (.getfield 64, 3) := by decide +kernel
theorem dX1_least_9 : decode cX1_least 9 = .ok (.aload_n 1, 1) := by decide +kernel
theorem dX1_least_10 : decode cX1_least 10 = .ok (.getfield 162, 3) := by decide +kernel
theorem dX1_least_13 : decode cX1_least 13 = .ok (.aaload, 1) := by decide +kernel
theorem dX1_least_14 : decode cX1_least 14 = .ok (.iconst 0, 1) := by decide +kernel
theorem dX1_least_15 : decode cX1_least 15 = .ok (.iaload, 1) := by decide +kernel
theorem dX1_least_16 : decode cX1_least 16 = .ok (.isub, 1) := by decide +kernel
theorem dX1_least_17 : decode cX1_least 17 = .ok (.invokestatic 247, 3) := by decide +kernel
theorem dX1_least_20 : decode cX1_least 20 = .ok (.ireturn, 1) := by decide +kernel
def fn_X1_least (N : Nat) (x1 : Nat) (Ω : zo_O) : Option zo_R :=
  ix (gI Ω 3 x1 2) 5 fun j1 =>
  ix 0 (gL Ω 36 j1) fun j2 =>
  rI (mx 0 ((gI Ω 3 x1 3) - (gI Ω 36 j1 j2))) Ω
theorem mt_X1_least {G : zo_G} {J : zo_O → Prop} (hJ : zo_JC J) (hCon : ∀ Ω, J Ω → zo_Con Ω) (N : Nat) (x1 : Nat) (Ω : zo_O) (res : zo_R) (h : fn_X1_least N x1 Ω = some res) : zo_MT G J yX1_least cX1_least 2 (Option.some Jvm.ClassFile.FieldType.int) 1 [vr 0 0, vr 3 x1] Ω res := by
  refine zo_enter (by decide) rfl (Nat.le_of_ble_eq_true rfl) (fun Y hY eJ hr hmn => ?_)
  subst eJ
  show TW Y res Ω 0 [(0, vr 0 0), (1, vr 3 x1)] []
  unfold fn_X1_least at h
  refine zo_iconst hY 0 (by decide) dX1_least_0 ?_
  refine zo_aload_n hY dX1_least_1 rfl 1 rfl ?_
  refine zo_getI hY LX1_165_3 rfl dX1_least_2 ?_
  refine zo_aload_n hY dX1_least_5 rfl 0 rfl ?_
  refine zo_getC hY LX1_64_0 rfl (fun Ω q => (hCon Ω q).1 16 _ rfl) dX1_least_6 ?_
  refine zo_aload_n hY dX1_least_9 rfl 1 rfl ?_
  refine zo_getI hY LX1_162_3 rfl dX1_least_10 ?_
  refine zo_aldW hY hCon dX1_least_13 h (fun j1 h => ?_)
  refine zo_iconst hY 0 (by decide) dX1_least_14 ?_
  refine zo_ald hY (by decide) (Or.inl ⟨rfl, dX1_least_15⟩) (fun _ => rfl) h (fun j2 h => ?_)
  refine zo_isub hY dX1_least_16 ?_
  refine zo_mmax hY (by decide) q881 (Nat.le_of_ble_eq_true rfl) dX1_least_17 ?_
  exact zo_iret hY hr dX1_least_20 h
theorem dX1_most_0 : decode cX1_most 0 = .ok (.iconst 0, 1) := by decide +kernel
theorem dX1_most_1 : decode cX1_most 1 = .ok (.aload_n 1, 1) := by decide +kernel
theorem dX1_most_2 : decode cX1_most 2 = .ok (.getfield 165, 3) := by decide +kernel
theorem dX1_most_5 : decode cX1_most 5 = .ok (.aload_n 0, 1) := by decide +kernel
theorem dX1_most_6 : decode cX1_most 6 = .ok (.getfield 64, 3) := by decide +kernel
theorem dX1_most_9 : decode cX1_most 9 = .ok (.iconst 0, 1) := by decide +kernel
theorem dX1_most_10 : decode cX1_most 10 = .ok (.aaload, 1) := by decide +kernel
theorem dX1_most_11 : decode cX1_most 11 = .ok (.aload_n 1, 1) := by decide +kernel
theorem dX1_most_12 : decode cX1_most 12 = .ok (.getfield 162, 3) := by decide +kernel
theorem dX1_most_15 : decode cX1_most 15 = .ok (.iaload, 1) := by decide +kernel
theorem dX1_most_16 : decode cX1_most 16 = .ok (.iadd, 1) := by decide +kernel
theorem dX1_most_17 : decode cX1_most 17 = .ok (.invokestatic 247, 3) := by decide +kernel
theorem dX1_most_20 : decode cX1_most 20 = .ok (.ireturn, 1) := by decide +kernel
def fn_X1_most (N : Nat) (x1 : Nat) (Ω : zo_O) : Option zo_R :=
  ix 0 5 fun j1 =>
  ix (gI Ω 3 x1 2) (gL Ω 36 j1) fun j2 =>
  rI (mx 0 ((gI Ω 3 x1 3) + (gI Ω 36 j1 j2))) Ω
theorem mt_X1_most {G : zo_G} {J : zo_O → Prop} (hJ : zo_JC J) (hCon : ∀ Ω, J Ω → zo_Con Ω) (N : Nat) (x1 : Nat) (Ω : zo_O) (res : zo_R) (h : fn_X1_most N x1 Ω = some res) : zo_MT G J yX1_most cX1_most 2 (Option.some Jvm.ClassFile.FieldType.int) 1 [vr 0 0, vr 3 x1] Ω res := by
  refine zo_enter (by decide) rfl (Nat.le_of_ble_eq_true rfl) (fun Y hY eJ hr hmn => ?_)
  subst eJ
  show TW Y res Ω 0 [(0, vr 0 0), (1, vr 3 x1)] []
  unfold fn_X1_most at h
  refine zo_iconst hY 0 (by decide) dX1_most_0 ?_
  refine zo_aload_n hY dX1_most_1 rfl 1 rfl ?_
  refine zo_getI hY LX1_165_3 rfl dX1_most_2 ?_
  refine zo_aload_n hY dX1_most_5 rfl 0 rfl ?_
  refine zo_getC hY LX1_64_0 rfl (fun Ω q => (hCon Ω q).1 16 _ rfl) dX1_most_6 ?_
  refine zo_iconst hY 0 (by decide) dX1_most_9 ?_
  refine zo_aldW hY hCon dX1_most_10 h (fun j1 h => ?_)
  refine zo_aload_n hY dX1_most_11 rfl 1 rfl ?_
  refine zo_getI hY LX1_162_3 rfl dX1_most_12 ?_
  refine zo_ald hY (by decide) (Or.inl ⟨rfl, dX1_most_15⟩) (fun _ => rfl) h (fun j2 h => ?_)
  refine zo_iadd hY dX1_most_16 ?_
  refine zo_mmax hY (by decide) q881 (Nat.le_of_ble_eq_true rfl) dX1_most_17 ?_
  exact zo_iret hY hr dX1_most_20 h
theorem dX1_circleAt_0 : decode cX1_circleAt 0 = .ok (.iload_n 1, 1) := by decide +kernel
theorem dX1_circleAt_1 : decode cX1_circleAt 1 = .ok (.iconst 0, 1) := by decide +kernel
theorem dX1_circleAt_2 : decode cX1_circleAt 2 = .ok (.aload_n 0, 1) := by decide +kernel
theorem dX1_circleAt_3 : decode cX1_circleAt 3 = .ok (.getfield 20, 3) := by decide +kernel
theorem dX1_circleAt_6 : decode cX1_circleAt 6 = .ok (.invokevirtual 85, 3) := by decide +kernel
theorem dX1_circleAt_9 : decode cX1_circleAt 9 = .ok (.iconst 1, 1) := by decide +kernel
theorem dX1_circleAt_10 : decode cX1_circleAt 10 = .ok (.isub, 1) := by decide +kernel
theorem dX1_circleAt_11 : decode cX1_circleAt 11 = .ok (.invokestatic 3, 3) := by decide +kernel
theorem dX1_circleAt_14 : decode cX1_circleAt 14 = .ok (.ifCond .eq 25, 3) := by decide +kernel
theorem dX1_circleAt_17 : decode cX1_circleAt 17 = .ok (.aload_n 0, 1) := by decide +kernel
theorem dX1_circleAt_18 : decode cX1_circleAt 18 = .ok (.iload_n 2, 1) := by decide +kernel
theorem dX1_circleAt_19 : decode cX1_circleAt 19 = .ok (.invokevirtual 153, 3) := by decide +kernel
theorem dX1_circleAt_22 : decode cX1_circleAt 22 = .ok (.ifCond .eq 17, 3) := by decide +kernel
theorem dX1_circleAt_25 : decode cX1_circleAt 25 = .ok (.aload_n 0, 1) := by decide +kernel
theorem dX1_circleAt_26 : decode cX1_circleAt 26 = .ok (.getfield 20, 3) := by decide +kernel
theorem dX1_circleAt_29 : decode cX1_circleAt 29 = .ok (.iload_n 1, 1) := by decide +kernel
theorem dX1_circleAt_30 : decode cX1_circleAt 30 = .ok (.invokevirtual 116, 3) := by decide +kernel
theorem dX1_circleAt_33 : decode cX1_circleAt 33 = .ok (.checkcast 114, 3) := by decide +kernel
theorem dX1_circleAt_36 : decode cX1_circleAt 36 = .ok (.goto 4, 3) := by decide +kernel
theorem dX1_circleAt_39 : decode cX1_circleAt 39 = .ok (.aconst_null, 1) := by decide +kernel
theorem dX1_circleAt_40 : decode cX1_circleAt 40 = .ok (.areturn, 1) := by decide +kernel
def fn_X1_circleAt_40 (N : Nat)  (s0 : Option zo_T) (Ω : zo_O) : Option zo_R :=
  rR s0 Ω
theorem ct_X1_circleAt_40 {Y : zo_Y} (hY : zo_Gd Y cX1_circleAt 3 RX1 3) (hJ : zo_JC (zo_J Y)) (hCon : ∀ Ω, zo_J Y Ω → zo_Con Ω) (hr : zo_rt Y (Option.some (Jvm.ClassFile.FieldType.object "LichenTable$Circle"))) (N : Nat)   (s0 : Option zo_T) (Ω : zo_O) (res : zo_R) (h : fn_X1_circleAt_40 N  s0 Ω = some res) : TW Y res Ω 40 [] [vo s0] := by
  unfold fn_X1_circleAt_40 at h
  exact zo_aret hY hr (Or.inl ⟨_, rfl⟩) dX1_circleAt_40 h
def fn_X1_circleAt_39 (N : Nat)   (Ω : zo_O) : Option zo_R :=
  fn_X1_circleAt_40 N none Ω
theorem ct_X1_circleAt_39 {Y : zo_Y} (hY : zo_Gd Y cX1_circleAt 3 RX1 3) (hJ : zo_JC (zo_J Y)) (hCon : ∀ Ω, zo_J Y Ω → zo_Con Ω) (hr : zo_rt Y (Option.some (Jvm.ClassFile.FieldType.object "LichenTable$Circle"))) (N : Nat)    (Ω : zo_O) (res : zo_R) (h : fn_X1_circleAt_39 N   Ω = some res) : TW Y res Ω 39 [] [] := by
  unfold fn_X1_circleAt_39 at h
  refine zo_null hY dX1_circleAt_39 ?_
  exact ct_X1_circleAt_40 hY hJ hCon hr N none Ω _ h
def fn_X1_circleAt (N : Nat) (x1 : Int32) (x2 : Int32) (Ω : zo_O) : Option zo_R :=
  ci (fn_J2_size N 1 Ω) fun r2 Ω1 =>
  ci (fn_X1_in N x1 0 (r2 - 1) Ω1) fun r4 Ω3 =>
  if r4 = 0 then (
    fn_X1_circleAt_39 N Ω3
    ) else
  ci (fn_X1_isKnown N x2 Ω3) fun r7 Ω6 =>
  if r7 = 0 then (
    fn_X1_circleAt_39 N Ω6
    ) else
  cr (fn_J2_get N 1 x1 Ω6) fun r10 Ω9 =>
  bk r10 3 fun j11 =>
  fn_X1_circleAt_40 N (some (3, j11)) Ω9
theorem mt_X1_circleAt {G : zo_G} {J : zo_O → Prop} (hJ : zo_JC J) (hCon : ∀ Ω, J Ω → zo_Con Ω) (N : Nat) (x1 : Int32) (x2 : Int32) (Ω : zo_O) (res : zo_R) (h : fn_X1_circleAt N x1 x2 Ω = some res) : zo_MT G J yX1_circleAt cX1_circleAt 3 (Option.some (Jvm.ClassFile.FieldType.object "LichenTable$Circle")) 3 [vr 0 0, vi x1, vi x2] Ω res := by
  refine zo_enter (by decide) rfl (Nat.le_of_ble_eq_true rfl) (fun Y hY eJ hr hmn => ?_)
  subst eJ
  show TW Y res Ω 0 [(0, vr 0 0), (1, vi x1), (2, vi x2)] []
  unfold fn_X1_circleAt at h
  refine zo_iload_n hY dX1_circleAt_0 rfl 1 rfl ?_
  refine zo_iconst hY 0 (by decide) dX1_circleAt_1 ?_
  refine zo_aload_n hY dX1_circleAt_2 rfl 0 rfl ?_
  refine zo_getC hY LX1_20_0 rfl (fun Ω q => (hCon Ω q).1 1 _ rfl) dX1_circleAt_3 ?_
  refine zo_callV hY (fun q hq => mt_J2_size hJ hCon N 1 Ω q hq) (by decide) (by decide) (by decide) ⟨rfl, cn_J2_size⟩ rfl q245 q246 q247 q81 q248 (Nat.le_of_ble_eq_true rfl) dX1_circleAt_6 rfl h (ci_k (fun r2 Ω1 res h => ?_))
  refine zo_iconst hY 1 (by decide) dX1_circleAt_9 ?_
  refine zo_isub hY dX1_circleAt_10 ?_
  refine zo_callS hY (fun q hq => mt_X1_in hJ hCon N x1 0 (r2 - 1) Ω1 q hq) (by decide) (by decide) cn_X1_in rfl q239 q240 q78 q241 (Nat.le_of_ble_eq_true rfl) dX1_circleAt_11 rfl h (ci_k (fun r4 Ω3 res h => ?_))
  refine zo_if_eq hY 39 dX1_circleAt_14 (by decide) h (fun c5 h => ?_) (fun c5 h => ?_)
  · refine zo_sub [] rfl ?_
    exact ct_X1_circleAt_39 hY hJ hCon hr N Ω3 _ h
  · refine zo_aload_n hY dX1_circleAt_17 rfl 0 rfl ?_
    refine zo_iload_n hY dX1_circleAt_18 rfl 2 rfl ?_
    refine zo_callV hY (fun q hq => mt_X1_isKnown hJ hCon N x2 Ω3 q hq) (by decide) (by decide) (by decide) ⟨rfl, cn_X1_isKnown⟩ rfl q816 q818 qs17 q78 q819 (Nat.le_of_ble_eq_true rfl) dX1_circleAt_19 rfl h (ci_k (fun r7 Ω6 res h => ?_))
    refine zo_if_eq hY 39 dX1_circleAt_22 (by decide) h (fun c8 h => ?_) (fun c8 h => ?_)
    · refine zo_sub [] rfl ?_
      exact ct_X1_circleAt_39 hY hJ hCon hr N Ω6 _ h
    · refine zo_aload_n hY dX1_circleAt_25 rfl 0 rfl ?_
      refine zo_getC hY LX1_20_0 rfl (fun Ω q => (hCon Ω q).1 1 _ rfl) dX1_circleAt_26 ?_
      refine zo_iload_n hY dX1_circleAt_29 rfl 1 rfl ?_
      refine zo_callV hY (fun q hq => mt_J2_get hJ hCon N 1 x1 Ω6 q hq) (by decide) (by decide) (by decide) ⟨rfl, cn_J2_get⟩ rfl q368 q369 q370 q81 q371 (Nat.le_of_ble_eq_true rfl) dX1_circleAt_30 rfl h (cr_k (fun r10 Ω9 res h => ?_))
      refine zo_castK hY (by decide) q366 (Or.inl rfl) dX1_circleAt_33 h (fun j11 h => ?_)
      refine zo_goto hY 40 dX1_circleAt_36 (by decide) ?_
      refine zo_sub [] rfl ?_
      exact ct_X1_circleAt_40 hY hJ hCon hr N (some (3, j11)) Ω9 _ h
theorem dX1_used_0 : decode cX1_used 0 = .ok (.aload_n 0, 1) := by decide +kernel
theorem dX1_used_1 : decode cX1_used 1 = .ok (.iload_n 1, 1) := by decide +kernel
theorem dX1_used_2 : decode cX1_used 2 = .ok (.iload_n 2, 1) := by decide +kernel
theorem dX1_used_3 : decode cX1_used 3 = .ok (.invokevirtual 250, 3) := by decide +kernel
theorem dX1_used_6 : decode cX1_used 6 = .ok (.astore_n 3, 1) := by decide +kernel
theorem dX1_used_7 : decode cX1_used 7 = .ok (.aload_n 3, 1) := by decide +kernel
theorem dX1_used_8 : decode cX1_used 8 = .ok (.ifnonnull 5, 3) := by decide +kernel
theorem dX1_used_11 : decode cX1_used 11 = .ok (.iconst (-1), 1) := by decide +kernel
theorem dX1_used_12 : decode cX1_used 12 = .ok (.ireturn, 1) := by decide +kernel
theorem dX1_used_13 : decode cX1_used 13 = .ok (.aload_n 0, 1) := by decide +kernel
theorem dX1_used_14 : decode cX1_used 14 = .ok (.iload_n 2, 1) := by decide +kernel
theorem dX1_used_15 : decode cX1_used 15 = .ok (.invokevirtual 230, 3) := by decide +kernel
theorem dX1_used_18 : decode cX1_used 18 = .ok (.aload_n 0, 1) := by decide +kernel
theorem dX1_used_19 : decode cX1_used 19 = .ok (.aload_n 3, 1) := by decide +kernel
theorem dX1_used_20 : decode cX1_used 20 = .ok (.iload_n 2, 1) := by decide +kernel
theorem dX1_used_21 : decode cX1_used 21 = .ok (.invokevirtual 254, 3) := by decide +kernel
theorem dX1_used_24 : decode cX1_used 24 = .ok (.ifCond .eq 7, 3) := by decide +kernel
theorem dX1_used_27 : decode cX1_used 27 = .ok (.iconst 1, 1) := by decide +kernel
theorem dX1_used_28 : decode cX1_used 28 = .ok (.goto 4, 3) := by decide +kernel
theorem dX1_used_31 : decode cX1_used 31 = .ok (.iconst 0, 1) := by decide +kernel
theorem dX1_used_32 : decode cX1_used 32 = .ok (.ireturn, 1) := by decide +kernel
def fn_X1_used_32 (N : Nat)  (s0 : Int32) (Ω : zo_O) : Option zo_R :=
  rI s0 Ω
theorem ct_X1_used_32 {Y : zo_Y} (hY : zo_Gd Y cX1_used 4 RX1 5) (hJ : zo_JC (zo_J Y)) (hCon : ∀ Ω, zo_J Y Ω → zo_Con Ω) (hr : zo_rt Y (Option.some Jvm.ClassFile.FieldType.int)) (N : Nat)   (s0 : Int32) (Ω : zo_O) (res : zo_R) (h : fn_X1_used_32 N  s0 Ω = some res) : TW Y res Ω 32 [] [vi s0] := by
  unfold fn_X1_used_32 at h
  exact zo_iret hY hr dX1_used_32 h
def fn_X1_used (N : Nat) (x1 : Int32) (x2 : Int32) (Ω : zo_O) : Option zo_R :=
  cr (fn_X1_circleAt N x1 x2 Ω) fun r2 Ω1 =>
  cn r2 3 (
    rI ((-1)) Ω1
    ) fun n3 =>
  cv (fn_X1_findHabits N x2 Ω1) fun Ω4 =>
  ci (fn_X1_isUsed N n3 x2 Ω4) fun r6 Ω5 =>
  if r6 = 0 then (
    fn_X1_used_32 N 0 Ω5
    ) else
  fn_X1_used_32 N 1 Ω5
theorem mt_X1_used {G : zo_G} {J : zo_O → Prop} (hJ : zo_JC J) (hCon : ∀ Ω, J Ω → zo_Con Ω) (N : Nat) (x1 : Int32) (x2 : Int32) (Ω : zo_O) (res : zo_R) (h : fn_X1_used N x1 x2 Ω = some res) : zo_MT G J yX1_used cX1_used 4 (Option.some Jvm.ClassFile.FieldType.int) 5 [vr 0 0, vi x1, vi x2] Ω res := by
  refine zo_enter (by decide) rfl (Nat.le_of_ble_eq_true rfl) (fun Y hY eJ hr hmn => ?_)
  subst eJ
  show TW Y res Ω 0 [(0, vr 0 0), (1, vi x1), (2, vi x2)] []
  unfold fn_X1_used at h
  refine zo_aload_n hY dX1_used_0 rfl 0 rfl ?_
  refine zo_iload_n hY dX1_used_1 rfl 1 rfl ?_
  refine zo_iload_n hY dX1_used_2 rfl 2 rfl ?_
  refine zo_callV hY (fun q hq => mt_X1_circleAt hJ hCon N x1 x2 Ω q hq) (by decide) (by decide) (by decide) ⟨rfl, cn_X1_circleAt⟩ rfl q812 q814 qs16 q78 q815 (Nat.le_of_ble_eq_true rfl) dX1_used_3 rfl h (cr_k (fun r2 Ω1 res h => ?_))
  refine zo_astore_n hY dX1_used_6 rfl (by decide) rfl (ls' := [(3, vo r2), (0, vr 0 0), (1, vi x1), (2, vi x2)]) rfl ?_
  refine zo_aload_n hY dX1_used_7 rfl 0 rfl ?_
  refine zo_ifnonnull hY (K := 3) 13 dX1_used_8 (by decide) h (fun e8 h => ?_) (fun n3 e8 h => ?_)
  · refine zo_iconst hY (-1) (by decide) dX1_used_11 ?_
    exact zo_iret hY hr dX1_used_12 h
  · rw [e8]
    refine zo_aload_n hY dX1_used_13 rfl 1 rfl ?_
    refine zo_iload_n hY dX1_used_14 rfl 3 rfl ?_
    refine zo_callV hY (fun q hq => mt_X1_findHabits hJ hCon N x2 Ω1 q hq) (by decide) (by decide) (by decide) ⟨rfl, cn_X1_findHabits⟩ rfl q820 q822 qs18 q78 q823 (Nat.le_of_ble_eq_true rfl) dX1_used_15 rfl h (cv_k (fun Ω4 res h => ?_))
    refine zo_aload_n hY dX1_used_18 rfl 1 rfl ?_
    refine zo_aload_n hY dX1_used_19 rfl 0 rfl ?_
    refine zo_iload_n hY dX1_used_20 rfl 3 rfl ?_
    refine zo_callV hY (fun q hq => mt_X1_isUsed hJ hCon N n3 x2 Ω4 q hq) (by decide) (by decide) (by decide) ⟨rfl, cn_X1_isUsed⟩ rfl q832 q834 qs19 q78 q835 (Nat.le_of_ble_eq_true rfl) dX1_used_21 rfl h (ci_k (fun r6 Ω5 res h => ?_))
    refine zo_if_eq hY 31 dX1_used_24 (by decide) h (fun c7 h => ?_) (fun c7 h => ?_)
    · refine zo_iconst hY 0 (by decide) dX1_used_31 ?_
      refine zo_sub [] rfl ?_
      exact ct_X1_used_32 hY hJ hCon hr N 0 Ω5 _ h
    · refine zo_iconst hY 1 (by decide) dX1_used_27 ?_
      refine zo_goto hY 32 dX1_used_28 (by decide) ?_
      refine zo_sub [] rfl ?_
      exact ct_X1_used_32 hY hJ hCon hr N 1 Ω5 _ h
theorem dX1_trueSize_0 : decode cX1_trueSize 0 = .ok (.aload_n 0, 1) := by decide +kernel
theorem dX1_trueSize_1 : decode cX1_trueSize 1 = .ok (.iload_n 1, 1) := by decide +kernel
theorem dX1_trueSize_2 : decode cX1_trueSize 2 = .ok (.iload_n 2, 1) := by decide +kernel
theorem dX1_trueSize_3 : decode cX1_trueSize 3 = .ok (.invokevirtual 250, 3) := by decide +kernel
theorem dX1_trueSize_6 : decode cX1_trueSize 6 = .ok (.astore 4, 2) := by decide +kernel
theorem dX1_trueSize_8 : decode cX1_trueSize 8 = .ok (.aload 4, 2) := by decide +kernel
theorem dX1_trueSize_10 : decode cX1_trueSize 10 = .ok (.ifnull 12, 3) := by decide +kernel
theorem dX1_trueSize_13 : decode cX1_trueSize 13 = .ok (.iload_n 3, 1) := by decide +kernel
theorem dX1_trueSize_14 : decode cX1_trueSize 14 = .ok (.iconst 0, 1) := by decide +kernel
theorem dX1_trueSize_15 : decode cX1_trueSize 15 = .ok (.iconst 1, 1) := by decide +kernel
theorem dX1_trueSize_16 : decode cX1_trueSize 16 = .ok (.invokestatic 3, 3) := by decide +kernel
theorem dX1_trueSize_19 : decode cX1_trueSize 19 = .ok (.ifCond .ne 5, 3) := by decide +kernel
theorem dX1_trueSize_22 : decode cX1_trueSize 22 = .ok (.iconst (-1), 1) := by decide +kernel
theorem dX1_trueSize_23 : decode cX1_trueSize 23 = .ok (.ireturn, 1) := by decide +kernel
theorem dX1_trueSize_24 : decode cX1_trueSize 24 = .ok (.aload_n 0, 1) := by decide +kernel
theorem dX1_trueSize_25 : decode cX1_trueSize 25 = .ok (.iload_n 2, 1) := by decide +kernel
theorem dX1_trueSize_26 : decode cX1_trueSize 26 = .ok (.invokevirtual 230, 3) := by decide +kernel
theorem dX1_trueSize_29 : decode cX1_trueSize 29 = .ok (.aload_n 0, 1) := by decide +kernel
theorem dX1_trueSize_30 : decode cX1_trueSize 30 = .ok (.aload 4, 2) := by decide +kernel
theorem dX1_trueSize_32 : decode cX1_trueSize 32 = .ok (.iload_n 2, 1) := by decide +kernel
theorem dX1_trueSize_33 : decode cX1_trueSize 33 = .ok (.invokevirtual 254, 3) := by decide +kernel
theorem dX1_trueSize_36 : decode cX1_trueSize 36 = .ok (.ifCond .ne 7, 3) := by decide +kernel
theorem dX1_trueSize_39 : decode cX1_trueSize 39 = .ok (.iconst (-1), 1) := by decide +kernel
theorem dX1_trueSize_40 : decode cX1_trueSize 40 = .ok (.goto 22, 3) := by decide +kernel
theorem dX1_trueSize_43 : decode cX1_trueSize 43 = .ok (.iload_n 3, 1) := by decide +kernel
theorem dX1_trueSize_44 : decode cX1_trueSize 44 = .ok (.ifCond .ne 12, 3) := by decide +kernel
theorem dX1_trueSize_47 : decode cX1_trueSize 47 = .ok (.aload_n 0, 1) := by decide +kernel
theorem dX1_trueSize_48 : decode cX1_trueSize 48 = .ok (.aload 4, 2) := by decide +kernel
theorem dX1_trueSize_50 : decode cX1_trueSize 50 = .ok (.invokevirtual 258, 3) := by decide +kernel
theorem dX1_trueSize_53 : decode cX1_trueSize 53 = .ok (.goto 9, 3) := by decide +kernel
theorem dX1_trueSize_56 : decode cX1_trueSize 56 = .ok (.aload_n 0, 1) := by decide +kernel
theorem dX1_trueSize_57 : decode cX1_trueSize 57 = .ok (.aload 4, 2) := by decide +kernel
theorem dX1_trueSize_59 : decode cX1_trueSize 59 = .ok (.invokevirtual 262, 3) := by decide +kernel
theorem dX1_trueSize_62 : decode cX1_trueSize 62 = .ok (.ireturn, 1) := by decide +kernel
def fn_X1_trueSize_22 (N : Nat)   (Ω : zo_O) : Option zo_R :=
  rI ((-1)) Ω
theorem ct_X1_trueSize_22 {Y : zo_Y} (hY : zo_Gd Y cX1_trueSize 5 RX1 5) (hJ : zo_JC (zo_J Y)) (hCon : ∀ Ω, zo_J Y Ω → zo_Con Ω) (hr : zo_rt Y (Option.some Jvm.ClassFile.FieldType.int)) (N : Nat)    (Ω : zo_O) (res : zo_R) (h : fn_X1_trueSize_22 N   Ω = some res) : TW Y res Ω 22 [] [] := by
  unfold fn_X1_trueSize_22 at h
  refine zo_iconst hY (-1) (by decide) dX1_trueSize_22 ?_
  exact zo_iret hY hr dX1_trueSize_23 h
def fn_X1_trueSize_62 (N : Nat)  (s0 : Int32) (Ω : zo_O) : Option zo_R :=
  rI s0 Ω
theorem ct_X1_trueSize_62 {Y : zo_Y} (hY : zo_Gd Y cX1_trueSize 5 RX1 5) (hJ : zo_JC (zo_J Y)) (hCon : ∀ Ω, zo_J Y Ω → zo_Con Ω) (hr : zo_rt Y (Option.some Jvm.ClassFile.FieldType.int)) (N : Nat)   (s0 : Int32) (Ω : zo_O) (res : zo_R) (h : fn_X1_trueSize_62 N  s0 Ω = some res) : TW Y res Ω 62 [] [vi s0] := by
  unfold fn_X1_trueSize_62 at h
  exact zo_iret hY hr dX1_trueSize_62 h
def fn_X1_trueSize (N : Nat) (x1 : Int32) (x2 : Int32) (x3 : Int32) (Ω : zo_O) : Option zo_R :=
  cr (fn_X1_circleAt N x1 x2 Ω) fun r2 Ω1 =>
  cn r2 3 (
    fn_X1_trueSize_22 N Ω1
    ) fun n3 =>
  ci (fn_X1_in N x3 0 1 Ω1) fun r5 Ω4 =>
  if r5 = 0 then (
    fn_X1_trueSize_22 N Ω4
    ) else
  cv (fn_X1_findHabits N x2 Ω4) fun Ω7 =>
  ci (fn_X1_isUsed N n3 x2 Ω7) fun r9 Ω8 =>
  if r9 = 0 then (
    fn_X1_trueSize_62 N ((-1)) Ω8
    ) else
  if x3 = 0 then (
    ci (fn_X1_least N n3 Ω8) fun r13 Ω12 =>
    fn_X1_trueSize_62 N r13 Ω12
    ) else
  ci (fn_X1_most N n3 Ω8) fun r15 Ω14 =>
  fn_X1_trueSize_62 N r15 Ω14
theorem mt_X1_trueSize {G : zo_G} {J : zo_O → Prop} (hJ : zo_JC J) (hCon : ∀ Ω, J Ω → zo_Con Ω) (N : Nat) (x1 : Int32) (x2 : Int32) (x3 : Int32) (Ω : zo_O) (res : zo_R) (h : fn_X1_trueSize N x1 x2 x3 Ω = some res) : zo_MT G J yX1_trueSize cX1_trueSize 5 (Option.some Jvm.ClassFile.FieldType.int) 5 [vr 0 0, vi x1, vi x2, vi x3] Ω res := by
  refine zo_enter (by decide) rfl (Nat.le_of_ble_eq_true rfl) (fun Y hY eJ hr hmn => ?_)
  subst eJ
  show TW Y res Ω 0 [(0, vr 0 0), (1, vi x1), (2, vi x2), (3, vi x3)] []
  unfold fn_X1_trueSize at h
  refine zo_aload_n hY dX1_trueSize_0 rfl 0 rfl ?_
  refine zo_iload_n hY dX1_trueSize_1 rfl 1 rfl ?_
  refine zo_iload_n hY dX1_trueSize_2 rfl 2 rfl ?_
  refine zo_callV hY (fun q hq => mt_X1_circleAt hJ hCon N x1 x2 Ω q hq) (by decide) (by decide) (by decide) ⟨rfl, cn_X1_circleAt⟩ rfl q812 q814 qs16 q78 q815 (Nat.le_of_ble_eq_true rfl) dX1_trueSize_3 rfl h (cr_k (fun r2 Ω1 res h => ?_))
  refine zo_astore hY dX1_trueSize_6 (by decide) rfl (ls' := [(4, vo r2), (0, vr 0 0), (1, vi x1), (2, vi x2), (3, vi x3)]) rfl ?_
  refine zo_aload hY dX1_trueSize_8 0 rfl ?_
  refine zo_ifnull hY (K := 3) 22 dX1_trueSize_10 (by decide) h (fun e16 h => ?_) (fun n3 e16 h => ?_)
  · refine zo_sub [] rfl ?_
    exact ct_X1_trueSize_22 hY hJ hCon hr N Ω1 _ h
  · rw [e16]
    refine zo_iload_n hY dX1_trueSize_13 rfl 4 rfl ?_
    refine zo_iconst hY 0 (by decide) dX1_trueSize_14 ?_
    refine zo_iconst hY 1 (by decide) dX1_trueSize_15 ?_
    refine zo_callS hY (fun q hq => mt_X1_in hJ hCon N x3 0 1 Ω1 q hq) (by decide) (by decide) cn_X1_in rfl q239 q240 q78 q241 (Nat.le_of_ble_eq_true rfl) dX1_trueSize_16 rfl h (ci_k (fun r5 Ω4 res h => ?_))
    refine zo_if_ne hY 24 dX1_trueSize_19 (by decide) h (fun c6 h => ?_) (fun c6 h => ?_)
    · refine zo_sub [] rfl ?_
      exact ct_X1_trueSize_22 hY hJ hCon hr N Ω4 _ h
    · refine zo_aload_n hY dX1_trueSize_24 rfl 1 rfl ?_
      refine zo_iload_n hY dX1_trueSize_25 rfl 3 rfl ?_
      refine zo_callV hY (fun q hq => mt_X1_findHabits hJ hCon N x2 Ω4 q hq) (by decide) (by decide) (by decide) ⟨rfl, cn_X1_findHabits⟩ rfl q820 q822 qs18 q78 q823 (Nat.le_of_ble_eq_true rfl) dX1_trueSize_26 rfl h (cv_k (fun Ω7 res h => ?_))
      refine zo_aload_n hY dX1_trueSize_29 rfl 1 rfl ?_
      refine zo_aload hY dX1_trueSize_30 0 rfl ?_
      refine zo_iload_n hY dX1_trueSize_32 rfl 3 rfl ?_
      refine zo_callV hY (fun q hq => mt_X1_isUsed hJ hCon N n3 x2 Ω7 q hq) (by decide) (by decide) (by decide) ⟨rfl, cn_X1_isUsed⟩ rfl q832 q834 qs19 q78 q835 (Nat.le_of_ble_eq_true rfl) dX1_trueSize_33 rfl h (ci_k (fun r9 Ω8 res h => ?_))
      refine zo_if_ne hY 43 dX1_trueSize_36 (by decide) h (fun c10 h => ?_) (fun c10 h => ?_)
      · refine zo_iconst hY (-1) (by decide) dX1_trueSize_39 ?_
        refine zo_goto hY 62 dX1_trueSize_40 (by decide) ?_
        refine zo_sub [] rfl ?_
        exact ct_X1_trueSize_62 hY hJ hCon hr N ((-1)) Ω8 _ h
      · refine zo_iload_n hY dX1_trueSize_43 rfl 4 rfl ?_
        refine zo_if_ne hY 56 dX1_trueSize_44 (by decide) h (fun c11 h => ?_) (fun c11 h => ?_)
        · refine zo_aload_n hY dX1_trueSize_47 rfl 1 rfl ?_
          refine zo_aload hY dX1_trueSize_48 0 rfl ?_
          refine zo_callV hY (fun q hq => mt_X1_least hJ hCon N n3 Ω8 q hq) (by decide) (by decide) (by decide) ⟨rfl, cn_X1_least⟩ rfl q877 q879 qs21 q78 q880 (Nat.le_of_ble_eq_true rfl) dX1_trueSize_50 rfl h (ci_k (fun r13 Ω12 res h => ?_))
          refine zo_goto hY 62 dX1_trueSize_53 (by decide) ?_
          refine zo_sub [] rfl ?_
          exact ct_X1_trueSize_62 hY hJ hCon hr N r13 Ω12 _ h
        · refine zo_aload_n hY dX1_trueSize_56 rfl 1 rfl ?_
          refine zo_aload hY dX1_trueSize_57 0 rfl ?_
          refine zo_callV hY (fun q hq => mt_X1_most hJ hCon N n3 Ω8 q hq) (by decide) (by decide) (by decide) ⟨rfl, cn_X1_most⟩ rfl q882 q884 qs22 q78 q885 (Nat.le_of_ble_eq_true rfl) dX1_trueSize_59 rfl h (ci_k (fun r15 Ω14 res h => ?_))
          refine zo_sub [] rfl ?_
          exact ct_X1_trueSize_62 hY hJ hCon hr N r15 Ω14 _ h
