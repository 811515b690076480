set_option maxRecDepth 100000
theorem cn_X2_isKnown : zo_Cn yX2_isKnown 1 := ⟨by decide, by decide, by decide +kernel⟩
theorem cn_X2_habits : zo_Cn yX2_habits 1 := ⟨by decide, by decide, by decide +kernel⟩
theorem LX2_321_1 : zo_FL RX2 321 1 45 := ⟨by decide, by decide, by decide, Or.inl ⟨_, q1316, Or.inl rfl⟩⟩
theorem cn_X2_isMeant : zo_Cn yX2_isMeant 2 := ⟨by decide, by decide, by decide +kernel⟩
theorem LX2_120_1 : zo_FL RX2 120 1 47 := ⟨by decide, by decide, by decide, Or.inl ⟨_, q1318, Or.inl rfl⟩⟩
theorem cn_X2_isUsed : zo_Cn yX2_isUsed 2 := ⟨by decide, by decide, by decide +kernel⟩
theorem cn_X2_lowOf : zo_Cn yX2_lowOf 1 := ⟨by decide, by decide, by decide +kernel⟩
theorem cn_X2_highOf : zo_Cn yX2_highOf 1 := ⟨by decide, by decide, by decide +kernel⟩
theorem LX2_362_1 : zo_FL RX2 362 1 66 := ⟨by decide, by decide, by decide, Or.inl ⟨_, q1337, Or.inl rfl⟩⟩
theorem LX2_365_1 : zo_FL RX2 365 1 67 := ⟨by decide, by decide, by decide, Or.inl ⟨_, q1338, Or.inl rfl⟩⟩
theorem LX2_157_1 : zo_FL RX2 157 1 69 := ⟨by decide, by decide, by decide, Or.inl ⟨_, q1340, Or.inl rfl⟩⟩
theorem LX2_368_1 : zo_FL RX2 368 1 68 := ⟨by decide, by decide, by decide, Or.inl ⟨_, q1339, Or.inl rfl⟩⟩
theorem LX2_160_1 : zo_FL RX2 160 1 70 := ⟨by decide, by decide, by decide, Or.inl ⟨_, q1341, Or.inl rfl⟩⟩
theorem LX2_163_1 : zo_FL RX2 163 1 71 := ⟨by decide, by decide, by decide, Or.inl ⟨_, q1342, Or.inl rfl⟩⟩
theorem LX2_166_1 : zo_FL RX2 166 1 72 := ⟨by decide, by decide, by decide, Or.inl ⟨_, q1343, Or.inl rfl⟩⟩
theorem LX2_175_1 : zo_FL RX2 175 1 76 := ⟨by decide, by decide, by decide, Or.inl ⟨_, q1347, Or.inl rfl⟩⟩
theorem LX2_169_1 : zo_FL RX2 169 1 74 := ⟨by decide, by decide, by decide, Or.inl ⟨_, q1345, Or.inl rfl⟩⟩
theorem LX2_172_1 : zo_FL RX2 172 1 75 := ⟨by decide, by decide, by decide, Or.inl ⟨_, q1346, Or.inl rfl⟩⟩
theorem LX2_388_1 : zo_FL RX2 388 1 73 := ⟨by decide, by decide, by decide, Or.inl ⟨_, q1344, Or.inl rfl⟩⟩
theorem dX2_habit_0 : decode cX2_habit 0 = .ok (.iload_n 1, 1) := by decide +kernel
theorem dX2_habit_1 : decode cX2_habit 1 = .ok (.iconst 0, 1) := by decide +kernel
theorem dX2_habit_2 : decode cX2_habit 2 = .ok (.iconst 4, 1) := by decide +kernel
theorem dX2_habit_3 : decode cX2_habit 3 = .ok (.invokestatic 190, 3) := by decide +kernel
theorem dX2_habit_6 : decode cX2_habit 6 = .ok (.ifCond .eq 24, 3) := by decide +kernel
theorem dX2_habit_9 : decode cX2_habit 9 = .ok (.aload_n 0, 1) := by decide +kernel
theorem dX2_habit_10 : decode cX2_habit 10 = .ok (.iload_n 2, 1) := by decide +kernel
theorem dX2_habit_11 : decode cX2_habit 11 = .ok (.invokevirtual 337, 3) := by decide +kernel
theorem dX2_habit_14 : decode cX2_habit 14 = .ok (.ifCond .eq 16, 3) := by decide +kernel
theorem dX2_habit_17 : decode cX2_habit 17 = .ok (.iload_n 3, 1) := by decide +kernel
theorem dX2_habit_18 : decode cX2_habit 18 = .ok (.iconst 0, 1) := by decide +kernel
theorem dX2_habit_19 : decode cX2_habit 19 = .ok (.iconst 1, 1) := by decide +kernel
theorem dX2_habit_20 : decode cX2_habit 20 = .ok (.invokestatic 190, 3) := by decide +kernel
theorem dX2_habit_23 : decode cX2_habit 23 = .ok (.ifCond .eq 7, 3) := by decide +kernel
theorem dX2_habit_26 : decode cX2_habit 26 = .ok (.iconst 1, 1) := by decide +kernel
theorem dX2_habit_27 : decode cX2_habit 27 = .ok (.goto 4, 3) := by decide +kernel
theorem dX2_habit_30 : decode cX2_habit 30 = .ok (.iconst 0, 1) := by decide +kernel
theorem dX2_habit_31 : decode cX2_habit 31 = .ok (.istore 4, 2) := by decide +kernel
theorem dX2_habit_33 : decode cX2_habit 33 = .ok (.iload 4, 2) := by decide +kernel
theorem dX2_habit_35 : decode cX2_habit 35 = .ok (.ifCond .eq 8, 3) := by decide +kernel
theorem dX2_habit_38 : decode cX2_habit 38 = .ok (.aload_n 0, 1) := by decide +kernel
theorem dX2_habit_39 : decode cX2_habit 39 = .ok (.iload_n 2, 1) := by decide +kernel
theorem dX2_habit_40 : decode cX2_habit 40 = .ok (.invokevirtual 340, 3) := by decide +kernel
theorem dX2_habit_43 : decode cX2_habit 43 = .ok (.iload 4, 2) := by decide +kernel
theorem dX2_habit_45 : decode cX2_habit 45 = .ok (.ifCond .eq 23, 3) := by decide +kernel
theorem dX2_habit_48 : decode cX2_habit 48 = .ok (.aload_n 0, 1) := by decide +kernel
theorem dX2_habit_49 : decode cX2_habit 49 = .ok (.getfield 151, 3) := by decide +kernel
theorem dX2_habit_52 : decode cX2_habit 52 = .ok (.iload_n 1, 1) := by decide +kernel
theorem dX2_habit_53 : decode cX2_habit 53 = .ok (.baload, 1) := by decide +kernel
theorem dX2_habit_54 : decode cX2_habit 54 = .ok (.ifCond .eq 14, 3) := by decide +kernel
theorem dX2_habit_57 : decode cX2_habit 57 = .ok (.aload_n 0, 1) := by decide +kernel
theorem dX2_habit_58 : decode cX2_habit 58 = .ok (.getfield 332, 3) := by decide +kernel
theorem dX2_habit_61 : decode cX2_habit 61 = .ok (.ifCond .ne 7, 3) := by decide +kernel
theorem dX2_habit_64 : decode cX2_habit 64 = .ok (.iconst 1, 1) := by decide +kernel
theorem dX2_habit_65 : decode cX2_habit 65 = .ok (.goto 4, 3) := by decide +kernel
theorem dX2_habit_68 : decode cX2_habit 68 = .ok (.iconst 0, 1) := by decide +kernel
theorem dX2_habit_69 : decode cX2_habit 69 = .ok (.istore 4, 2) := by decide +kernel
theorem dX2_habit_71 : decode cX2_habit 71 = .ok (.aload_n 0, 1) := by decide +kernel
theorem dX2_habit_72 : decode cX2_habit 72 = .ok (.iload 4, 2) := by decide +kernel
theorem dX2_habit_74 : decode cX2_habit 74 = .ok (.ifCond .eq 7, 3) := by decide +kernel
theorem dX2_habit_77 : decode cX2_habit 77 = .ok (.iconst 0, 1) := by decide +kernel
theorem dX2_habit_78 : decode cX2_habit 78 = .ok (.goto 4, 3) := by decide +kernel
theorem dX2_habit_81 : decode cX2_habit 81 = .ok (.iconst 1, 1) := by decide +kernel
theorem dX2_habit_82 : decode cX2_habit 82 = .ok (.putfield 187, 3) := by decide +kernel
theorem dX2_habit_85 : decode cX2_habit 85 = .ok (.iload 4, 2) := by decide +kernel
theorem dX2_habit_87 : decode cX2_habit 87 = .ok (.ifCond .ne 7, 3) := by decide +kernel
theorem dX2_habit_90 : decode cX2_habit 90 = .ok (.iconst 0, 1) := by decide +kernel
theorem dX2_habit_91 : decode cX2_habit 91 = .ok (.goto 22, 3) := by decide +kernel
theorem dX2_habit_94 : decode cX2_habit 94 = .ok (.iload_n 3, 1) := by decide +kernel
theorem dX2_habit_95 : decode cX2_habit 95 = .ok (.ifCond .ne 12, 3) := by decide +kernel
theorem dX2_habit_98 : decode cX2_habit 98 = .ok (.aload_n 0, 1) := by decide +kernel
theorem dX2_habit_99 : decode cX2_habit 99 = .ok (.getfield 145, 3) := by decide +kernel
theorem dX2_habit_102 : decode cX2_habit 102 = .ok (.iload_n 1, 1) := by decide +kernel
theorem dX2_habit_103 : decode cX2_habit 103 = .ok (.iaload, 1) := by decide +kernel
theorem dX2_habit_104 : decode cX2_habit 104 = .ok (.goto 9, 3) := by decide +kernel
theorem dX2_habit_107 : decode cX2_habit 107 = .ok (.aload_n 0, 1) := by decide +kernel
theorem dX2_habit_108 : decode cX2_habit 108 = .ok (.getfield 148, 3) := by decide +kernel
theorem dX2_habit_111 : decode cX2_habit 111 = .ok (.iload_n 1, 1) := by decide +kernel
theorem dX2_habit_112 : decode cX2_habit 112 = .ok (.iaload, 1) := by decide +kernel
theorem dX2_habit_113 : decode cX2_habit 113 = .ok (.ireturn, 1) := by decide +kernel
def fn_X2_habit_113 (N : Nat)  (s0 : Int32) (Ω : zo_O) : Option zo_R :=
  rI s0 Ω
theorem ct_X2_habit_113 {Y : zo_Y} (hY : zo_Gd Y cX2_habit 5 RX2 2) (hJ : zo_JC (zo_J Y)) (hCon : ∀ Ω, zo_J Y Ω → zo_Con Ω) (hr : zo_rt Y (Option.some Jvm.ClassFile.FieldType.int)) (N : Nat)   (s0 : Int32) (Ω : zo_O) (res : zo_R) (h : fn_X2_habit_113 N  s0 Ω = some res) : TW Y res Ω 113 [] [vi s0] := by
  unfold fn_X2_habit_113 at h
  exact zo_iret hY hr dX2_habit_113 h
def fn_X2_habit_82 (N : Nat)  (x1 : Int32) (x3 : Int32) (x4 : Int32) (s0 : Int32) (Ω : zo_O) : Option zo_R :=
  lt (sI Ω 1 0 0 s0) fun Ω1 =>
  if x4 = 0 then (
    fn_X2_habit_113 N 0 Ω1
    ) else
  if x3 = 0 then (
    ix x1 5 fun j4 =>
    fn_X2_habit_113 N (gI Ω1 32 36 j4) Ω1
    ) else
  ix x1 5 fun j5 =>
  fn_X2_habit_113 N (gI Ω1 32 37 j5) Ω1
theorem ct_X2_habit_82 {Y : zo_Y} (hY : zo_Gd Y cX2_habit 5 RX2 2) (hJ : zo_JC (zo_J Y)) (hCon : ∀ Ω, zo_J Y Ω → zo_Con Ω) (hr : zo_rt Y (Option.some Jvm.ClassFile.FieldType.int)) (N : Nat)   (x1 : Int32) (x3 : Int32) (x4 : Int32) (s0 : Int32) (Ω : zo_O) (res : zo_R) (h : fn_X2_habit_82 N  x1 x3 x4 s0 Ω = some res) : TW Y res Ω 82 [(0, vr 1 0), (1, vi x1), (3, vi x3), (4, vi x4)] [vi s0, vr 1 0] := by
  unfold fn_X2_habit_82 at h
  refine zo_putI hY hJ LX2_187_1 rfl (Or.inl rfl) dX2_habit_82 h (fun Ω1 h => ?_)
  refine zo_iload hY dX2_habit_85 3 rfl ?_
  refine zo_if_ne hY 94 dX2_habit_87 (by decide) h (fun c2 h => ?_) (fun c2 h => ?_)
  · refine zo_iconst hY 0 (by decide) dX2_habit_90 ?_
    refine zo_goto hY 113 dX2_habit_91 (by decide) ?_
    refine zo_sub [] rfl ?_
    exact ct_X2_habit_113 hY hJ hCon hr N 0 Ω1 _ h
  · refine zo_iload_n hY dX2_habit_94 rfl 2 rfl ?_
    refine zo_if_ne hY 107 dX2_habit_95 (by decide) h (fun c3 h => ?_) (fun c3 h => ?_)
    · refine zo_aload_n hY dX2_habit_98 rfl 0 rfl ?_
      refine zo_getC hY LX2_145_1 rfl (fun Ω q => (hCon Ω q).2.1 61 _ rfl) dX2_habit_99 ?_
      refine zo_iload_n hY dX2_habit_102 rfl 1 rfl ?_
      refine zo_ald hY (by decide) (Or.inl ⟨rfl, dX2_habit_103⟩) (fun q => (hCon _ q).2.2.2 32 36 5 rfl) h (fun j4 h => ?_)
      refine zo_goto hY 113 dX2_habit_104 (by decide) ?_
      refine zo_sub [] rfl ?_
      exact ct_X2_habit_113 hY hJ hCon hr N (gI Ω1 32 36 j4) Ω1 _ h
    · refine zo_aload_n hY dX2_habit_107 rfl 0 rfl ?_
      refine zo_getC hY LX2_148_1 rfl (fun Ω q => (hCon Ω q).2.1 62 _ rfl) dX2_habit_108 ?_
      refine zo_iload_n hY dX2_habit_111 rfl 1 rfl ?_
      refine zo_ald hY (by decide) (Or.inl ⟨rfl, dX2_habit_112⟩) (fun q => (hCon _ q).2.2.2 32 37 5 rfl) h (fun j5 h => ?_)
      refine zo_sub [] rfl ?_
      exact ct_X2_habit_113 hY hJ hCon hr N (gI Ω1 32 37 j5) Ω1 _ h
def fn_X2_habit_69 (N : Nat)  (x1 : Int32) (x3 : Int32) (s0 : Int32) (Ω : zo_O) : Option zo_R :=
  if s0 = 0 then (
    fn_X2_habit_82 N x1 x3 s0 1 Ω
    ) else
  fn_X2_habit_82 N x1 x3 s0 0 Ω
theorem ct_X2_habit_69 {Y : zo_Y} (hY : zo_Gd Y cX2_habit 5 RX2 2) (hJ : zo_JC (zo_J Y)) (hCon : ∀ Ω, zo_J Y Ω → zo_Con Ω) (hr : zo_rt Y (Option.some Jvm.ClassFile.FieldType.int)) (N : Nat)   (x1 : Int32) (x3 : Int32) (s0 : Int32) (Ω : zo_O) (res : zo_R) (h : fn_X2_habit_69 N  x1 x3 s0 Ω = some res) : TW Y res Ω 69 [(0, vr 1 0), (1, vi x1), (3, vi x3)] [vi s0] := by
  unfold fn_X2_habit_69 at h
  refine zo_istore hY dX2_habit_69 (by decide) rfl (ls' := [(4, vi s0), (0, vr 1 0), (1, vi x1), (3, vi x3)]) rfl ?_
  refine zo_aload_n hY dX2_habit_71 rfl 1 rfl ?_
  refine zo_iload hY dX2_habit_72 0 rfl ?_
  refine zo_if_eq hY 81 dX2_habit_74 (by decide) h (fun c1 h => ?_) (fun c1 h => ?_)
  · refine zo_iconst hY 1 (by decide) dX2_habit_81 ?_
    refine zo_sub [1, 2, 3, 0] rfl ?_
    exact ct_X2_habit_82 hY hJ hCon hr N x1 x3 s0 1 Ω _ h
  · refine zo_iconst hY 0 (by decide) dX2_habit_77 ?_
    refine zo_goto hY 82 dX2_habit_78 (by decide) ?_
    refine zo_sub [1, 2, 3, 0] rfl ?_
    exact ct_X2_habit_82 hY hJ hCon hr N x1 x3 s0 0 Ω _ h
def fn_X2_habit_68 (N : Nat)  (x1 : Int32) (x3 : Int32) (Ω : zo_O) : Option zo_R :=
  fn_X2_habit_69 N x1 x3 0 Ω
theorem ct_X2_habit_68 {Y : zo_Y} (hY : zo_Gd Y cX2_habit 5 RX2 2) (hJ : zo_JC (zo_J Y)) (hCon : ∀ Ω, zo_J Y Ω → zo_Con Ω) (hr : zo_rt Y (Option.some Jvm.ClassFile.FieldType.int)) (N : Nat)   (x1 : Int32) (x3 : Int32) (Ω : zo_O) (res : zo_R) (h : fn_X2_habit_68 N  x1 x3 Ω = some res) : TW Y res Ω 68 [(0, vr 1 0), (1, vi x1), (3, vi x3)] [] := by
  unfold fn_X2_habit_68 at h
  refine zo_iconst hY 0 (by decide) dX2_habit_68 ?_
  exact ct_X2_habit_69 hY hJ hCon hr N x1 x3 0 Ω _ h
def fn_X2_habit_43 (N : Nat)  (x1 : Int32) (x3 : Int32) (x4 : Int32) (Ω : zo_O) : Option zo_R :=
  if x4 = 0 then (
    fn_X2_habit_68 N x1 x3 Ω
    ) else
  ix x1 5 fun j2 =>
  if gI Ω 33 3 j2 = 0 then (
    fn_X2_habit_68 N x1 x3 Ω
    ) else
  if gI Ω 1 0 65 = 0 then (
    fn_X2_habit_69 N x1 x3 1 Ω
    ) else
  fn_X2_habit_68 N x1 x3 Ω
theorem ct_X2_habit_43 {Y : zo_Y} (hY : zo_Gd Y cX2_habit 5 RX2 2) (hJ : zo_JC (zo_J Y)) (hCon : ∀ Ω, zo_J Y Ω → zo_Con Ω) (hr : zo_rt Y (Option.some Jvm.ClassFile.FieldType.int)) (N : Nat)   (x1 : Int32) (x3 : Int32) (x4 : Int32) (Ω : zo_O) (res : zo_R) (h : fn_X2_habit_43 N  x1 x3 x4 Ω = some res) : TW Y res Ω 43 [(0, vr 1 0), (1, vi x1), (3, vi x3), (4, vi x4)] [] := by
  unfold fn_X2_habit_43 at h
  refine zo_iload hY dX2_habit_43 3 rfl ?_
  refine zo_if_eq hY 68 dX2_habit_45 (by decide) h (fun c1 h => ?_) (fun c1 h => ?_)
  · refine zo_sub [0, 1, 2] rfl ?_
    exact ct_X2_habit_68 hY hJ hCon hr N x1 x3 Ω _ h
  · refine zo_aload_n hY dX2_habit_48 rfl 0 rfl ?_
    refine zo_getC hY LX2_151_1 rfl (fun Ω q => (hCon Ω q).2.1 63 _ rfl) dX2_habit_49 ?_
    refine zo_iload_n hY dX2_habit_52 rfl 1 rfl ?_
    refine zo_ald hY (by decide) (Or.inr ⟨Or.inr rfl, dX2_habit_53⟩) (fun q => (hCon _ q).2.2.2 33 3 5 rfl) h (fun j2 h => ?_)
    refine zo_if_eq hY 68 dX2_habit_54 (by decide) h (fun c3 h => ?_) (fun c3 h => ?_)
    · refine zo_sub [0, 1, 2] rfl ?_
      exact ct_X2_habit_68 hY hJ hCon hr N x1 x3 Ω _ h
    · refine zo_aload_n hY dX2_habit_57 rfl 0 rfl ?_
      refine zo_getI hY LX2_332_1 rfl dX2_habit_58 ?_
      refine zo_if_ne hY 68 dX2_habit_61 (by decide) h (fun c4 h => ?_) (fun c4 h => ?_)
      · refine zo_iconst hY 1 (by decide) dX2_habit_64 ?_
        refine zo_goto hY 69 dX2_habit_65 (by decide) ?_
        refine zo_sub [0, 1, 2] rfl ?_
        exact ct_X2_habit_69 hY hJ hCon hr N x1 x3 1 Ω _ h
      · refine zo_sub [0, 1, 2] rfl ?_
        exact ct_X2_habit_68 hY hJ hCon hr N x1 x3 Ω _ h
def fn_X2_habit_31 (N : Nat)  (x1 : Int32) (x2 : Int32) (x3 : Int32) (s0 : Int32) (Ω : zo_O) : Option zo_R :=
  if s0 = 0 then (
    fn_X2_habit_43 N x1 x3 s0 Ω
    ) else
  cv (fn_X2_habits N x2 Ω) fun Ω2 =>
  fn_X2_habit_43 N x1 x3 s0 Ω2
theorem ct_X2_habit_31 {Y : zo_Y} (hY : zo_Gd Y cX2_habit 5 RX2 2) (hJ : zo_JC (zo_J Y)) (hCon : ∀ Ω, zo_J Y Ω → zo_Con Ω) (hr : zo_rt Y (Option.some Jvm.ClassFile.FieldType.int)) (N : Nat)   (x1 : Int32) (x2 : Int32) (x3 : Int32) (s0 : Int32) (Ω : zo_O) (res : zo_R) (h : fn_X2_habit_31 N  x1 x2 x3 s0 Ω = some res) : TW Y res Ω 31 [(0, vr 1 0), (1, vi x1), (2, vi x2), (3, vi x3)] [vi s0] := by
  unfold fn_X2_habit_31 at h
  refine zo_istore hY dX2_habit_31 (by decide) rfl (ls' := [(4, vi s0), (0, vr 1 0), (1, vi x1), (2, vi x2), (3, vi x3)]) rfl ?_
  refine zo_iload hY dX2_habit_33 0 rfl ?_
  refine zo_if_eq hY 43 dX2_habit_35 (by decide) h (fun c1 h => ?_) (fun c1 h => ?_)
  · refine zo_sub [1, 2, 4, 0] rfl ?_
    exact ct_X2_habit_43 hY hJ hCon hr N x1 x3 s0 Ω _ h
  · refine zo_aload_n hY dX2_habit_38 rfl 1 rfl ?_
    refine zo_iload_n hY dX2_habit_39 rfl 3 rfl ?_
    refine zo_callV hY (fun q hq => mt_X2_habits hJ hCon N x2 Ω q hq) (by decide) (by decide) (by decide) ⟨rfl, cn_X2_habits⟩ rfl q1653 q1655 qs50 q82 q1656 (Nat.le_of_ble_eq_true rfl) dX2_habit_40 rfl h (cv_k (fun Ω2 res h => ?_))
    refine zo_sub [1, 2, 4, 0] rfl ?_
    exact ct_X2_habit_43 hY hJ hCon hr N x1 x3 s0 Ω2 _ h
def fn_X2_habit_30 (N : Nat)  (x1 : Int32) (x2 : Int32) (x3 : Int32) (Ω : zo_O) : Option zo_R :=
  fn_X2_habit_31 N x1 x2 x3 0 Ω
theorem ct_X2_habit_30 {Y : zo_Y} (hY : zo_Gd Y cX2_habit 5 RX2 2) (hJ : zo_JC (zo_J Y)) (hCon : ∀ Ω, zo_J Y Ω → zo_Con Ω) (hr : zo_rt Y (Option.some Jvm.ClassFile.FieldType.int)) (N : Nat)   (x1 : Int32) (x2 : Int32) (x3 : Int32) (Ω : zo_O) (res : zo_R) (h : fn_X2_habit_30 N  x1 x2 x3 Ω = some res) : TW Y res Ω 30 [(0, vr 1 0), (1, vi x1), (2, vi x2), (3, vi x3)] [] := by
  unfold fn_X2_habit_30 at h
  refine zo_iconst hY 0 (by decide) dX2_habit_30 ?_
  exact ct_X2_habit_31 hY hJ hCon hr N x1 x2 x3 0 Ω _ h
def fn_X2_habit (N : Nat) (x1 : Int32) (x2 : Int32) (x3 : Int32) (Ω : zo_O) : Option zo_R :=
  ci (fn_X2_within N x1 0 4 Ω) fun r2 Ω1 =>
  if r2 = 0 then (
    fn_X2_habit_30 N x1 x2 x3 Ω1
    ) else
  ci (fn_X2_isKnown N x2 Ω1) fun r5 Ω4 =>
  if r5 = 0 then (
    fn_X2_habit_30 N x1 x2 x3 Ω4
    ) else
  ci (fn_X2_within N x3 0 1 Ω4) fun r8 Ω7 =>
  if r8 = 0 then (
    fn_X2_habit_30 N x1 x2 x3 Ω7
    ) else
  fn_X2_habit_31 N x1 x2 x3 1 Ω7
theorem mt_X2_habit {G : zo_G} {J : zo_O → Prop} (hJ : zo_JC J) (hCon : ∀ Ω, J Ω → zo_Con Ω) (N : Nat) (x1 : Int32) (x2 : Int32) (x3 : Int32) (Ω : zo_O) (res : zo_R) (h : fn_X2_habit N x1 x2 x3 Ω = some res) : zo_MT G J yX2_habit cX2_habit 5 (Option.some Jvm.ClassFile.FieldType.int) 2 [vr 1 0, vi x1, vi x2, vi x3] Ω res := by
  refine zo_enter (by decide) rfl (Nat.le_of_ble_eq_true rfl) (fun Y hY eJ hr hmn => ?_)
  subst eJ
  show TW Y res Ω 0 [(0, vr 1 0), (1, vi x1), (2, vi x2), (3, vi x3)] []
  unfold fn_X2_habit at h
  refine zo_iload_n hY dX2_habit_0 rfl 1 rfl ?_
  refine zo_iconst hY 0 (by decide) dX2_habit_1 ?_
  refine zo_iconst hY 4 (by decide) dX2_habit_2 ?_
  refine zo_callS hY (fun q hq => mt_X2_within hJ hCon N x1 0 4 Ω q hq) (by decide) (by decide) cn_X2_within rfl q1521 q1522 q82 q1523 (Nat.le_of_ble_eq_true rfl) dX2_habit_3 rfl h (ci_k (fun r2 Ω1 res h => ?_))
  refine zo_if_eq hY 30 dX2_habit_6 (by decide) h (fun c3 h => ?_) (fun c3 h => ?_)
  · exact ct_X2_habit_30 hY hJ hCon hr N x1 x2 x3 Ω1 _ h
  · refine zo_aload_n hY dX2_habit_9 rfl 0 rfl ?_
    refine zo_iload_n hY dX2_habit_10 rfl 2 rfl ?_
    refine zo_callV hY (fun q hq => mt_X2_isKnown hJ hCon N x2 Ω1 q hq) (by decide) (by decide) (by decide) ⟨rfl, cn_X2_isKnown⟩ rfl q1649 q1651 qs49 q82 q1652 (Nat.le_of_ble_eq_true rfl) dX2_habit_11 rfl h (ci_k (fun r5 Ω4 res h => ?_))
    refine zo_if_eq hY 30 dX2_habit_14 (by decide) h (fun c6 h => ?_) (fun c6 h => ?_)
    · exact ct_X2_habit_30 hY hJ hCon hr N x1 x2 x3 Ω4 _ h
    · refine zo_iload_n hY dX2_habit_17 rfl 3 rfl ?_
      refine zo_iconst hY 0 (by decide) dX2_habit_18 ?_
      refine zo_iconst hY 1 (by decide) dX2_habit_19 ?_
      refine zo_callS hY (fun q hq => mt_X2_within hJ hCon N x3 0 1 Ω4 q hq) (by decide) (by decide) cn_X2_within rfl q1521 q1522 q82 q1523 (Nat.le_of_ble_eq_true rfl) dX2_habit_20 rfl h (ci_k (fun r8 Ω7 res h => ?_))
      refine zo_if_eq hY 30 dX2_habit_23 (by decide) h (fun c9 h => ?_) (fun c9 h => ?_)
      · exact ct_X2_habit_30 hY hJ hCon hr N x1 x2 x3 Ω7 _ h
      · refine zo_iconst hY 1 (by decide) dX2_habit_26 ?_
        refine zo_goto hY 31 dX2_habit_27 (by decide) ?_
        exact ct_X2_habit_31 hY hJ hCon hr N x1 x2 x3 1 Ω7 _ h
theorem dX2_isUsed_0 : decode cX2_isUsed 0 = .ok (.aload_n 0, 1) := by decide +kernel
theorem dX2_isUsed_1 : decode cX2_isUsed 1 = .ok (.getfield 47, 3) := by decide +kernel
theorem dX2_isUsed_4 : decode cX2_isUsed 4 = .ok (.iload_n 1, 1) := by decide +kernel
theorem dX2_isUsed_5 : decode cX2_isUsed 5 = .ok (.iaload, 1) := by decide +kernel
theorem dX2_isUsed_6 : decode cX2_isUsed 6 = .ok (.iload_n 2, 1) := by decide +kernel
theorem dX2_isUsed_7 : decode cX2_isUsed 7 = .ok (.if_icmp .gt 24, 3) := by decide +kernel
theorem dX2_isUsed_10 : decode cX2_isUsed 10 = .ok (.aload_n 0, 1) := by decide +kernel
theorem dX2_isUsed_11 : decode cX2_isUsed 11 = .ok (.getfield 332, 3) := by decide +kernel
theorem dX2_isUsed_14 : decode cX2_isUsed 14 = .ok (.ifCond .ne 17, 3) := by decide +kernel
theorem dX2_isUsed_17 : decode cX2_isUsed 17 = .ok (.aload_n 0, 1) := by decide +kernel
theorem dX2_isUsed_18 : decode cX2_isUsed 18 = .ok (.getfield 151, 3) := by decide +kernel
theorem dX2_isUsed_21 : decode cX2_isUsed 21 = .ok (.aload_n 0, 1) := by decide +kernel
theorem dX2_isUsed_22 : decode cX2_isUsed 22 = .ok (.getfield 31, 3) := by decide +kernel
theorem dX2_isUsed_25 : decode cX2_isUsed 25 = .ok (.iload_n 1, 1) := by decide +kernel
theorem dX2_isUsed_26 : decode cX2_isUsed 26 = .ok (.iaload, 1) := by decide +kernel
theorem dX2_isUsed_27 : decode cX2_isUsed 27 = .ok (.baload, 1) := by decide +kernel
theorem dX2_isUsed_28 : decode cX2_isUsed 28 = .ok (.ifCond .ne 5, 3) := by decide +kernel
theorem dX2_isUsed_31 : decode cX2_isUsed 31 = .ok (.iconst 0, 1) := by decide +kernel
theorem dX2_isUsed_32 : decode cX2_isUsed 32 = .ok (.ireturn, 1) := by decide +kernel
theorem dX2_isUsed_33 : decode cX2_isUsed 33 = .ok (.iconst 1, 1) := by decide +kernel
theorem dX2_isUsed_34 : decode cX2_isUsed 34 = .ok (.istore_n 3, 1) := by decide +kernel
theorem dX2_isUsed_35 : decode cX2_isUsed 35 = .ok (.iconst 0, 1) := by decide +kernel
theorem dX2_isUsed_36 : decode cX2_isUsed 36 = .ok (.istore 4, 2) := by decide +kernel
theorem dX2_isUsed_38 : decode cX2_isUsed 38 = .ok (.iload 4, 2) := by decide +kernel
theorem dX2_isUsed_40 : decode cX2_isUsed 40 = .ok (.aload_n 0, 1) := by decide +kernel
theorem dX2_isUsed_41 : decode cX2_isUsed 41 = .ok (.getfield 321, 3) := by decide +kernel
theorem dX2_isUsed_44 : decode cX2_isUsed 44 = .ok (.if_icmp .ge 27, 3) := by decide +kernel
theorem dX2_isUsed_47 : decode cX2_isUsed 47 = .ok (.aload_n 0, 1) := by decide +kernel
theorem dX2_isUsed_48 : decode cX2_isUsed 48 = .ok (.iload 4, 2) := by decide +kernel
theorem dX2_isUsed_50 : decode cX2_isUsed 50 = .ok (.iload_n 1, 1) := by decide +kernel
theorem dX2_isUsed_51 : decode cX2_isUsed 51 = .ok (.invokevirtual 344, 3) := by decide +kernel
theorem dX2_isUsed_54 : decode cX2_isUsed 54 = .ok (.ifCond .eq 11, 3) := by decide +kernel
theorem dX2_isUsed_57 : decode cX2_isUsed 57 = .ok (.aload_n 0, 1) := by decide +kernel
theorem dX2_isUsed_58 : decode cX2_isUsed 58 = .ok (.getfield 120, 3) := by decide +kernel
theorem dX2_isUsed_61 : decode cX2_isUsed 61 = .ok (.iload 4, 2) := by decide +kernel
theorem dX2_isUsed_63 : decode cX2_isUsed 63 = .ok (.baload, 1) := by decide +kernel
theorem dX2_isUsed_64 : decode cX2_isUsed 64 = .ok (.istore_n 3, 1) := by decide +kernel
theorem dX2_isUsed_65 : decode cX2_isUsed 65 = .ok (.iinc 4 1, 3) := by decide +kernel
theorem dX2_isUsed_68 : decode cX2_isUsed 68 = .ok (.goto (-30), 3) := by decide +kernel
theorem dX2_isUsed_71 : decode cX2_isUsed 71 = .ok (.iload_n 3, 1) := by decide +kernel
theorem dX2_isUsed_72 : decode cX2_isUsed 72 = .ok (.ireturn, 1) := by decide +kernel
def fn_X2_isUsed_31 (N : Nat)   (Ω : zo_O) : Option zo_R :=
  rZ 0 Ω
theorem ct_X2_isUsed_31 {Y : zo_Y} (hY : zo_Gd Y cX2_isUsed 5 RX2 2) (hJ : zo_JC (zo_J Y)) (hCon : ∀ Ω, zo_J Y Ω → zo_Con Ω) (hr : zo_rt Y (Option.some Jvm.ClassFile.FieldType.boolean)) (N : Nat)    (Ω : zo_O) (res : zo_R) (h : fn_X2_isUsed_31 N   Ω = some res) : TW Y res Ω 31 [] [] := by
  unfold fn_X2_isUsed_31 at h
  refine zo_iconst hY 0 (by decide) dX2_isUsed_31 ?_
  exact zo_zret hY hr dX2_isUsed_32 h
def fn_X2_isUsed_65 (N : Nat) (K38 : Int32 → Int32 → Int32 → zo_O → Option zo_R) (x1 : Int32) (x3 : Int32) (x4 : Int32) (Ω : zo_O) : Option zo_R :=
  K38 x1 x3 (x4 + 1) Ω
theorem ct_X2_isUsed_65 {Y : zo_Y} (hY : zo_Gd Y cX2_isUsed 5 RX2 2) (hJ : zo_JC (zo_J Y)) (hCon : ∀ Ω, zo_J Y Ω → zo_Con Ω) (hr : zo_rt Y (Option.some Jvm.ClassFile.FieldType.boolean)) (N : Nat) (K38 : Int32 → Int32 → Int32 → zo_O → Option zo_R) (hK38 : ∀ (x1 : Int32) (x3 : Int32) (x4 : Int32) (Ω : zo_O) (res : zo_R), K38 x1 x3 x4 Ω = some res → TW Y res Ω 38 [(0, vr 1 0), (1, vi x1), (3, vi x3), (4, vi x4)] []) (x1 : Int32) (x3 : Int32) (x4 : Int32) (Ω : zo_O) (res : zo_R) (h : fn_X2_isUsed_65 N K38 x1 x3 x4 Ω = some res) : TW Y res Ω 65 [(0, vr 1 0), (1, vi x1), (3, vi x3), (4, vi x4)] [] := by
  unfold fn_X2_isUsed_65 at h
  refine zo_iinc hY 1 dX2_isUsed_65 (by decide) (by decide) 3 rfl rfl (ls' := [(4, vi (x4 + 1)), (0, vr 1 0), (1, vi x1), (3, vi x3)]) rfl ?_
  refine zo_goto hY 38 dX2_isUsed_68 (by decide) ?_
  refine zo_sub [1, 2, 3, 0] rfl ?_
  exact hK38 x1 x3 (x4 + 1) Ω _ h
def bd_X2_isUsed_38 (N : Nat)  (K38 : Int32 → Int32 → Int32 → zo_O → Option zo_R) (x1 : Int32) (x3 : Int32) (x4 : Int32) (Ω : zo_O) : Option zo_R :=
  if gI Ω 1 0 45 ≤ x4 then (
    rZ x3 Ω
    ) else
  ci (fn_X2_isMeant N x4 x1 Ω) fun r3 Ω2 =>
  if r3 = 0 then (
    fn_X2_isUsed_65 N K38 x1 x3 x4 Ω2
    ) else
  ix x4 24 fun j5 =>
  li (gI Ω2 33 1 j5) fun y6 =>
  fn_X2_isUsed_65 N K38 x1 y6 x4 Ω2
theorem cb_X2_isUsed_38 {Y : zo_Y} (hY : zo_Gd Y cX2_isUsed 5 RX2 2) (hJ : zo_JC (zo_J Y)) (hCon : ∀ Ω, zo_J Y Ω → zo_Con Ω) (hr : zo_rt Y (Option.some Jvm.ClassFile.FieldType.boolean)) (N : Nat)  (K38 : Int32 → Int32 → Int32 → zo_O → Option zo_R)  (hK38 : ∀ (x1 : Int32) (x3 : Int32) (x4 : Int32) (Ω : zo_O) (res : zo_R), K38 x1 x3 x4 Ω = some res → TW Y res Ω 38 [(0, vr 1 0), (1, vi x1), (3, vi x3), (4, vi x4)] []) (x1 : Int32) (x3 : Int32) (x4 : Int32) (Ω : zo_O) (res : zo_R) (h : bd_X2_isUsed_38 N  K38 x1 x3 x4 Ω = some res) : TW Y res Ω 38 [(0, vr 1 0), (1, vi x1), (3, vi x3), (4, vi x4)] [] := by
  unfold bd_X2_isUsed_38 at h
  refine zo_iload hY dX2_isUsed_38 3 rfl ?_
  refine zo_aload_n hY dX2_isUsed_40 rfl 0 rfl ?_
  refine zo_getI hY LX2_321_1 rfl dX2_isUsed_41 ?_
  refine zo_icmp_ge hY 71 dX2_isUsed_44 (by decide) h (fun c1 h => ?_) (fun c1 h => ?_)
  · refine zo_iload_n hY dX2_isUsed_71 rfl 2 rfl ?_
    exact zo_zret hY hr dX2_isUsed_72 h
  · refine zo_aload_n hY dX2_isUsed_47 rfl 0 rfl ?_
    refine zo_iload hY dX2_isUsed_48 3 rfl ?_
    refine zo_iload_n hY dX2_isUsed_50 rfl 1 rfl ?_
    refine zo_callV hY (fun q hq => mt_X2_isMeant hJ hCon N x4 x1 Ω q hq) (by decide) (by decide) (by decide) ⟨rfl, cn_X2_isMeant⟩ rfl q1671 q1673 qs53 q82 q1674 (Nat.le_of_ble_eq_true rfl) dX2_isUsed_51 rfl h (ci_k (fun r3 Ω2 res h => ?_))
    refine zo_if_eq hY 65 dX2_isUsed_54 (by decide) h (fun c4 h => ?_) (fun c4 h => ?_)
    · exact ct_X2_isUsed_65 hY hJ hCon hr N K38 hK38 x1 x3 x4 Ω2 _ h
    · refine zo_aload_n hY dX2_isUsed_57 rfl 0 rfl ?_
      refine zo_getC hY LX2_120_1 rfl (fun Ω q => (hCon Ω q).2.1 47 _ rfl) dX2_isUsed_58 ?_
      refine zo_iload hY dX2_isUsed_61 3 rfl ?_
      refine zo_ald hY (by decide) (Or.inr ⟨Or.inr rfl, dX2_isUsed_63⟩) (fun q => (hCon _ q).2.2.2 33 1 24 rfl) h (fun j5 h => ?_)
      refine zo_nmi h (fun y6 h => ?_)
      refine zo_istore_n hY dX2_isUsed_64 rfl (by decide) rfl (ls' := [(3, vi y6), (0, vr 1 0), (1, vi x1), (4, vi x4)]) rfl ?_
      refine zo_sub [1, 2, 0, 3] rfl ?_
      exact ct_X2_isUsed_65 hY hJ hCon hr N K38 hK38 x1 y6 x4 Ω2 _ h
def fn_X2_isUsed_38 (N : Nat)  : Nat → Int32 → Int32 → Int32 → zo_O → Option zo_R
  | 0, _, _, _, _ => none
  | n + 1, x1, x3, x4, Ω => bd_X2_isUsed_38 N  (fn_X2_isUsed_38 N  n) x1 x3 x4 Ω
theorem ct_X2_isUsed_38 {Y : zo_Y} (hY : zo_Gd Y cX2_isUsed 5 RX2 2) (hJ : zo_JC (zo_J Y)) (hCon : ∀ Ω, zo_J Y Ω → zo_Con Ω) (hr : zo_rt Y (Option.some Jvm.ClassFile.FieldType.boolean)) (N : Nat)   : ∀ (n : Nat) (x1 : Int32) (x3 : Int32) (x4 : Int32) (Ω : zo_O) (res : zo_R), fn_X2_isUsed_38 N  n x1 x3 x4 Ω = some res → TW Y res Ω 38 [(0, vr 1 0), (1, vi x1), (3, vi x3), (4, vi x4)] [] := by
  intro n
  induction n with
  | zero => intro x1 x3 x4 Ω res h; exact nomatch (show (none : Option zo_R) = some res from h)
  | succ n ih => intro x1 x3 x4 Ω res h; exact cb_X2_isUsed_38 hY hJ hCon hr N  (fn_X2_isUsed_38 N  n)  ih x1 x3 x4 Ω res h
def fn_X2_isUsed (N : Nat) (x1 : Int32) (x2 : Int32) (Ω : zo_O) : Option zo_R :=
  ix x1 120 fun j1 =>
  if x2 < gI Ω 32 11 j1 then (
    fn_X2_isUsed_31 N Ω
    ) else
  if gI Ω 1 0 65 = 0 then (
    ix x1 120 fun j4 =>
    ix (gI Ω 32 7 j4) 5 fun j5 =>
    if gI Ω 33 3 j5 = 0 then (
      fn_X2_isUsed_31 N Ω
      ) else
    fn_X2_isUsed_38 N N x1 1 0 Ω
    ) else
  fn_X2_isUsed_31 N Ω
theorem mt_X2_isUsed {G : zo_G} {J : zo_O → Prop} (hJ : zo_JC J) (hCon : ∀ Ω, J Ω → zo_Con Ω) (N : Nat) (x1 : Int32) (x2 : Int32) (Ω : zo_O) (res : zo_R) (h : fn_X2_isUsed N x1 x2 Ω = some res) : zo_MT G J yX2_isUsed cX2_isUsed 5 (Option.some Jvm.ClassFile.FieldType.boolean) 2 [vr 1 0, vi x1, vi x2] Ω res := by
  refine zo_enter (by decide) rfl (Nat.le_of_ble_eq_true rfl) (fun Y hY eJ hr hmn => ?_)
  subst eJ
  show TW Y res Ω 0 [(0, vr 1 0), (1, vi x1), (2, vi x2)] []
  unfold fn_X2_isUsed at h
  refine zo_aload_n hY dX2_isUsed_0 rfl 0 rfl ?_
  refine zo_getC hY LX2_47_1 rfl (fun Ω q => (hCon Ω q).2.1 16 _ rfl) dX2_isUsed_1 ?_
  refine zo_iload_n hY dX2_isUsed_4 rfl 1 rfl ?_
  refine zo_ald hY (by decide) (Or.inl ⟨rfl, dX2_isUsed_5⟩) (fun q => (hCon _ q).2.2.2 32 11 120 rfl) h (fun j1 h => ?_)
  refine zo_iload_n hY dX2_isUsed_6 rfl 2 rfl ?_
  refine zo_icmp_gt hY 31 dX2_isUsed_7 (by decide) h (fun c2 h => ?_) (fun c2 h => ?_)
  · refine zo_sub [] rfl ?_
    exact ct_X2_isUsed_31 hY hJ hCon hr N Ω _ h
  · refine zo_aload_n hY dX2_isUsed_10 rfl 0 rfl ?_
    refine zo_getI hY LX2_332_1 rfl dX2_isUsed_11 ?_
    refine zo_if_ne hY 31 dX2_isUsed_14 (by decide) h (fun c3 h => ?_) (fun c3 h => ?_)
    · refine zo_aload_n hY dX2_isUsed_17 rfl 0 rfl ?_
      refine zo_getC hY LX2_151_1 rfl (fun Ω q => (hCon Ω q).2.1 63 _ rfl) dX2_isUsed_18 ?_
      refine zo_aload_n hY dX2_isUsed_21 rfl 0 rfl ?_
      refine zo_getC hY LX2_31_1 rfl (fun Ω q => (hCon Ω q).2.1 11 _ rfl) dX2_isUsed_22 ?_
      refine zo_iload_n hY dX2_isUsed_25 rfl 1 rfl ?_
      refine zo_ald hY (by decide) (Or.inl ⟨rfl, dX2_isUsed_26⟩) (fun q => (hCon _ q).2.2.2 32 7 120 rfl) h (fun j4 h => ?_)
      refine zo_ald hY (by decide) (Or.inr ⟨Or.inr rfl, dX2_isUsed_27⟩) (fun q => (hCon _ q).2.2.2 33 3 5 rfl) h (fun j5 h => ?_)
      refine zo_if_ne hY 33 dX2_isUsed_28 (by decide) h (fun c6 h => ?_) (fun c6 h => ?_)
      · refine zo_sub [] rfl ?_
        exact ct_X2_isUsed_31 hY hJ hCon hr N Ω _ h
      · refine zo_iconst hY 1 (by decide) dX2_isUsed_33 ?_
        refine zo_istore_n hY dX2_isUsed_34 rfl (by decide) rfl (ls' := [(3, vi 1), (0, vr 1 0), (1, vi x1), (2, vi x2)]) rfl ?_
        refine zo_iconst hY 0 (by decide) dX2_isUsed_35 ?_
        refine zo_istore hY dX2_isUsed_36 (by decide) rfl (ls' := [(4, vi 0), (3, vi 1), (0, vr 1 0), (1, vi x1), (2, vi x2)]) rfl ?_
        refine zo_sub [2, 3, 1, 0] rfl ?_
        exact ct_X2_isUsed_38 hY hJ hCon hr N N x1 1 0 Ω _ h
    · refine zo_sub [] rfl ?_
      exact ct_X2_isUsed_31 hY hJ hCon hr N Ω _ h
theorem dX2_lowOf_0 : decode cX2_lowOf 0 = .ok (.iconst 0, 1) := by decide +kernel
theorem dX2_lowOf_1 : decode cX2_lowOf 1 = .ok (.aload_n 0, 1) := by decide +kernel
theorem dX2_lowOf_2 : decode cX2_lowOf 2 = .ok (.getfield 34, 3) := by decide +kernel
theorem dX2_lowOf_5 : decode cX2_lowOf 5 = .ok (.iload_n 1, 1) := by decide +kernel
theorem dX2_lowOf_6 : decode cX2_lowOf 6 = .ok (.iaload, 1) := by decide +kernel
theorem dX2_lowOf_7 : decode cX2_lowOf 7 = .ok (.aload_n 0, 1) := by decide +kernel
theorem dX2_lowOf_8 : decode cX2_lowOf 8 = .ok (.getfield 148, 3) := by decide +kernel
theorem dX2_lowOf_11 : decode cX2_lowOf 11 = .ok (.aload_n 0, 1) := by decide +kernel
theorem dX2_lowOf_12 : decode cX2_lowOf 12 = .ok (.getfield 31, 3) := by decide +kernel
theorem dX2_lowOf_15 : decode cX2_lowOf 15 = .ok (.iload_n 1, 1) := by decide +kernel
theorem dX2_lowOf_16 : decode cX2_lowOf 16 = .ok (.iaload, 1) := by decide +kernel
theorem dX2_lowOf_17 : decode cX2_lowOf 17 = .ok (.iaload, 1) := by decide +kernel
theorem dX2_lowOf_18 : decode cX2_lowOf 18 = .ok (.isub, 1) := by decide +kernel
theorem dX2_lowOf_19 : decode cX2_lowOf 19 = .ok (.invokestatic 348, 3) := by decide +kernel
theorem dX2_lowOf_22 : decode cX2_lowOf 22 = .ok (.ireturn, 1) := by decide +kernel
def fn_X2_lowOf (N : Nat) (x1 : Int32) (Ω : zo_O) : Option zo_R :=
  ix x1 120 fun j1 =>
  ix x1 120 fun j2 =>
  ix (gI Ω 32 7 j2) 5 fun j3 =>
  rI (mx 0 ((gI Ω 32 8 j1) - (gI Ω 32 37 j3))) Ω
theorem mt_X2_lowOf {G : zo_G} {J : zo_O → Prop} (hJ : zo_JC J) (hCon : ∀ Ω, J Ω → zo_Con Ω) (N : Nat) (x1 : Int32) (Ω : zo_O) (res : zo_R) (h : fn_X2_lowOf N x1 Ω = some res) : zo_MT G J yX2_lowOf cX2_lowOf 2 (Option.some Jvm.ClassFile.FieldType.int) 1 [vr 1 0, vi x1] Ω res := by
  refine zo_enter (by decide) rfl (Nat.le_of_ble_eq_true rfl) (fun Y hY eJ hr hmn => ?_)
  subst eJ
  show TW Y res Ω 0 [(0, vr 1 0), (1, vi x1)] []
  unfold fn_X2_lowOf at h
  refine zo_iconst hY 0 (by decide) dX2_lowOf_0 ?_
  refine zo_aload_n hY dX2_lowOf_1 rfl 0 rfl ?_
  refine zo_getC hY LX2_34_1 rfl (fun Ω q => (hCon Ω q).2.1 12 _ rfl) dX2_lowOf_2 ?_
  refine zo_iload_n hY dX2_lowOf_5 rfl 1 rfl ?_
  refine zo_ald hY (by decide) (Or.inl ⟨rfl, dX2_lowOf_6⟩) (fun q => (hCon _ q).2.2.2 32 8 120 rfl) h (fun j1 h => ?_)
  refine zo_aload_n hY dX2_lowOf_7 rfl 0 rfl ?_
  refine zo_getC hY LX2_148_1 rfl (fun Ω q => (hCon Ω q).2.1 62 _ rfl) dX2_lowOf_8 ?_
  refine zo_aload_n hY dX2_lowOf_11 rfl 0 rfl ?_
  refine zo_getC hY LX2_31_1 rfl (fun Ω q => (hCon Ω q).2.1 11 _ rfl) dX2_lowOf_12 ?_
  refine zo_iload_n hY dX2_lowOf_15 rfl 1 rfl ?_
  refine zo_ald hY (by decide) (Or.inl ⟨rfl, dX2_lowOf_16⟩) (fun q => (hCon _ q).2.2.2 32 7 120 rfl) h (fun j2 h => ?_)
  refine zo_ald hY (by decide) (Or.inl ⟨rfl, dX2_lowOf_17⟩) (fun q => (hCon _ q).2.2.2 32 37 5 rfl) h (fun j3 h => ?_)
  refine zo_isub hY dX2_lowOf_18 ?_
  refine zo_mmax hY (by decide) q1687 (Nat.le_of_ble_eq_true rfl) dX2_lowOf_19 ?_
  exact zo_iret hY hr dX2_lowOf_22 h
theorem dX2_highOf_0 : decode cX2_highOf 0 = .ok (.iconst 0, 1) := by decide +kernel
theorem dX2_highOf_1 : decode cX2_highOf 1 = .ok (.aload_n 0, 1) := by decide +kernel
theorem dX2_highOf_2 : decode cX2_highOf 2 = .ok (.getfield 34, 3) := by decide +kernel
theorem dX2_highOf_5 : decode cX2_highOf 5 = .ok (.iload_n 1, 1) := by decide +kernel
theorem dX2_highOf_6 : decode cX2_highOf 6 = .ok (.iaload, 1) := by decide +kernel
theorem dX2_highOf_7 : decode cX2_highOf 7 = .ok (.aload_n 0, 1) := by decide +kernel
theorem dX2_highOf_8 : decode cX2_highOf 8 = .ok (.getfield 145, 3) := by decide +kernel
theorem dX2_highOf_11 : decode cX2_highOf 11 = .ok (.aload_n 0, 1) := by decide +kernel
theorem dX2_highOf_12 : decode cX2_highOf 12 = .ok (.getfield 31, 3) := by decide +kernel
theorem dX2_highOf_15 : decode cX2_highOf 15 = .ok (.iload_n 1, 1) := by decide +kernel
theorem dX2_highOf_16 : decode cX2_highOf 16 = .ok (.iaload, 1) := by decide +kernel
theorem dX2_highOf_17 : decode cX2_highOf 17 = .ok (.iaload, 1) := by decide +kernel
theorem dX2_highOf_18 : decode cX2_highOf 18 = .ok (.isub, 1) := by decide +kernel
theorem dX2_highOf_19 : decode cX2_highOf 19 = .ok (.invokestatic 348, 3) := by decide +kernel
theorem dX2_highOf_22 : decode cX2_highOf 22 = .ok (.ireturn, 1) := by decide +kernel
def fn_X2_highOf (N : Nat) (x1 : Int32) (Ω : zo_O) : Option zo_R :=
  ix x1 120 fun j1 =>
  ix x1 120 fun j2 =>
  ix (gI Ω 32 7 j2) 5 fun j3 =>
  rI (mx 0 ((gI Ω 32 8 j1) - (gI Ω 32 36 j3))) Ω
theorem mt_X2_highOf {G : zo_G} {J : zo_O → Prop} (hJ : zo_JC J) (hCon : ∀ Ω, J Ω → zo_Con Ω) (N : Nat) (x1 : Int32) (Ω : zo_O) (res : zo_R) (h : fn_X2_highOf N x1 Ω = some res) : zo_MT G J yX2_highOf cX2_highOf 2 (Option.some Jvm.ClassFile.FieldType.int) 1 [vr 1 0, vi x1] Ω res := by
  refine zo_enter (by decide) rfl (Nat.le_of_ble_eq_true rfl) (fun Y hY eJ hr hmn => ?_)
  subst eJ
  show TW Y res Ω 0 [(0, vr 1 0), (1, vi x1)] []
  unfold fn_X2_highOf at h
  refine zo_iconst hY 0 (by decide) dX2_highOf_0 ?_
  refine zo_aload_n hY dX2_highOf_1 rfl 0 rfl ?_
  refine zo_getC hY LX2_34_1 rfl (fun Ω q => (hCon Ω q).2.1 12 _ rfl) dX2_highOf_2 ?_
  refine zo_iload_n hY dX2_highOf_5 rfl 1 rfl ?_
  refine zo_ald hY (by decide) (Or.inl ⟨rfl, dX2_highOf_6⟩) (fun q => (hCon _ q).2.2.2 32 8 120 rfl) h (fun j1 h => ?_)
  refine zo_aload_n hY dX2_highOf_7 rfl 0 rfl ?_
  refine zo_getC hY LX2_145_1 rfl (fun Ω q => (hCon Ω q).2.1 61 _ rfl) dX2_highOf_8 ?_
  refine zo_aload_n hY dX2_highOf_11 rfl 0 rfl ?_
  refine zo_getC hY LX2_31_1 rfl (fun Ω q => (hCon Ω q).2.1 11 _ rfl) dX2_highOf_12 ?_
  refine zo_iload_n hY dX2_highOf_15 rfl 1 rfl ?_
  refine zo_ald hY (by decide) (Or.inl ⟨rfl, dX2_highOf_16⟩) (fun q => (hCon _ q).2.2.2 32 7 120 rfl) h (fun j2 h => ?_)
  refine zo_ald hY (by decide) (Or.inl ⟨rfl, dX2_highOf_17⟩) (fun q => (hCon _ q).2.2.2 32 36 5 rfl) h (fun j3 h => ?_)
  refine zo_isub hY dX2_highOf_18 ?_
  refine zo_mmax hY (by decide) q1687 (Nat.le_of_ble_eq_true rfl) dX2_highOf_19 ?_
  exact zo_iret hY hr dX2_highOf_22 h
theorem dX2_used_0 : decode cX2_used 0 = .ok (.aload_n 0, 1) := by decide +kernel
theorem dX2_used_1 : decode cX2_used 1 = .ok (.iconst 0, 1) := by decide +kernel
theorem dX2_used_2 : decode cX2_used 2 = .ok (.putfield 187, 3) := by decide +kernel
theorem dX2_used_5 : decode cX2_used 5 = .ok (.aload_n 0, 1) := by decide +kernel
theorem dX2_used_6 : decode cX2_used 6 = .ok (.iload_n 1, 1) := by decide +kernel
theorem dX2_used_7 : decode cX2_used 7 = .ok (.invokevirtual 228, 3) := by decide +kernel
theorem dX2_used_10 : decode cX2_used 10 = .ok (.ifCond .eq 11, 3) := by decide +kernel
theorem dX2_used_13 : decode cX2_used 13 = .ok (.aload_n 0, 1) := by decide +kernel
theorem dX2_used_14 : decode cX2_used 14 = .ok (.iload_n 2, 1) := by decide +kernel
theorem dX2_used_15 : decode cX2_used 15 = .ok (.invokevirtual 337, 3) := by decide +kernel
theorem dX2_used_18 : decode cX2_used 18 = .ok (.ifCond .ne 5, 3) := by decide +kernel
theorem dX2_used_21 : decode cX2_used 21 = .ok (.iconst (-1), 1) := by decide +kernel
theorem dX2_used_22 : decode cX2_used 22 = .ok (.ireturn, 1) := by decide +kernel
theorem dX2_used_23 : decode cX2_used 23 = .ok (.aload_n 0, 1) := by decide +kernel
theorem dX2_used_24 : decode cX2_used 24 = .ok (.iload_n 2, 1) := by decide +kernel
theorem dX2_used_25 : decode cX2_used 25 = .ok (.invokevirtual 340, 3) := by decide +kernel
theorem dX2_used_28 : decode cX2_used 28 = .ok (.aload_n 0, 1) := by decide +kernel
theorem dX2_used_29 : decode cX2_used 29 = .ok (.iload_n 1, 1) := by decide +kernel
theorem dX2_used_30 : decode cX2_used 30 = .ok (.iload_n 2, 1) := by decide +kernel
theorem dX2_used_31 : decode cX2_used 31 = .ok (.invokevirtual 353, 3) := by decide +kernel
theorem dX2_used_34 : decode cX2_used 34 = .ok (.ifCond .eq 7, 3) := by decide +kernel
theorem dX2_used_37 : decode cX2_used 37 = .ok (.iconst 1, 1) := by decide +kernel
theorem dX2_used_38 : decode cX2_used 38 = .ok (.goto 4, 3) := by decide +kernel
theorem dX2_used_41 : decode cX2_used 41 = .ok (.iconst 0, 1) := by decide +kernel
theorem dX2_used_42 : decode cX2_used 42 = .ok (.ireturn, 1) := by decide +kernel
def fn_X2_used_21 (N : Nat)   (Ω : zo_O) : Option zo_R :=
  rI ((-1)) Ω
theorem ct_X2_used_21 {Y : zo_Y} (hY : zo_Gd Y cX2_used 3 RX2 3) (hJ : zo_JC (zo_J Y)) (hCon : ∀ Ω, zo_J Y Ω → zo_Con Ω) (hr : zo_rt Y (Option.some Jvm.ClassFile.FieldType.int)) (N : Nat)    (Ω : zo_O) (res : zo_R) (h : fn_X2_used_21 N   Ω = some res) : TW Y res Ω 21 [] [] := by
  unfold fn_X2_used_21 at h
  refine zo_iconst hY (-1) (by decide) dX2_used_21 ?_
  exact zo_iret hY hr dX2_used_22 h
def fn_X2_used_42 (N : Nat)  (s0 : Int32) (Ω : zo_O) : Option zo_R :=
  rI s0 Ω
theorem ct_X2_used_42 {Y : zo_Y} (hY : zo_Gd Y cX2_used 3 RX2 3) (hJ : zo_JC (zo_J Y)) (hCon : ∀ Ω, zo_J Y Ω → zo_Con Ω) (hr : zo_rt Y (Option.some Jvm.ClassFile.FieldType.int)) (N : Nat)   (s0 : Int32) (Ω : zo_O) (res : zo_R) (h : fn_X2_used_42 N  s0 Ω = some res) : TW Y res Ω 42 [] [vi s0] := by
  unfold fn_X2_used_42 at h
  exact zo_iret hY hr dX2_used_42 h
def fn_X2_used (N : Nat) (x1 : Int32) (x2 : Int32) (Ω : zo_O) : Option zo_R :=
  lt (sI Ω 1 0 0 0) fun Ω1 =>
  ci (fn_X2_isCircle N x1 Ω1) fun r3 Ω2 =>
  if r3 = 0 then (
    fn_X2_used_21 N Ω2
    ) else
  ci (fn_X2_isKnown N x2 Ω2) fun r6 Ω5 =>
  if r6 = 0 then (
    fn_X2_used_21 N Ω5
    ) else
  cv (fn_X2_habits N x2 Ω5) fun Ω8 =>
  ci (fn_X2_isUsed N x1 x2 Ω8) fun r10 Ω9 =>
  if r10 = 0 then (
    fn_X2_used_42 N 0 Ω9
    ) else
  fn_X2_used_42 N 1 Ω9
theorem mt_X2_used {G : zo_G} {J : zo_O → Prop} (hJ : zo_JC J) (hCon : ∀ Ω, J Ω → zo_Con Ω) (N : Nat) (x1 : Int32) (x2 : Int32) (Ω : zo_O) (res : zo_R) (h : fn_X2_used N x1 x2 Ω = some res) : zo_MT G J yX2_used cX2_used 3 (Option.some Jvm.ClassFile.FieldType.int) 3 [vr 1 0, vi x1, vi x2] Ω res := by
  refine zo_enter (by decide) rfl (Nat.le_of_ble_eq_true rfl) (fun Y hY eJ hr hmn => ?_)
  subst eJ
  show TW Y res Ω 0 [(0, vr 1 0), (1, vi x1), (2, vi x2)] []
  unfold fn_X2_used at h
  refine zo_aload_n hY dX2_used_0 rfl 0 rfl ?_
  refine zo_iconst hY 0 (by decide) dX2_used_1 ?_
  refine zo_putI hY hJ LX2_187_1 rfl (Or.inl rfl) dX2_used_2 h (fun Ω1 h => ?_)
  refine zo_aload_n hY dX2_used_5 rfl 0 rfl ?_
  refine zo_iload_n hY dX2_used_6 rfl 1 rfl ?_
  refine zo_callV hY (fun q hq => mt_X2_isCircle hJ hCon N x1 Ω1 q hq) (by decide) (by decide) (by decide) ⟨rfl, cn_X2_isCircle⟩ rfl q1561 q1563 qs40 q82 q1564 (Nat.le_of_ble_eq_true rfl) dX2_used_7 rfl h (ci_k (fun r3 Ω2 res h => ?_))
  refine zo_if_eq hY 21 dX2_used_10 (by decide) h (fun c4 h => ?_) (fun c4 h => ?_)
  · refine zo_sub [] rfl ?_
    exact ct_X2_used_21 hY hJ hCon hr N Ω2 _ h
  · refine zo_aload_n hY dX2_used_13 rfl 0 rfl ?_
    refine zo_iload_n hY dX2_used_14 rfl 2 rfl ?_
    refine zo_callV hY (fun q hq => mt_X2_isKnown hJ hCon N x2 Ω2 q hq) (by decide) (by decide) (by decide) ⟨rfl, cn_X2_isKnown⟩ rfl q1649 q1651 qs49 q82 q1652 (Nat.le_of_ble_eq_true rfl) dX2_used_15 rfl h (ci_k (fun r6 Ω5 res h => ?_))
    refine zo_if_ne hY 23 dX2_used_18 (by decide) h (fun c7 h => ?_) (fun c7 h => ?_)
    · refine zo_sub [] rfl ?_
      exact ct_X2_used_21 hY hJ hCon hr N Ω5 _ h
    · refine zo_aload_n hY dX2_used_23 rfl 0 rfl ?_
      refine zo_iload_n hY dX2_used_24 rfl 2 rfl ?_
      refine zo_callV hY (fun q hq => mt_X2_habits hJ hCon N x2 Ω5 q hq) (by decide) (by decide) (by decide) ⟨rfl, cn_X2_habits⟩ rfl q1653 q1655 qs50 q82 q1656 (Nat.le_of_ble_eq_true rfl) dX2_used_25 rfl h (cv_k (fun Ω8 res h => ?_))
      refine zo_aload_n hY dX2_used_28 rfl 0 rfl ?_
      refine zo_iload_n hY dX2_used_29 rfl 1 rfl ?_
      refine zo_iload_n hY dX2_used_30 rfl 2 rfl ?_
      refine zo_callV hY (fun q hq => mt_X2_isUsed hJ hCon N x1 x2 Ω8 q hq) (by decide) (by decide) (by decide) ⟨rfl, cn_X2_isUsed⟩ rfl q1667 q1669 qs52 q82 q1670 (Nat.le_of_ble_eq_true rfl) dX2_used_31 rfl h (ci_k (fun r10 Ω9 res h => ?_))
      refine zo_if_eq hY 41 dX2_used_34 (by decide) h (fun c11 h => ?_) (fun c11 h => ?_)
      · refine zo_iconst hY 0 (by decide) dX2_used_41 ?_
        refine zo_sub [] rfl ?_
        exact ct_X2_used_42 hY hJ hCon hr N 0 Ω9 _ h
      · refine zo_iconst hY 1 (by decide) dX2_used_37 ?_
        refine zo_goto hY 42 dX2_used_38 (by decide) ?_
        refine zo_sub [] rfl ?_
        exact ct_X2_used_42 hY hJ hCon hr N 1 Ω9 _ h
theorem dX2_trueSize_0 : decode cX2_trueSize 0 = .ok (.aload_n 0, 1) := by decide +kernel
theorem dX2_trueSize_1 : decode cX2_trueSize 1 = .ok (.iconst 0, 1) := by decide +kernel
theorem dX2_trueSize_2 : decode cX2_trueSize 2 = .ok (.putfield 187, 3) := by decide +kernel
theorem dX2_trueSize_5 : decode cX2_trueSize 5 = .ok (.aload_n 0, 1) := by decide +kernel
theorem dX2_trueSize_6 : decode cX2_trueSize 6 = .ok (.iload_n 1, 1) := by decide +kernel
theorem dX2_trueSize_7 : decode cX2_trueSize 7 = .ok (.invokevirtual 228, 3) := by decide +kernel
theorem dX2_trueSize_10 : decode cX2_trueSize 10 = .ok (.ifCond .eq 20, 3) := by decide +kernel
theorem dX2_trueSize_13 : decode cX2_trueSize 13 = .ok (.aload_n 0, 1) := by decide +kernel
theorem dX2_trueSize_14 : decode cX2_trueSize 14 = .ok (.iload_n 2, 1) := by decide +kernel
theorem dX2_trueSize_15 : decode cX2_trueSize 15 = .ok (.invokevirtual 337, 3) := by decide +kernel
theorem dX2_trueSize_18 : decode cX2_trueSize 18 = .ok (.ifCond .eq 12, 3) := by decide +kernel
theorem dX2_trueSize_21 : decode cX2_trueSize 21 = .ok (.iload_n 3, 1) := by decide +kernel
theorem dX2_trueSize_22 : decode cX2_trueSize 22 = .ok (.iconst 0, 1) := by decide +kernel
theorem dX2_trueSize_23 : decode cX2_trueSize 23 = .ok (.iconst 1, 1) := by decide +kernel
theorem dX2_trueSize_24 : decode cX2_trueSize 24 = .ok (.invokestatic 190, 3) := by decide +kernel
theorem dX2_trueSize_27 : decode cX2_trueSize 27 = .ok (.ifCond .ne 5, 3) := by decide +kernel
theorem dX2_trueSize_30 : decode cX2_trueSize 30 = .ok (.iconst (-1), 1) := by decide +kernel
theorem dX2_trueSize_31 : decode cX2_trueSize 31 = .ok (.ireturn, 1) := by decide +kernel
theorem dX2_trueSize_32 : decode cX2_trueSize 32 = .ok (.aload_n 0, 1) := by decide +kernel
theorem dX2_trueSize_33 : decode cX2_trueSize 33 = .ok (.iload_n 2, 1) := by decide +kernel
theorem dX2_trueSize_34 : decode cX2_trueSize 34 = .ok (.invokevirtual 340, 3) := by decide +kernel
theorem dX2_trueSize_37 : decode cX2_trueSize 37 = .ok (.aload_n 0, 1) := by decide +kernel
theorem dX2_trueSize_38 : decode cX2_trueSize 38 = .ok (.iload_n 1, 1) := by decide +kernel
theorem dX2_trueSize_39 : decode cX2_trueSize 39 = .ok (.iload_n 2, 1) := by decide +kernel
theorem dX2_trueSize_40 : decode cX2_trueSize 40 = .ok (.invokevirtual 353, 3) := by decide +kernel
theorem dX2_trueSize_43 : decode cX2_trueSize 43 = .ok (.ifCond .ne 7, 3) := by decide +kernel
theorem dX2_trueSize_46 : decode cX2_trueSize 46 = .ok (.iconst (-1), 1) := by decide +kernel
theorem dX2_trueSize_47 : decode cX2_trueSize 47 = .ok (.goto 20, 3) := by decide +kernel
theorem dX2_trueSize_50 : decode cX2_trueSize 50 = .ok (.iload_n 3, 1) := by decide +kernel
theorem dX2_trueSize_51 : decode cX2_trueSize 51 = .ok (.ifCond .ne 11, 3) := by decide +kernel
theorem dX2_trueSize_54 : decode cX2_trueSize 54 = .ok (.aload_n 0, 1) := by decide +kernel
theorem dX2_trueSize_55 : decode cX2_trueSize 55 = .ok (.iload_n 1, 1) := by decide +kernel
theorem dX2_trueSize_56 : decode cX2_trueSize 56 = .ok (.invokevirtual 356, 3) := by decide +kernel
theorem dX2_trueSize_59 : decode cX2_trueSize 59 = .ok (.goto 8, 3) := by decide +kernel
theorem dX2_trueSize_62 : decode cX2_trueSize 62 = .ok (.aload_n 0, 1) := by decide +kernel
theorem dX2_trueSize_63 : decode cX2_trueSize 63 = .ok (.iload_n 1, 1) := by decide +kernel
theorem dX2_trueSize_64 : decode cX2_trueSize 64 = .ok (.invokevirtual 359, 3) := by decide +kernel
theorem dX2_trueSize_67 : decode cX2_trueSize 67 = .ok (.ireturn, 1) := by decide +kernel
def fn_X2_trueSize_30 (N : Nat)   (Ω : zo_O) : Option zo_R :=
  rI ((-1)) Ω
theorem ct_X2_trueSize_30 {Y : zo_Y} (hY : zo_Gd Y cX2_trueSize 4 RX2 3) (hJ : zo_JC (zo_J Y)) (hCon : ∀ Ω, zo_J Y Ω → zo_Con Ω) (hr : zo_rt Y (Option.some Jvm.ClassFile.FieldType.int)) (N : Nat)    (Ω : zo_O) (res : zo_R) (h : fn_X2_trueSize_30 N   Ω = some res) : TW Y res Ω 30 [] [] := by
  unfold fn_X2_trueSize_30 at h
  refine zo_iconst hY (-1) (by decide) dX2_trueSize_30 ?_
  exact zo_iret hY hr dX2_trueSize_31 h
def fn_X2_trueSize_67 (N : Nat)  (s0 : Int32) (Ω : zo_O) : Option zo_R :=
  rI s0 Ω
theorem ct_X2_trueSize_67 {Y : zo_Y} (hY : zo_Gd Y cX2_trueSize 4 RX2 3) (hJ : zo_JC (zo_J Y)) (hCon : ∀ Ω, zo_J Y Ω → zo_Con Ω) (hr : zo_rt Y (Option.some Jvm.ClassFile.FieldType.int)) (N : Nat)   (s0 : Int32) (Ω : zo_O) (res : zo_R) (h : fn_X2_trueSize_67 N  s0 Ω = some res) : TW Y res Ω 67 [] [vi s0] := by
  unfold fn_X2_trueSize_67 at h
  exact zo_iret hY hr dX2_trueSize_67 h
def fn_X2_trueSize (N : Nat) (x1 : Int32) (x2 : Int32) (x3 : Int32) (Ω : zo_O) : Option zo_R :=
  lt (sI Ω 1 0 0 0) fun Ω1 =>
  ci (fn_X2_isCircle N x1 Ω1) fun r3 Ω2 =>
  if r3 = 0 then (
    fn_X2_trueSize_30 N Ω2
    ) else
  ci (fn_X2_isKnown N x2 Ω2) fun r6 Ω5 =>
  if r6 = 0 then (
    fn_X2_trueSize_30 N Ω5
    ) else
  ci (fn_X2_within N x3 0 1 Ω5) fun r9 Ω8 =>
  if r9 = 0 then (
    fn_X2_trueSize_30 N Ω8
    ) else
  cv (fn_X2_habits N x2 Ω8) fun Ω11 =>
  ci (fn_X2_isUsed N x1 x2 Ω11) fun r13 Ω12 =>
  if r13 = 0 then (
    fn_X2_trueSize_67 N ((-1)) Ω12
    ) else
  if x3 = 0 then (
    ci (fn_X2_lowOf N x1 Ω12) fun r17 Ω16 =>
    fn_X2_trueSize_67 N r17 Ω16
    ) else
  ci (fn_X2_highOf N x1 Ω12) fun r19 Ω18 =>
  fn_X2_trueSize_67 N r19 Ω18
theorem mt_X2_trueSize {G : zo_G} {J : zo_O → Prop} (hJ : zo_JC J) (hCon : ∀ Ω, J Ω → zo_Con Ω) (N : Nat) (x1 : Int32) (x2 : Int32) (x3 : Int32) (Ω : zo_O) (res : zo_R) (h : fn_X2_trueSize N x1 x2 x3 Ω = some res) : zo_MT G J yX2_trueSize cX2_trueSize 4 (Option.some Jvm.ClassFile.FieldType.int) 3 [vr 1 0, vi x1, vi x2, vi x3] Ω res := by
  refine zo_enter (by decide) rfl (Nat.le_of_ble_eq_true rfl) (fun Y hY eJ hr hmn => ?_)
  subst eJ
  show TW Y res Ω 0 [(0, vr 1 0), (1, vi x1), (2, vi x2), (3, vi x3)] []
  unfold fn_X2_trueSize at h
  refine zo_aload_n hY dX2_trueSize_0 rfl 0 rfl ?_
  refine zo_iconst hY 0 (by decide) dX2_trueSize_1 ?_
  refine zo_putI hY hJ LX2_187_1 rfl (Or.inl rfl) dX2_trueSize_2 h (fun Ω1 h => ?_)
  refine zo_aload_n hY dX2_trueSize_5 rfl 0 rfl ?_
  refine zo_iload_n hY dX2_trueSize_6 rfl 1 rfl ?_
  refine zo_callV hY (fun q hq => mt_X2_isCircle hJ hCon N x1 Ω1 q hq) (by decide) (by decide) (by decide) ⟨rfl, cn_X2_isCircle⟩ rfl q1561 q1563 qs40 q82 q1564 (Nat.le_of_ble_eq_true rfl) dX2_trueSize_7 rfl h (ci_k (fun r3 Ω2 res h => ?_))
  refine zo_if_eq hY 30 dX2_trueSize_10 (by decide) h (fun c4 h => ?_) (fun c4 h => ?_)
  · refine zo_sub [] rfl ?_
    exact ct_X2_trueSize_30 hY hJ hCon hr N Ω2 _ h
  · refine zo_aload_n hY dX2_trueSize_13 rfl 0 rfl ?_
    refine zo_iload_n hY dX2_trueSize_14 rfl 2 rfl ?_
    refine zo_callV hY (fun q hq => mt_X2_isKnown hJ hCon N x2 Ω2 q hq) (by decide) (by decide) (by decide) ⟨rfl, cn_X2_isKnown⟩ rfl q1649 q1651 qs49 q82 q1652 (Nat.le_of_ble_eq_true rfl) dX2_trueSize_15 rfl h (ci_k (fun r6 Ω5 res h => ?_))
    refine zo_if_eq hY 30 dX2_trueSize_18 (by decide) h (fun c7 h => ?_) (fun c7 h => ?_)
    · refine zo_sub [] rfl ?_
      exact ct_X2_trueSize_30 hY hJ hCon hr N Ω5 _ h
    · refine zo_iload_n hY dX2_trueSize_21 rfl 3 rfl ?_
      refine zo_iconst hY 0 (by decide) dX2_trueSize_22 ?_
      refine zo_iconst hY 1 (by decide) dX2_trueSize_23 ?_
      refine zo_callS hY (fun q hq => mt_X2_within hJ hCon N x3 0 1 Ω5 q hq) (by decide) (by decide) cn_X2_within rfl q1521 q1522 q82 q1523 (Nat.le_of_ble_eq_true rfl) dX2_trueSize_24 rfl h (ci_k (fun r9 Ω8 res h => ?_))
      refine zo_if_ne hY 32 dX2_trueSize_27 (by decide) h (fun c10 h => ?_) (fun c10 h => ?_)
      · refine zo_sub [] rfl ?_
        exact ct_X2_trueSize_30 hY hJ hCon hr N Ω8 _ h
      · refine zo_aload_n hY dX2_trueSize_32 rfl 0 rfl ?_
        refine zo_iload_n hY dX2_trueSize_33 rfl 2 rfl ?_
        refine zo_callV hY (fun q hq => mt_X2_habits hJ hCon N x2 Ω8 q hq) (by decide) (by decide) (by decide) ⟨rfl, cn_X2_habits⟩ rfl q1653 q1655 qs50 q82 q1656 (Nat.le_of_ble_eq_true rfl) dX2_trueSize_34 rfl h (cv_k (fun Ω11 res h => ?_))
        refine zo_aload_n hY dX2_trueSize_37 rfl 0 rfl ?_
        refine zo_iload_n hY dX2_trueSize_38 rfl 1 rfl ?_
        refine zo_iload_n hY dX2_trueSize_39 rfl 2 rfl ?_
        refine zo_callV hY (fun q hq => mt_X2_isUsed hJ hCon N x1 x2 Ω11 q hq) (by decide) (by decide) (by decide) ⟨rfl, cn_X2_isUsed⟩ rfl q1667 q1669 qs52 q82 q1670 (Nat.le_of_ble_eq_true rfl) dX2_trueSize_40 rfl h (ci_k (fun r13 Ω12 res h => ?_))
        refine zo_if_ne hY 50 dX2_trueSize_43 (by decide) h (fun c14 h => ?_) (fun c14 h => ?_)
        · refine zo_iconst hY (-1) (by decide) dX2_trueSize_46 ?_
          refine zo_goto hY 67 dX2_trueSize_47 (by decide) ?_
          refine zo_sub [] rfl ?_
          exact ct_X2_trueSize_67 hY hJ hCon hr N ((-1)) Ω12 _ h
        · refine zo_iload_n hY dX2_trueSize_50 rfl 3 rfl ?_
          refine zo_if_ne hY 62 dX2_trueSize_51 (by decide) h (fun c15 h => ?_) (fun c15 h => ?_)
          · refine zo_aload_n hY dX2_trueSize_54 rfl 0 rfl ?_
            refine zo_iload_n hY dX2_trueSize_55 rfl 1 rfl ?_
            refine zo_callV hY (fun q hq => mt_X2_lowOf hJ hCon N x1 Ω12 q hq) (by decide) (by decide) (by decide) ⟨rfl, cn_X2_lowOf⟩ rfl q1683 q1685 qs55 q82 q1686 (Nat.le_of_ble_eq_true rfl) dX2_trueSize_56 rfl h (ci_k (fun r17 Ω16 res h => ?_))
            refine zo_goto hY 67 dX2_trueSize_59 (by decide) ?_
            refine zo_sub [] rfl ?_
            exact ct_X2_trueSize_67 hY hJ hCon hr N r17 Ω16 _ h
          · refine zo_aload_n hY dX2_trueSize_62 rfl 0 rfl ?_
            refine zo_iload_n hY dX2_trueSize_63 rfl 1 rfl ?_
            refine zo_callV hY (fun q hq => mt_X2_highOf hJ hCon N x1 Ω12 q hq) (by decide) (by decide) (by decide) ⟨rfl, cn_X2_highOf⟩ rfl q1688 q1690 qs56 q82 q1691 (Nat.le_of_ble_eq_true rfl) dX2_trueSize_64 rfl h (ci_k (fun r19 Ω18 res h => ?_))
            refine zo_sub [] rfl ?_
            exact ct_X2_trueSize_67 hY hJ hCon hr N r19 Ω18 _ h
theorem dX2_lookedAt_0 : decode cX2_lookedAt 0 = .ok (.iconst 0, 1) := by decide +kernel
theorem dX2_lookedAt_1 : decode cX2_lookedAt 1 = .ok (.istore 4, 2) := by decide +kernel
theorem dX2_lookedAt_3 : decode cX2_lookedAt 3 = .ok (.iconst 0, 1) := by decide +kernel
theorem dX2_lookedAt_4 : decode cX2_lookedAt 4 = .ok (.istore 5, 2) := by decide +kernel
theorem dX2_lookedAt_6 : decode cX2_lookedAt 6 = .ok (.iload 5, 2) := by decide +kernel
theorem dX2_lookedAt_8 : decode cX2_lookedAt 8 = .ok (.aload_n 0, 1) := by decide +kernel
theorem dX2_lookedAt_9 : decode cX2_lookedAt 9 = .ok (.getfield 216, 3) := by decide +kernel
theorem dX2_lookedAt_12 : decode cX2_lookedAt 12 = .ok (.if_icmp .ge 51, 3) := by decide +kernel
theorem dX2_lookedAt_15 : decode cX2_lookedAt 15 = .ok (.aload_n 0, 1) := by decide +kernel
theorem dX2_lookedAt_16 : decode cX2_lookedAt 16 = .ok (.getfield 50, 3) := by decide +kernel
theorem dX2_lookedAt_19 : decode cX2_lookedAt 19 = .ok (.iload 5, 2) := by decide +kernel
theorem dX2_lookedAt_21 : decode cX2_lookedAt 21 = .ok (.iaload, 1) := by decide +kernel
theorem dX2_lookedAt_22 : decode cX2_lookedAt 22 = .ok (.iload_n 1, 1) := by decide +kernel
theorem dX2_lookedAt_23 : decode cX2_lookedAt 23 = .ok (.if_icmp .ne 34, 3) := by decide +kernel
theorem dX2_lookedAt_26 : decode cX2_lookedAt 26 = .ok (.aload_n 0, 1) := by decide +kernel
theorem dX2_lookedAt_27 : decode cX2_lookedAt 27 = .ok (.getfield 53, 3) := by decide +kernel
theorem dX2_lookedAt_30 : decode cX2_lookedAt 30 = .ok (.iload 5, 2) := by decide +kernel
theorem dX2_lookedAt_32 : decode cX2_lookedAt 32 = .ok (.iaload, 1) := by decide +kernel
theorem dX2_lookedAt_33 : decode cX2_lookedAt 33 = .ok (.iload_n 2, 1) := by decide +kernel
theorem dX2_lookedAt_34 : decode cX2_lookedAt 34 = .ok (.if_icmp .ne 23, 3) := by decide +kernel
theorem dX2_lookedAt_37 : decode cX2_lookedAt 37 = .ok (.aload_n 0, 1) := by decide +kernel
theorem dX2_lookedAt_38 : decode cX2_lookedAt 38 = .ok (.getfield 59, 3) := by decide +kernel
theorem dX2_lookedAt_41 : decode cX2_lookedAt 41 = .ok (.iload 5, 2) := by decide +kernel
theorem dX2_lookedAt_43 : decode cX2_lookedAt 43 = .ok (.iaload, 1) := by decide +kernel
theorem dX2_lookedAt_44 : decode cX2_lookedAt 44 = .ok (.iload_n 3, 1) := by decide +kernel
theorem dX2_lookedAt_45 : decode cX2_lookedAt 45 = .ok (.if_icmp .gt 12, 3) := by decide +kernel
theorem dX2_lookedAt_48 : decode cX2_lookedAt 48 = .ok (.aload_n 0, 1) := by decide +kernel
theorem dX2_lookedAt_49 : decode cX2_lookedAt 49 = .ok (.getfield 56, 3) := by decide +kernel
theorem dX2_lookedAt_52 : decode cX2_lookedAt 52 = .ok (.iload 5, 2) := by decide +kernel
theorem dX2_lookedAt_54 : decode cX2_lookedAt 54 = .ok (.iaload, 1) := by decide +kernel
theorem dX2_lookedAt_55 : decode cX2_lookedAt 55 = .ok (.istore 4, 2) := by decide +kernel
theorem dX2_lookedAt_57 : decode cX2_lookedAt 57 = .ok (.iinc 5 1, 3) := by decide +kernel
theorem dX2_lookedAt_60 : decode cX2_lookedAt 60 = .ok (.goto (-54), 3) := by decide +kernel
theorem dX2_lookedAt_63 : decode cX2_lookedAt 63 = .ok (.iload 4, 2) := by decide +kernel
theorem dX2_lookedAt_65 : decode cX2_lookedAt 65 = .ok (.ireturn, 1) := by decide +kernel
def fn_X2_lookedAt_57 (N : Nat) (K6 : Int32 → Int32 → Int32 → Int32 → Int32 → zo_O → Option zo_R) (x1 : Int32) (x2 : Int32) (x3 : Int32) (x4 : Int32) (x5 : Int32) (Ω : zo_O) : Option zo_R :=
  K6 x1 x2 x3 x4 (x5 + 1) Ω
theorem ct_X2_lookedAt_57 {Y : zo_Y} (hY : zo_Gd Y cX2_lookedAt 6 RX2 0) (hJ : zo_JC (zo_J Y)) (hCon : ∀ Ω, zo_J Y Ω → zo_Con Ω) (hr : zo_rt Y (Option.some Jvm.ClassFile.FieldType.int)) (N : Nat) (K6 : Int32 → Int32 → Int32 → Int32 → Int32 → zo_O → Option zo_R) (hK6 : ∀ (x1 : Int32) (x2 : Int32) (x3 : Int32) (x4 : Int32) (x5 : Int32) (Ω : zo_O) (res : zo_R), K6 x1 x2 x3 x4 x5 Ω = some res → TW Y res Ω 6 [(0, vr 1 0), (1, vi x1), (2, vi x2), (3, vi x3), (4, vi x4), (5, vi x5)] []) (x1 : Int32) (x2 : Int32) (x3 : Int32) (x4 : Int32) (x5 : Int32) (Ω : zo_O) (res : zo_R) (h : fn_X2_lookedAt_57 N K6 x1 x2 x3 x4 x5 Ω = some res) : TW Y res Ω 57 [(0, vr 1 0), (1, vi x1), (2, vi x2), (3, vi x3), (4, vi x4), (5, vi x5)] [] := by
  unfold fn_X2_lookedAt_57 at h
  refine zo_iinc hY 1 dX2_lookedAt_57 (by decide) (by decide) 5 rfl rfl (ls' := [(5, vi (x5 + 1)), (0, vr 1 0), (1, vi x1), (2, vi x2), (3, vi x3), (4, vi x4)]) rfl ?_
  refine zo_goto hY 6 dX2_lookedAt_60 (by decide) ?_
  refine zo_sub [1, 2, 3, 4, 5, 0] rfl ?_
  exact hK6 x1 x2 x3 x4 (x5 + 1) Ω _ h
def bd_X2_lookedAt_6 (N : Nat)  (K6 : Int32 → Int32 → Int32 → Int32 → Int32 → zo_O → Option zo_R) (x1 : Int32) (x2 : Int32) (x3 : Int32) (x4 : Int32) (x5 : Int32) (Ω : zo_O) : Option zo_R :=
  if gI Ω 1 0 17 ≤ x5 then (
    rI x4 Ω
    ) else
  ix x5 100 fun j2 =>
  if gI Ω 32 12 j2 = x1 then (
    ix x5 100 fun j4 =>
    if gI Ω 32 13 j4 = x2 then (
      ix x5 100 fun j6 =>
      if x3 < gI Ω 32 15 j6 then (
        fn_X2_lookedAt_57 N K6 x1 x2 x3 x4 x5 Ω
        ) else
      ix x5 100 fun j8 =>
      li (gI Ω 32 14 j8) fun y9 =>
      fn_X2_lookedAt_57 N K6 x1 x2 x3 y9 x5 Ω
      ) else
    fn_X2_lookedAt_57 N K6 x1 x2 x3 x4 x5 Ω
    ) else
  fn_X2_lookedAt_57 N K6 x1 x2 x3 x4 x5 Ω
theorem cb_X2_lookedAt_6 {Y : zo_Y} (hY : zo_Gd Y cX2_lookedAt 6 RX2 0) (hJ : zo_JC (zo_J Y)) (hCon : ∀ Ω, zo_J Y Ω → zo_Con Ω) (hr : zo_rt Y (Option.some Jvm.ClassFile.FieldType.int)) (N : Nat)  (K6 : Int32 → Int32 → Int32 → Int32 → Int32 → zo_O → Option zo_R)  (hK6 : ∀ (x1 : Int32) (x2 : Int32) (x3 : Int32) (x4 : Int32) (x5 : Int32) (Ω : zo_O) (res : zo_R), K6 x1 x2 x3 x4 x5 Ω = some res → TW Y res Ω 6 [(0, vr 1 0), (1, vi x1), (2, vi x2), (3, vi x3), (4, vi x4), (5, vi x5)] []) (x1 : Int32) (x2 : Int32) (x3 : Int32) (x4 : Int32) (x5 : Int32) (Ω : zo_O) (res : zo_R) (h : bd_X2_lookedAt_6 N  K6 x1 x2 x3 x4 x5 Ω = some res) : TW Y res Ω 6 [(0, vr 1 0), (1, vi x1), (2, vi x2), (3, vi x3), (4, vi x4), (5, vi x5)] [] := by
  unfold bd_X2_lookedAt_6 at h
  refine zo_iload hY dX2_lookedAt_6 5 rfl ?_
  refine zo_aload_n hY dX2_lookedAt_8 rfl 0 rfl ?_
  refine zo_getI hY LX2_216_1 rfl dX2_lookedAt_9 ?_
  refine zo_icmp_ge hY 63 dX2_lookedAt_12 (by decide) h (fun c1 h => ?_) (fun c1 h => ?_)
  · refine zo_iload hY dX2_lookedAt_63 4 rfl ?_
    exact zo_iret hY hr dX2_lookedAt_65 h
  · refine zo_aload_n hY dX2_lookedAt_15 rfl 0 rfl ?_
    refine zo_getC hY LX2_50_1 rfl (fun Ω q => (hCon Ω q).2.1 18 _ rfl) dX2_lookedAt_16 ?_
    refine zo_iload hY dX2_lookedAt_19 5 rfl ?_
    refine zo_ald hY (by decide) (Or.inl ⟨rfl, dX2_lookedAt_21⟩) (fun q => (hCon _ q).2.2.2 32 12 100 rfl) h (fun j2 h => ?_)
    refine zo_iload_n hY dX2_lookedAt_22 rfl 1 rfl ?_
    refine zo_icmp_ne hY 57 dX2_lookedAt_23 (by decide) h (fun c3 h => ?_) (fun c3 h => ?_)
    · refine zo_aload_n hY dX2_lookedAt_26 rfl 0 rfl ?_
      refine zo_getC hY LX2_53_1 rfl (fun Ω q => (hCon Ω q).2.1 19 _ rfl) dX2_lookedAt_27 ?_
      refine zo_iload hY dX2_lookedAt_30 5 rfl ?_
      refine zo_ald hY (by decide) (Or.inl ⟨rfl, dX2_lookedAt_32⟩) (fun q => (hCon _ q).2.2.2 32 13 100 rfl) h (fun j4 h => ?_)
      refine zo_iload_n hY dX2_lookedAt_33 rfl 2 rfl ?_
      refine zo_icmp_ne hY 57 dX2_lookedAt_34 (by decide) h (fun c5 h => ?_) (fun c5 h => ?_)
      · refine zo_aload_n hY dX2_lookedAt_37 rfl 0 rfl ?_
        refine zo_getC hY LX2_59_1 rfl (fun Ω q => (hCon Ω q).2.1 21 _ rfl) dX2_lookedAt_38 ?_
        refine zo_iload hY dX2_lookedAt_41 5 rfl ?_
        refine zo_ald hY (by decide) (Or.inl ⟨rfl, dX2_lookedAt_43⟩) (fun q => (hCon _ q).2.2.2 32 15 100 rfl) h (fun j6 h => ?_)
        refine zo_iload_n hY dX2_lookedAt_44 rfl 3 rfl ?_
        refine zo_icmp_gt hY 57 dX2_lookedAt_45 (by decide) h (fun c7 h => ?_) (fun c7 h => ?_)
        · exact ct_X2_lookedAt_57 hY hJ hCon hr N K6 hK6 x1 x2 x3 x4 x5 Ω _ h
        · refine zo_aload_n hY dX2_lookedAt_48 rfl 0 rfl ?_
          refine zo_getC hY LX2_56_1 rfl (fun Ω q => (hCon Ω q).2.1 20 _ rfl) dX2_lookedAt_49 ?_
          refine zo_iload hY dX2_lookedAt_52 5 rfl ?_
          refine zo_ald hY (by decide) (Or.inl ⟨rfl, dX2_lookedAt_54⟩) (fun q => (hCon _ q).2.2.2 32 14 100 rfl) h (fun j8 h => ?_)
          refine zo_nmi h (fun y9 h => ?_)
          refine zo_istore hY dX2_lookedAt_55 (by decide) rfl (ls' := [(4, vi y9), (0, vr 1 0), (1, vi x1), (2, vi x2), (3, vi x3), (5, vi x5)]) rfl ?_
          refine zo_sub [1, 2, 3, 4, 0, 5] rfl ?_
          exact ct_X2_lookedAt_57 hY hJ hCon hr N K6 hK6 x1 x2 x3 y9 x5 Ω _ h
      · exact ct_X2_lookedAt_57 hY hJ hCon hr N K6 hK6 x1 x2 x3 x4 x5 Ω _ h
    · exact ct_X2_lookedAt_57 hY hJ hCon hr N K6 hK6 x1 x2 x3 x4 x5 Ω _ h
def fn_X2_lookedAt_6 (N : Nat)  : Nat → Int32 → Int32 → Int32 → Int32 → Int32 → zo_O → Option zo_R
  | 0, _, _, _, _, _, _ => none
  | n + 1, x1, x2, x3, x4, x5, Ω => bd_X2_lookedAt_6 N  (fn_X2_lookedAt_6 N  n) x1 x2 x3 x4 x5 Ω
theorem ct_X2_lookedAt_6 {Y : zo_Y} (hY : zo_Gd Y cX2_lookedAt 6 RX2 0) (hJ : zo_JC (zo_J Y)) (hCon : ∀ Ω, zo_J Y Ω → zo_Con Ω) (hr : zo_rt Y (Option.some Jvm.ClassFile.FieldType.int)) (N : Nat)   : ∀ (n : Nat) (x1 : Int32) (x2 : Int32) (x3 : Int32) (x4 : Int32) (x5 : Int32) (Ω : zo_O) (res : zo_R), fn_X2_lookedAt_6 N  n x1 x2 x3 x4 x5 Ω = some res → TW Y res Ω 6 [(0, vr 1 0), (1, vi x1), (2, vi x2), (3, vi x3), (4, vi x4), (5, vi x5)] [] := by
  intro n
  induction n with
  | zero => intro x1 x2 x3 x4 x5 Ω res h; exact nomatch (show (none : Option zo_R) = some res from h)
  | succ n ih => intro x1 x2 x3 x4 x5 Ω res h; exact cb_X2_lookedAt_6 hY hJ hCon hr N  (fn_X2_lookedAt_6 N  n)  ih x1 x2 x3 x4 x5 Ω res h
def fn_X2_lookedAt (N : Nat) (x1 : Int32) (x2 : Int32) (x3 : Int32) (Ω : zo_O) : Option zo_R :=
  fn_X2_lookedAt_6 N N x1 x2 x3 0 0 Ω
theorem mt_X2_lookedAt {G : zo_G} {J : zo_O → Prop} (hJ : zo_JC J) (hCon : ∀ Ω, J Ω → zo_Con Ω) (N : Nat) (x1 : Int32) (x2 : Int32) (x3 : Int32) (Ω : zo_O) (res : zo_R) (h : fn_X2_lookedAt N x1 x2 x3 Ω = some res) : zo_MT G J yX2_lookedAt cX2_lookedAt 6 (Option.some Jvm.ClassFile.FieldType.int) 0 [vr 1 0, vi x1, vi x2, vi x3] Ω res := by
  refine zo_enter (by decide) rfl (Nat.le_of_ble_eq_true rfl) (fun Y hY eJ hr hmn => ?_)
  subst eJ
  show TW Y res Ω 0 [(0, vr 1 0), (1, vi x1), (2, vi x2), (3, vi x3)] []
  unfold fn_X2_lookedAt at h
  refine zo_iconst hY 0 (by decide) dX2_lookedAt_0 ?_
  refine zo_istore hY dX2_lookedAt_1 (by decide) rfl (ls' := [(4, vi 0), (0, vr 1 0), (1, vi x1), (2, vi x2), (3, vi x3)]) rfl ?_
  refine zo_iconst hY 0 (by decide) dX2_lookedAt_3 ?_
  refine zo_istore hY dX2_lookedAt_4 (by decide) rfl (ls' := [(5, vi 0), (4, vi 0), (0, vr 1 0), (1, vi x1), (2, vi x2), (3, vi x3)]) rfl ?_
  refine zo_sub [2, 3, 4, 5, 1, 0] rfl ?_
  exact ct_X2_lookedAt_6 hY hJ hCon hr N N x1 x2 x3 0 0 Ω _ h
theorem dX2_gathers_0 : decode cX2_gathers 0 = .ok (.aload_n 0, 1) := by decide +kernel
theorem dX2_gathers_1 : decode cX2_gathers 1 = .ok (.iconst (-1), 1) := by decide +kernel
theorem dX2_gathers_2 : decode cX2_gathers 2 = .ok (.putfield 362, 3) := by decide +kernel
theorem dX2_gathers_5 : decode cX2_gathers 5 = .ok (.aload_n 0, 1) := by decide +kernel
theorem dX2_gathers_6 : decode cX2_gathers 6 = .ok (.iconst (-1), 1) := by decide +kernel
theorem dX2_gathers_7 : decode cX2_gathers 7 = .ok (.putfield 365, 3) := by decide +kernel
theorem dX2_gathers_10 : decode cX2_gathers 10 = .ok (.iconst 0, 1) := by decide +kernel
theorem dX2_gathers_11 : decode cX2_gathers 11 = .ok (.istore 5, 2) := by decide +kernel
theorem dX2_gathers_13 : decode cX2_gathers 13 = .ok (.iload 5, 2) := by decide +kernel
theorem dX2_gathers_15 : decode cX2_gathers 15 = .ok (.aload_n 0, 1) := by decide +kernel
theorem dX2_gathers_16 : decode cX2_gathers 16 = .ok (.getfield 197, 3) := by decide +kernel
theorem dX2_gathers_19 : decode cX2_gathers 19 = .ok (.if_icmp .ge 90, 3) := by decide +kernel
theorem dX2_gathers_22 : decode cX2_gathers 22 = .ok (.aload_n 0, 1) := by decide +kernel
theorem dX2_gathers_23 : decode cX2_gathers 23 = .ok (.getfield 25, 3) := by decide +kernel
theorem dX2_gathers_26 : decode cX2_gathers 26 = .ok (.iload 5, 2) := by decide +kernel
theorem dX2_gathers_28 : decode cX2_gathers 28 = .ok (.iaload, 1) := by decide +kernel
theorem dX2_gathers_29 : decode cX2_gathers 29 = .ok (.iload_n 1, 1) := by decide +kernel
theorem dX2_gathers_30 : decode cX2_gathers 30 = .ok (.if_icmp .ne 73, 3) := by decide +kernel
theorem dX2_gathers_33 : decode cX2_gathers 33 = .ok (.aload_n 0, 1) := by decide +kernel
theorem dX2_gathers_34 : decode cX2_gathers 34 = .ok (.getfield 28, 3) := by decide +kernel
theorem dX2_gathers_37 : decode cX2_gathers 37 = .ok (.iload 5, 2) := by decide +kernel
theorem dX2_gathers_39 : decode cX2_gathers 39 = .ok (.iaload, 1) := by decide +kernel
theorem dX2_gathers_40 : decode cX2_gathers 40 = .ok (.iload_n 2, 1) := by decide +kernel
theorem dX2_gathers_41 : decode cX2_gathers 41 = .ok (.if_icmp .ne 62, 3) := by decide +kernel
theorem dX2_gathers_44 : decode cX2_gathers 44 = .ok (.aload_n 0, 1) := by decide +kernel
theorem dX2_gathers_45 : decode cX2_gathers 45 = .ok (.getfield 40, 3) := by decide +kernel
theorem dX2_gathers_48 : decode cX2_gathers 48 = .ok (.iload 5, 2) := by decide +kernel
theorem dX2_gathers_50 : decode cX2_gathers 50 = .ok (.iaload, 1) := by decide +kernel
theorem dX2_gathers_51 : decode cX2_gathers 51 = .ok (.iload_n 3, 1) := by decide +kernel
theorem dX2_gathers_52 : decode cX2_gathers 52 = .ok (.if_icmp .ne 51, 3) := by decide +kernel
theorem dX2_gathers_55 : decode cX2_gathers 55 = .ok (.aload_n 0, 1) := by decide +kernel
theorem dX2_gathers_56 : decode cX2_gathers 56 = .ok (.iload 5, 2) := by decide +kernel
theorem dX2_gathers_58 : decode cX2_gathers 58 = .ok (.iload 4, 2) := by decide +kernel
theorem dX2_gathers_60 : decode cX2_gathers 60 = .ok (.invokevirtual 353, 3) := by decide +kernel
theorem dX2_gathers_63 : decode cX2_gathers 63 = .ok (.ifCond .ne 6, 3) := by decide +kernel
theorem dX2_gathers_66 : decode cX2_gathers 66 = .ok (.goto 37, 3) := by decide +kernel
theorem dX2_gathers_69 : decode cX2_gathers 69 = .ok (.aload_n 0, 1) := by decide +kernel
theorem dX2_gathers_70 : decode cX2_gathers 70 = .ok (.aload_n 0, 1) := by decide +kernel
theorem dX2_gathers_71 : decode cX2_gathers 71 = .ok (.getfield 362, 3) := by decide +kernel
theorem dX2_gathers_74 : decode cX2_gathers 74 = .ok (.aload_n 0, 1) := by decide +kernel
theorem dX2_gathers_75 : decode cX2_gathers 75 = .ok (.iload 5, 2) := by decide +kernel
theorem dX2_gathers_77 : decode cX2_gathers 77 = .ok (.invokevirtual 356, 3) := by decide +kernel
theorem dX2_gathers_80 : decode cX2_gathers 80 = .ok (.invokestatic 348, 3) := by decide +kernel
theorem dX2_gathers_83 : decode cX2_gathers 83 = .ok (.putfield 362, 3) := by decide +kernel
theorem dX2_gathers_86 : decode cX2_gathers 86 = .ok (.aload_n 0, 1) := by decide +kernel
theorem dX2_gathers_87 : decode cX2_gathers 87 = .ok (.aload_n 0, 1) := by decide +kernel
theorem dX2_gathers_88 : decode cX2_gathers 88 = .ok (.getfield 365, 3) := by decide +kernel
theorem dX2_gathers_91 : decode cX2_gathers 91 = .ok (.aload_n 0, 1) := by decide +kernel
theorem dX2_gathers_92 : decode cX2_gathers 92 = .ok (.iload 5, 2) := by decide +kernel
theorem dX2_gathers_94 : decode cX2_gathers 94 = .ok (.invokevirtual 359, 3) := by decide +kernel
theorem dX2_gathers_97 : decode cX2_gathers 97 = .ok (.invokestatic 348, 3) := by decide +kernel
theorem dX2_gathers_100 : decode cX2_gathers 100 = .ok (.putfield 365, 3) := by decide +kernel
theorem dX2_gathers_103 : decode cX2_gathers 103 = .ok (.iinc 5 1, 3) := by decide +kernel
theorem dX2_gathers_106 : decode cX2_gathers 106 = .ok (.goto (-93), 3) := by decide +kernel
theorem dX2_gathers_109 : decode cX2_gathers 109 = .ok (.aload_n 0, 1) := by decide +kernel
theorem dX2_gathers_110 : decode cX2_gathers 110 = .ok (.getfield 362, 3) := by decide +kernel
theorem dX2_gathers_113 : decode cX2_gathers 113 = .ok (.iconst (-1), 1) := by decide +kernel
theorem dX2_gathers_114 : decode cX2_gathers 114 = .ok (.if_icmp .eq 7, 3) := by decide +kernel
theorem dX2_gathers_117 : decode cX2_gathers 117 = .ok (.iconst 1, 1) := by decide +kernel
theorem dX2_gathers_118 : decode cX2_gathers 118 = .ok (.goto 4, 3) := by decide +kernel
theorem dX2_gathers_121 : decode cX2_gathers 121 = .ok (.iconst 0, 1) := by decide +kernel
theorem dX2_gathers_122 : decode cX2_gathers 122 = .ok (.ireturn, 1) := by decide +kernel
def fn_X2_gathers_103 (N : Nat) (K13 : Int32 → Int32 → Int32 → Int32 → Int32 → zo_O → Option zo_R) (x1 : Int32) (x2 : Int32) (x3 : Int32) (x4 : Int32) (x5 : Int32) (Ω : zo_O) : Option zo_R :=
  K13 x1 x2 x3 x4 (x5 + 1) Ω
theorem ct_X2_gathers_103 {Y : zo_Y} (hY : zo_Gd Y cX2_gathers 6 RX2 3) (hJ : zo_JC (zo_J Y)) (hCon : ∀ Ω, zo_J Y Ω → zo_Con Ω) (hr : zo_rt Y (Option.some Jvm.ClassFile.FieldType.boolean)) (N : Nat) (K13 : Int32 → Int32 → Int32 → Int32 → Int32 → zo_O → Option zo_R) (hK13 : ∀ (x1 : Int32) (x2 : Int32) (x3 : Int32) (x4 : Int32) (x5 : Int32) (Ω : zo_O) (res : zo_R), K13 x1 x2 x3 x4 x5 Ω = some res → TW Y res Ω 13 [(0, vr 1 0), (1, vi x1), (2, vi x2), (3, vi x3), (4, vi x4), (5, vi x5)] []) (x1 : Int32) (x2 : Int32) (x3 : Int32) (x4 : Int32) (x5 : Int32) (Ω : zo_O) (res : zo_R) (h : fn_X2_gathers_103 N K13 x1 x2 x3 x4 x5 Ω = some res) : TW Y res Ω 103 [(0, vr 1 0), (1, vi x1), (2, vi x2), (3, vi x3), (4, vi x4), (5, vi x5)] [] := by
  unfold fn_X2_gathers_103 at h
  refine zo_iinc hY 1 dX2_gathers_103 (by decide) (by decide) 5 rfl rfl (ls' := [(5, vi (x5 + 1)), (0, vr 1 0), (1, vi x1), (2, vi x2), (3, vi x3), (4, vi x4)]) rfl ?_
  refine zo_goto hY 13 dX2_gathers_106 (by decide) ?_
  refine zo_sub [1, 2, 3, 4, 5, 0] rfl ?_
  exact hK13 x1 x2 x3 x4 (x5 + 1) Ω _ h
def fn_X2_gathers_122 (N : Nat)  (s0 : Int32) (Ω : zo_O) : Option zo_R :=
  rZ s0 Ω
theorem ct_X2_gathers_122 {Y : zo_Y} (hY : zo_Gd Y cX2_gathers 6 RX2 3) (hJ : zo_JC (zo_J Y)) (hCon : ∀ Ω, zo_J Y Ω → zo_Con Ω) (hr : zo_rt Y (Option.some Jvm.ClassFile.FieldType.boolean)) (N : Nat)   (s0 : Int32) (Ω : zo_O) (res : zo_R) (h : fn_X2_gathers_122 N  s0 Ω = some res) : TW Y res Ω 122 [] [vi s0] := by
  unfold fn_X2_gathers_122 at h
  exact zo_zret hY hr dX2_gathers_122 h
def bd_X2_gathers_13 (N : Nat)  (K13 : Int32 → Int32 → Int32 → Int32 → Int32 → zo_O → Option zo_R) (x1 : Int32) (x2 : Int32) (x3 : Int32) (x4 : Int32) (x5 : Int32) (Ω : zo_O) : Option zo_R :=
  if gI Ω 1 0 8 ≤ x5 then (
    if gI Ω 1 0 66 = (-1) then (
      fn_X2_gathers_122 N 0 Ω
      ) else
    fn_X2_gathers_122 N 1 Ω
    ) else
  ix x5 120 fun j3 =>
  if gI Ω 32 5 j3 = x1 then (
    ix x5 120 fun j5 =>
    if gI Ω 32 6 j5 = x2 then (
      ix x5 120 fun j7 =>
      if gI Ω 32 10 j7 = x3 then (
        ci (fn_X2_isUsed N x5 x4 Ω) fun r10 Ω9 =>
        if r10 = 0 then (
          fn_X2_gathers_103 N K13 x1 x2 x3 x4 x5 Ω9
          ) else
        ci (fn_X2_lowOf N x5 Ω9) fun r13 Ω12 =>
        lt (sI Ω12 1 0 66 (mx (gI Ω9 1 0 66) r13)) fun Ω14 =>
        ci (fn_X2_highOf N x5 Ω14) fun r16 Ω15 =>
        lt (sI Ω15 1 0 67 (mx (gI Ω14 1 0 67) r16)) fun Ω17 =>
        fn_X2_gathers_103 N K13 x1 x2 x3 x4 x5 Ω17
        ) else
      fn_X2_gathers_103 N K13 x1 x2 x3 x4 x5 Ω
      ) else
    fn_X2_gathers_103 N K13 x1 x2 x3 x4 x5 Ω
    ) else
  fn_X2_gathers_103 N K13 x1 x2 x3 x4 x5 Ω
theorem cb_X2_gathers_13 {Y : zo_Y} (hY : zo_Gd Y cX2_gathers 6 RX2 3) (hJ : zo_JC (zo_J Y)) (hCon : ∀ Ω, zo_J Y Ω → zo_Con Ω) (hr : zo_rt Y (Option.some Jvm.ClassFile.FieldType.boolean)) (N : Nat)  (K13 : Int32 → Int32 → Int32 → Int32 → Int32 → zo_O → Option zo_R)  (hK13 : ∀ (x1 : Int32) (x2 : Int32) (x3 : Int32) (x4 : Int32) (x5 : Int32) (Ω : zo_O) (res : zo_R), K13 x1 x2 x3 x4 x5 Ω = some res → TW Y res Ω 13 [(0, vr 1 0), (1, vi x1), (2, vi x2), (3, vi x3), (4, vi x4), (5, vi x5)] []) (x1 : Int32) (x2 : Int32) (x3 : Int32) (x4 : Int32) (x5 : Int32) (Ω : zo_O) (res : zo_R) (h : bd_X2_gathers_13 N  K13 x1 x2 x3 x4 x5 Ω = some res) : TW Y res Ω 13 [(0, vr 1 0), (1, vi x1), (2, vi x2), (3, vi x3), (4, vi x4), (5, vi x5)] [] := by
  unfold bd_X2_gathers_13 at h
  refine zo_iload hY dX2_gathers_13 5 rfl ?_
  refine zo_aload_n hY dX2_gathers_15 rfl 0 rfl ?_
  refine zo_getI hY LX2_197_1 rfl dX2_gathers_16 ?_
  refine zo_icmp_ge hY 109 dX2_gathers_19 (by decide) h (fun c1 h => ?_) (fun c1 h => ?_)
  · refine zo_aload_n hY dX2_gathers_109 rfl 0 rfl ?_
    refine zo_getI hY LX2_362_1 rfl dX2_gathers_110 ?_
    refine zo_iconst hY (-1) (by decide) dX2_gathers_113 ?_
    refine zo_icmp_eq hY 121 dX2_gathers_114 (by decide) h (fun c2 h => ?_) (fun c2 h => ?_)
    · refine zo_iconst hY 0 (by decide) dX2_gathers_121 ?_
      refine zo_sub [] rfl ?_
      exact ct_X2_gathers_122 hY hJ hCon hr N 0 Ω _ h
    · refine zo_iconst hY 1 (by decide) dX2_gathers_117 ?_
      refine zo_goto hY 122 dX2_gathers_118 (by decide) ?_
      refine zo_sub [] rfl ?_
      exact ct_X2_gathers_122 hY hJ hCon hr N 1 Ω _ h
  · refine zo_aload_n hY dX2_gathers_22 rfl 0 rfl ?_
    refine zo_getC hY LX2_25_1 rfl (fun Ω q => (hCon Ω q).2.1 9 _ rfl) dX2_gathers_23 ?_
    refine zo_iload hY dX2_gathers_26 5 rfl ?_
    refine zo_ald hY (by decide) (Or.inl ⟨rfl, dX2_gathers_28⟩) (fun q => (hCon _ q).2.2.2 32 5 120 rfl) h (fun j3 h => ?_)
    refine zo_iload_n hY dX2_gathers_29 rfl 1 rfl ?_
    refine zo_icmp_ne hY 103 dX2_gathers_30 (by decide) h (fun c4 h => ?_) (fun c4 h => ?_)
    · refine zo_aload_n hY dX2_gathers_33 rfl 0 rfl ?_
      refine zo_getC hY LX2_28_1 rfl (fun Ω q => (hCon Ω q).2.1 10 _ rfl) dX2_gathers_34 ?_
      refine zo_iload hY dX2_gathers_37 5 rfl ?_
      refine zo_ald hY (by decide) (Or.inl ⟨rfl, dX2_gathers_39⟩) (fun q => (hCon _ q).2.2.2 32 6 120 rfl) h (fun j5 h => ?_)
      refine zo_iload_n hY dX2_gathers_40 rfl 2 rfl ?_
      refine zo_icmp_ne hY 103 dX2_gathers_41 (by decide) h (fun c6 h => ?_) (fun c6 h => ?_)
      · refine zo_aload_n hY dX2_gathers_44 rfl 0 rfl ?_
        refine zo_getC hY LX2_40_1 rfl (fun Ω q => (hCon Ω q).2.1 14 _ rfl) dX2_gathers_45 ?_
        refine zo_iload hY dX2_gathers_48 5 rfl ?_
        refine zo_ald hY (by decide) (Or.inl ⟨rfl, dX2_gathers_50⟩) (fun q => (hCon _ q).2.2.2 32 10 120 rfl) h (fun j7 h => ?_)
        refine zo_iload_n hY dX2_gathers_51 rfl 3 rfl ?_
        refine zo_icmp_ne hY 103 dX2_gathers_52 (by decide) h (fun c8 h => ?_) (fun c8 h => ?_)
        · refine zo_aload_n hY dX2_gathers_55 rfl 0 rfl ?_
          refine zo_iload hY dX2_gathers_56 5 rfl ?_
          refine zo_iload hY dX2_gathers_58 4 rfl ?_
          refine zo_callV hY (fun q hq => mt_X2_isUsed hJ hCon N x5 x4 Ω q hq) (by decide) (by decide) (by decide) ⟨rfl, cn_X2_isUsed⟩ rfl q1667 q1669 qs52 q82 q1670 (Nat.le_of_ble_eq_true rfl) dX2_gathers_60 rfl h (ci_k (fun r10 Ω9 res h => ?_))
          refine zo_if_ne hY 69 dX2_gathers_63 (by decide) h (fun c11 h => ?_) (fun c11 h => ?_)
          · refine zo_goto hY 103 dX2_gathers_66 (by decide) ?_
            exact ct_X2_gathers_103 hY hJ hCon hr N K13 hK13 x1 x2 x3 x4 x5 Ω9 _ h
          · refine zo_aload_n hY dX2_gathers_69 rfl 0 rfl ?_
            refine zo_aload_n hY dX2_gathers_70 rfl 0 rfl ?_
            refine zo_getI hY LX2_362_1 rfl dX2_gathers_71 ?_
            refine zo_aload_n hY dX2_gathers_74 rfl 0 rfl ?_
            refine zo_iload hY dX2_gathers_75 5 rfl ?_
            refine zo_callV hY (fun q hq => mt_X2_lowOf hJ hCon N x5 Ω9 q hq) (by decide) (by decide) (by decide) ⟨rfl, cn_X2_lowOf⟩ rfl q1683 q1685 qs55 q82 q1686 (Nat.le_of_ble_eq_true rfl) dX2_gathers_77 rfl h (ci_k (fun r13 Ω12 res h => ?_))
            refine zo_mmax hY (by decide) q1687 (Nat.le_of_ble_eq_true rfl) dX2_gathers_80 ?_
            refine zo_putI hY hJ LX2_362_1 rfl (Or.inl rfl) dX2_gathers_83 h (fun Ω14 h => ?_)
            refine zo_aload_n hY dX2_gathers_86 rfl 0 rfl ?_
            refine zo_aload_n hY dX2_gathers_87 rfl 0 rfl ?_
            refine zo_getI hY LX2_365_1 rfl dX2_gathers_88 ?_
            refine zo_aload_n hY dX2_gathers_91 rfl 0 rfl ?_
            refine zo_iload hY dX2_gathers_92 5 rfl ?_
            refine zo_callV hY (fun q hq => mt_X2_highOf hJ hCon N x5 Ω14 q hq) (by decide) (by decide) (by decide) ⟨rfl, cn_X2_highOf⟩ rfl q1688 q1690 qs56 q82 q1691 (Nat.le_of_ble_eq_true rfl) dX2_gathers_94 rfl h (ci_k (fun r16 Ω15 res h => ?_))
            refine zo_mmax hY (by decide) q1687 (Nat.le_of_ble_eq_true rfl) dX2_gathers_97 ?_
            refine zo_putI hY hJ LX2_365_1 rfl (Or.inl rfl) dX2_gathers_100 h (fun Ω17 h => ?_)
            exact ct_X2_gathers_103 hY hJ hCon hr N K13 hK13 x1 x2 x3 x4 x5 Ω17 _ h
        · exact ct_X2_gathers_103 hY hJ hCon hr N K13 hK13 x1 x2 x3 x4 x5 Ω _ h
      · exact ct_X2_gathers_103 hY hJ hCon hr N K13 hK13 x1 x2 x3 x4 x5 Ω _ h
    · exact ct_X2_gathers_103 hY hJ hCon hr N K13 hK13 x1 x2 x3 x4 x5 Ω _ h
def fn_X2_gathers_13 (N : Nat)  : Nat → Int32 → Int32 → Int32 → Int32 → Int32 → zo_O → Option zo_R
  | 0, _, _, _, _, _, _ => none
  | n + 1, x1, x2, x3, x4, x5, Ω => bd_X2_gathers_13 N  (fn_X2_gathers_13 N  n) x1 x2 x3 x4 x5 Ω
theorem ct_X2_gathers_13 {Y : zo_Y} (hY : zo_Gd Y cX2_gathers 6 RX2 3) (hJ : zo_JC (zo_J Y)) (hCon : ∀ Ω, zo_J Y Ω → zo_Con Ω) (hr : zo_rt Y (Option.some Jvm.ClassFile.FieldType.boolean)) (N : Nat)   : ∀ (n : Nat) (x1 : Int32) (x2 : Int32) (x3 : Int32) (x4 : Int32) (x5 : Int32) (Ω : zo_O) (res : zo_R), fn_X2_gathers_13 N  n x1 x2 x3 x4 x5 Ω = some res → TW Y res Ω 13 [(0, vr 1 0), (1, vi x1), (2, vi x2), (3, vi x3), (4, vi x4), (5, vi x5)] [] := by
  intro n
  induction n with
  | zero => intro x1 x2 x3 x4 x5 Ω res h; exact nomatch (show (none : Option zo_R) = some res from h)
  | succ n ih => intro x1 x2 x3 x4 x5 Ω res h; exact cb_X2_gathers_13 hY hJ hCon hr N  (fn_X2_gathers_13 N  n)  ih x1 x2 x3 x4 x5 Ω res h
def fn_X2_gathers (N : Nat) (x1 : Int32) (x2 : Int32) (x3 : Int32) (x4 : Int32) (Ω : zo_O) : Option zo_R :=
  lt (sI Ω 1 0 66 ((-1))) fun Ω1 =>
  lt (sI Ω1 1 0 67 ((-1))) fun Ω2 =>
  fn_X2_gathers_13 N N x1 x2 x3 x4 0 Ω2
theorem mt_X2_gathers {G : zo_G} {J : zo_O → Prop} (hJ : zo_JC J) (hCon : ∀ Ω, J Ω → zo_Con Ω) (N : Nat) (x1 : Int32) (x2 : Int32) (x3 : Int32) (x4 : Int32) (Ω : zo_O) (res : zo_R) (h : fn_X2_gathers N x1 x2 x3 x4 Ω = some res) : zo_MT G J yX2_gathers cX2_gathers 6 (Option.some Jvm.ClassFile.FieldType.boolean) 3 [vr 1 0, vi x1, vi x2, vi x3, vi x4] Ω res := by
  refine zo_enter (by decide) rfl (Nat.le_of_ble_eq_true rfl) (fun Y hY eJ hr hmn => ?_)
  subst eJ
  show TW Y res Ω 0 [(0, vr 1 0), (1, vi x1), (2, vi x2), (3, vi x3), (4, vi x4)] []
  unfold fn_X2_gathers at h
  refine zo_aload_n hY dX2_gathers_0 rfl 0 rfl ?_
  refine zo_iconst hY (-1) (by decide) dX2_gathers_1 ?_
  refine zo_putI hY hJ LX2_362_1 rfl (Or.inl rfl) dX2_gathers_2 h (fun Ω1 h => ?_)
  refine zo_aload_n hY dX2_gathers_5 rfl 0 rfl ?_
  refine zo_iconst hY (-1) (by decide) dX2_gathers_6 ?_
  refine zo_putI hY hJ LX2_365_1 rfl (Or.inl rfl) dX2_gathers_7 h (fun Ω2 h => ?_)
  refine zo_iconst hY 0 (by decide) dX2_gathers_10 ?_
  refine zo_istore hY dX2_gathers_11 (by decide) rfl (ls' := [(5, vi 0), (0, vr 1 0), (1, vi x1), (2, vi x2), (3, vi x3), (4, vi x4)]) rfl ?_
  refine zo_sub [1, 2, 3, 4, 5, 0] rfl ?_
  exact ct_X2_gathers_13 hY hJ hCon hr N N x1 x2 x3 x4 0 Ω2 _ h
theorem dX2_isFirst_0 : decode cX2_isFirst 0 = .ok (.iconst 0, 1) := by decide +kernel
theorem dX2_isFirst_1 : decode cX2_isFirst 1 = .ok (.istore_n 2, 1) := by decide +kernel
theorem dX2_isFirst_2 : decode cX2_isFirst 2 = .ok (.iload_n 2, 1) := by decide +kernel
theorem dX2_isFirst_3 : decode cX2_isFirst 3 = .ok (.iload_n 1, 1) := by decide +kernel
theorem dX2_isFirst_4 : decode cX2_isFirst 4 = .ok (.if_icmp .ge 56, 3) := by decide +kernel
theorem dX2_isFirst_7 : decode cX2_isFirst 7 = .ok (.aload_n 0, 1) := by decide +kernel
theorem dX2_isFirst_8 : decode cX2_isFirst 8 = .ok (.getfield 25, 3) := by decide +kernel
theorem dX2_isFirst_11 : decode cX2_isFirst 11 = .ok (.iload_n 2, 1) := by decide +kernel
theorem dX2_isFirst_12 : decode cX2_isFirst 12 = .ok (.iaload, 1) := by decide +kernel
theorem dX2_isFirst_13 : decode cX2_isFirst 13 = .ok (.aload_n 0, 1) := by decide +kernel
theorem dX2_isFirst_14 : decode cX2_isFirst 14 = .ok (.getfield 25, 3) := by decide +kernel
theorem dX2_isFirst_17 : decode cX2_isFirst 17 = .ok (.iload_n 1, 1) := by decide +kernel
theorem dX2_isFirst_18 : decode cX2_isFirst 18 = .ok (.iaload, 1) := by decide +kernel
theorem dX2_isFirst_19 : decode cX2_isFirst 19 = .ok (.if_icmp .ne 35, 3) := by decide +kernel
theorem dX2_isFirst_22 : decode cX2_isFirst 22 = .ok (.aload_n 0, 1) := by decide +kernel
theorem dX2_isFirst_23 : decode cX2_isFirst 23 = .ok (.getfield 28, 3) := by decide +kernel
theorem dX2_isFirst_26 : decode cX2_isFirst 26 = .ok (.iload_n 2, 1) := by decide +kernel
theorem dX2_isFirst_27 : decode cX2_isFirst 27 = .ok (.iaload, 1) := by decide +kernel
theorem dX2_isFirst_28 : decode cX2_isFirst 28 = .ok (.aload_n 0, 1) := by decide +kernel
theorem dX2_isFirst_29 : decode cX2_isFirst 29 = .ok (.getfield 28, 3) := by decide +kernel
theorem dX2_isFirst_32 : decode cX2_isFirst 32 = .ok (.iload_n 1, 1) := by decide +kernel
theorem dX2_isFirst_33 : decode cX2_isFirst 33 = .ok (.iaload, 1) := by decide +kernel
theorem dX2_isFirst_34 : decode cX2_isFirst 34 = .ok (.if_icmp .ne 20, 3) := by decide +kernel
theorem dX2_isFirst_37 : decode cX2_isFirst 37 = .ok (.aload_n 0, 1) := by decide +kernel
theorem dX2_isFirst_38 : decode cX2_isFirst 38 = .ok (.getfield 40, 3) := by decide +kernel
theorem dX2_isFirst_41 : decode cX2_isFirst 41 = .ok (.iload_n 2, 1) := by decide +kernel
theorem dX2_isFirst_42 : decode cX2_isFirst 42 = .ok (.iaload, 1) := by decide +kernel
theorem dX2_isFirst_43 : decode cX2_isFirst 43 = .ok (.aload_n 0, 1) := by decide +kernel
theorem dX2_isFirst_44 : decode cX2_isFirst 44 = .ok (.getfield 40, 3) := by decide +kernel
theorem dX2_isFirst_47 : decode cX2_isFirst 47 = .ok (.iload_n 1, 1) := by decide +kernel
theorem dX2_isFirst_48 : decode cX2_isFirst 48 = .ok (.iaload, 1) := by decide +kernel
theorem dX2_isFirst_49 : decode cX2_isFirst 49 = .ok (.if_icmp .ne 5, 3) := by decide +kernel
theorem dX2_isFirst_52 : decode cX2_isFirst 52 = .ok (.iconst 0, 1) := by decide +kernel
theorem dX2_isFirst_53 : decode cX2_isFirst 53 = .ok (.ireturn, 1) := by decide +kernel
theorem dX2_isFirst_54 : decode cX2_isFirst 54 = .ok (.iinc 2 1, 3) := by decide +kernel
theorem dX2_isFirst_57 : decode cX2_isFirst 57 = .ok (.goto (-55), 3) := by decide +kernel
theorem dX2_isFirst_60 : decode cX2_isFirst 60 = .ok (.iconst 1, 1) := by decide +kernel
theorem dX2_isFirst_61 : decode cX2_isFirst 61 = .ok (.ireturn, 1) := by decide +kernel
def fn_X2_isFirst_54 (N : Nat) (K2 : Int32 → Int32 → zo_O → Option zo_R) (x1 : Int32) (x2 : Int32) (Ω : zo_O) : Option zo_R :=
  K2 x1 (x2 + 1) Ω
theorem ct_X2_isFirst_54 {Y : zo_Y} (hY : zo_Gd Y cX2_isFirst 3 RX2 0) (hJ : zo_JC (zo_J Y)) (hCon : ∀ Ω, zo_J Y Ω → zo_Con Ω) (hr : zo_rt Y (Option.some Jvm.ClassFile.FieldType.boolean)) (N : Nat) (K2 : Int32 → Int32 → zo_O → Option zo_R) (hK2 : ∀ (x1 : Int32) (x2 : Int32) (Ω : zo_O) (res : zo_R), K2 x1 x2 Ω = some res → TW Y res Ω 2 [(0, vr 1 0), (1, vi x1), (2, vi x2)] []) (x1 : Int32) (x2 : Int32) (Ω : zo_O) (res : zo_R) (h : fn_X2_isFirst_54 N K2 x1 x2 Ω = some res) : TW Y res Ω 54 [(0, vr 1 0), (1, vi x1), (2, vi x2)] [] := by
  unfold fn_X2_isFirst_54 at h
  refine zo_iinc hY 1 dX2_isFirst_54 (by decide) (by decide) 2 rfl rfl (ls' := [(2, vi (x2 + 1)), (0, vr 1 0), (1, vi x1)]) rfl ?_
  refine zo_goto hY 2 dX2_isFirst_57 (by decide) ?_
  refine zo_sub [1, 2, 0] rfl ?_
  exact hK2 x1 (x2 + 1) Ω _ h
def bd_X2_isFirst_2 (N : Nat)  (K2 : Int32 → Int32 → zo_O → Option zo_R) (x1 : Int32) (x2 : Int32) (Ω : zo_O) : Option zo_R :=
  if x1 ≤ x2 then (
    rZ 1 Ω
    ) else
  ix x2 120 fun j2 =>
  ix x1 120 fun j3 =>
  if gI Ω 32 5 j2 = gI Ω 32 5 j3 then (
    ix x2 120 fun j5 =>
    ix x1 120 fun j6 =>
    if gI Ω 32 6 j5 = gI Ω 32 6 j6 then (
      ix x2 120 fun j8 =>
      ix x1 120 fun j9 =>
      if gI Ω 32 10 j8 = gI Ω 32 10 j9 then (
        rZ 0 Ω
        ) else
      fn_X2_isFirst_54 N K2 x1 x2 Ω
      ) else
    fn_X2_isFirst_54 N K2 x1 x2 Ω
    ) else
  fn_X2_isFirst_54 N K2 x1 x2 Ω
theorem cb_X2_isFirst_2 {Y : zo_Y} (hY : zo_Gd Y cX2_isFirst 3 RX2 0) (hJ : zo_JC (zo_J Y)) (hCon : ∀ Ω, zo_J Y Ω → zo_Con Ω) (hr : zo_rt Y (Option.some Jvm.ClassFile.FieldType.boolean)) (N : Nat)  (K2 : Int32 → Int32 → zo_O → Option zo_R)  (hK2 : ∀ (x1 : Int32) (x2 : Int32) (Ω : zo_O) (res : zo_R), K2 x1 x2 Ω = some res → TW Y res Ω 2 [(0, vr 1 0), (1, vi x1), (2, vi x2)] []) (x1 : Int32) (x2 : Int32) (Ω : zo_O) (res : zo_R) (h : bd_X2_isFirst_2 N  K2 x1 x2 Ω = some res) : TW Y res Ω 2 [(0, vr 1 0), (1, vi x1), (2, vi x2)] [] := by
  unfold bd_X2_isFirst_2 at h
  refine zo_iload_n hY dX2_isFirst_2 rfl 2 rfl ?_
  refine zo_iload_n hY dX2_isFirst_3 rfl 1 rfl ?_
  refine zo_icmp_ge hY 60 dX2_isFirst_4 (by decide) h (fun c1 h => ?_) (fun c1 h => ?_)
  · refine zo_iconst hY 1 (by decide) dX2_isFirst_60 ?_
    exact zo_zret hY hr dX2_isFirst_61 h
  · refine zo_aload_n hY dX2_isFirst_7 rfl 0 rfl ?_
    refine zo_getC hY LX2_25_1 rfl (fun Ω q => (hCon Ω q).2.1 9 _ rfl) dX2_isFirst_8 ?_
    refine zo_iload_n hY dX2_isFirst_11 rfl 2 rfl ?_
    refine zo_ald hY (by decide) (Or.inl ⟨rfl, dX2_isFirst_12⟩) (fun q => (hCon _ q).2.2.2 32 5 120 rfl) h (fun j2 h => ?_)
    refine zo_aload_n hY dX2_isFirst_13 rfl 0 rfl ?_
    refine zo_getC hY LX2_25_1 rfl (fun Ω q => (hCon Ω q).2.1 9 _ rfl) dX2_isFirst_14 ?_
    refine zo_iload_n hY dX2_isFirst_17 rfl 1 rfl ?_
    refine zo_ald hY (by decide) (Or.inl ⟨rfl, dX2_isFirst_18⟩) (fun q => (hCon _ q).2.2.2 32 5 120 rfl) h (fun j3 h => ?_)
    refine zo_icmp_ne hY 54 dX2_isFirst_19 (by decide) h (fun c4 h => ?_) (fun c4 h => ?_)
    · refine zo_aload_n hY dX2_isFirst_22 rfl 0 rfl ?_
      refine zo_getC hY LX2_28_1 rfl (fun Ω q => (hCon Ω q).2.1 10 _ rfl) dX2_isFirst_23 ?_
      refine zo_iload_n hY dX2_isFirst_26 rfl 2 rfl ?_
      refine zo_ald hY (by decide) (Or.inl ⟨rfl, dX2_isFirst_27⟩) (fun q => (hCon _ q).2.2.2 32 6 120 rfl) h (fun j5 h => ?_)
      refine zo_aload_n hY dX2_isFirst_28 rfl 0 rfl ?_
      refine zo_getC hY LX2_28_1 rfl (fun Ω q => (hCon Ω q).2.1 10 _ rfl) dX2_isFirst_29 ?_
      refine zo_iload_n hY dX2_isFirst_32 rfl 1 rfl ?_
      refine zo_ald hY (by decide) (Or.inl ⟨rfl, dX2_isFirst_33⟩) (fun q => (hCon _ q).2.2.2 32 6 120 rfl) h (fun j6 h => ?_)
      refine zo_icmp_ne hY 54 dX2_isFirst_34 (by decide) h (fun c7 h => ?_) (fun c7 h => ?_)
      · refine zo_aload_n hY dX2_isFirst_37 rfl 0 rfl ?_
        refine zo_getC hY LX2_40_1 rfl (fun Ω q => (hCon Ω q).2.1 14 _ rfl) dX2_isFirst_38 ?_
        refine zo_iload_n hY dX2_isFirst_41 rfl 2 rfl ?_
        refine zo_ald hY (by decide) (Or.inl ⟨rfl, dX2_isFirst_42⟩) (fun q => (hCon _ q).2.2.2 32 10 120 rfl) h (fun j8 h => ?_)
        refine zo_aload_n hY dX2_isFirst_43 rfl 0 rfl ?_
        refine zo_getC hY LX2_40_1 rfl (fun Ω q => (hCon Ω q).2.1 14 _ rfl) dX2_isFirst_44 ?_
        refine zo_iload_n hY dX2_isFirst_47 rfl 1 rfl ?_
        refine zo_ald hY (by decide) (Or.inl ⟨rfl, dX2_isFirst_48⟩) (fun q => (hCon _ q).2.2.2 32 10 120 rfl) h (fun j9 h => ?_)
        refine zo_icmp_ne hY 54 dX2_isFirst_49 (by decide) h (fun c10 h => ?_) (fun c10 h => ?_)
        · refine zo_iconst hY 0 (by decide) dX2_isFirst_52 ?_
          exact zo_zret hY hr dX2_isFirst_53 h
        · exact ct_X2_isFirst_54 hY hJ hCon hr N K2 hK2 x1 x2 Ω _ h
      · exact ct_X2_isFirst_54 hY hJ hCon hr N K2 hK2 x1 x2 Ω _ h
    · exact ct_X2_isFirst_54 hY hJ hCon hr N K2 hK2 x1 x2 Ω _ h
def fn_X2_isFirst_2 (N : Nat)  : Nat → Int32 → Int32 → zo_O → Option zo_R
  | 0, _, _, _ => none
  | n + 1, x1, x2, Ω => bd_X2_isFirst_2 N  (fn_X2_isFirst_2 N  n) x1 x2 Ω
theorem ct_X2_isFirst_2 {Y : zo_Y} (hY : zo_Gd Y cX2_isFirst 3 RX2 0) (hJ : zo_JC (zo_J Y)) (hCon : ∀ Ω, zo_J Y Ω → zo_Con Ω) (hr : zo_rt Y (Option.some Jvm.ClassFile.FieldType.boolean)) (N : Nat)   : ∀ (n : Nat) (x1 : Int32) (x2 : Int32) (Ω : zo_O) (res : zo_R), fn_X2_isFirst_2 N  n x1 x2 Ω = some res → TW Y res Ω 2 [(0, vr 1 0), (1, vi x1), (2, vi x2)] [] := by
  intro n
  induction n with
  | zero => intro x1 x2 Ω res h; exact nomatch (show (none : Option zo_R) = some res from h)
  | succ n ih => intro x1 x2 Ω res h; exact cb_X2_isFirst_2 hY hJ hCon hr N  (fn_X2_isFirst_2 N  n)  ih x1 x2 Ω res h
def fn_X2_isFirst (N : Nat) (x1 : Int32) (Ω : zo_O) : Option zo_R :=
  fn_X2_isFirst_2 N N x1 0 Ω
theorem mt_X2_isFirst {G : zo_G} {J : zo_O → Prop} (hJ : zo_JC J) (hCon : ∀ Ω, J Ω → zo_Con Ω) (N : Nat) (x1 : Int32) (Ω : zo_O) (res : zo_R) (h : fn_X2_isFirst N x1 Ω = some res) : zo_MT G J yX2_isFirst cX2_isFirst 3 (Option.some Jvm.ClassFile.FieldType.boolean) 0 [vr 1 0, vi x1] Ω res := by
  refine zo_enter (by decide) rfl (Nat.le_of_ble_eq_true rfl) (fun Y hY eJ hr hmn => ?_)
  subst eJ
  show TW Y res Ω 0 [(0, vr 1 0), (1, vi x1)] []
  unfold fn_X2_isFirst at h
  refine zo_iconst hY 0 (by decide) dX2_isFirst_0 ?_
  refine zo_istore_n hY dX2_isFirst_1 rfl (by decide) rfl (ls' := [(2, vi 0), (0, vr 1 0), (1, vi x1)]) rfl ?_
  refine zo_sub [1, 2, 0] rfl ?_
  exact ct_X2_isFirst_2 hY hJ hCon hr N N x1 0 Ω _ h
theorem dX2_adds_0 : decode cX2_adds 0 = .ok (.iload_n 2, 1) := by decide +kernel
theorem dX2_adds_1 : decode cX2_adds 1 = .ok (.iconst 0, 1) := by decide +kernel
theorem dX2_adds_2 : decode cX2_adds 2 = .ok (.sipush 800, 3) := by decide +kernel
theorem dX2_adds_5 : decode cX2_adds 5 = .ok (.invokestatic 190, 3) := by decide +kernel
theorem dX2_adds_8 : decode cX2_adds 8 = .ok (.ifCond .ne 4, 3) := by decide +kernel
theorem dX2_adds_11 : decode cX2_adds 11 = .ok (.return_, 1) := by decide +kernel
theorem dX2_adds_12 : decode cX2_adds 12 = .ok (.aload_n 0, 1) := by decide +kernel
theorem dX2_adds_13 : decode cX2_adds 13 = .ok (.getfield 157, 3) := by decide +kernel
theorem dX2_adds_16 : decode cX2_adds 16 = .ok (.aload_n 0, 1) := by decide +kernel
theorem dX2_adds_17 : decode cX2_adds 17 = .ok (.getfield 368, 3) := by decide +kernel
theorem dX2_adds_20 : decode cX2_adds 20 = .ok (.iload_n 1, 1) := by decide +kernel
theorem dX2_adds_21 : decode cX2_adds 21 = .ok (.iastore, 1) := by decide +kernel
theorem dX2_adds_22 : decode cX2_adds 22 = .ok (.aload_n 0, 1) := by decide +kernel
theorem dX2_adds_23 : decode cX2_adds 23 = .ok (.getfield 160, 3) := by decide +kernel
theorem dX2_adds_26 : decode cX2_adds 26 = .ok (.aload_n 0, 1) := by decide +kernel
theorem dX2_adds_27 : decode cX2_adds 27 = .ok (.getfield 368, 3) := by decide +kernel
theorem dX2_adds_30 : decode cX2_adds 30 = .ok (.iload_n 2, 1) := by decide +kernel
theorem dX2_adds_31 : decode cX2_adds 31 = .ok (.iastore, 1) := by decide +kernel
theorem dX2_adds_32 : decode cX2_adds 32 = .ok (.aload_n 0, 1) := by decide +kernel
theorem dX2_adds_33 : decode cX2_adds 33 = .ok (.getfield 163, 3) := by decide +kernel
theorem dX2_adds_36 : decode cX2_adds 36 = .ok (.aload_n 0, 1) := by decide +kernel
theorem dX2_adds_37 : decode cX2_adds 37 = .ok (.getfield 368, 3) := by decide +kernel
theorem dX2_adds_40 : decode cX2_adds 40 = .ok (.iload_n 3, 1) := by decide +kernel
theorem dX2_adds_41 : decode cX2_adds 41 = .ok (.iastore, 1) := by decide +kernel
theorem dX2_adds_42 : decode cX2_adds 42 = .ok (.aload_n 0, 1) := by decide +kernel
theorem dX2_adds_43 : decode cX2_adds 43 = .ok (.getfield 166, 3) := by decide +kernel
theorem dX2_adds_46 : decode cX2_adds 46 = .ok (.aload_n 0, 1) := by decide +kernel
theorem dX2_adds_47 : decode cX2_adds 47 = .ok (.getfield 368, 3) := by decide +kernel
theorem dX2_adds_50 : decode cX2_adds 50 = .ok (.iload 4, 2) := by decide +kernel
theorem dX2_adds_52 : decode cX2_adds 52 = .ok (.bastore, 1) := by decide +kernel
theorem dX2_adds_53 : decode cX2_adds 53 = .ok (.aload_n 0, 1) := by decide +kernel
theorem dX2_adds_54 : decode cX2_adds 54 = .ok (.dup, 1) := by decide +kernel
theorem dX2_adds_55 : decode cX2_adds 55 = .ok (.getfield 368, 3) := by decide +kernel
theorem dX2_adds_58 : decode cX2_adds 58 = .ok (.iconst 1, 1) := by decide +kernel
theorem dX2_adds_59 : decode cX2_adds 59 = .ok (.iadd, 1) := by decide +kernel
theorem dX2_adds_60 : decode cX2_adds 60 = .ok (.putfield 368, 3) := by decide +kernel
theorem dX2_adds_63 : decode cX2_adds 63 = .ok (.return_, 1) := by decide +kernel
def fn_X2_adds (N : Nat) (x1 : Int32) (x2 : Int32) (x3 : Int32) (x4 : Int32) (Ω : zo_O) : Option zo_R :=
  ci (fn_X2_within N x2 0 800 Ω) fun r2 Ω1 =>
  if r2 = 0 then (
    rV Ω1
    ) else
  ix (gI Ω1 1 0 68) 240 fun j4 => lt (sI Ω1 32 39 j4 x1) fun Ω5 =>
  ix (gI Ω5 1 0 68) 240 fun j6 => lt (sI Ω5 32 40 j6 x2) fun Ω7 =>
  ix (gI Ω7 1 0 68) 240 fun j8 => lt (sI Ω7 32 41 j8 x3) fun Ω9 =>
  ix (gI Ω9 1 0 68) 240 fun j10 => lt (sI Ω9 33 4 j10 (vp_nar .boolean x4)) fun Ω11 =>
  lt (sI Ω11 1 0 68 ((gI Ω11 1 0 68) + 1)) fun Ω12 =>
  rV Ω12
theorem mt_X2_adds {G : zo_G} {J : zo_O → Prop} (hJ : zo_JC J) (hCon : ∀ Ω, J Ω → zo_Con Ω) (N : Nat) (x1 : Int32) (x2 : Int32) (x3 : Int32) (x4 : Int32) (Ω : zo_O) (res : zo_R) (h : fn_X2_adds N x1 x2 x3 x4 Ω = some res) : zo_MT G J yX2_adds cX2_adds 5 (Option.none : Option Jvm.ClassFile.FieldType) 1 [vr 1 0, vi x1, vi x2, vi x3, vi x4] Ω res := by
  refine zo_enter (by decide) rfl (Nat.le_of_ble_eq_true rfl) (fun Y hY eJ hr hmn => ?_)
  subst eJ
  show TW Y res Ω 0 [(0, vr 1 0), (1, vi x1), (2, vi x2), (3, vi x3), (4, vi x4)] []
  unfold fn_X2_adds at h
  refine zo_iload_n hY dX2_adds_0 rfl 2 rfl ?_
  refine zo_iconst hY 0 (by decide) dX2_adds_1 ?_
  refine zo_sipush hY 800 (by decide) dX2_adds_2 ?_
  refine zo_callS hY (fun q hq => mt_X2_within hJ hCon N x2 0 800 Ω q hq) (by decide) (by decide) cn_X2_within rfl q1521 q1522 q82 q1523 (Nat.le_of_ble_eq_true rfl) dX2_adds_5 rfl h (ci_k (fun r2 Ω1 res h => ?_))
  refine zo_if_ne hY 12 dX2_adds_8 (by decide) h (fun c3 h => ?_) (fun c3 h => ?_)
  · exact zo_vret hY hr dX2_adds_11 h
  · refine zo_aload_n hY dX2_adds_12 rfl 0 rfl ?_
    refine zo_getC hY LX2_157_1 rfl (fun Ω q => (hCon Ω q).2.1 69 _ rfl) dX2_adds_13 ?_
    refine zo_aload_n hY dX2_adds_16 rfl 0 rfl ?_
    refine zo_getI hY LX2_368_1 rfl dX2_adds_17 ?_
    refine zo_iload_n hY dX2_adds_20 rfl 1 rfl ?_
    refine zo_ast hY hJ (by decide) (Or.inl ⟨rfl, rfl, dX2_adds_21⟩) (fun q => (hCon _ q).2.2.2 32 39 240 rfl) h (fun j4 Ω5 h => ?_)
    refine zo_aload_n hY dX2_adds_22 rfl 0 rfl ?_
    refine zo_getC hY LX2_160_1 rfl (fun Ω q => (hCon Ω q).2.1 70 _ rfl) dX2_adds_23 ?_
    refine zo_aload_n hY dX2_adds_26 rfl 0 rfl ?_
    refine zo_getI hY LX2_368_1 rfl dX2_adds_27 ?_
    refine zo_iload_n hY dX2_adds_30 rfl 2 rfl ?_
    refine zo_ast hY hJ (by decide) (Or.inl ⟨rfl, rfl, dX2_adds_31⟩) (fun q => (hCon _ q).2.2.2 32 40 240 rfl) h (fun j6 Ω7 h => ?_)
    refine zo_aload_n hY dX2_adds_32 rfl 0 rfl ?_
    refine zo_getC hY LX2_163_1 rfl (fun Ω q => (hCon Ω q).2.1 71 _ rfl) dX2_adds_33 ?_
    refine zo_aload_n hY dX2_adds_36 rfl 0 rfl ?_
    refine zo_getI hY LX2_368_1 rfl dX2_adds_37 ?_
    refine zo_iload_n hY dX2_adds_40 rfl 3 rfl ?_
    refine zo_ast hY hJ (by decide) (Or.inl ⟨rfl, rfl, dX2_adds_41⟩) (fun q => (hCon _ q).2.2.2 32 41 240 rfl) h (fun j8 Ω9 h => ?_)
    refine zo_aload_n hY dX2_adds_42 rfl 0 rfl ?_
    refine zo_getC hY LX2_166_1 rfl (fun Ω q => (hCon Ω q).2.1 72 _ rfl) dX2_adds_43 ?_
    refine zo_aload_n hY dX2_adds_46 rfl 0 rfl ?_
    refine zo_getI hY LX2_368_1 rfl dX2_adds_47 ?_
    refine zo_iload hY dX2_adds_50 4 rfl ?_
    refine zo_ast hY hJ (by decide) (Or.inr (Or.inr ⟨rfl, rfl, dX2_adds_52⟩)) (fun q => (hCon _ q).2.2.2 33 4 240 rfl) h (fun j10 Ω11 h => ?_)
    refine zo_aload_n hY dX2_adds_53 rfl 0 rfl ?_
    refine zo_dup hY dX2_adds_54 (Or.inr ⟨_, rfl⟩) ?_
    refine zo_getI hY LX2_368_1 rfl dX2_adds_55 ?_
    refine zo_iconst hY 1 (by decide) dX2_adds_58 ?_
    refine zo_iadd hY dX2_adds_59 ?_
    refine zo_putI hY hJ LX2_368_1 rfl (Or.inl rfl) dX2_adds_60 h (fun Ω12 h => ?_)
    exact zo_vret hY hr dX2_adds_63 h
theorem dX2_goTogether_0 : decode cX2_goTogether 0 = .ok (.aload_n 0, 1) := by decide +kernel
theorem dX2_goTogether_1 : decode cX2_goTogether 1 = .ok (.getfield 160, 3) := by decide +kernel
theorem dX2_goTogether_4 : decode cX2_goTogether 4 = .ok (.iload_n 1, 1) := by decide +kernel
theorem dX2_goTogether_5 : decode cX2_goTogether 5 = .ok (.iaload, 1) := by decide +kernel
theorem dX2_goTogether_6 : decode cX2_goTogether 6 = .ok (.aload_n 0, 1) := by decide +kernel
theorem dX2_goTogether_7 : decode cX2_goTogether 7 = .ok (.getfield 160, 3) := by decide +kernel
theorem dX2_goTogether_10 : decode cX2_goTogether 10 = .ok (.iload_n 2, 1) := by decide +kernel
theorem dX2_goTogether_11 : decode cX2_goTogether 11 = .ok (.iaload, 1) := by decide +kernel
theorem dX2_goTogether_12 : decode cX2_goTogether 12 = .ok (.isub, 1) := by decide +kernel
theorem dX2_goTogether_13 : decode cX2_goTogether 13 = .ok (.istore_n 3, 1) := by decide +kernel
theorem dX2_goTogether_14 : decode cX2_goTogether 14 = .ok (.aload_n 0, 1) := by decide +kernel
theorem dX2_goTogether_15 : decode cX2_goTogether 15 = .ok (.getfield 163, 3) := by decide +kernel
theorem dX2_goTogether_18 : decode cX2_goTogether 18 = .ok (.iload_n 1, 1) := by decide +kernel
theorem dX2_goTogether_19 : decode cX2_goTogether 19 = .ok (.iaload, 1) := by decide +kernel
theorem dX2_goTogether_20 : decode cX2_goTogether 20 = .ok (.aload_n 0, 1) := by decide +kernel
theorem dX2_goTogether_21 : decode cX2_goTogether 21 = .ok (.getfield 163, 3) := by decide +kernel
theorem dX2_goTogether_24 : decode cX2_goTogether 24 = .ok (.iload_n 2, 1) := by decide +kernel
theorem dX2_goTogether_25 : decode cX2_goTogether 25 = .ok (.iaload, 1) := by decide +kernel
theorem dX2_goTogether_26 : decode cX2_goTogether 26 = .ok (.iload_n 3, 1) := by decide +kernel
theorem dX2_goTogether_27 : decode cX2_goTogether 27 = .ok (.ifCond .le 12, 3) := by decide +kernel
theorem dX2_goTogether_30 : decode cX2_goTogether 30 = .ok (.aload_n 0, 1) := by decide +kernel
theorem dX2_goTogether_31 : decode cX2_goTogether 31 = .ok (.getfield 111, 3) := by decide +kernel
theorem dX2_goTogether_34 : decode cX2_goTogether 34 = .ok (.iload_n 3, 1) := by decide +kernel
theorem dX2_goTogether_35 : decode cX2_goTogether 35 = .ok (.imul, 1) := by decide +kernel
theorem dX2_goTogether_36 : decode cX2_goTogether 36 = .ok (.goto 4, 3) := by decide +kernel
theorem dX2_goTogether_39 : decode cX2_goTogether 39 = .ok (.iconst 0, 1) := by decide +kernel
theorem dX2_goTogether_40 : decode cX2_goTogether 40 = .ok (.iadd, 1) := by decide +kernel
theorem dX2_goTogether_41 : decode cX2_goTogether 41 = .ok (.if_icmp .gt 7, 3) := by decide +kernel
theorem dX2_goTogether_44 : decode cX2_goTogether 44 = .ok (.iconst 1, 1) := by decide +kernel
theorem dX2_goTogether_45 : decode cX2_goTogether 45 = .ok (.goto 4, 3) := by decide +kernel
theorem dX2_goTogether_48 : decode cX2_goTogether 48 = .ok (.iconst 0, 1) := by decide +kernel
theorem dX2_goTogether_49 : decode cX2_goTogether 49 = .ok (.ireturn, 1) := by decide +kernel
def fn_X2_goTogether_49 (N : Nat)  (s0 : Int32) (Ω : zo_O) : Option zo_R :=
  rZ s0 Ω
theorem ct_X2_goTogether_49 {Y : zo_Y} (hY : zo_Gd Y cX2_goTogether 4 RX2 0) (hJ : zo_JC (zo_J Y)) (hCon : ∀ Ω, zo_J Y Ω → zo_Con Ω) (hr : zo_rt Y (Option.some Jvm.ClassFile.FieldType.boolean)) (N : Nat)   (s0 : Int32) (Ω : zo_O) (res : zo_R) (h : fn_X2_goTogether_49 N  s0 Ω = some res) : TW Y res Ω 49 [] [vi s0] := by
  unfold fn_X2_goTogether_49 at h
  exact zo_zret hY hr dX2_goTogether_49 h
def fn_X2_goTogether_40 (N : Nat)  (s0 : Int32) (s1 : Int32) (s2 : Int32) (Ω : zo_O) : Option zo_R :=
  if s1 + s0 < s2 then (
    fn_X2_goTogether_49 N 0 Ω
    ) else
  fn_X2_goTogether_49 N 1 Ω
theorem ct_X2_goTogether_40 {Y : zo_Y} (hY : zo_Gd Y cX2_goTogether 4 RX2 0) (hJ : zo_JC (zo_J Y)) (hCon : ∀ Ω, zo_J Y Ω → zo_Con Ω) (hr : zo_rt Y (Option.some Jvm.ClassFile.FieldType.boolean)) (N : Nat)   (s0 : Int32) (s1 : Int32) (s2 : Int32) (Ω : zo_O) (res : zo_R) (h : fn_X2_goTogether_40 N  s0 s1 s2 Ω = some res) : TW Y res Ω 40 [] [vi s0, vi s1, vi s2] := by
  unfold fn_X2_goTogether_40 at h
  refine zo_iadd hY dX2_goTogether_40 ?_
  refine zo_icmp_gt hY 48 dX2_goTogether_41 (by decide) h (fun c1 h => ?_) (fun c1 h => ?_)
  · refine zo_iconst hY 0 (by decide) dX2_goTogether_48 ?_
    exact ct_X2_goTogether_49 hY hJ hCon hr N 0 Ω _ h
  · refine zo_iconst hY 1 (by decide) dX2_goTogether_44 ?_
    refine zo_goto hY 49 dX2_goTogether_45 (by decide) ?_
    exact ct_X2_goTogether_49 hY hJ hCon hr N 1 Ω _ h
def fn_X2_goTogether (N : Nat) (x1 : Int32) (x2 : Int32) (Ω : zo_O) : Option zo_R :=
  ix x1 240 fun j1 =>
  ix x2 240 fun j2 =>
  li ((gI Ω 32 40 j1) - (gI Ω 32 40 j2)) fun y3 =>
  ix x1 240 fun j4 =>
  ix x2 240 fun j5 =>
  if y3 ≤ 0 then (
    fn_X2_goTogether_40 N 0 (gI Ω 32 41 j5) (gI Ω 32 41 j4) Ω
    ) else
  fn_X2_goTogether_40 N ((gI Ω 1 0 42) * y3) (gI Ω 32 41 j5) (gI Ω 32 41 j4) Ω
theorem mt_X2_goTogether {G : zo_G} {J : zo_O → Prop} (hJ : zo_JC J) (hCon : ∀ Ω, J Ω → zo_Con Ω) (N : Nat) (x1 : Int32) (x2 : Int32) (Ω : zo_O) (res : zo_R) (h : fn_X2_goTogether N x1 x2 Ω = some res) : zo_MT G J yX2_goTogether cX2_goTogether 4 (Option.some Jvm.ClassFile.FieldType.boolean) 0 [vr 1 0, vi x1, vi x2] Ω res := by
  refine zo_enter (by decide) rfl (Nat.le_of_ble_eq_true rfl) (fun Y hY eJ hr hmn => ?_)
  subst eJ
  show TW Y res Ω 0 [(0, vr 1 0), (1, vi x1), (2, vi x2)] []
  unfold fn_X2_goTogether at h
  refine zo_aload_n hY dX2_goTogether_0 rfl 0 rfl ?_
  refine zo_getC hY LX2_160_1 rfl (fun Ω q => (hCon Ω q).2.1 70 _ rfl) dX2_goTogether_1 ?_
  refine zo_iload_n hY dX2_goTogether_4 rfl 1 rfl ?_
  refine zo_ald hY (by decide) (Or.inl ⟨rfl, dX2_goTogether_5⟩) (fun q => (hCon _ q).2.2.2 32 40 240 rfl) h (fun j1 h => ?_)
  refine zo_aload_n hY dX2_goTogether_6 rfl 0 rfl ?_
  refine zo_getC hY LX2_160_1 rfl (fun Ω q => (hCon Ω q).2.1 70 _ rfl) dX2_goTogether_7 ?_
  refine zo_iload_n hY dX2_goTogether_10 rfl 2 rfl ?_
  refine zo_ald hY (by decide) (Or.inl ⟨rfl, dX2_goTogether_11⟩) (fun q => (hCon _ q).2.2.2 32 40 240 rfl) h (fun j2 h => ?_)
  refine zo_isub hY dX2_goTogether_12 ?_
  refine zo_nmi h (fun y3 h => ?_)
  refine zo_istore_n hY dX2_goTogether_13 rfl (by decide) rfl (ls' := [(3, vi y3), (0, vr 1 0), (1, vi x1), (2, vi x2)]) rfl ?_
  refine zo_aload_n hY dX2_goTogether_14 rfl 1 rfl ?_
  refine zo_getC hY LX2_163_1 rfl (fun Ω q => (hCon Ω q).2.1 71 _ rfl) dX2_goTogether_15 ?_
  refine zo_iload_n hY dX2_goTogether_18 rfl 2 rfl ?_
  refine zo_ald hY (by decide) (Or.inl ⟨rfl, dX2_goTogether_19⟩) (fun q => (hCon _ q).2.2.2 32 41 240 rfl) h (fun j4 h => ?_)
  refine zo_aload_n hY dX2_goTogether_20 rfl 1 rfl ?_
  refine zo_getC hY LX2_163_1 rfl (fun Ω q => (hCon Ω q).2.1 71 _ rfl) dX2_goTogether_21 ?_
  refine zo_iload_n hY dX2_goTogether_24 rfl 3 rfl ?_
  refine zo_ald hY (by decide) (Or.inl ⟨rfl, dX2_goTogether_25⟩) (fun q => (hCon _ q).2.2.2 32 41 240 rfl) h (fun j5 h => ?_)
  refine zo_iload_n hY dX2_goTogether_26 rfl 0 rfl ?_
  refine zo_if_le hY 39 dX2_goTogether_27 (by decide) h (fun c6 h => ?_) (fun c6 h => ?_)
  · refine zo_iconst hY 0 (by decide) dX2_goTogether_39 ?_
    refine zo_sub [] rfl ?_
    exact ct_X2_goTogether_40 hY hJ hCon hr N 0 (gI Ω 32 41 j5) (gI Ω 32 41 j4) Ω _ h
  · refine zo_aload_n hY dX2_goTogether_30 rfl 1 rfl ?_
    refine zo_getI hY LX2_111_1 rfl dX2_goTogether_31 ?_
    refine zo_iload_n hY dX2_goTogether_34 rfl 0 rfl ?_
    refine zo_imul hY dX2_goTogether_35 ?_
    refine zo_goto hY 40 dX2_goTogether_36 (by decide) ?_
    refine zo_sub [] rfl ?_
    exact ct_X2_goTogether_40 hY hJ hCon hr N ((gI Ω 1 0 42) * y3) (gI Ω 32 41 j5) (gI Ω 32 41 j4) Ω _ h
theorem dX2_isEnough_0 : decode cX2_isEnough 0 = .ok (.iconst 0, 1) := by decide +kernel
theorem dX2_isEnough_1 : decode cX2_isEnough 1 = .ok (.istore_n 2, 1) := by decide +kernel
theorem dX2_isEnough_2 : decode cX2_isEnough 2 = .ok (.iload_n 2, 1) := by decide +kernel
theorem dX2_isEnough_3 : decode cX2_isEnough 3 = .ok (.aload_n 0, 1) := by decide +kernel
theorem dX2_isEnough_4 : decode cX2_isEnough 4 = .ok (.getfield 194, 3) := by decide +kernel
theorem dX2_isEnough_7 : decode cX2_isEnough 7 = .ok (.if_icmp .ge 32, 3) := by decide +kernel
theorem dX2_isEnough_10 : decode cX2_isEnough 10 = .ok (.iload_n 1, 1) := by decide +kernel
theorem dX2_isEnough_11 : decode cX2_isEnough 11 = .ok (.iload_n 2, 1) := by decide +kernel
theorem dX2_isEnough_12 : decode cX2_isEnough 12 = .ok (.ishr, 1) := by decide +kernel
theorem dX2_isEnough_13 : decode cX2_isEnough 13 = .ok (.iconst 1, 1) := by decide +kernel
theorem dX2_isEnough_14 : decode cX2_isEnough 14 = .ok (.iand, 1) := by decide +kernel
theorem dX2_isEnough_15 : decode cX2_isEnough 15 = .ok (.ifCond .ne 18, 3) := by decide +kernel
theorem dX2_isEnough_18 : decode cX2_isEnough 18 = .ok (.aload_n 0, 1) := by decide +kernel
theorem dX2_isEnough_19 : decode cX2_isEnough 19 = .ok (.getfield 175, 3) := by decide +kernel
theorem dX2_isEnough_22 : decode cX2_isEnough 22 = .ok (.iload_n 2, 1) := by decide +kernel
theorem dX2_isEnough_23 : decode cX2_isEnough 23 = .ok (.iaload, 1) := by decide +kernel
theorem dX2_isEnough_24 : decode cX2_isEnough 24 = .ok (.iload_n 1, 1) := by decide +kernel
theorem dX2_isEnough_25 : decode cX2_isEnough 25 = .ok (.iconst (-1), 1) := by decide +kernel
theorem dX2_isEnough_26 : decode cX2_isEnough 26 = .ok (.ixor, 1) := by decide +kernel
theorem dX2_isEnough_27 : decode cX2_isEnough 27 = .ok (.iand, 1) := by decide +kernel
theorem dX2_isEnough_28 : decode cX2_isEnough 28 = .ok (.ifCond .eq 5, 3) := by decide +kernel
theorem dX2_isEnough_31 : decode cX2_isEnough 31 = .ok (.iconst 0, 1) := by decide +kernel
theorem dX2_isEnough_32 : decode cX2_isEnough 32 = .ok (.ireturn, 1) := by decide +kernel
theorem dX2_isEnough_33 : decode cX2_isEnough 33 = .ok (.iinc 2 1, 3) := by decide +kernel
theorem dX2_isEnough_36 : decode cX2_isEnough 36 = .ok (.goto (-34), 3) := by decide +kernel
theorem dX2_isEnough_39 : decode cX2_isEnough 39 = .ok (.iconst 1, 1) := by decide +kernel
theorem dX2_isEnough_40 : decode cX2_isEnough 40 = .ok (.ireturn, 1) := by decide +kernel
def fn_X2_isEnough_33 (N : Nat) (K2 : Int32 → Int32 → zo_O → Option zo_R) (x1 : Int32) (x2 : Int32) (Ω : zo_O) : Option zo_R :=
  K2 x1 (x2 + 1) Ω
theorem ct_X2_isEnough_33 {Y : zo_Y} (hY : zo_Gd Y cX2_isEnough 3 RX2 0) (hJ : zo_JC (zo_J Y)) (hCon : ∀ Ω, zo_J Y Ω → zo_Con Ω) (hr : zo_rt Y (Option.some Jvm.ClassFile.FieldType.boolean)) (N : Nat) (K2 : Int32 → Int32 → zo_O → Option zo_R) (hK2 : ∀ (x1 : Int32) (x2 : Int32) (Ω : zo_O) (res : zo_R), K2 x1 x2 Ω = some res → TW Y res Ω 2 [(0, vr 1 0), (1, vi x1), (2, vi x2)] []) (x1 : Int32) (x2 : Int32) (Ω : zo_O) (res : zo_R) (h : fn_X2_isEnough_33 N K2 x1 x2 Ω = some res) : TW Y res Ω 33 [(0, vr 1 0), (1, vi x1), (2, vi x2)] [] := by
  unfold fn_X2_isEnough_33 at h
  refine zo_iinc hY 1 dX2_isEnough_33 (by decide) (by decide) 2 rfl rfl (ls' := [(2, vi (x2 + 1)), (0, vr 1 0), (1, vi x1)]) rfl ?_
  refine zo_goto hY 2 dX2_isEnough_36 (by decide) ?_
  refine zo_sub [1, 2, 0] rfl ?_
  exact hK2 x1 (x2 + 1) Ω _ h
def bd_X2_isEnough_2 (N : Nat)  (K2 : Int32 → Int32 → zo_O → Option zo_R) (x1 : Int32) (x2 : Int32) (Ω : zo_O) : Option zo_R :=
  if gI Ω 1 0 2 ≤ x2 then (
    rZ 1 Ω
    ) else
  if (x1 >>> ((x2 : Int32) &&& 31)) &&& 1 = 0 then (
    ix x2 14 fun j3 =>
    if (gI Ω 32 44 j3) &&& (x1 ^^^ ((-1))) = 0 then (
      fn_X2_isEnough_33 N K2 x1 x2 Ω
      ) else
    rZ 0 Ω
    ) else
  fn_X2_isEnough_33 N K2 x1 x2 Ω
theorem cb_X2_isEnough_2 {Y : zo_Y} (hY : zo_Gd Y cX2_isEnough 3 RX2 0) (hJ : zo_JC (zo_J Y)) (hCon : ∀ Ω, zo_J Y Ω → zo_Con Ω) (hr : zo_rt Y (Option.some Jvm.ClassFile.FieldType.boolean)) (N : Nat)  (K2 : Int32 → Int32 → zo_O → Option zo_R)  (hK2 : ∀ (x1 : Int32) (x2 : Int32) (Ω : zo_O) (res : zo_R), K2 x1 x2 Ω = some res → TW Y res Ω 2 [(0, vr 1 0), (1, vi x1), (2, vi x2)] []) (x1 : Int32) (x2 : Int32) (Ω : zo_O) (res : zo_R) (h : bd_X2_isEnough_2 N  K2 x1 x2 Ω = some res) : TW Y res Ω 2 [(0, vr 1 0), (1, vi x1), (2, vi x2)] [] := by
  unfold bd_X2_isEnough_2 at h
  refine zo_iload_n hY dX2_isEnough_2 rfl 2 rfl ?_
  refine zo_aload_n hY dX2_isEnough_3 rfl 0 rfl ?_
  refine zo_getI hY LX2_194_1 rfl dX2_isEnough_4 ?_
  refine zo_icmp_ge hY 39 dX2_isEnough_7 (by decide) h (fun c1 h => ?_) (fun c1 h => ?_)
  · refine zo_iconst hY 1 (by decide) dX2_isEnough_39 ?_
    exact zo_zret hY hr dX2_isEnough_40 h
  · refine zo_iload_n hY dX2_isEnough_10 rfl 1 rfl ?_
    refine zo_iload_n hY dX2_isEnough_11 rfl 2 rfl ?_
    refine zo_ishr hY dX2_isEnough_12 ?_
    refine zo_iconst hY 1 (by decide) dX2_isEnough_13 ?_
    refine zo_iand hY dX2_isEnough_14 ?_
    refine zo_if_ne hY 33 dX2_isEnough_15 (by decide) h (fun c2 h => ?_) (fun c2 h => ?_)
    · refine zo_aload_n hY dX2_isEnough_18 rfl 0 rfl ?_
      refine zo_getC hY LX2_175_1 rfl (fun Ω q => (hCon Ω q).2.1 76 _ rfl) dX2_isEnough_19 ?_
      refine zo_iload_n hY dX2_isEnough_22 rfl 2 rfl ?_
      refine zo_ald hY (by decide) (Or.inl ⟨rfl, dX2_isEnough_23⟩) (fun q => (hCon _ q).2.2.2 32 44 14 rfl) h (fun j3 h => ?_)
      refine zo_iload_n hY dX2_isEnough_24 rfl 1 rfl ?_
      refine zo_iconst hY (-1) (by decide) dX2_isEnough_25 ?_
      refine zo_ixor hY dX2_isEnough_26 ?_
      refine zo_iand hY dX2_isEnough_27 ?_
      refine zo_if_eq hY 33 dX2_isEnough_28 (by decide) h (fun c4 h => ?_) (fun c4 h => ?_)
      · exact ct_X2_isEnough_33 hY hJ hCon hr N K2 hK2 x1 x2 Ω _ h
      · refine zo_iconst hY 0 (by decide) dX2_isEnough_31 ?_
        exact zo_zret hY hr dX2_isEnough_32 h
    · exact ct_X2_isEnough_33 hY hJ hCon hr N K2 hK2 x1 x2 Ω _ h
def fn_X2_isEnough_2 (N : Nat)  : Nat → Int32 → Int32 → zo_O → Option zo_R
  | 0, _, _, _ => none
  | n + 1, x1, x2, Ω => bd_X2_isEnough_2 N  (fn_X2_isEnough_2 N  n) x1 x2 Ω
theorem ct_X2_isEnough_2 {Y : zo_Y} (hY : zo_Gd Y cX2_isEnough 3 RX2 0) (hJ : zo_JC (zo_J Y)) (hCon : ∀ Ω, zo_J Y Ω → zo_Con Ω) (hr : zo_rt Y (Option.some Jvm.ClassFile.FieldType.boolean)) (N : Nat)   : ∀ (n : Nat) (x1 : Int32) (x2 : Int32) (Ω : zo_O) (res : zo_R), fn_X2_isEnough_2 N  n x1 x2 Ω = some res → TW Y res Ω 2 [(0, vr 1 0), (1, vi x1), (2, vi x2)] [] := by
  intro n
  induction n with
  | zero => intro x1 x2 Ω res h; exact nomatch (show (none : Option zo_R) = some res from h)
  | succ n ih => intro x1 x2 Ω res h; exact cb_X2_isEnough_2 hY hJ hCon hr N  (fn_X2_isEnough_2 N  n)  ih x1 x2 Ω res h
def fn_X2_isEnough (N : Nat) (x1 : Int32) (Ω : zo_O) : Option zo_R :=
  fn_X2_isEnough_2 N N x1 0 Ω
theorem mt_X2_isEnough {G : zo_G} {J : zo_O → Prop} (hJ : zo_JC J) (hCon : ∀ Ω, J Ω → zo_Con Ω) (N : Nat) (x1 : Int32) (Ω : zo_O) (res : zo_R) (h : fn_X2_isEnough N x1 Ω = some res) : zo_MT G J yX2_isEnough cX2_isEnough 3 (Option.some Jvm.ClassFile.FieldType.boolean) 0 [vr 1 0, vi x1] Ω res := by
  refine zo_enter (by decide) rfl (Nat.le_of_ble_eq_true rfl) (fun Y hY eJ hr hmn => ?_)
  subst eJ
  show TW Y res Ω 0 [(0, vr 1 0), (1, vi x1)] []
  unfold fn_X2_isEnough at h
  refine zo_iconst hY 0 (by decide) dX2_isEnough_0 ?_
  refine zo_istore_n hY dX2_isEnough_1 rfl (by decide) rfl (ls' := [(2, vi 0), (0, vr 1 0), (1, vi x1)]) rfl ?_
  refine zo_sub [1, 2, 0] rfl ?_
  exact ct_X2_isEnough_2 hY hJ hCon hr N N x1 0 Ω _ h
theorem dX2_sizes_0 : decode cX2_sizes 0 = .ok (.iconst 0, 1) := by decide +kernel
theorem dX2_sizes_1 : decode cX2_sizes 1 = .ok (.istore_n 1, 1) := by decide +kernel
theorem dX2_sizes_2 : decode cX2_sizes 2 = .ok (.iload_n 1, 1) := by decide +kernel
theorem dX2_sizes_3 : decode cX2_sizes 3 = .ok (.sipush 800, 3) := by decide +kernel
theorem dX2_sizes_6 : decode cX2_sizes 6 = .ok (.if_icmp .gt 28, 3) := by decide +kernel
theorem dX2_sizes_9 : decode cX2_sizes 9 = .ok (.aload_n 0, 1) := by decide +kernel
theorem dX2_sizes_10 : decode cX2_sizes 10 = .ok (.getfield 169, 3) := by decide +kernel
theorem dX2_sizes_13 : decode cX2_sizes 13 = .ok (.iload_n 1, 1) := by decide +kernel
theorem dX2_sizes_14 : decode cX2_sizes 14 = .ok (.iconst 0, 1) := by decide +kernel
theorem dX2_sizes_15 : decode cX2_sizes 15 = .ok (.iastore, 1) := by decide +kernel
theorem dX2_sizes_16 : decode cX2_sizes 16 = .ok (.aload_n 0, 1) := by decide +kernel
theorem dX2_sizes_17 : decode cX2_sizes 17 = .ok (.getfield 172, 3) := by decide +kernel
theorem dX2_sizes_20 : decode cX2_sizes 20 = .ok (.iload_n 1, 1) := by decide +kernel
theorem dX2_sizes_21 : decode cX2_sizes 21 = .ok (.aload_n 0, 1) := by decide +kernel
theorem dX2_sizes_22 : decode cX2_sizes 22 = .ok (.getfield 111, 3) := by decide +kernel
theorem dX2_sizes_25 : decode cX2_sizes 25 = .ok (.iload_n 1, 1) := by decide +kernel
theorem dX2_sizes_26 : decode cX2_sizes 26 = .ok (.imul, 1) := by decide +kernel
theorem dX2_sizes_27 : decode cX2_sizes 27 = .ok (.iastore, 1) := by decide +kernel
theorem dX2_sizes_28 : decode cX2_sizes 28 = .ok (.iinc 1 1, 3) := by decide +kernel
theorem dX2_sizes_31 : decode cX2_sizes 31 = .ok (.goto (-29), 3) := by decide +kernel
theorem dX2_sizes_34 : decode cX2_sizes 34 = .ok (.iconst 0, 1) := by decide +kernel
theorem dX2_sizes_35 : decode cX2_sizes 35 = .ok (.istore_n 1, 1) := by decide +kernel
theorem dX2_sizes_36 : decode cX2_sizes 36 = .ok (.iload_n 1, 1) := by decide +kernel
theorem dX2_sizes_37 : decode cX2_sizes 37 = .ok (.aload_n 0, 1) := by decide +kernel
theorem dX2_sizes_38 : decode cX2_sizes 38 = .ok (.getfield 368, 3) := by decide +kernel
theorem dX2_sizes_41 : decode cX2_sizes 41 = .ok (.if_icmp .ge 137, 3) := by decide +kernel
theorem dX2_sizes_44 : decode cX2_sizes 44 = .ok (.aload_n 0, 1) := by decide +kernel
theorem dX2_sizes_45 : decode cX2_sizes 45 = .ok (.getfield 388, 3) := by decide +kernel
theorem dX2_sizes_48 : decode cX2_sizes 48 = .ok (.aload_n 0, 1) := by decide +kernel
theorem dX2_sizes_49 : decode cX2_sizes 49 = .ok (.getfield 157, 3) := by decide +kernel
theorem dX2_sizes_52 : decode cX2_sizes 52 = .ok (.iload_n 1, 1) := by decide +kernel
theorem dX2_sizes_53 : decode cX2_sizes 53 = .ok (.iaload, 1) := by decide +kernel
theorem dX2_sizes_54 : decode cX2_sizes 54 = .ok (.ishr, 1) := by decide +kernel
theorem dX2_sizes_55 : decode cX2_sizes 55 = .ok (.iconst 1, 1) := by decide +kernel
theorem dX2_sizes_56 : decode cX2_sizes 56 = .ok (.iand, 1) := by decide +kernel
theorem dX2_sizes_57 : decode cX2_sizes 57 = .ok (.iconst 1, 1) := by decide +kernel
theorem dX2_sizes_58 : decode cX2_sizes 58 = .ok (.if_icmp .ne 6, 3) := by decide +kernel
theorem dX2_sizes_61 : decode cX2_sizes 61 = .ok (.goto 111, 3) := by decide +kernel
theorem dX2_sizes_64 : decode cX2_sizes 64 = .ok (.iconst 0, 1) := by decide +kernel
theorem dX2_sizes_65 : decode cX2_sizes 65 = .ok (.istore_n 2, 1) := by decide +kernel
theorem dX2_sizes_66 : decode cX2_sizes 66 = .ok (.iload_n 2, 1) := by decide +kernel
theorem dX2_sizes_67 : decode cX2_sizes 67 = .ok (.sipush 800, 3) := by decide +kernel
theorem dX2_sizes_70 : decode cX2_sizes 70 = .ok (.if_icmp .gt 102, 3) := by decide +kernel
theorem dX2_sizes_73 : decode cX2_sizes 73 = .ok (.iload_n 2, 1) := by decide +kernel
theorem dX2_sizes_74 : decode cX2_sizes 74 = .ok (.aload_n 0, 1) := by decide +kernel
theorem dX2_sizes_75 : decode cX2_sizes 75 = .ok (.getfield 160, 3) := by decide +kernel
theorem dX2_sizes_78 : decode cX2_sizes 78 = .ok (.iload_n 1, 1) := by decide +kernel
theorem dX2_sizes_79 : decode cX2_sizes 79 = .ok (.iaload, 1) := by decide +kernel
theorem dX2_sizes_80 : decode cX2_sizes 80 = .ok (.isub, 1) := by decide +kernel
theorem dX2_sizes_81 : decode cX2_sizes 81 = .ok (.istore_n 3, 1) := by decide +kernel
theorem dX2_sizes_82 : decode cX2_sizes 82 = .ok (.aload_n 0, 1) := by decide +kernel
theorem dX2_sizes_83 : decode cX2_sizes 83 = .ok (.getfield 166, 3) := by decide +kernel
theorem dX2_sizes_86 : decode cX2_sizes 86 = .ok (.iload_n 1, 1) := by decide +kernel
theorem dX2_sizes_87 : decode cX2_sizes 87 = .ok (.baload, 1) := by decide +kernel
theorem dX2_sizes_88 : decode cX2_sizes 88 = .ok (.ifCond .eq 42, 3) := by decide +kernel
theorem dX2_sizes_91 : decode cX2_sizes 91 = .ok (.aload_n 0, 1) := by decide +kernel
theorem dX2_sizes_92 : decode cX2_sizes 92 = .ok (.getfield 172, 3) := by decide +kernel
theorem dX2_sizes_95 : decode cX2_sizes 95 = .ok (.iload_n 2, 1) := by decide +kernel
theorem dX2_sizes_96 : decode cX2_sizes 96 = .ok (.aload_n 0, 1) := by decide +kernel
theorem dX2_sizes_97 : decode cX2_sizes 97 = .ok (.getfield 172, 3) := by decide +kernel
theorem dX2_sizes_100 : decode cX2_sizes 100 = .ok (.iload_n 2, 1) := by decide +kernel
theorem dX2_sizes_101 : decode cX2_sizes 101 = .ok (.iaload, 1) := by decide +kernel
theorem dX2_sizes_102 : decode cX2_sizes 102 = .ok (.aload_n 0, 1) := by decide +kernel
theorem dX2_sizes_103 : decode cX2_sizes 103 = .ok (.getfield 163, 3) := by decide +kernel
theorem dX2_sizes_106 : decode cX2_sizes 106 = .ok (.iload_n 1, 1) := by decide +kernel
theorem dX2_sizes_107 : decode cX2_sizes 107 = .ok (.iaload, 1) := by decide +kernel
theorem dX2_sizes_108 : decode cX2_sizes 108 = .ok (.iload_n 3, 1) := by decide +kernel
theorem dX2_sizes_109 : decode cX2_sizes 109 = .ok (.ifCond .le 12, 3) := by decide +kernel
theorem dX2_sizes_112 : decode cX2_sizes 112 = .ok (.aload_n 0, 1) := by decide +kernel
theorem dX2_sizes_113 : decode cX2_sizes 113 = .ok (.getfield 111, 3) := by decide +kernel
theorem dX2_sizes_116 : decode cX2_sizes 116 = .ok (.iload_n 3, 1) := by decide +kernel
theorem dX2_sizes_117 : decode cX2_sizes 117 = .ok (.imul, 1) := by decide +kernel
theorem dX2_sizes_118 : decode cX2_sizes 118 = .ok (.goto 4, 3) := by decide +kernel
theorem dX2_sizes_121 : decode cX2_sizes 121 = .ok (.iconst 0, 1) := by decide +kernel
theorem dX2_sizes_122 : decode cX2_sizes 122 = .ok (.iadd, 1) := by decide +kernel
theorem dX2_sizes_123 : decode cX2_sizes 123 = .ok (.invokestatic 401, 3) := by decide +kernel
theorem dX2_sizes_126 : decode cX2_sizes 126 = .ok (.iastore, 1) := by decide +kernel
theorem dX2_sizes_127 : decode cX2_sizes 127 = .ok (.goto 39, 3) := by decide +kernel
theorem dX2_sizes_130 : decode cX2_sizes 130 = .ok (.aload_n 0, 1) := by decide +kernel
theorem dX2_sizes_131 : decode cX2_sizes 131 = .ok (.getfield 169, 3) := by decide +kernel
theorem dX2_sizes_134 : decode cX2_sizes 134 = .ok (.iload_n 2, 1) := by decide +kernel
theorem dX2_sizes_135 : decode cX2_sizes 135 = .ok (.aload_n 0, 1) := by decide +kernel
theorem dX2_sizes_136 : decode cX2_sizes 136 = .ok (.getfield 169, 3) := by decide +kernel
theorem dX2_sizes_139 : decode cX2_sizes 139 = .ok (.iload_n 2, 1) := by decide +kernel
theorem dX2_sizes_140 : decode cX2_sizes 140 = .ok (.iaload, 1) := by decide +kernel
theorem dX2_sizes_141 : decode cX2_sizes 141 = .ok (.aload_n 0, 1) := by decide +kernel
theorem dX2_sizes_142 : decode cX2_sizes 142 = .ok (.getfield 163, 3) := by decide +kernel
theorem dX2_sizes_145 : decode cX2_sizes 145 = .ok (.iload_n 1, 1) := by decide +kernel
theorem dX2_sizes_146 : decode cX2_sizes 146 = .ok (.iaload, 1) := by decide +kernel
theorem dX2_sizes_147 : decode cX2_sizes 147 = .ok (.iload_n 3, 1) := by decide +kernel
theorem dX2_sizes_148 : decode cX2_sizes 148 = .ok (.ifCond .ge 12, 3) := by decide +kernel
theorem dX2_sizes_151 : decode cX2_sizes 151 = .ok (.aload_n 0, 1) := by decide +kernel
theorem dX2_sizes_152 : decode cX2_sizes 152 = .ok (.getfield 111, 3) := by decide +kernel
theorem dX2_sizes_155 : decode cX2_sizes 155 = .ok (.iload_n 3, 1) := by decide +kernel
theorem dX2_sizes_156 : decode cX2_sizes 156 = .ok (.imul, 1) := by decide +kernel
theorem dX2_sizes_157 : decode cX2_sizes 157 = .ok (.goto 4, 3) := by decide +kernel
theorem dX2_sizes_160 : decode cX2_sizes 160 = .ok (.iconst 0, 1) := by decide +kernel
theorem dX2_sizes_161 : decode cX2_sizes 161 = .ok (.iadd, 1) := by decide +kernel
theorem dX2_sizes_162 : decode cX2_sizes 162 = .ok (.invokestatic 348, 3) := by decide +kernel
theorem dX2_sizes_165 : decode cX2_sizes 165 = .ok (.iastore, 1) := by decide +kernel
theorem dX2_sizes_166 : decode cX2_sizes 166 = .ok (.iinc 2 1, 3) := by decide +kernel
theorem dX2_sizes_169 : decode cX2_sizes 169 = .ok (.goto (-103), 3) := by decide +kernel
theorem dX2_sizes_172 : decode cX2_sizes 172 = .ok (.iinc 1 1, 3) := by decide +kernel
theorem dX2_sizes_175 : decode cX2_sizes 175 = .ok (.goto (-139), 3) := by decide +kernel
theorem dX2_sizes_178 : decode cX2_sizes 178 = .ok (.return_, 1) := by decide +kernel
def fn_X2_sizes_166 (N : Nat) (K36 : Int32 → zo_O → Option zo_R) (K66 : Int32 → Int32 → zo_O → Option zo_R) (x1 : Int32) (x2 : Int32) (Ω : zo_O) : Option zo_R :=
  K66 x1 (x2 + 1) Ω
theorem ct_X2_sizes_166 {Y : zo_Y} (hY : zo_Gd Y cX2_sizes 4 RX2 1) (hJ : zo_JC (zo_J Y)) (hCon : ∀ Ω, zo_J Y Ω → zo_Con Ω) (hr : zo_rt Y (Option.none : Option Jvm.ClassFile.FieldType)) (N : Nat) (K36 : Int32 → zo_O → Option zo_R) (K66 : Int32 → Int32 → zo_O → Option zo_R) (hK36 : ∀ (x1 : Int32) (Ω : zo_O) (res : zo_R), K36 x1 Ω = some res → TW Y res Ω 36 [(0, vr 1 0), (1, vi x1)] []) (hK66 : ∀ (x1 : Int32) (x2 : Int32) (Ω : zo_O) (res : zo_R), K66 x1 x2 Ω = some res → TW Y res Ω 66 [(0, vr 1 0), (1, vi x1), (2, vi x2)] []) (x1 : Int32) (x2 : Int32) (Ω : zo_O) (res : zo_R) (h : fn_X2_sizes_166 N K36 K66 x1 x2 Ω = some res) : TW Y res Ω 166 [(0, vr 1 0), (1, vi x1), (2, vi x2)] [] := by
  unfold fn_X2_sizes_166 at h
  refine zo_iinc hY 1 dX2_sizes_166 (by decide) (by decide) 2 rfl rfl (ls' := [(2, vi (x2 + 1)), (0, vr 1 0), (1, vi x1)]) rfl ?_
  refine zo_goto hY 66 dX2_sizes_169 (by decide) ?_
  refine zo_sub [1, 2, 0] rfl ?_
  exact hK66 x1 (x2 + 1) Ω _ h
def fn_X2_sizes_122 (N : Nat) (K36 : Int32 → zo_O → Option zo_R) (K66 : Int32 → Int32 → zo_O → Option zo_R) (x1 : Int32) (x2 : Int32) (s0 : Int32) (s1 : Int32) (s2 : Int32) (s3 : Int32) (Ω : zo_O) : Option zo_R :=
  ix s3 801 fun j1 => lt (sI Ω 32 43 j1 (mn s2 (s1 + s0))) fun Ω2 =>
  fn_X2_sizes_166 N K36 K66 x1 x2 Ω2
theorem ct_X2_sizes_122 {Y : zo_Y} (hY : zo_Gd Y cX2_sizes 4 RX2 1) (hJ : zo_JC (zo_J Y)) (hCon : ∀ Ω, zo_J Y Ω → zo_Con Ω) (hr : zo_rt Y (Option.none : Option Jvm.ClassFile.FieldType)) (N : Nat) (K36 : Int32 → zo_O → Option zo_R) (K66 : Int32 → Int32 → zo_O → Option zo_R) (hK36 : ∀ (x1 : Int32) (Ω : zo_O) (res : zo_R), K36 x1 Ω = some res → TW Y res Ω 36 [(0, vr 1 0), (1, vi x1)] []) (hK66 : ∀ (x1 : Int32) (x2 : Int32) (Ω : zo_O) (res : zo_R), K66 x1 x2 Ω = some res → TW Y res Ω 66 [(0, vr 1 0), (1, vi x1), (2, vi x2)] []) (x1 : Int32) (x2 : Int32) (s0 : Int32) (s1 : Int32) (s2 : Int32) (s3 : Int32) (Ω : zo_O) (res : zo_R) (h : fn_X2_sizes_122 N K36 K66 x1 x2 s0 s1 s2 s3 Ω = some res) : TW Y res Ω 122 [(0, vr 1 0), (1, vi x1), (2, vi x2)] [vi s0, vi s1, vi s2, vi s3, vr 32 43] := by
  unfold fn_X2_sizes_122 at h
  refine zo_iadd hY dX2_sizes_122 ?_
  refine zo_mmin hY (by decide) q1733 (Nat.le_of_ble_eq_true rfl) dX2_sizes_123 ?_
  refine zo_ast hY hJ (by decide) (Or.inl ⟨rfl, rfl, dX2_sizes_126⟩) (fun q => (hCon _ q).2.2.2 32 43 801 rfl) h (fun j1 Ω2 h => ?_)
  refine zo_goto hY 166 dX2_sizes_127 (by decide) ?_
  exact ct_X2_sizes_166 hY hJ hCon hr N K36 K66 hK36 hK66 x1 x2 Ω2 _ h
def fn_X2_sizes_161 (N : Nat) (K36 : Int32 → zo_O → Option zo_R) (K66 : Int32 → Int32 → zo_O → Option zo_R) (x1 : Int32) (x2 : Int32) (s0 : Int32) (s1 : Int32) (s2 : Int32) (s3 : Int32) (Ω : zo_O) : Option zo_R :=
  ix s3 801 fun j1 => lt (sI Ω 32 42 j1 (mx s2 (s1 + s0))) fun Ω2 =>
  fn_X2_sizes_166 N K36 K66 x1 x2 Ω2
theorem ct_X2_sizes_161 {Y : zo_Y} (hY : zo_Gd Y cX2_sizes 4 RX2 1) (hJ : zo_JC (zo_J Y)) (hCon : ∀ Ω, zo_J Y Ω → zo_Con Ω) (hr : zo_rt Y (Option.none : Option Jvm.ClassFile.FieldType)) (N : Nat) (K36 : Int32 → zo_O → Option zo_R) (K66 : Int32 → Int32 → zo_O → Option zo_R) (hK36 : ∀ (x1 : Int32) (Ω : zo_O) (res : zo_R), K36 x1 Ω = some res → TW Y res Ω 36 [(0, vr 1 0), (1, vi x1)] []) (hK66 : ∀ (x1 : Int32) (x2 : Int32) (Ω : zo_O) (res : zo_R), K66 x1 x2 Ω = some res → TW Y res Ω 66 [(0, vr 1 0), (1, vi x1), (2, vi x2)] []) (x1 : Int32) (x2 : Int32) (s0 : Int32) (s1 : Int32) (s2 : Int32) (s3 : Int32) (Ω : zo_O) (res : zo_R) (h : fn_X2_sizes_161 N K36 K66 x1 x2 s0 s1 s2 s3 Ω = some res) : TW Y res Ω 161 [(0, vr 1 0), (1, vi x1), (2, vi x2)] [vi s0, vi s1, vi s2, vi s3, vr 32 42] := by
  unfold fn_X2_sizes_161 at h
  refine zo_iadd hY dX2_sizes_161 ?_
  refine zo_mmax hY (by decide) q1687 (Nat.le_of_ble_eq_true rfl) dX2_sizes_162 ?_
  refine zo_ast hY hJ (by decide) (Or.inl ⟨rfl, rfl, dX2_sizes_165⟩) (fun q => (hCon _ q).2.2.2 32 42 801 rfl) h (fun j1 Ω2 h => ?_)
  exact ct_X2_sizes_166 hY hJ hCon hr N K36 K66 hK36 hK66 x1 x2 Ω2 _ h
def fn_X2_sizes_172 (N : Nat) (K36 : Int32 → zo_O → Option zo_R) (x1 : Int32) (Ω : zo_O) : Option zo_R :=
  K36 (x1 + 1) Ω
theorem ct_X2_sizes_172 {Y : zo_Y} (hY : zo_Gd Y cX2_sizes 4 RX2 1) (hJ : zo_JC (zo_J Y)) (hCon : ∀ Ω, zo_J Y Ω → zo_Con Ω) (hr : zo_rt Y (Option.none : Option Jvm.ClassFile.FieldType)) (N : Nat) (K36 : Int32 → zo_O → Option zo_R) (hK36 : ∀ (x1 : Int32) (Ω : zo_O) (res : zo_R), K36 x1 Ω = some res → TW Y res Ω 36 [(0, vr 1 0), (1, vi x1)] []) (x1 : Int32) (Ω : zo_O) (res : zo_R) (h : fn_X2_sizes_172 N K36 x1 Ω = some res) : TW Y res Ω 172 [(0, vr 1 0), (1, vi x1)] [] := by
  unfold fn_X2_sizes_172 at h
  refine zo_iinc hY 1 dX2_sizes_172 (by decide) (by decide) 1 rfl rfl (ls' := [(1, vi (x1 + 1)), (0, vr 1 0)]) rfl ?_
  refine zo_goto hY 36 dX2_sizes_175 (by decide) ?_
  refine zo_sub [1, 0] rfl ?_
  exact hK36 (x1 + 1) Ω _ h
def bd_X2_sizes_66 (N : Nat) (K36 : Int32 → zo_O → Option zo_R) (K66 : Int32 → Int32 → zo_O → Option zo_R) (x1 : Int32) (x2 : Int32) (Ω : zo_O) : Option zo_R :=
  if 800 < x2 then (
    fn_X2_sizes_172 N K36 x1 Ω
    ) else
  ix x1 240 fun j2 =>
  li (x2 - (gI Ω 32 40 j2)) fun y3 =>
  ix x1 240 fun j4 =>
  if gI Ω 33 4 j4 = 0 then (
    ix x2 801 fun j6 =>
    ix x1 240 fun j7 =>
    if 0 ≤ y3 then (
      fn_X2_sizes_161 N K36 K66 x1 x2 0 (gI Ω 32 41 j7) (gI Ω 32 42 j6) x2 Ω
      ) else
    fn_X2_sizes_161 N K36 K66 x1 x2 ((gI Ω 1 0 42) * y3) (gI Ω 32 41 j7) (gI Ω 32 42 j6) x2 Ω
    ) else
  ix x2 801 fun j9 =>
  ix x1 240 fun j10 =>
  if y3 ≤ 0 then (
    fn_X2_sizes_122 N K36 K66 x1 x2 0 (gI Ω 32 41 j10) (gI Ω 32 43 j9) x2 Ω
    ) else
  fn_X2_sizes_122 N K36 K66 x1 x2 ((gI Ω 1 0 42) * y3) (gI Ω 32 41 j10) (gI Ω 32 43 j9) x2 Ω
theorem cb_X2_sizes_66 {Y : zo_Y} (hY : zo_Gd Y cX2_sizes 4 RX2 1) (hJ : zo_JC (zo_J Y)) (hCon : ∀ Ω, zo_J Y Ω → zo_Con Ω) (hr : zo_rt Y (Option.none : Option Jvm.ClassFile.FieldType)) (N : Nat) (K36 : Int32 → zo_O → Option zo_R) (K66 : Int32 → Int32 → zo_O → Option zo_R) (hK36 : ∀ (x1 : Int32) (Ω : zo_O) (res : zo_R), K36 x1 Ω = some res → TW Y res Ω 36 [(0, vr 1 0), (1, vi x1)] []) (hK66 : ∀ (x1 : Int32) (x2 : Int32) (Ω : zo_O) (res : zo_R), K66 x1 x2 Ω = some res → TW Y res Ω 66 [(0, vr 1 0), (1, vi x1), (2, vi x2)] []) (x1 : Int32) (x2 : Int32) (Ω : zo_O) (res : zo_R) (h : bd_X2_sizes_66 N K36 K66 x1 x2 Ω = some res) : TW Y res Ω 66 [(0, vr 1 0), (1, vi x1), (2, vi x2)] [] := by
  unfold bd_X2_sizes_66 at h
  refine zo_iload_n hY dX2_sizes_66 rfl 2 rfl ?_
  refine zo_sipush hY 800 (by decide) dX2_sizes_67 ?_
  refine zo_icmp_gt hY 172 dX2_sizes_70 (by decide) h (fun c1 h => ?_) (fun c1 h => ?_)
  · refine zo_sub [0, 1] rfl ?_
    exact ct_X2_sizes_172 hY hJ hCon hr N K36 hK36 x1 Ω _ h
  · refine zo_iload_n hY dX2_sizes_73 rfl 2 rfl ?_
    refine zo_aload_n hY dX2_sizes_74 rfl 0 rfl ?_
    refine zo_getC hY LX2_160_1 rfl (fun Ω q => (hCon Ω q).2.1 70 _ rfl) dX2_sizes_75 ?_
    refine zo_iload_n hY dX2_sizes_78 rfl 1 rfl ?_
    refine zo_ald hY (by decide) (Or.inl ⟨rfl, dX2_sizes_79⟩) (fun q => (hCon _ q).2.2.2 32 40 240 rfl) h (fun j2 h => ?_)
    refine zo_isub hY dX2_sizes_80 ?_
    refine zo_nmi h (fun y3 h => ?_)
    refine zo_istore_n hY dX2_sizes_81 rfl (by decide) rfl (ls' := [(3, vi y3), (0, vr 1 0), (1, vi x1), (2, vi x2)]) rfl ?_
    refine zo_aload_n hY dX2_sizes_82 rfl 1 rfl ?_
    refine zo_getC hY LX2_166_1 rfl (fun Ω q => (hCon Ω q).2.1 72 _ rfl) dX2_sizes_83 ?_
    refine zo_iload_n hY dX2_sizes_86 rfl 2 rfl ?_
    refine zo_ald hY (by decide) (Or.inr ⟨Or.inr rfl, dX2_sizes_87⟩) (fun q => (hCon _ q).2.2.2 33 4 240 rfl) h (fun j4 h => ?_)
    refine zo_if_eq hY 130 dX2_sizes_88 (by decide) h (fun c5 h => ?_) (fun c5 h => ?_)
    · refine zo_aload_n hY dX2_sizes_130 rfl 1 rfl ?_
      refine zo_getC hY LX2_169_1 rfl (fun Ω q => (hCon Ω q).2.1 74 _ rfl) dX2_sizes_131 ?_
      refine zo_iload_n hY dX2_sizes_134 rfl 3 rfl ?_
      refine zo_aload_n hY dX2_sizes_135 rfl 1 rfl ?_
      refine zo_getC hY LX2_169_1 rfl (fun Ω q => (hCon Ω q).2.1 74 _ rfl) dX2_sizes_136 ?_
      refine zo_iload_n hY dX2_sizes_139 rfl 3 rfl ?_
      refine zo_ald hY (by decide) (Or.inl ⟨rfl, dX2_sizes_140⟩) (fun q => (hCon _ q).2.2.2 32 42 801 rfl) h (fun j6 h => ?_)
      refine zo_aload_n hY dX2_sizes_141 rfl 1 rfl ?_
      refine zo_getC hY LX2_163_1 rfl (fun Ω q => (hCon Ω q).2.1 71 _ rfl) dX2_sizes_142 ?_
      refine zo_iload_n hY dX2_sizes_145 rfl 2 rfl ?_
      refine zo_ald hY (by decide) (Or.inl ⟨rfl, dX2_sizes_146⟩) (fun q => (hCon _ q).2.2.2 32 41 240 rfl) h (fun j7 h => ?_)
      refine zo_iload_n hY dX2_sizes_147 rfl 0 rfl ?_
      refine zo_if_ge hY 160 dX2_sizes_148 (by decide) h (fun c8 h => ?_) (fun c8 h => ?_)
      · refine zo_iconst hY 0 (by decide) dX2_sizes_160 ?_
        refine zo_sub [1, 2, 3] rfl ?_
        exact ct_X2_sizes_161 hY hJ hCon hr N K36 K66 hK36 hK66 x1 x2 0 (gI Ω 32 41 j7) (gI Ω 32 42 j6) x2 Ω _ h
      · refine zo_aload_n hY dX2_sizes_151 rfl 1 rfl ?_
        refine zo_getI hY LX2_111_1 rfl dX2_sizes_152 ?_
        refine zo_iload_n hY dX2_sizes_155 rfl 0 rfl ?_
        refine zo_imul hY dX2_sizes_156 ?_
        refine zo_goto hY 161 dX2_sizes_157 (by decide) ?_
        refine zo_sub [1, 2, 3] rfl ?_
        exact ct_X2_sizes_161 hY hJ hCon hr N K36 K66 hK36 hK66 x1 x2 ((gI Ω 1 0 42) * y3) (gI Ω 32 41 j7) (gI Ω 32 42 j6) x2 Ω _ h
    · refine zo_aload_n hY dX2_sizes_91 rfl 1 rfl ?_
      refine zo_getC hY LX2_172_1 rfl (fun Ω q => (hCon Ω q).2.1 75 _ rfl) dX2_sizes_92 ?_
      refine zo_iload_n hY dX2_sizes_95 rfl 3 rfl ?_
      refine zo_aload_n hY dX2_sizes_96 rfl 1 rfl ?_
      refine zo_getC hY LX2_172_1 rfl (fun Ω q => (hCon Ω q).2.1 75 _ rfl) dX2_sizes_97 ?_
      refine zo_iload_n hY dX2_sizes_100 rfl 3 rfl ?_
      refine zo_ald hY (by decide) (Or.inl ⟨rfl, dX2_sizes_101⟩) (fun q => (hCon _ q).2.2.2 32 43 801 rfl) h (fun j9 h => ?_)
      refine zo_aload_n hY dX2_sizes_102 rfl 1 rfl ?_
      refine zo_getC hY LX2_163_1 rfl (fun Ω q => (hCon Ω q).2.1 71 _ rfl) dX2_sizes_103 ?_
      refine zo_iload_n hY dX2_sizes_106 rfl 2 rfl ?_
      refine zo_ald hY (by decide) (Or.inl ⟨rfl, dX2_sizes_107⟩) (fun q => (hCon _ q).2.2.2 32 41 240 rfl) h (fun j10 h => ?_)
      refine zo_iload_n hY dX2_sizes_108 rfl 0 rfl ?_
      refine zo_if_le hY 121 dX2_sizes_109 (by decide) h (fun c11 h => ?_) (fun c11 h => ?_)
      · refine zo_iconst hY 0 (by decide) dX2_sizes_121 ?_
        refine zo_sub [1, 2, 3] rfl ?_
        exact ct_X2_sizes_122 hY hJ hCon hr N K36 K66 hK36 hK66 x1 x2 0 (gI Ω 32 41 j10) (gI Ω 32 43 j9) x2 Ω _ h
      · refine zo_aload_n hY dX2_sizes_112 rfl 1 rfl ?_
        refine zo_getI hY LX2_111_1 rfl dX2_sizes_113 ?_
        refine zo_iload_n hY dX2_sizes_116 rfl 0 rfl ?_
        refine zo_imul hY dX2_sizes_117 ?_
        refine zo_goto hY 122 dX2_sizes_118 (by decide) ?_
        refine zo_sub [1, 2, 3] rfl ?_
        exact ct_X2_sizes_122 hY hJ hCon hr N K36 K66 hK36 hK66 x1 x2 ((gI Ω 1 0 42) * y3) (gI Ω 32 41 j10) (gI Ω 32 43 j9) x2 Ω _ h
def fn_X2_sizes_66 (N : Nat) (K36 : Int32 → zo_O → Option zo_R) : Nat → Int32 → Int32 → zo_O → Option zo_R
  | 0, _, _, _ => none
  | n + 1, x1, x2, Ω => bd_X2_sizes_66 N K36 (fn_X2_sizes_66 N K36 n) x1 x2 Ω
theorem ct_X2_sizes_66 {Y : zo_Y} (hY : zo_Gd Y cX2_sizes 4 RX2 1) (hJ : zo_JC (zo_J Y)) (hCon : ∀ Ω, zo_J Y Ω → zo_Con Ω) (hr : zo_rt Y (Option.none : Option Jvm.ClassFile.FieldType)) (N : Nat) (K36 : Int32 → zo_O → Option zo_R) (hK36 : ∀ (x1 : Int32) (Ω : zo_O) (res : zo_R), K36 x1 Ω = some res → TW Y res Ω 36 [(0, vr 1 0), (1, vi x1)] []) : ∀ (n : Nat) (x1 : Int32) (x2 : Int32) (Ω : zo_O) (res : zo_R), fn_X2_sizes_66 N K36 n x1 x2 Ω = some res → TW Y res Ω 66 [(0, vr 1 0), (1, vi x1), (2, vi x2)] [] := by
  intro n
  induction n with
  | zero => intro x1 x2 Ω res h; exact nomatch (show (none : Option zo_R) = some res from h)
  | succ n ih => intro x1 x2 Ω res h; exact cb_X2_sizes_66 hY hJ hCon hr N K36 (fn_X2_sizes_66 N K36 n) hK36 ih x1 x2 Ω res h
def bd_X2_sizes_36 (N : Nat)  (K36 : Int32 → zo_O → Option zo_R) (x1 : Int32) (Ω : zo_O) : Option zo_R :=
  if gI Ω 1 0 68 ≤ x1 then (
    rV Ω
    ) else
  ix x1 240 fun j2 =>
  if ((gI Ω 1 0 73) >>> ((gI Ω 32 39 j2 : Int32) &&& 31)) &&& 1 = 1 then (
    fn_X2_sizes_172 N K36 x1 Ω
    ) else
  fn_X2_sizes_66 N K36 N x1 0 Ω
theorem cb_X2_sizes_36 {Y : zo_Y} (hY : zo_Gd Y cX2_sizes 4 RX2 1) (hJ : zo_JC (zo_J Y)) (hCon : ∀ Ω, zo_J Y Ω → zo_Con Ω) (hr : zo_rt Y (Option.none : Option Jvm.ClassFile.FieldType)) (N : Nat)  (K36 : Int32 → zo_O → Option zo_R)  (hK36 : ∀ (x1 : Int32) (Ω : zo_O) (res : zo_R), K36 x1 Ω = some res → TW Y res Ω 36 [(0, vr 1 0), (1, vi x1)] []) (x1 : Int32) (Ω : zo_O) (res : zo_R) (h : bd_X2_sizes_36 N  K36 x1 Ω = some res) : TW Y res Ω 36 [(0, vr 1 0), (1, vi x1)] [] := by
  unfold bd_X2_sizes_36 at h
  refine zo_iload_n hY dX2_sizes_36 rfl 1 rfl ?_
  refine zo_aload_n hY dX2_sizes_37 rfl 0 rfl ?_
  refine zo_getI hY LX2_368_1 rfl dX2_sizes_38 ?_
  refine zo_icmp_ge hY 178 dX2_sizes_41 (by decide) h (fun c1 h => ?_) (fun c1 h => ?_)
  · exact zo_vret hY hr dX2_sizes_178 h
  · refine zo_aload_n hY dX2_sizes_44 rfl 0 rfl ?_
    refine zo_getI hY LX2_388_1 rfl dX2_sizes_45 ?_
    refine zo_aload_n hY dX2_sizes_48 rfl 0 rfl ?_
    refine zo_getC hY LX2_157_1 rfl (fun Ω q => (hCon Ω q).2.1 69 _ rfl) dX2_sizes_49 ?_
    refine zo_iload_n hY dX2_sizes_52 rfl 1 rfl ?_
    refine zo_ald hY (by decide) (Or.inl ⟨rfl, dX2_sizes_53⟩) (fun q => (hCon _ q).2.2.2 32 39 240 rfl) h (fun j2 h => ?_)
    refine zo_ishr hY dX2_sizes_54 ?_
    refine zo_iconst hY 1 (by decide) dX2_sizes_55 ?_
    refine zo_iand hY dX2_sizes_56 ?_
    refine zo_iconst hY 1 (by decide) dX2_sizes_57 ?_
    refine zo_icmp_ne hY 64 dX2_sizes_58 (by decide) h (fun c3 h => ?_) (fun c3 h => ?_)
    · refine zo_goto hY 172 dX2_sizes_61 (by decide) ?_
      exact ct_X2_sizes_172 hY hJ hCon hr N K36 hK36 x1 Ω _ h
    · refine zo_iconst hY 0 (by decide) dX2_sizes_64 ?_
      refine zo_istore_n hY dX2_sizes_65 rfl (by decide) rfl (ls' := [(2, vi 0), (0, vr 1 0), (1, vi x1)]) rfl ?_
      refine zo_sub [1, 2, 0] rfl ?_
      exact ct_X2_sizes_66 hY hJ hCon hr N K36 hK36 N x1 0 Ω _ h
def fn_X2_sizes_36 (N : Nat)  : Nat → Int32 → zo_O → Option zo_R
  | 0, _, _ => none
  | n + 1, x1, Ω => bd_X2_sizes_36 N  (fn_X2_sizes_36 N  n) x1 Ω
theorem ct_X2_sizes_36 {Y : zo_Y} (hY : zo_Gd Y cX2_sizes 4 RX2 1) (hJ : zo_JC (zo_J Y)) (hCon : ∀ Ω, zo_J Y Ω → zo_Con Ω) (hr : zo_rt Y (Option.none : Option Jvm.ClassFile.FieldType)) (N : Nat)   : ∀ (n : Nat) (x1 : Int32) (Ω : zo_O) (res : zo_R), fn_X2_sizes_36 N  n x1 Ω = some res → TW Y res Ω 36 [(0, vr 1 0), (1, vi x1)] [] := by
  intro n
  induction n with
  | zero => intro x1 Ω res h; exact nomatch (show (none : Option zo_R) = some res from h)
  | succ n ih => intro x1 Ω res h; exact cb_X2_sizes_36 hY hJ hCon hr N  (fn_X2_sizes_36 N  n)  ih x1 Ω res h
def bd_X2_sizes_2 (N : Nat)  (K2 : Int32 → zo_O → Option zo_R) (x1 : Int32) (Ω : zo_O) : Option zo_R :=
  if 800 < x1 then (
    fn_X2_sizes_36 N N 0 Ω
    ) else
  ix x1 801 fun j2 => lt (sI Ω 32 42 j2 0) fun Ω3 =>
  ix x1 801 fun j4 => lt (sI Ω3 32 43 j4 ((gI Ω3 1 0 42) * x1)) fun Ω5 =>
  K2 (x1 + 1) Ω5
theorem cb_X2_sizes_2 {Y : zo_Y} (hY : zo_Gd Y cX2_sizes 4 RX2 1) (hJ : zo_JC (zo_J Y)) (hCon : ∀ Ω, zo_J Y Ω → zo_Con Ω) (hr : zo_rt Y (Option.none : Option Jvm.ClassFile.FieldType)) (N : Nat)  (K2 : Int32 → zo_O → Option zo_R)  (hK2 : ∀ (x1 : Int32) (Ω : zo_O) (res : zo_R), K2 x1 Ω = some res → TW Y res Ω 2 [(0, vr 1 0), (1, vi x1)] []) (x1 : Int32) (Ω : zo_O) (res : zo_R) (h : bd_X2_sizes_2 N  K2 x1 Ω = some res) : TW Y res Ω 2 [(0, vr 1 0), (1, vi x1)] [] := by
  unfold bd_X2_sizes_2 at h
  refine zo_iload_n hY dX2_sizes_2 rfl 1 rfl ?_
  refine zo_sipush hY 800 (by decide) dX2_sizes_3 ?_
  refine zo_icmp_gt hY 34 dX2_sizes_6 (by decide) h (fun c1 h => ?_) (fun c1 h => ?_)
  · refine zo_iconst hY 0 (by decide) dX2_sizes_34 ?_
    refine zo_istore_n hY dX2_sizes_35 rfl (by decide) rfl (ls' := [(1, vi 0), (0, vr 1 0)]) rfl ?_
    refine zo_sub [1, 0] rfl ?_
    exact ct_X2_sizes_36 hY hJ hCon hr N N 0 Ω _ h
  · refine zo_aload_n hY dX2_sizes_9 rfl 0 rfl ?_
    refine zo_getC hY LX2_169_1 rfl (fun Ω q => (hCon Ω q).2.1 74 _ rfl) dX2_sizes_10 ?_
    refine zo_iload_n hY dX2_sizes_13 rfl 1 rfl ?_
    refine zo_iconst hY 0 (by decide) dX2_sizes_14 ?_
    refine zo_ast hY hJ (by decide) (Or.inl ⟨rfl, rfl, dX2_sizes_15⟩) (fun q => (hCon _ q).2.2.2 32 42 801 rfl) h (fun j2 Ω3 h => ?_)
    refine zo_aload_n hY dX2_sizes_16 rfl 0 rfl ?_
    refine zo_getC hY LX2_172_1 rfl (fun Ω q => (hCon Ω q).2.1 75 _ rfl) dX2_sizes_17 ?_
    refine zo_iload_n hY dX2_sizes_20 rfl 1 rfl ?_
    refine zo_aload_n hY dX2_sizes_21 rfl 0 rfl ?_
    refine zo_getI hY LX2_111_1 rfl dX2_sizes_22 ?_
    refine zo_iload_n hY dX2_sizes_25 rfl 1 rfl ?_
    refine zo_imul hY dX2_sizes_26 ?_
    refine zo_ast hY hJ (by decide) (Or.inl ⟨rfl, rfl, dX2_sizes_27⟩) (fun q => (hCon _ q).2.2.2 32 43 801 rfl) h (fun j4 Ω5 h => ?_)
    refine zo_iinc hY 1 dX2_sizes_28 (by decide) (by decide) 1 rfl rfl (ls' := [(1, vi (x1 + 1)), (0, vr 1 0)]) rfl ?_
    refine zo_goto hY 2 dX2_sizes_31 (by decide) ?_
    refine zo_sub [1, 0] rfl ?_
    exact hK2 (x1 + 1) Ω5 _ h
def fn_X2_sizes_2 (N : Nat)  : Nat → Int32 → zo_O → Option zo_R
  | 0, _, _ => none
  | n + 1, x1, Ω => bd_X2_sizes_2 N  (fn_X2_sizes_2 N  n) x1 Ω
theorem ct_X2_sizes_2 {Y : zo_Y} (hY : zo_Gd Y cX2_sizes 4 RX2 1) (hJ : zo_JC (zo_J Y)) (hCon : ∀ Ω, zo_J Y Ω → zo_Con Ω) (hr : zo_rt Y (Option.none : Option Jvm.ClassFile.FieldType)) (N : Nat)   : ∀ (n : Nat) (x1 : Int32) (Ω : zo_O) (res : zo_R), fn_X2_sizes_2 N  n x1 Ω = some res → TW Y res Ω 2 [(0, vr 1 0), (1, vi x1)] [] := by
  intro n
  induction n with
  | zero => intro x1 Ω res h; exact nomatch (show (none : Option zo_R) = some res from h)
  | succ n ih => intro x1 Ω res h; exact cb_X2_sizes_2 hY hJ hCon hr N  (fn_X2_sizes_2 N  n)  ih x1 Ω res h
def fn_X2_sizes (N : Nat)  (Ω : zo_O) : Option zo_R :=
  fn_X2_sizes_2 N N 0 Ω
theorem mt_X2_sizes {G : zo_G} {J : zo_O → Prop} (hJ : zo_JC J) (hCon : ∀ Ω, J Ω → zo_Con Ω) (N : Nat)  (Ω : zo_O) (res : zo_R) (h : fn_X2_sizes N  Ω = some res) : zo_MT G J yX2_sizes cX2_sizes 4 (Option.none : Option Jvm.ClassFile.FieldType) 1 [vr 1 0] Ω res := by
  refine zo_enter (by decide) rfl (Nat.le_of_ble_eq_true rfl) (fun Y hY eJ hr hmn => ?_)
  subst eJ
  show TW Y res Ω 0 [(0, vr 1 0)] []
  unfold fn_X2_sizes at h
  refine zo_iconst hY 0 (by decide) dX2_sizes_0 ?_
  refine zo_istore_n hY dX2_sizes_1 rfl (by decide) rfl (ls' := [(1, vi 0), (0, vr 1 0)]) rfl ?_
  refine zo_sub [1, 0] rfl ?_
  exact ct_X2_sizes_2 hY hJ hCon hr N N 0 Ω _ h
