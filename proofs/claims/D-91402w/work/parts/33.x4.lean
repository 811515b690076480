set_option maxRecDepth 100000
theorem LX11_3_9 : zo_FL RX11 3 9 5 := ⟨by decide, by decide, by decide, Or.inl ⟨_, q577, Or.inl rfl⟩⟩
theorem LX11_22_0 : zo_FL RX11 22 0 13 := ⟨by decide, by decide, by decide, Or.inr ⟨_, _, q175, Or.inl rfl⟩⟩
theorem LX11_26_0 : zo_FL RX11 26 0 12 := ⟨by decide, by decide, by decide, Or.inr ⟨_, _, q173, Or.inl rfl⟩⟩
theorem LX11_30_9 : zo_FL RX11 30 9 1 := ⟨by decide, by decide, by decide, Or.inl ⟨_, q572, Or.inl rfl⟩⟩
theorem cn_X11_see : zo_Cn yX11_see 1 := ⟨by decide, by decide, by decide +kernel⟩
theorem LX11_37_9 : zo_FL RX11 37 9 2 := ⟨by decide, by decide, by decide, Or.inl ⟨_, q573, Or.inl rfl⟩⟩
theorem LX11_40_9 : zo_FL RX11 40 9 3 := ⟨by decide, by decide, by decide, Or.inl ⟨_, q575, Or.inl rfl⟩⟩
theorem LX11_43_9 : zo_FL RX11 43 9 4 := ⟨by decide, by decide, by decide, Or.inl ⟨_, q576, Or.inl rfl⟩⟩
theorem cn_X11_isDigit : zo_Cn yX11_isDigit 1 := ⟨by decide, by decide, by decide +kernel⟩
theorem cn_X11_isSmall : zo_Cn yX11_isSmall 1 := ⟨by decide, by decide, by decide +kernel⟩
theorem cn_X12_init : zo_Cn yX12_init 1 := ⟨by decide, by decide, by decide +kernel⟩
theorem cn_X11_is : zo_Cn yX11_is 1 := ⟨by decide, by decide, by decide +kernel⟩
theorem cn_X11_word : zo_Cn yX11_word 0 := ⟨by decide, by decide, by decide +kernel⟩
theorem cn_X11_need : zo_Cn yX11_need 2 := ⟨by decide, by decide, by decide +kernel⟩
theorem LX11_101_11 : zo_FL RX11 101 11 0 := ⟨by decide, by decide, by decide, Or.inl ⟨_, q748, Or.inl rfl⟩⟩
theorem LX11_101_12 : zo_FL RX11 101 12 0 := ⟨by decide, by decide, by decide, Or.inl ⟨_, q748, Or.inl rfl⟩⟩
theorem cn_X11_next : zo_Cn yX11_next 0 := ⟨by decide, by decide, by decide +kernel⟩
theorem cn_X11_isSigned : zo_Cn yX11_isSigned 1 := ⟨by decide, by decide, by decide +kernel⟩
theorem cn_X16_init : zo_Cn yX16_init 4 := ⟨by decide, by decide, by decide +kernel⟩
theorem LX11_18_9 : zo_FL RX11 18 9 0 := ⟨by decide, by decide, by decide, Or.inl ⟨_, q570, Or.inl rfl⟩⟩
theorem cn_X13_init : zo_Cn yX13_init 0 := ⟨by decide, by decide, by decide +kernel⟩
theorem cn_X15_init : zo_Cn yX15_init 0 := ⟨by decide, by decide, by decide +kernel⟩
theorem cn_X14_init : zo_Cn yX14_init 0 := ⟨by decide, by decide, by decide +kernel⟩
theorem cn_X11_term : zo_Cn yX11_term 1 := ⟨by decide, by decide, by decide +kernel⟩
theorem cn_X11_statement : zo_Cn yX11_statement 0 := ⟨by decide, by decide, by decide +kernel⟩
theorem cn_X11_init : zo_Cn yX11_init 1 := ⟨by decide, by decide, by decide +kernel⟩
theorem cn_X11_read : zo_Cn yX11_read 0 := ⟨by decide, by decide, by decide +kernel⟩
theorem LX1_198_9 : zo_FL RX1 198 9 0 := ⟨by decide, by decide, by decide, Or.inr ⟨_, _, q571, Or.inl rfl⟩⟩
theorem LX1_203_10 : zo_FL RX1 203 10 6 := ⟨by decide, by decide, by decide, Or.inr ⟨_, _, q719, Or.inl rfl⟩⟩
theorem LX1_204_9 : zo_FL RX1 204 9 2 := ⟨by decide, by decide, by decide, Or.inr ⟨_, _, q574, Or.inl rfl⟩⟩
theorem dX11_see_0 : decode cX11_see 0 = .ok (.iload_n 1, 1) := by decide +kernel
theorem dX11_see_1 : decode cX11_see 1 = .ok (.aload_n 0, 1) := by decide +kernel
theorem dX11_see_2 : decode cX11_see 2 = .ok (.getfield 3, 3) := by decide +kernel
theorem dX11_see_5 : decode cX11_see 5 = .ok (.getfield 22, 3) := by decide +kernel
theorem dX11_see_8 : decode cX11_see 8 = .ok (.if_icmp .ge 15, 3) := by decide +kernel
theorem dX11_see_11 : decode cX11_see 11 = .ok (.aload_n 0, 1) := by decide +kernel
theorem dX11_see_12 : decode cX11_see 12 = .ok (.getfield 3, 3) := by decide +kernel
theorem dX11_see_15 : decode cX11_see 15 = .ok (.getfield 26, 3) := by decide +kernel
theorem dX11_see_18 : decode cX11_see 18 = .ok (.iload_n 1, 1) := by decide +kernel
theorem dX11_see_19 : decode cX11_see 19 = .ok (.baload, 1) := by decide +kernel
theorem dX11_see_20 : decode cX11_see 20 = .ok (.goto 4, 3) := by decide +kernel
theorem dX11_see_23 : decode cX11_see 23 = .ok (.iconst 0, 1) := by decide +kernel
theorem dX11_see_24 : decode cX11_see 24 = .ok (.ireturn, 1) := by decide +kernel
def fn_X11_see_24 (N : Nat)  (s0 : Int32) (Ω : zo_O) : Option zo_R :=
  rI s0 Ω
theorem ct_X11_see_24 {Y : zo_Y} (hY : zo_Gd Y cX11_see 2 RX11 0) (hJ : zo_JC (zo_J Y)) (hCon : ∀ Ω, zo_J Y Ω → zo_Con Ω) (hr : zo_rt Y (Option.some Jvm.ClassFile.FieldType.int)) (N : Nat)   (s0 : Int32) (Ω : zo_O) (res : zo_R) (h : fn_X11_see_24 N  s0 Ω = some res) : TW Y res Ω 24 [] [vi s0] := by
  unfold fn_X11_see_24 at h
  exact zo_iret hY hr dX11_see_24 h
def fn_X11_see (N : Nat) (x0 : Nat) (x1 : Int32) (Ω : zo_O) : Option zo_R :=
  gd (gR Ω 9 x0 5 = some (0, 0)) <|
  if gI Ω 0 0 13 ≤ x1 then (
    fn_X11_see_24 N 0 Ω
    ) else
  gd (gR Ω 9 x0 5 = some (0, 0)) <|
  ix x1 300 fun j2 =>
  fn_X11_see_24 N (gI Ω 38 0 j2) Ω
theorem mt_X11_see {G : zo_G} {J : zo_O → Prop} (hJ : zo_JC J) (hCon : ∀ Ω, J Ω → zo_Con Ω) (N : Nat) (x0 : Nat) (x1 : Int32) (Ω : zo_O) (res : zo_R) (h : fn_X11_see N x0 x1 Ω = some res) : zo_MT G J yX11_see cX11_see 2 (Option.some Jvm.ClassFile.FieldType.int) 0 [vr 9 x0, vi x1] Ω res := by
  refine zo_enter (by decide) rfl (Nat.le_of_ble_eq_true rfl) (fun Y hY eJ hr hmn => ?_)
  subst eJ
  show TW Y res Ω 0 [(0, vr 9 x0), (1, vi x1)] []
  unfold fn_X11_see at h
  refine zo_iload_n hY dX11_see_0 rfl 1 rfl ?_
  refine zo_aload_n hY dX11_see_1 rfl 0 rfl ?_
  refine zo_getG hY LX11_3_9 rfl dX11_see_2 h (fun h => ?_)
  refine zo_getI hY LX11_22_0 rfl dX11_see_5 ?_
  refine zo_icmp_ge hY 23 dX11_see_8 (by decide) h (fun c1 h => ?_) (fun c1 h => ?_)
  · refine zo_iconst hY 0 (by decide) dX11_see_23 ?_
    refine zo_sub [] rfl ?_
    exact ct_X11_see_24 hY hJ hCon hr N 0 Ω _ h
  · refine zo_aload_n hY dX11_see_11 rfl 0 rfl ?_
    refine zo_getG hY LX11_3_9 rfl dX11_see_12 h (fun h => ?_)
    refine zo_getC hY LX11_26_0 rfl (fun Ω q => (hCon Ω q).1 12 _ rfl) dX11_see_15 ?_
    refine zo_iload_n hY dX11_see_18 rfl 1 rfl ?_
    refine zo_ald hY (by decide) (Or.inr ⟨Or.inl rfl, dX11_see_19⟩) (fun q => (hCon _ q).2.2.2 38 0 300 rfl) h (fun j2 h => ?_)
    refine zo_goto hY 24 dX11_see_20 (by decide) ?_
    refine zo_sub [] rfl ?_
    exact ct_X11_see_24 hY hJ hCon hr N (gI Ω 38 0 j2) Ω _ h
theorem dX11_isDigit_0 : decode cX11_isDigit 0 = .ok (.iload_n 1, 1) := by decide +kernel
theorem dX11_isDigit_1 : decode cX11_isDigit 1 = .ok (.bipush 48, 2) := by decide +kernel
theorem dX11_isDigit_3 : decode cX11_isDigit 3 = .ok (.if_icmp .lt 13, 3) := by decide +kernel
theorem dX11_isDigit_6 : decode cX11_isDigit 6 = .ok (.iload_n 1, 1) := by decide +kernel
theorem dX11_isDigit_7 : decode cX11_isDigit 7 = .ok (.bipush 57, 2) := by decide +kernel
theorem dX11_isDigit_9 : decode cX11_isDigit 9 = .ok (.if_icmp .gt 7, 3) := by decide +kernel
theorem dX11_isDigit_12 : decode cX11_isDigit 12 = .ok (.iconst 1, 1) := by decide +kernel
theorem dX11_isDigit_13 : decode cX11_isDigit 13 = .ok (.goto 4, 3) := by decide +kernel
theorem dX11_isDigit_16 : decode cX11_isDigit 16 = .ok (.iconst 0, 1) := by decide +kernel
theorem dX11_isDigit_17 : decode cX11_isDigit 17 = .ok (.ireturn, 1) := by decide +kernel
def fn_X11_isDigit_17 (N : Nat)  (s0 : Int32) (Ω : zo_O) : Option zo_R :=
  rZ s0 Ω
theorem ct_X11_isDigit_17 {Y : zo_Y} (hY : zo_Gd Y cX11_isDigit 2 RX11 0) (hJ : zo_JC (zo_J Y)) (hCon : ∀ Ω, zo_J Y Ω → zo_Con Ω) (hr : zo_rt Y (Option.some Jvm.ClassFile.FieldType.boolean)) (N : Nat)   (s0 : Int32) (Ω : zo_O) (res : zo_R) (h : fn_X11_isDigit_17 N  s0 Ω = some res) : TW Y res Ω 17 [] [vi s0] := by
  unfold fn_X11_isDigit_17 at h
  exact zo_zret hY hr dX11_isDigit_17 h
def fn_X11_isDigit_16 (N : Nat)   (Ω : zo_O) : Option zo_R :=
  fn_X11_isDigit_17 N 0 Ω
theorem ct_X11_isDigit_16 {Y : zo_Y} (hY : zo_Gd Y cX11_isDigit 2 RX11 0) (hJ : zo_JC (zo_J Y)) (hCon : ∀ Ω, zo_J Y Ω → zo_Con Ω) (hr : zo_rt Y (Option.some Jvm.ClassFile.FieldType.boolean)) (N : Nat)    (Ω : zo_O) (res : zo_R) (h : fn_X11_isDigit_16 N   Ω = some res) : TW Y res Ω 16 [] [] := by
  unfold fn_X11_isDigit_16 at h
  refine zo_iconst hY 0 (by decide) dX11_isDigit_16 ?_
  exact ct_X11_isDigit_17 hY hJ hCon hr N 0 Ω _ h
def fn_X11_isDigit (N : Nat) (x0 : Nat) (x1 : Int32) (Ω : zo_O) : Option zo_R :=
  if x1 < 48 then (
    fn_X11_isDigit_16 N Ω
    ) else
  if 57 < x1 then (
    fn_X11_isDigit_16 N Ω
    ) else
  fn_X11_isDigit_17 N 1 Ω
theorem mt_X11_isDigit {G : zo_G} {J : zo_O → Prop} (hJ : zo_JC J) (hCon : ∀ Ω, J Ω → zo_Con Ω) (N : Nat) (x0 : Nat) (x1 : Int32) (Ω : zo_O) (res : zo_R) (h : fn_X11_isDigit N x0 x1 Ω = some res) : zo_MT G J yX11_isDigit cX11_isDigit 2 (Option.some Jvm.ClassFile.FieldType.boolean) 0 [vr 9 x0, vi x1] Ω res := by
  refine zo_enter (by decide) rfl (Nat.le_of_ble_eq_true rfl) (fun Y hY eJ hr hmn => ?_)
  subst eJ
  show TW Y res Ω 0 [(0, vr 9 x0), (1, vi x1)] []
  unfold fn_X11_isDigit at h
  refine zo_iload_n hY dX11_isDigit_0 rfl 1 rfl ?_
  refine zo_bipush hY 48 (by decide) dX11_isDigit_1 ?_
  refine zo_icmp_lt hY 16 dX11_isDigit_3 (by decide) h (fun c1 h => ?_) (fun c1 h => ?_)
  · refine zo_sub [] rfl ?_
    exact ct_X11_isDigit_16 hY hJ hCon hr N Ω _ h
  · refine zo_iload_n hY dX11_isDigit_6 rfl 1 rfl ?_
    refine zo_bipush hY 57 (by decide) dX11_isDigit_7 ?_
    refine zo_icmp_gt hY 16 dX11_isDigit_9 (by decide) h (fun c2 h => ?_) (fun c2 h => ?_)
    · refine zo_sub [] rfl ?_
      exact ct_X11_isDigit_16 hY hJ hCon hr N Ω _ h
    · refine zo_iconst hY 1 (by decide) dX11_isDigit_12 ?_
      refine zo_goto hY 17 dX11_isDigit_13 (by decide) ?_
      refine zo_sub [] rfl ?_
      exact ct_X11_isDigit_17 hY hJ hCon hr N 1 Ω _ h
theorem dX11_isSmall_0 : decode cX11_isSmall 0 = .ok (.iload_n 1, 1) := by decide +kernel
theorem dX11_isSmall_1 : decode cX11_isSmall 1 = .ok (.bipush 97, 2) := by decide +kernel
theorem dX11_isSmall_3 : decode cX11_isSmall 3 = .ok (.if_icmp .lt 13, 3) := by decide +kernel
theorem dX11_isSmall_6 : decode cX11_isSmall 6 = .ok (.iload_n 1, 1) := by decide +kernel
theorem dX11_isSmall_7 : decode cX11_isSmall 7 = .ok (.bipush 122, 2) := by decide +kernel
theorem dX11_isSmall_9 : decode cX11_isSmall 9 = .ok (.if_icmp .gt 7, 3) := by decide +kernel
theorem dX11_isSmall_12 : decode cX11_isSmall 12 = .ok (.iconst 1, 1) := by decide +kernel
theorem dX11_isSmall_13 : decode cX11_isSmall 13 = .ok (.goto 4, 3) := by decide +kernel
theorem dX11_isSmall_16 : decode cX11_isSmall 16 = .ok (.iconst 0, 1) := by decide +kernel
theorem dX11_isSmall_17 : decode cX11_isSmall 17 = .ok (.ireturn, 1) := by decide +kernel
def fn_X11_isSmall_17 (N : Nat)  (s0 : Int32) (Ω : zo_O) : Option zo_R :=
  rZ s0 Ω
theorem ct_X11_isSmall_17 {Y : zo_Y} (hY : zo_Gd Y cX11_isSmall 2 RX11 0) (hJ : zo_JC (zo_J Y)) (hCon : ∀ Ω, zo_J Y Ω → zo_Con Ω) (hr : zo_rt Y (Option.some Jvm.ClassFile.FieldType.boolean)) (N : Nat)   (s0 : Int32) (Ω : zo_O) (res : zo_R) (h : fn_X11_isSmall_17 N  s0 Ω = some res) : TW Y res Ω 17 [] [vi s0] := by
  unfold fn_X11_isSmall_17 at h
  exact zo_zret hY hr dX11_isSmall_17 h
def fn_X11_isSmall_16 (N : Nat)   (Ω : zo_O) : Option zo_R :=
  fn_X11_isSmall_17 N 0 Ω
theorem ct_X11_isSmall_16 {Y : zo_Y} (hY : zo_Gd Y cX11_isSmall 2 RX11 0) (hJ : zo_JC (zo_J Y)) (hCon : ∀ Ω, zo_J Y Ω → zo_Con Ω) (hr : zo_rt Y (Option.some Jvm.ClassFile.FieldType.boolean)) (N : Nat)    (Ω : zo_O) (res : zo_R) (h : fn_X11_isSmall_16 N   Ω = some res) : TW Y res Ω 16 [] [] := by
  unfold fn_X11_isSmall_16 at h
  refine zo_iconst hY 0 (by decide) dX11_isSmall_16 ?_
  exact ct_X11_isSmall_17 hY hJ hCon hr N 0 Ω _ h
def fn_X11_isSmall (N : Nat) (x0 : Nat) (x1 : Int32) (Ω : zo_O) : Option zo_R :=
  if x1 < 97 then (
    fn_X11_isSmall_16 N Ω
    ) else
  if 122 < x1 then (
    fn_X11_isSmall_16 N Ω
    ) else
  fn_X11_isSmall_17 N 1 Ω
theorem mt_X11_isSmall {G : zo_G} {J : zo_O → Prop} (hJ : zo_JC J) (hCon : ∀ Ω, J Ω → zo_Con Ω) (N : Nat) (x0 : Nat) (x1 : Int32) (Ω : zo_O) (res : zo_R) (h : fn_X11_isSmall N x0 x1 Ω = some res) : zo_MT G J yX11_isSmall cX11_isSmall 2 (Option.some Jvm.ClassFile.FieldType.boolean) 0 [vr 9 x0, vi x1] Ω res := by
  refine zo_enter (by decide) rfl (Nat.le_of_ble_eq_true rfl) (fun Y hY eJ hr hmn => ?_)
  subst eJ
  show TW Y res Ω 0 [(0, vr 9 x0), (1, vi x1)] []
  unfold fn_X11_isSmall at h
  refine zo_iload_n hY dX11_isSmall_0 rfl 1 rfl ?_
  refine zo_bipush hY 97 (by decide) dX11_isSmall_1 ?_
  refine zo_icmp_lt hY 16 dX11_isSmall_3 (by decide) h (fun c1 h => ?_) (fun c1 h => ?_)
  · refine zo_sub [] rfl ?_
    exact ct_X11_isSmall_16 hY hJ hCon hr N Ω _ h
  · refine zo_iload_n hY dX11_isSmall_6 rfl 1 rfl ?_
    refine zo_bipush hY 122 (by decide) dX11_isSmall_7 ?_
    refine zo_icmp_gt hY 16 dX11_isSmall_9 (by decide) h (fun c2 h => ?_) (fun c2 h => ?_)
    · refine zo_sub [] rfl ?_
      exact ct_X11_isSmall_16 hY hJ hCon hr N Ω _ h
    · refine zo_iconst hY 1 (by decide) dX11_isSmall_12 ?_
      refine zo_goto hY 17 dX11_isSmall_13 (by decide) ?_
      refine zo_sub [] rfl ?_
      exact ct_X11_isSmall_17 hY hJ hCon hr N 1 Ω _ h
theorem dX11_next_0 : decode cX11_next 0 = .ok (.aload_n 0, 1) := by decide +kernel
theorem dX11_next_1 : decode cX11_next 1 = .ok (.aload_n 0, 1) := by decide +kernel
theorem dX11_next_2 : decode cX11_next 2 = .ok (.getfield 30, 3) := by decide +kernel
theorem dX11_next_5 : decode cX11_next 5 = .ok (.invokevirtual 33, 3) := by decide +kernel
theorem dX11_next_8 : decode cX11_next 8 = .ok (.bipush 32, 2) := by decide +kernel
theorem dX11_next_10 : decode cX11_next 10 = .ok (.if_icmp .eq 16, 3) := by decide +kernel
theorem dX11_next_13 : decode cX11_next 13 = .ok (.aload_n 0, 1) := by decide +kernel
theorem dX11_next_14 : decode cX11_next 14 = .ok (.aload_n 0, 1) := by decide +kernel
theorem dX11_next_15 : decode cX11_next 15 = .ok (.getfield 30, 3) := by decide +kernel
theorem dX11_next_18 : decode cX11_next 18 = .ok (.invokevirtual 33, 3) := by decide +kernel
theorem dX11_next_21 : decode cX11_next 21 = .ok (.bipush 10, 2) := by decide +kernel
theorem dX11_next_23 : decode cX11_next 23 = .ok (.if_icmp .ne 16, 3) := by decide +kernel
theorem dX11_next_26 : decode cX11_next 26 = .ok (.aload_n 0, 1) := by decide +kernel
theorem dX11_next_27 : decode cX11_next 27 = .ok (.dup, 1) := by decide +kernel
theorem dX11_next_28 : decode cX11_next 28 = .ok (.getfield 30, 3) := by decide +kernel
theorem dX11_next_31 : decode cX11_next 31 = .ok (.iconst 1, 1) := by decide +kernel
theorem dX11_next_32 : decode cX11_next 32 = .ok (.iadd, 1) := by decide +kernel
theorem dX11_next_33 : decode cX11_next 33 = .ok (.putfield 30, 3) := by decide +kernel
theorem dX11_next_36 : decode cX11_next 36 = .ok (.goto (-36), 3) := by decide +kernel
theorem dX11_next_39 : decode cX11_next 39 = .ok (.aload_n 0, 1) := by decide +kernel
theorem dX11_next_40 : decode cX11_next 40 = .ok (.aload_n 0, 1) := by decide +kernel
theorem dX11_next_41 : decode cX11_next 41 = .ok (.getfield 30, 3) := by decide +kernel
theorem dX11_next_44 : decode cX11_next 44 = .ok (.putfield 37, 3) := by decide +kernel
theorem dX11_next_47 : decode cX11_next 47 = .ok (.aload_n 0, 1) := by decide +kernel
theorem dX11_next_48 : decode cX11_next 48 = .ok (.getfield 30, 3) := by decide +kernel
theorem dX11_next_51 : decode cX11_next 51 = .ok (.aload_n 0, 1) := by decide +kernel
theorem dX11_next_52 : decode cX11_next 52 = .ok (.getfield 3, 3) := by decide +kernel
theorem dX11_next_55 : decode cX11_next 55 = .ok (.getfield 22, 3) := by decide +kernel
theorem dX11_next_58 : decode cX11_next 58 = .ok (.if_icmp .lt 9, 3) := by decide +kernel
theorem dX11_next_61 : decode cX11_next 61 = .ok (.aload_n 0, 1) := by decide +kernel
theorem dX11_next_62 : decode cX11_next 62 = .ok (.iconst 0, 1) := by decide +kernel
theorem dX11_next_63 : decode cX11_next 63 = .ok (.putfield 40, 3) := by decide +kernel
theorem dX11_next_66 : decode cX11_next 66 = .ok (.return_, 1) := by decide +kernel
theorem dX11_next_67 : decode cX11_next 67 = .ok (.aload_n 0, 1) := by decide +kernel
theorem dX11_next_68 : decode cX11_next 68 = .ok (.aload_n 0, 1) := by decide +kernel
theorem dX11_next_69 : decode cX11_next 69 = .ok (.getfield 30, 3) := by decide +kernel
theorem dX11_next_72 : decode cX11_next 72 = .ok (.invokevirtual 33, 3) := by decide +kernel
theorem dX11_next_75 : decode cX11_next 75 = .ok (.istore_n 1, 1) := by decide +kernel
theorem dX11_next_76 : decode cX11_next 76 = .ok (.aload_n 0, 1) := by decide +kernel
theorem dX11_next_77 : decode cX11_next 77 = .ok (.dup, 1) := by decide +kernel
theorem dX11_next_78 : decode cX11_next 78 = .ok (.getfield 30, 3) := by decide +kernel
theorem dX11_next_81 : decode cX11_next 81 = .ok (.iconst 1, 1) := by decide +kernel
theorem dX11_next_82 : decode cX11_next 82 = .ok (.iadd, 1) := by decide +kernel
theorem dX11_next_83 : decode cX11_next 83 = .ok (.putfield 30, 3) := by decide +kernel
theorem dX11_next_86 : decode cX11_next 86 = .ok (.aload_n 0, 1) := by decide +kernel
theorem dX11_next_87 : decode cX11_next 87 = .ok (.iload_n 1, 1) := by decide +kernel
theorem dX11_next_88 : decode cX11_next 88 = .ok (.bipush 59, 2) := by decide +kernel
theorem dX11_next_90 : decode cX11_next 90 = .ok (.if_icmp .eq 21, 3) := by decide +kernel
theorem dX11_next_93 : decode cX11_next 93 = .ok (.iload_n 1, 1) := by decide +kernel
theorem dX11_next_94 : decode cX11_next 94 = .ok (.bipush 60, 2) := by decide +kernel
theorem dX11_next_96 : decode cX11_next 96 = .ok (.if_icmp .eq 15, 3) := by decide +kernel
theorem dX11_next_99 : decode cX11_next 99 = .ok (.iload_n 1, 1) := by decide +kernel
theorem dX11_next_100 : decode cX11_next 100 = .ok (.bipush 61, 2) := by decide +kernel
theorem dX11_next_102 : decode cX11_next 102 = .ok (.if_icmp .eq 9, 3) := by decide +kernel
theorem dX11_next_105 : decode cX11_next 105 = .ok (.iload_n 1, 1) := by decide +kernel
theorem dX11_next_106 : decode cX11_next 106 = .ok (.bipush 62, 2) := by decide +kernel
theorem dX11_next_108 : decode cX11_next 108 = .ok (.if_icmp .ne 7, 3) := by decide +kernel
theorem dX11_next_111 : decode cX11_next 111 = .ok (.iconst 4, 1) := by decide +kernel
theorem dX11_next_112 : decode cX11_next 112 = .ok (.goto 4, 3) := by decide +kernel
theorem dX11_next_115 : decode cX11_next 115 = .ok (.iconst 1, 1) := by decide +kernel
theorem dX11_next_116 : decode cX11_next 116 = .ok (.putfield 40, 3) := by decide +kernel
theorem dX11_next_119 : decode cX11_next 119 = .ok (.aload_n 0, 1) := by decide +kernel
theorem dX11_next_120 : decode cX11_next 120 = .ok (.iload_n 1, 1) := by decide +kernel
theorem dX11_next_121 : decode cX11_next 121 = .ok (.putfield 43, 3) := by decide +kernel
theorem dX11_next_124 : decode cX11_next 124 = .ok (.aload_n 0, 1) := by decide +kernel
theorem dX11_next_125 : decode cX11_next 125 = .ok (.iload_n 1, 1) := by decide +kernel
theorem dX11_next_126 : decode cX11_next 126 = .ok (.invokevirtual 46, 3) := by decide +kernel
theorem dX11_next_129 : decode cX11_next 129 = .ok (.ifCond .eq 97, 3) := by decide +kernel
theorem dX11_next_132 : decode cX11_next 132 = .ok (.aload_n 0, 1) := by decide +kernel
theorem dX11_next_133 : decode cX11_next 133 = .ok (.iload_n 1, 1) := by decide +kernel
theorem dX11_next_134 : decode cX11_next 134 = .ok (.bipush 48, 2) := by decide +kernel
theorem dX11_next_136 : decode cX11_next 136 = .ok (.isub, 1) := by decide +kernel
theorem dX11_next_137 : decode cX11_next 137 = .ok (.putfield 43, 3) := by decide +kernel
theorem dX11_next_140 : decode cX11_next 140 = .ok (.aload_n 0, 1) := by decide +kernel
theorem dX11_next_141 : decode cX11_next 141 = .ok (.aload_n 0, 1) := by decide +kernel
theorem dX11_next_142 : decode cX11_next 142 = .ok (.aload_n 0, 1) := by decide +kernel
theorem dX11_next_143 : decode cX11_next 143 = .ok (.getfield 30, 3) := by decide +kernel
theorem dX11_next_146 : decode cX11_next 146 = .ok (.invokevirtual 33, 3) := by decide +kernel
theorem dX11_next_149 : decode cX11_next 149 = .ok (.invokevirtual 46, 3) := by decide +kernel
theorem dX11_next_152 : decode cX11_next 152 = .ok (.ifCond .eq 52, 3) := by decide +kernel
theorem dX11_next_155 : decode cX11_next 155 = .ok (.aload_n 0, 1) := by decide +kernel
theorem dX11_next_156 : decode cX11_next 156 = .ok (.getfield 30, 3) := by decide +kernel
theorem dX11_next_159 : decode cX11_next 159 = .ok (.aload_n 0, 1) := by decide +kernel
theorem dX11_next_160 : decode cX11_next 160 = .ok (.getfield 37, 3) := by decide +kernel
theorem dX11_next_163 : decode cX11_next 163 = .ok (.isub, 1) := by decide +kernel
theorem dX11_next_164 : decode cX11_next 164 = .ok (.iconst 4, 1) := by decide +kernel
theorem dX11_next_165 : decode cX11_next 165 = .ok (.if_icmp .ge 26, 3) := by decide +kernel
theorem dX11_next_168 : decode cX11_next 168 = .ok (.aload_n 0, 1) := by decide +kernel
theorem dX11_next_169 : decode cX11_next 169 = .ok (.bipush 10, 2) := by decide +kernel
theorem dX11_next_171 : decode cX11_next 171 = .ok (.aload_n 0, 1) := by decide +kernel
theorem dX11_next_172 : decode cX11_next 172 = .ok (.getfield 43, 3) := by decide +kernel
theorem dX11_next_175 : decode cX11_next 175 = .ok (.imul, 1) := by decide +kernel
theorem dX11_next_176 : decode cX11_next 176 = .ok (.aload_n 0, 1) := by decide +kernel
theorem dX11_next_177 : decode cX11_next 177 = .ok (.aload_n 0, 1) := by decide +kernel
theorem dX11_next_178 : decode cX11_next 178 = .ok (.getfield 30, 3) := by decide +kernel
theorem dX11_next_181 : decode cX11_next 181 = .ok (.invokevirtual 33, 3) := by decide +kernel
theorem dX11_next_184 : decode cX11_next 184 = .ok (.iadd, 1) := by decide +kernel
theorem dX11_next_185 : decode cX11_next 185 = .ok (.bipush 48, 2) := by decide +kernel
theorem dX11_next_187 : decode cX11_next 187 = .ok (.isub, 1) := by decide +kernel
theorem dX11_next_188 : decode cX11_next 188 = .ok (.putfield 43, 3) := by decide +kernel
theorem dX11_next_191 : decode cX11_next 191 = .ok (.aload_n 0, 1) := by decide +kernel
theorem dX11_next_192 : decode cX11_next 192 = .ok (.dup, 1) := by decide +kernel
theorem dX11_next_193 : decode cX11_next 193 = .ok (.getfield 30, 3) := by decide +kernel
theorem dX11_next_196 : decode cX11_next 196 = .ok (.iconst 1, 1) := by decide +kernel
theorem dX11_next_197 : decode cX11_next 197 = .ok (.iadd, 1) := by decide +kernel
theorem dX11_next_198 : decode cX11_next 198 = .ok (.putfield 30, 3) := by decide +kernel
theorem dX11_next_201 : decode cX11_next 201 = .ok (.goto (-61), 3) := by decide +kernel
theorem dX11_next_204 : decode cX11_next 204 = .ok (.aload_n 0, 1) := by decide +kernel
theorem dX11_next_205 : decode cX11_next 205 = .ok (.aload_n 0, 1) := by decide +kernel
theorem dX11_next_206 : decode cX11_next 206 = .ok (.getfield 30, 3) := by decide +kernel
theorem dX11_next_209 : decode cX11_next 209 = .ok (.aload_n 0, 1) := by decide +kernel
theorem dX11_next_210 : decode cX11_next 210 = .ok (.getfield 37, 3) := by decide +kernel
theorem dX11_next_213 : decode cX11_next 213 = .ok (.isub, 1) := by decide +kernel
theorem dX11_next_214 : decode cX11_next 214 = .ok (.iconst 4, 1) := by decide +kernel
theorem dX11_next_215 : decode cX11_next 215 = .ok (.if_icmp .le 7, 3) := by decide +kernel
theorem dX11_next_218 : decode cX11_next 218 = .ok (.iconst 1, 1) := by decide +kernel
theorem dX11_next_219 : decode cX11_next 219 = .ok (.goto 4, 3) := by decide +kernel
theorem dX11_next_222 : decode cX11_next 222 = .ok (.iconst 2, 1) := by decide +kernel
theorem dX11_next_223 : decode cX11_next 223 = .ok (.putfield 40, 3) := by decide +kernel
theorem dX11_next_226 : decode cX11_next 226 = .ok (.aload_n 0, 1) := by decide +kernel
theorem dX11_next_227 : decode cX11_next 227 = .ok (.iload_n 1, 1) := by decide +kernel
theorem dX11_next_228 : decode cX11_next 228 = .ok (.invokevirtual 50, 3) := by decide +kernel
theorem dX11_next_231 : decode cX11_next 231 = .ok (.ifCond .eq 36, 3) := by decide +kernel
theorem dX11_next_234 : decode cX11_next 234 = .ok (.aload_n 0, 1) := by decide +kernel
theorem dX11_next_235 : decode cX11_next 235 = .ok (.aload_n 0, 1) := by decide +kernel
theorem dX11_next_236 : decode cX11_next 236 = .ok (.aload_n 0, 1) := by decide +kernel
theorem dX11_next_237 : decode cX11_next 237 = .ok (.getfield 30, 3) := by decide +kernel
theorem dX11_next_240 : decode cX11_next 240 = .ok (.invokevirtual 33, 3) := by decide +kernel
theorem dX11_next_243 : decode cX11_next 243 = .ok (.invokevirtual 50, 3) := by decide +kernel
theorem dX11_next_246 : decode cX11_next 246 = .ok (.ifCond .eq 16, 3) := by decide +kernel
theorem dX11_next_249 : decode cX11_next 249 = .ok (.aload_n 0, 1) := by decide +kernel
theorem dX11_next_250 : decode cX11_next 250 = .ok (.dup, 1) := by decide +kernel
theorem dX11_next_251 : decode cX11_next 251 = .ok (.getfield 30, 3) := by decide +kernel
theorem dX11_next_254 : decode cX11_next 254 = .ok (.iconst 1, 1) := by decide +kernel
theorem dX11_next_255 : decode cX11_next 255 = .ok (.iadd, 1) := by decide +kernel
theorem dX11_next_256 : decode cX11_next 256 = .ok (.putfield 30, 3) := by decide +kernel
theorem dX11_next_259 : decode cX11_next 259 = .ok (.goto (-25), 3) := by decide +kernel
theorem dX11_next_262 : decode cX11_next 262 = .ok (.aload_n 0, 1) := by decide +kernel
theorem dX11_next_263 : decode cX11_next 263 = .ok (.iconst 3, 1) := by decide +kernel
theorem dX11_next_264 : decode cX11_next 264 = .ok (.putfield 40, 3) := by decide +kernel
theorem dX11_next_267 : decode cX11_next 267 = .ok (.return_, 1) := by decide +kernel
def fn_X11_next_26 (N : Nat) (K0 : Nat → zo_O → Option zo_R) (x0 : Nat) (Ω : zo_O) : Option zo_R :=
  lt (sI Ω 9 x0 1 ((gI Ω 9 x0 1) + 1)) fun Ω1 =>
  K0 x0 Ω1
theorem ct_X11_next_26 {Y : zo_Y} (hY : zo_Gd Y cX11_next 2 RX11 1) (hJ : zo_JC (zo_J Y)) (hCon : ∀ Ω, zo_J Y Ω → zo_Con Ω) (hr : zo_rt Y (Option.none : Option Jvm.ClassFile.FieldType)) (N : Nat) (K0 : Nat → zo_O → Option zo_R) (hK0 : ∀ (x0 : Nat) (Ω : zo_O) (res : zo_R), K0 x0 Ω = some res → TW Y res Ω 0 [(0, vr 9 x0)] []) (x0 : Nat) (Ω : zo_O) (res : zo_R) (h : fn_X11_next_26 N K0 x0 Ω = some res) : TW Y res Ω 26 [(0, vr 9 x0)] [] := by
  unfold fn_X11_next_26 at h
  refine zo_aload_n hY dX11_next_26 rfl 0 rfl ?_
  refine zo_dup hY dX11_next_27 (Or.inr ⟨_, rfl⟩) ?_
  refine zo_getI hY LX11_30_9 rfl dX11_next_28 ?_
  refine zo_iconst hY 1 (by decide) dX11_next_31 ?_
  refine zo_iadd hY dX11_next_32 ?_
  refine zo_putI hY hJ LX11_30_9 rfl (Or.inl rfl) dX11_next_33 h (fun Ω1 h => ?_)
  refine zo_goto hY 0 dX11_next_36 (by decide) ?_
  exact hK0 x0 Ω1 _ h
def fn_X11_next_191 (N : Nat) (K140 : Nat → Int32 → zo_O → Option zo_R) (x0 : Nat) (x1 : Int32) (Ω : zo_O) : Option zo_R :=
  lt (sI Ω 9 x0 1 ((gI Ω 9 x0 1) + 1)) fun Ω1 =>
  K140 x0 x1 Ω1
theorem ct_X11_next_191 {Y : zo_Y} (hY : zo_Gd Y cX11_next 2 RX11 1) (hJ : zo_JC (zo_J Y)) (hCon : ∀ Ω, zo_J Y Ω → zo_Con Ω) (hr : zo_rt Y (Option.none : Option Jvm.ClassFile.FieldType)) (N : Nat) (K140 : Nat → Int32 → zo_O → Option zo_R) (hK140 : ∀ (x0 : Nat) (x1 : Int32) (Ω : zo_O) (res : zo_R), K140 x0 x1 Ω = some res → TW Y res Ω 140 [(0, vr 9 x0), (1, vi x1)] []) (x0 : Nat) (x1 : Int32) (Ω : zo_O) (res : zo_R) (h : fn_X11_next_191 N K140 x0 x1 Ω = some res) : TW Y res Ω 191 [(0, vr 9 x0), (1, vi x1)] [] := by
  unfold fn_X11_next_191 at h
  refine zo_aload_n hY dX11_next_191 rfl 0 rfl ?_
  refine zo_dup hY dX11_next_192 (Or.inr ⟨_, rfl⟩) ?_
  refine zo_getI hY LX11_30_9 rfl dX11_next_193 ?_
  refine zo_iconst hY 1 (by decide) dX11_next_196 ?_
  refine zo_iadd hY dX11_next_197 ?_
  refine zo_putI hY hJ LX11_30_9 rfl (Or.inl rfl) dX11_next_198 h (fun Ω1 h => ?_)
  refine zo_goto hY 140 dX11_next_201 (by decide) ?_
  exact hK140 x0 x1 Ω1 _ h
def fn_X11_next_267 (N : Nat)   (Ω : zo_O) : Option zo_R :=
  rV Ω
theorem ct_X11_next_267 {Y : zo_Y} (hY : zo_Gd Y cX11_next 2 RX11 1) (hJ : zo_JC (zo_J Y)) (hCon : ∀ Ω, zo_J Y Ω → zo_Con Ω) (hr : zo_rt Y (Option.none : Option Jvm.ClassFile.FieldType)) (N : Nat)    (Ω : zo_O) (res : zo_R) (h : fn_X11_next_267 N   Ω = some res) : TW Y res Ω 267 [] [] := by
  unfold fn_X11_next_267 at h
  exact zo_vret hY hr dX11_next_267 h
def bd_X11_next_234 (N : Nat)  (K234 : Nat → zo_O → Option zo_R) (x0 : Nat) (Ω : zo_O) : Option zo_R :=
  ci (fn_X11_see N x0 (gI Ω 9 x0 1) Ω) fun r2 Ω1 =>
  ci (fn_X11_isSmall N x0 r2 Ω1) fun r4 Ω3 =>
  if r4 = 0 then (
    lt (sI Ω3 9 x0 3 3) fun Ω6 =>
    fn_X11_next_267 N Ω6
    ) else
  lt (sI Ω3 9 x0 1 ((gI Ω3 9 x0 1) + 1)) fun Ω7 =>
  K234 x0 Ω7
theorem cb_X11_next_234 {Y : zo_Y} (hY : zo_Gd Y cX11_next 2 RX11 1) (hJ : zo_JC (zo_J Y)) (hCon : ∀ Ω, zo_J Y Ω → zo_Con Ω) (hr : zo_rt Y (Option.none : Option Jvm.ClassFile.FieldType)) (N : Nat)  (K234 : Nat → zo_O → Option zo_R)  (hK234 : ∀ (x0 : Nat) (Ω : zo_O) (res : zo_R), K234 x0 Ω = some res → TW Y res Ω 234 [(0, vr 9 x0)] []) (x0 : Nat) (Ω : zo_O) (res : zo_R) (h : bd_X11_next_234 N  K234 x0 Ω = some res) : TW Y res Ω 234 [(0, vr 9 x0)] [] := by
  unfold bd_X11_next_234 at h
  refine zo_aload_n hY dX11_next_234 rfl 0 rfl ?_
  refine zo_aload_n hY dX11_next_235 rfl 0 rfl ?_
  refine zo_aload_n hY dX11_next_236 rfl 0 rfl ?_
  refine zo_getI hY LX11_30_9 rfl dX11_next_237 ?_
  refine zo_callV hY (fun q hq => mt_X11_see hJ hCon N x0 (gI Ω 9 x0 1) Ω q hq) (by decide) (by decide) (by decide) ⟨rfl, cn_X11_see⟩ rfl q599 q601 qs6 q97 q602 (Nat.le_of_ble_eq_true rfl) dX11_next_240 rfl h (ci_k (fun r2 Ω1 res h => ?_))
  refine zo_callV hY (fun q hq => mt_X11_isSmall hJ hCon N x0 r2 Ω1 q hq) (by decide) (by decide) (by decide) ⟨rfl, cn_X11_isSmall⟩ rfl q607 q609 qs8 q97 q610 (Nat.le_of_ble_eq_true rfl) dX11_next_243 rfl h (ci_k (fun r4 Ω3 res h => ?_))
  refine zo_if_eq hY 262 dX11_next_246 (by decide) h (fun c5 h => ?_) (fun c5 h => ?_)
  · refine zo_aload_n hY dX11_next_262 rfl 0 rfl ?_
    refine zo_iconst hY 3 (by decide) dX11_next_263 ?_
    refine zo_putI hY hJ LX11_40_9 rfl (Or.inl rfl) dX11_next_264 h (fun Ω6 h => ?_)
    refine zo_sub [] rfl ?_
    exact ct_X11_next_267 hY hJ hCon hr N Ω6 _ h
  · refine zo_aload_n hY dX11_next_249 rfl 0 rfl ?_
    refine zo_dup hY dX11_next_250 (Or.inr ⟨_, rfl⟩) ?_
    refine zo_getI hY LX11_30_9 rfl dX11_next_251 ?_
    refine zo_iconst hY 1 (by decide) dX11_next_254 ?_
    refine zo_iadd hY dX11_next_255 ?_
    refine zo_putI hY hJ LX11_30_9 rfl (Or.inl rfl) dX11_next_256 h (fun Ω7 h => ?_)
    refine zo_goto hY 234 dX11_next_259 (by decide) ?_
    exact hK234 x0 Ω7 _ h
def fn_X11_next_234 (N : Nat)  : Nat → Nat → zo_O → Option zo_R
  | 0, _, _ => none
  | n + 1, x0, Ω => bd_X11_next_234 N  (fn_X11_next_234 N  n) x0 Ω
theorem ct_X11_next_234 {Y : zo_Y} (hY : zo_Gd Y cX11_next 2 RX11 1) (hJ : zo_JC (zo_J Y)) (hCon : ∀ Ω, zo_J Y Ω → zo_Con Ω) (hr : zo_rt Y (Option.none : Option Jvm.ClassFile.FieldType)) (N : Nat)   : ∀ (n : Nat) (x0 : Nat) (Ω : zo_O) (res : zo_R), fn_X11_next_234 N  n x0 Ω = some res → TW Y res Ω 234 [(0, vr 9 x0)] [] := by
  intro n
  induction n with
  | zero => intro x0 Ω res h; exact nomatch (show (none : Option zo_R) = some res from h)
  | succ n ih => intro x0 Ω res h; exact cb_X11_next_234 hY hJ hCon hr N  (fn_X11_next_234 N  n)  ih x0 Ω res h
def fn_X11_next_226 (N : Nat)  (x0 : Nat) (x1 : Int32) (Ω : zo_O) : Option zo_R :=
  ci (fn_X11_isSmall N x0 x1 Ω) fun r2 Ω1 =>
  if r2 = 0 then (
    fn_X11_next_267 N Ω1
    ) else
  fn_X11_next_234 N N x0 Ω1
theorem ct_X11_next_226 {Y : zo_Y} (hY : zo_Gd Y cX11_next 2 RX11 1) (hJ : zo_JC (zo_J Y)) (hCon : ∀ Ω, zo_J Y Ω → zo_Con Ω) (hr : zo_rt Y (Option.none : Option Jvm.ClassFile.FieldType)) (N : Nat)   (x0 : Nat) (x1 : Int32) (Ω : zo_O) (res : zo_R) (h : fn_X11_next_226 N  x0 x1 Ω = some res) : TW Y res Ω 226 [(0, vr 9 x0), (1, vi x1)] [] := by
  unfold fn_X11_next_226 at h
  refine zo_aload_n hY dX11_next_226 rfl 0 rfl ?_
  refine zo_iload_n hY dX11_next_227 rfl 1 rfl ?_
  refine zo_callV hY (fun q hq => mt_X11_isSmall hJ hCon N x0 x1 Ω q hq) (by decide) (by decide) (by decide) ⟨rfl, cn_X11_isSmall⟩ rfl q607 q609 qs8 q97 q610 (Nat.le_of_ble_eq_true rfl) dX11_next_228 rfl h (ci_k (fun r2 Ω1 res h => ?_))
  refine zo_if_eq hY 267 dX11_next_231 (by decide) h (fun c3 h => ?_) (fun c3 h => ?_)
  · refine zo_sub [] rfl ?_
    exact ct_X11_next_267 hY hJ hCon hr N Ω1 _ h
  · refine zo_sub [0] rfl ?_
    exact ct_X11_next_234 hY hJ hCon hr N N x0 Ω1 _ h
def fn_X11_next_223 (N : Nat)  (x0 : Nat) (x1 : Int32) (s0 : Int32) (s1 : Nat) (Ω : zo_O) : Option zo_R :=
  lt (sI Ω 9 s1 3 s0) fun Ω1 =>
  fn_X11_next_226 N x0 x1 Ω1
theorem ct_X11_next_223 {Y : zo_Y} (hY : zo_Gd Y cX11_next 2 RX11 1) (hJ : zo_JC (zo_J Y)) (hCon : ∀ Ω, zo_J Y Ω → zo_Con Ω) (hr : zo_rt Y (Option.none : Option Jvm.ClassFile.FieldType)) (N : Nat)   (x0 : Nat) (x1 : Int32) (s0 : Int32) (s1 : Nat) (Ω : zo_O) (res : zo_R) (h : fn_X11_next_223 N  x0 x1 s0 s1 Ω = some res) : TW Y res Ω 223 [(0, vr 9 x0), (1, vi x1)] [vi s0, vr 9 s1] := by
  unfold fn_X11_next_223 at h
  refine zo_putI hY hJ LX11_40_9 rfl (Or.inl rfl) dX11_next_223 h (fun Ω1 h => ?_)
  exact ct_X11_next_226 hY hJ hCon hr N x0 x1 Ω1 _ h
def bd_X11_next_140 (N : Nat)  (K140 : Nat → Int32 → zo_O → Option zo_R) (x0 : Nat) (x1 : Int32) (Ω : zo_O) : Option zo_R :=
  ci (fn_X11_see N x0 (gI Ω 9 x0 1) Ω) fun r2 Ω1 =>
  ci (fn_X11_isDigit N x0 r2 Ω1) fun r4 Ω3 =>
  if r4 = 0 then (
    if (gI Ω3 9 x0 1) - (gI Ω3 9 x0 2) ≤ 4 then (
      fn_X11_next_223 N x0 x1 2 x0 Ω3
      ) else
    fn_X11_next_223 N x0 x1 1 x0 Ω3
    ) else
  if 4 ≤ (gI Ω3 9 x0 1) - (gI Ω3 9 x0 2) then (
    fn_X11_next_191 N K140 x0 x1 Ω3
    ) else
  ci (fn_X11_see N x0 (gI Ω3 9 x0 1) Ω3) fun r9 Ω8 =>
  lt (sI Ω8 9 x0 4 (((10 * (gI Ω3 9 x0 4)) + r9) - 48)) fun Ω10 =>
  fn_X11_next_191 N K140 x0 x1 Ω10
theorem cb_X11_next_140 {Y : zo_Y} (hY : zo_Gd Y cX11_next 2 RX11 1) (hJ : zo_JC (zo_J Y)) (hCon : ∀ Ω, zo_J Y Ω → zo_Con Ω) (hr : zo_rt Y (Option.none : Option Jvm.ClassFile.FieldType)) (N : Nat)  (K140 : Nat → Int32 → zo_O → Option zo_R)  (hK140 : ∀ (x0 : Nat) (x1 : Int32) (Ω : zo_O) (res : zo_R), K140 x0 x1 Ω = some res → TW Y res Ω 140 [(0, vr 9 x0), (1, vi x1)] []) (x0 : Nat) (x1 : Int32) (Ω : zo_O) (res : zo_R) (h : bd_X11_next_140 N  K140 x0 x1 Ω = some res) : TW Y res Ω 140 [(0, vr 9 x0), (1, vi x1)] [] := by
  unfold bd_X11_next_140 at h
  refine zo_aload_n hY dX11_next_140 rfl 0 rfl ?_
  refine zo_aload_n hY dX11_next_141 rfl 0 rfl ?_
  refine zo_aload_n hY dX11_next_142 rfl 0 rfl ?_
  refine zo_getI hY LX11_30_9 rfl dX11_next_143 ?_
  refine zo_callV hY (fun q hq => mt_X11_see hJ hCon N x0 (gI Ω 9 x0 1) Ω q hq) (by decide) (by decide) (by decide) ⟨rfl, cn_X11_see⟩ rfl q599 q601 qs6 q97 q602 (Nat.le_of_ble_eq_true rfl) dX11_next_146 rfl h (ci_k (fun r2 Ω1 res h => ?_))
  refine zo_callV hY (fun q hq => mt_X11_isDigit hJ hCon N x0 r2 Ω1 q hq) (by decide) (by decide) (by decide) ⟨rfl, cn_X11_isDigit⟩ rfl q603 q605 qs7 q97 q606 (Nat.le_of_ble_eq_true rfl) dX11_next_149 rfl h (ci_k (fun r4 Ω3 res h => ?_))
  refine zo_if_eq hY 204 dX11_next_152 (by decide) h (fun c5 h => ?_) (fun c5 h => ?_)
  · refine zo_aload_n hY dX11_next_204 rfl 0 rfl ?_
    refine zo_aload_n hY dX11_next_205 rfl 0 rfl ?_
    refine zo_getI hY LX11_30_9 rfl dX11_next_206 ?_
    refine zo_aload_n hY dX11_next_209 rfl 0 rfl ?_
    refine zo_getI hY LX11_37_9 rfl dX11_next_210 ?_
    refine zo_isub hY dX11_next_213 ?_
    refine zo_iconst hY 4 (by decide) dX11_next_214 ?_
    refine zo_icmp_le hY 222 dX11_next_215 (by decide) h (fun c6 h => ?_) (fun c6 h => ?_)
    · refine zo_iconst hY 2 (by decide) dX11_next_222 ?_
      exact ct_X11_next_223 hY hJ hCon hr N x0 x1 2 x0 Ω3 _ h
    · refine zo_iconst hY 1 (by decide) dX11_next_218 ?_
      refine zo_goto hY 223 dX11_next_219 (by decide) ?_
      exact ct_X11_next_223 hY hJ hCon hr N x0 x1 1 x0 Ω3 _ h
  · refine zo_aload_n hY dX11_next_155 rfl 0 rfl ?_
    refine zo_getI hY LX11_30_9 rfl dX11_next_156 ?_
    refine zo_aload_n hY dX11_next_159 rfl 0 rfl ?_
    refine zo_getI hY LX11_37_9 rfl dX11_next_160 ?_
    refine zo_isub hY dX11_next_163 ?_
    refine zo_iconst hY 4 (by decide) dX11_next_164 ?_
    refine zo_icmp_ge hY 191 dX11_next_165 (by decide) h (fun c7 h => ?_) (fun c7 h => ?_)
    · exact ct_X11_next_191 hY hJ hCon hr N K140 hK140 x0 x1 Ω3 _ h
    · refine zo_aload_n hY dX11_next_168 rfl 0 rfl ?_
      refine zo_bipush hY 10 (by decide) dX11_next_169 ?_
      refine zo_aload_n hY dX11_next_171 rfl 0 rfl ?_
      refine zo_getI hY LX11_43_9 rfl dX11_next_172 ?_
      refine zo_imul hY dX11_next_175 ?_
      refine zo_aload_n hY dX11_next_176 rfl 0 rfl ?_
      refine zo_aload_n hY dX11_next_177 rfl 0 rfl ?_
      refine zo_getI hY LX11_30_9 rfl dX11_next_178 ?_
      refine zo_callV hY (fun q hq => mt_X11_see hJ hCon N x0 (gI Ω3 9 x0 1) Ω3 q hq) (by decide) (by decide) (by decide) ⟨rfl, cn_X11_see⟩ rfl q599 q601 qs6 q97 q602 (Nat.le_of_ble_eq_true rfl) dX11_next_181 rfl h (ci_k (fun r9 Ω8 res h => ?_))
      refine zo_iadd hY dX11_next_184 ?_
      refine zo_bipush hY 48 (by decide) dX11_next_185 ?_
      refine zo_isub hY dX11_next_187 ?_
      refine zo_putI hY hJ LX11_43_9 rfl (Or.inl rfl) dX11_next_188 h (fun Ω10 h => ?_)
      exact ct_X11_next_191 hY hJ hCon hr N K140 hK140 x0 x1 Ω10 _ h
def fn_X11_next_140 (N : Nat)  : Nat → Nat → Int32 → zo_O → Option zo_R
  | 0, _, _, _ => none
  | n + 1, x0, x1, Ω => bd_X11_next_140 N  (fn_X11_next_140 N  n) x0 x1 Ω
theorem ct_X11_next_140 {Y : zo_Y} (hY : zo_Gd Y cX11_next 2 RX11 1) (hJ : zo_JC (zo_J Y)) (hCon : ∀ Ω, zo_J Y Ω → zo_Con Ω) (hr : zo_rt Y (Option.none : Option Jvm.ClassFile.FieldType)) (N : Nat)   : ∀ (n : Nat) (x0 : Nat) (x1 : Int32) (Ω : zo_O) (res : zo_R), fn_X11_next_140 N  n x0 x1 Ω = some res → TW Y res Ω 140 [(0, vr 9 x0), (1, vi x1)] [] := by
  intro n
  induction n with
  | zero => intro x0 x1 Ω res h; exact nomatch (show (none : Option zo_R) = some res from h)
  | succ n ih => intro x0 x1 Ω res h; exact cb_X11_next_140 hY hJ hCon hr N  (fn_X11_next_140 N  n)  ih x0 x1 Ω res h
def fn_X11_next_116 (N : Nat)  (x0 : Nat) (x1 : Int32) (s0 : Int32) (s1 : Nat) (Ω : zo_O) : Option zo_R :=
  lt (sI Ω 9 s1 3 s0) fun Ω1 =>
  lt (sI Ω1 9 x0 4 x1) fun Ω2 =>
  ci (fn_X11_isDigit N x0 x1 Ω2) fun r4 Ω3 =>
  if r4 = 0 then (
    fn_X11_next_226 N x0 x1 Ω3
    ) else
  lt (sI Ω3 9 x0 4 (x1 - 48)) fun Ω6 =>
  fn_X11_next_140 N N x0 x1 Ω6
theorem ct_X11_next_116 {Y : zo_Y} (hY : zo_Gd Y cX11_next 2 RX11 1) (hJ : zo_JC (zo_J Y)) (hCon : ∀ Ω, zo_J Y Ω → zo_Con Ω) (hr : zo_rt Y (Option.none : Option Jvm.ClassFile.FieldType)) (N : Nat)   (x0 : Nat) (x1 : Int32) (s0 : Int32) (s1 : Nat) (Ω : zo_O) (res : zo_R) (h : fn_X11_next_116 N  x0 x1 s0 s1 Ω = some res) : TW Y res Ω 116 [(0, vr 9 x0), (1, vi x1)] [vi s0, vr 9 s1] := by
  unfold fn_X11_next_116 at h
  refine zo_putI hY hJ LX11_40_9 rfl (Or.inl rfl) dX11_next_116 h (fun Ω1 h => ?_)
  refine zo_aload_n hY dX11_next_119 rfl 0 rfl ?_
  refine zo_iload_n hY dX11_next_120 rfl 1 rfl ?_
  refine zo_putI hY hJ LX11_43_9 rfl (Or.inl rfl) dX11_next_121 h (fun Ω2 h => ?_)
  refine zo_aload_n hY dX11_next_124 rfl 0 rfl ?_
  refine zo_iload_n hY dX11_next_125 rfl 1 rfl ?_
  refine zo_callV hY (fun q hq => mt_X11_isDigit hJ hCon N x0 x1 Ω2 q hq) (by decide) (by decide) (by decide) ⟨rfl, cn_X11_isDigit⟩ rfl q603 q605 qs7 q97 q606 (Nat.le_of_ble_eq_true rfl) dX11_next_126 rfl h (ci_k (fun r4 Ω3 res h => ?_))
  refine zo_if_eq hY 226 dX11_next_129 (by decide) h (fun c5 h => ?_) (fun c5 h => ?_)
  · exact ct_X11_next_226 hY hJ hCon hr N x0 x1 Ω3 _ h
  · refine zo_aload_n hY dX11_next_132 rfl 0 rfl ?_
    refine zo_iload_n hY dX11_next_133 rfl 1 rfl ?_
    refine zo_bipush hY 48 (by decide) dX11_next_134 ?_
    refine zo_isub hY dX11_next_136 ?_
    refine zo_putI hY hJ LX11_43_9 rfl (Or.inl rfl) dX11_next_137 h (fun Ω6 h => ?_)
    exact ct_X11_next_140 hY hJ hCon hr N N x0 x1 Ω6 _ h
def fn_X11_next_111 (N : Nat)  (x0 : Nat) (x1 : Int32) (s0 : Nat) (Ω : zo_O) : Option zo_R :=
  fn_X11_next_116 N x0 x1 4 s0 Ω
theorem ct_X11_next_111 {Y : zo_Y} (hY : zo_Gd Y cX11_next 2 RX11 1) (hJ : zo_JC (zo_J Y)) (hCon : ∀ Ω, zo_J Y Ω → zo_Con Ω) (hr : zo_rt Y (Option.none : Option Jvm.ClassFile.FieldType)) (N : Nat)   (x0 : Nat) (x1 : Int32) (s0 : Nat) (Ω : zo_O) (res : zo_R) (h : fn_X11_next_111 N  x0 x1 s0 Ω = some res) : TW Y res Ω 111 [(0, vr 9 x0), (1, vi x1)] [vr 9 s0] := by
  unfold fn_X11_next_111 at h
  refine zo_iconst hY 4 (by decide) dX11_next_111 ?_
  refine zo_goto hY 116 dX11_next_112 (by decide) ?_
  exact ct_X11_next_116 hY hJ hCon hr N x0 x1 4 s0 Ω _ h
def bd_X11_next_0 (N : Nat)  (K0 : Nat → zo_O → Option zo_R) (x0 : Nat) (Ω : zo_O) : Option zo_R :=
  ci (fn_X11_see N x0 (gI Ω 9 x0 1) Ω) fun r2 Ω1 =>
  if r2 = 32 then (
    fn_X11_next_26 N K0 x0 Ω1
    ) else
  ci (fn_X11_see N x0 (gI Ω1 9 x0 1) Ω1) fun r5 Ω4 =>
  if r5 = 10 then (
    fn_X11_next_26 N K0 x0 Ω4
    ) else
  lt (sI Ω4 9 x0 2 (gI Ω4 9 x0 1)) fun Ω7 =>
  gd (gR Ω7 9 x0 5 = some (0, 0)) <|
  if gI Ω7 9 x0 1 < gI Ω7 0 0 13 then (
    ci (fn_X11_see N x0 (gI Ω7 9 x0 1) Ω7) fun r10 Ω9 =>
    lt (sI Ω9 9 x0 1 ((gI Ω9 9 x0 1) + 1)) fun Ω11 =>
    if r10 = 59 then (
      fn_X11_next_111 N x0 r10 x0 Ω11
      ) else
    if r10 = 60 then (
      fn_X11_next_111 N x0 r10 x0 Ω11
      ) else
    if r10 = 61 then (
      fn_X11_next_111 N x0 r10 x0 Ω11
      ) else
    if r10 = 62 then (
      fn_X11_next_111 N x0 r10 x0 Ω11
      ) else
    fn_X11_next_116 N x0 r10 1 x0 Ω11
    ) else
  lt (sI Ω7 9 x0 3 0) fun Ω16 =>
  rV Ω16
theorem cb_X11_next_0 {Y : zo_Y} (hY : zo_Gd Y cX11_next 2 RX11 1) (hJ : zo_JC (zo_J Y)) (hCon : ∀ Ω, zo_J Y Ω → zo_Con Ω) (hr : zo_rt Y (Option.none : Option Jvm.ClassFile.FieldType)) (N : Nat)  (K0 : Nat → zo_O → Option zo_R)  (hK0 : ∀ (x0 : Nat) (Ω : zo_O) (res : zo_R), K0 x0 Ω = some res → TW Y res Ω 0 [(0, vr 9 x0)] []) (x0 : Nat) (Ω : zo_O) (res : zo_R) (h : bd_X11_next_0 N  K0 x0 Ω = some res) : TW Y res Ω 0 [(0, vr 9 x0)] [] := by
  unfold bd_X11_next_0 at h
  refine zo_aload_n hY dX11_next_0 rfl 0 rfl ?_
  refine zo_aload_n hY dX11_next_1 rfl 0 rfl ?_
  refine zo_getI hY LX11_30_9 rfl dX11_next_2 ?_
  refine zo_callV hY (fun q hq => mt_X11_see hJ hCon N x0 (gI Ω 9 x0 1) Ω q hq) (by decide) (by decide) (by decide) ⟨rfl, cn_X11_see⟩ rfl q599 q601 qs6 q97 q602 (Nat.le_of_ble_eq_true rfl) dX11_next_5 rfl h (ci_k (fun r2 Ω1 res h => ?_))
  refine zo_bipush hY 32 (by decide) dX11_next_8 ?_
  refine zo_icmp_eq hY 26 dX11_next_10 (by decide) h (fun c3 h => ?_) (fun c3 h => ?_)
  · exact ct_X11_next_26 hY hJ hCon hr N K0 hK0 x0 Ω1 _ h
  · refine zo_aload_n hY dX11_next_13 rfl 0 rfl ?_
    refine zo_aload_n hY dX11_next_14 rfl 0 rfl ?_
    refine zo_getI hY LX11_30_9 rfl dX11_next_15 ?_
    refine zo_callV hY (fun q hq => mt_X11_see hJ hCon N x0 (gI Ω1 9 x0 1) Ω1 q hq) (by decide) (by decide) (by decide) ⟨rfl, cn_X11_see⟩ rfl q599 q601 qs6 q97 q602 (Nat.le_of_ble_eq_true rfl) dX11_next_18 rfl h (ci_k (fun r5 Ω4 res h => ?_))
    refine zo_bipush hY 10 (by decide) dX11_next_21 ?_
    refine zo_icmp_ne hY 39 dX11_next_23 (by decide) h (fun c6 h => ?_) (fun c6 h => ?_)
    · exact ct_X11_next_26 hY hJ hCon hr N K0 hK0 x0 Ω4 _ h
    · refine zo_aload_n hY dX11_next_39 rfl 0 rfl ?_
      refine zo_aload_n hY dX11_next_40 rfl 0 rfl ?_
      refine zo_getI hY LX11_30_9 rfl dX11_next_41 ?_
      refine zo_putI hY hJ LX11_37_9 rfl (Or.inl rfl) dX11_next_44 h (fun Ω7 h => ?_)
      refine zo_aload_n hY dX11_next_47 rfl 0 rfl ?_
      refine zo_getI hY LX11_30_9 rfl dX11_next_48 ?_
      refine zo_aload_n hY dX11_next_51 rfl 0 rfl ?_
      refine zo_getG hY LX11_3_9 rfl dX11_next_52 h (fun h => ?_)
      refine zo_getI hY LX11_22_0 rfl dX11_next_55 ?_
      refine zo_icmp_lt hY 67 dX11_next_58 (by decide) h (fun c8 h => ?_) (fun c8 h => ?_)
      · refine zo_aload_n hY dX11_next_67 rfl 0 rfl ?_
        refine zo_aload_n hY dX11_next_68 rfl 0 rfl ?_
        refine zo_getI hY LX11_30_9 rfl dX11_next_69 ?_
        refine zo_callV hY (fun q hq => mt_X11_see hJ hCon N x0 (gI Ω7 9 x0 1) Ω7 q hq) (by decide) (by decide) (by decide) ⟨rfl, cn_X11_see⟩ rfl q599 q601 qs6 q97 q602 (Nat.le_of_ble_eq_true rfl) dX11_next_72 rfl h (ci_k (fun r10 Ω9 res h => ?_))
        refine zo_istore_n hY dX11_next_75 rfl (by decide) rfl (ls' := [(1, vi r10), (0, vr 9 x0)]) rfl ?_
        refine zo_aload_n hY dX11_next_76 rfl 1 rfl ?_
        refine zo_dup hY dX11_next_77 (Or.inr ⟨_, rfl⟩) ?_
        refine zo_getI hY LX11_30_9 rfl dX11_next_78 ?_
        refine zo_iconst hY 1 (by decide) dX11_next_81 ?_
        refine zo_iadd hY dX11_next_82 ?_
        refine zo_putI hY hJ LX11_30_9 rfl (Or.inl rfl) dX11_next_83 h (fun Ω11 h => ?_)
        refine zo_aload_n hY dX11_next_86 rfl 1 rfl ?_
        refine zo_iload_n hY dX11_next_87 rfl 0 rfl ?_
        refine zo_bipush hY 59 (by decide) dX11_next_88 ?_
        refine zo_icmp_eq hY 111 dX11_next_90 (by decide) h (fun c12 h => ?_) (fun c12 h => ?_)
        · refine zo_sub [1, 0] rfl ?_
          exact ct_X11_next_111 hY hJ hCon hr N x0 r10 x0 Ω11 _ h
        · refine zo_iload_n hY dX11_next_93 rfl 0 rfl ?_
          refine zo_bipush hY 60 (by decide) dX11_next_94 ?_
          refine zo_icmp_eq hY 111 dX11_next_96 (by decide) h (fun c13 h => ?_) (fun c13 h => ?_)
          · refine zo_sub [1, 0] rfl ?_
            exact ct_X11_next_111 hY hJ hCon hr N x0 r10 x0 Ω11 _ h
          · refine zo_iload_n hY dX11_next_99 rfl 0 rfl ?_
            refine zo_bipush hY 61 (by decide) dX11_next_100 ?_
            refine zo_icmp_eq hY 111 dX11_next_102 (by decide) h (fun c14 h => ?_) (fun c14 h => ?_)
            · refine zo_sub [1, 0] rfl ?_
              exact ct_X11_next_111 hY hJ hCon hr N x0 r10 x0 Ω11 _ h
            · refine zo_iload_n hY dX11_next_105 rfl 0 rfl ?_
              refine zo_bipush hY 62 (by decide) dX11_next_106 ?_
              refine zo_icmp_ne hY 115 dX11_next_108 (by decide) h (fun c15 h => ?_) (fun c15 h => ?_)
              · refine zo_sub [1, 0] rfl ?_
                exact ct_X11_next_111 hY hJ hCon hr N x0 r10 x0 Ω11 _ h
              · refine zo_iconst hY 1 (by decide) dX11_next_115 ?_
                refine zo_sub [1, 0] rfl ?_
                exact ct_X11_next_116 hY hJ hCon hr N x0 r10 1 x0 Ω11 _ h
      · refine zo_aload_n hY dX11_next_61 rfl 0 rfl ?_
        refine zo_iconst hY 0 (by decide) dX11_next_62 ?_
        refine zo_putI hY hJ LX11_40_9 rfl (Or.inl rfl) dX11_next_63 h (fun Ω16 h => ?_)
        exact zo_vret hY hr dX11_next_66 h
def fn_X11_next_0 (N : Nat)  : Nat → Nat → zo_O → Option zo_R
  | 0, _, _ => none
  | n + 1, x0, Ω => bd_X11_next_0 N  (fn_X11_next_0 N  n) x0 Ω
theorem ct_X11_next_0 {Y : zo_Y} (hY : zo_Gd Y cX11_next 2 RX11 1) (hJ : zo_JC (zo_J Y)) (hCon : ∀ Ω, zo_J Y Ω → zo_Con Ω) (hr : zo_rt Y (Option.none : Option Jvm.ClassFile.FieldType)) (N : Nat)   : ∀ (n : Nat) (x0 : Nat) (Ω : zo_O) (res : zo_R), fn_X11_next_0 N  n x0 Ω = some res → TW Y res Ω 0 [(0, vr 9 x0)] [] := by
  intro n
  induction n with
  | zero => intro x0 Ω res h; exact nomatch (show (none : Option zo_R) = some res from h)
  | succ n ih => intro x0 Ω res h; exact cb_X11_next_0 hY hJ hCon hr N  (fn_X11_next_0 N  n)  ih x0 Ω res h
def fn_X11_next (N : Nat) (x0 : Nat) (Ω : zo_O) : Option zo_R :=
  fn_X11_next_0 N N x0 Ω
theorem mt_X11_next {G : zo_G} {J : zo_O → Prop} (hJ : zo_JC J) (hCon : ∀ Ω, J Ω → zo_Con Ω) (N : Nat) (x0 : Nat) (Ω : zo_O) (res : zo_R) (h : fn_X11_next N x0 Ω = some res) : zo_MT G J yX11_next cX11_next 2 (Option.none : Option Jvm.ClassFile.FieldType) 1 [vr 9 x0] Ω res := by
  refine zo_enter (by decide) rfl (Nat.le_of_ble_eq_true rfl) (fun Y hY eJ hr hmn => ?_)
  subst eJ
  show TW Y res Ω 0 [(0, vr 9 x0)] []
  unfold fn_X11_next at h
  exact ct_X11_next_0 hY hJ hCon hr N N x0 Ω _ h
theorem dX11_need_0 : decode cX11_need 0 = .ok (.iload_n 1, 1) := by decide +kernel
theorem dX11_need_1 : decode cX11_need 1 = .ok (.ifCond .ne 12, 3) := by decide +kernel
theorem dX11_need_4 : decode cX11_need 4 = .ok (.new 53, 3) := by decide +kernel
theorem dX11_need_7 : decode cX11_need 7 = .ok (.dup, 1) := by decide +kernel
theorem dX11_need_8 : decode cX11_need 8 = .ok (.iload_n 2, 1) := by decide +kernel
theorem dX11_need_9 : decode cX11_need 9 = .ok (.invokespecial 55, 3) := by decide +kernel
theorem dX11_need_12 : decode cX11_need 12 = .ok (.athrow, 1) := by decide +kernel
theorem dX11_need_13 : decode cX11_need 13 = .ok (.return_, 1) := by decide +kernel
def fn_X11_need (N : Nat) (x0 : Nat) (x1 : Int32) (x2 : Int32) (Ω : zo_O) : Option zo_R :=
  if x1 = 0 then (
    ad 1 7 <| lt (nw Ω 10 0) fun Ω2 =>
    cv (fn_X12_init N (gC Ω 10) x2 Ω2) fun Ω3 =>
    rT (gC Ω 10) Ω3
    ) else
  rV Ω
theorem mt_X11_need {G : zo_G} {J : zo_O → Prop} (hJ : zo_JC J) (hCon : ∀ Ω, J Ω → zo_Con Ω) (N : Nat) (x0 : Nat) (x1 : Int32) (x2 : Int32) (Ω : zo_O) (res : zo_R) (h : fn_X11_need N x0 x1 x2 Ω = some res) : zo_MX G J yX11_need cX11_need 3 (Option.none : Option Jvm.ClassFile.FieldType) 4 [vr 9 x0, vi x1, vi x2] Ω res := by
  refine zo_enterX (by decide) rfl (Nat.le_of_ble_eq_true rfl) (fun Y hY eJ hr hmn => ?_)
  subst eJ
  show TW Y res Ω 0 [(0, vr 9 x0), (1, vi x1), (2, vi x2)] []
  unfold fn_X11_need at h
  refine zo_iload_n hY dX11_need_0 rfl 1 rfl ?_
  refine zo_if_ne hY 13 dX11_need_1 (by decide) h (fun c1 h => ?_) (fun c1 h => ?_)
  · refine zo_new hY hJ (k := 10) (by decide) (Or.inl rfl) rfl q671 q672 q103 dX11_need_4 h (fun Ω2 res h => ?_)
    refine zo_dup hY dX11_need_7 (Or.inr ⟨_, rfl⟩) ?_
    refine zo_iload_n hY dX11_need_8 rfl 2 rfl ?_
    refine zo_callI hY (fun q hq => mt_X12_init hJ hCon N (gC Ω 10) x2 Ω2 q hq) (by decide) (by decide) cn_X12_init rfl rfl q709 q710 q103 q711 (Nat.le_of_ble_eq_true rfl) dX11_need_9 rfl h (cv_k (fun Ω3 res h => ?_))
    exact zo_athrow hY hr dX11_need_12 h
  · exact zo_vretX hY hr dX11_need_13 h
theorem dX11_is_0 : decode cX11_is 0 = .ok (.aload_n 0, 1) := by decide +kernel
theorem dX11_is_1 : decode cX11_is 1 = .ok (.getfield 40, 3) := by decide +kernel
theorem dX11_is_4 : decode cX11_is 4 = .ok (.iconst 3, 1) := by decide +kernel
theorem dX11_is_5 : decode cX11_is 5 = .ok (.if_icmp .ne 23, 3) := by decide +kernel
theorem dX11_is_8 : decode cX11_is 8 = .ok (.aload_n 0, 1) := by decide +kernel
theorem dX11_is_9 : decode cX11_is 9 = .ok (.getfield 30, 3) := by decide +kernel
theorem dX11_is_12 : decode cX11_is 12 = .ok (.aload_n 0, 1) := by decide +kernel
theorem dX11_is_13 : decode cX11_is 13 = .ok (.getfield 37, 3) := by decide +kernel
theorem dX11_is_16 : decode cX11_is 16 = .ok (.isub, 1) := by decide +kernel
theorem dX11_is_17 : decode cX11_is 17 = .ok (.aload_n 1, 1) := by decide +kernel
theorem dX11_is_18 : decode cX11_is 18 = .ok (.invokevirtual 58, 3) := by decide +kernel
theorem dX11_is_21 : decode cX11_is 21 = .ok (.if_icmp .ne 7, 3) := by decide +kernel
theorem dX11_is_24 : decode cX11_is 24 = .ok (.iconst 1, 1) := by decide +kernel
theorem dX11_is_25 : decode cX11_is 25 = .ok (.goto 4, 3) := by decide +kernel
theorem dX11_is_28 : decode cX11_is 28 = .ok (.iconst 0, 1) := by decide +kernel
theorem dX11_is_29 : decode cX11_is 29 = .ok (.istore_n 2, 1) := by decide +kernel
theorem dX11_is_30 : decode cX11_is 30 = .ok (.iconst 0, 1) := by decide +kernel
theorem dX11_is_31 : decode cX11_is 31 = .ok (.istore_n 3, 1) := by decide +kernel
theorem dX11_is_32 : decode cX11_is 32 = .ok (.iload_n 3, 1) := by decide +kernel
theorem dX11_is_33 : decode cX11_is 33 = .ok (.aload_n 1, 1) := by decide +kernel
theorem dX11_is_34 : decode cX11_is 34 = .ok (.invokevirtual 58, 3) := by decide +kernel
theorem dX11_is_37 : decode cX11_is 37 = .ok (.if_icmp .ge 41, 3) := by decide +kernel
theorem dX11_is_40 : decode cX11_is 40 = .ok (.iload_n 2, 1) := by decide +kernel
theorem dX11_is_41 : decode cX11_is 41 = .ok (.ifCond .eq 37, 3) := by decide +kernel
theorem dX11_is_44 : decode cX11_is 44 = .ok (.aload_n 0, 1) := by decide +kernel
theorem dX11_is_45 : decode cX11_is 45 = .ok (.getfield 3, 3) := by decide +kernel
theorem dX11_is_48 : decode cX11_is 48 = .ok (.getfield 26, 3) := by decide +kernel
theorem dX11_is_51 : decode cX11_is 51 = .ok (.aload_n 0, 1) := by decide +kernel
theorem dX11_is_52 : decode cX11_is 52 = .ok (.getfield 37, 3) := by decide +kernel
theorem dX11_is_55 : decode cX11_is 55 = .ok (.iload_n 3, 1) := by decide +kernel
theorem dX11_is_56 : decode cX11_is 56 = .ok (.iadd, 1) := by decide +kernel
theorem dX11_is_57 : decode cX11_is 57 = .ok (.baload, 1) := by decide +kernel
theorem dX11_is_58 : decode cX11_is 58 = .ok (.aload_n 1, 1) := by decide +kernel
theorem dX11_is_59 : decode cX11_is 59 = .ok (.iload_n 3, 1) := by decide +kernel
theorem dX11_is_60 : decode cX11_is 60 = .ok (.invokevirtual 64, 3) := by decide +kernel
theorem dX11_is_63 : decode cX11_is 63 = .ok (.if_icmp .ne 7, 3) := by decide +kernel
theorem dX11_is_66 : decode cX11_is 66 = .ok (.iconst 1, 1) := by decide +kernel
theorem dX11_is_67 : decode cX11_is 67 = .ok (.goto 4, 3) := by decide +kernel
theorem dX11_is_70 : decode cX11_is 70 = .ok (.iconst 0, 1) := by decide +kernel
theorem dX11_is_71 : decode cX11_is 71 = .ok (.istore_n 2, 1) := by decide +kernel
theorem dX11_is_72 : decode cX11_is 72 = .ok (.iinc 3 1, 3) := by decide +kernel
theorem dX11_is_75 : decode cX11_is 75 = .ok (.goto (-43), 3) := by decide +kernel
theorem dX11_is_78 : decode cX11_is 78 = .ok (.iload_n 2, 1) := by decide +kernel
theorem dX11_is_79 : decode cX11_is 79 = .ok (.ireturn, 1) := by decide +kernel
def fn_X11_is_71 (N : Nat) (K32 : Nat → Nat → Int32 → Int32 → zo_O → Option zo_R) (x0 : Nat) (x1 : Nat) (x3 : Int32) (s0 : Int32) (Ω : zo_O) : Option zo_R :=
  K32 x0 x1 s0 (x3 + 1) Ω
theorem ct_X11_is_71 {Y : zo_Y} (hY : zo_Gd Y cX11_is 4 RX11 4) (hJ : zo_JC (zo_J Y)) (hCon : ∀ Ω, zo_J Y Ω → zo_Con Ω) (hr : zo_rt Y (Option.some Jvm.ClassFile.FieldType.boolean)) (N : Nat) (K32 : Nat → Nat → Int32 → Int32 → zo_O → Option zo_R) (hK32 : ∀ (x0 : Nat) (x1 : Nat) (x2 : Int32) (x3 : Int32) (Ω : zo_O) (res : zo_R), K32 x0 x1 x2 x3 Ω = some res → TW Y res Ω 32 [(0, vr 9 x0), (1, vr 21 x1), (2, vi x2), (3, vi x3)] []) (x0 : Nat) (x1 : Nat) (x3 : Int32) (s0 : Int32) (Ω : zo_O) (res : zo_R) (h : fn_X11_is_71 N K32 x0 x1 x3 s0 Ω = some res) : TW Y res Ω 71 [(0, vr 9 x0), (1, vr 21 x1), (3, vi x3)] [vi s0] := by
  unfold fn_X11_is_71 at h
  refine zo_istore_n hY dX11_is_71 rfl (by decide) rfl (ls' := [(2, vi s0), (0, vr 9 x0), (1, vr 21 x1), (3, vi x3)]) rfl ?_
  refine zo_iinc hY 1 dX11_is_72 (by decide) (by decide) 3 rfl rfl (ls' := [(3, vi (x3 + 1)), (2, vi s0), (0, vr 9 x0), (1, vr 21 x1)]) rfl ?_
  refine zo_goto hY 32 dX11_is_75 (by decide) ?_
  refine zo_sub [2, 3, 1, 0] rfl ?_
  exact hK32 x0 x1 s0 (x3 + 1) Ω _ h
def fn_X11_is_78 (N : Nat)  (x2 : Int32) (Ω : zo_O) : Option zo_R :=
  rZ x2 Ω
theorem ct_X11_is_78 {Y : zo_Y} (hY : zo_Gd Y cX11_is 4 RX11 4) (hJ : zo_JC (zo_J Y)) (hCon : ∀ Ω, zo_J Y Ω → zo_Con Ω) (hr : zo_rt Y (Option.some Jvm.ClassFile.FieldType.boolean)) (N : Nat)   (x2 : Int32) (Ω : zo_O) (res : zo_R) (h : fn_X11_is_78 N  x2 Ω = some res) : TW Y res Ω 78 [(2, vi x2)] [] := by
  unfold fn_X11_is_78 at h
  refine zo_iload_n hY dX11_is_78 rfl 0 rfl ?_
  exact zo_zret hY hr dX11_is_79 h
def bd_X11_is_32 (N : Nat)  (K32 : Nat → Nat → Int32 → Int32 → zo_O → Option zo_R) (x0 : Nat) (x1 : Nat) (x2 : Int32) (x3 : Int32) (Ω : zo_O) : Option zo_R :=
  gd (x1 < 14) <|
  ci (fn_J8_length N x1 Ω) fun r2 Ω1 =>
  if r2 ≤ x3 then (
    fn_X11_is_78 N x2 Ω1
    ) else
  if x2 = 0 then (
    fn_X11_is_78 N x2 Ω1
    ) else
  gd (gR Ω1 9 x0 5 = some (0, 0)) <|
  ix ((gI Ω1 9 x0 2) + x3) 300 fun j6 =>
  gd (x1 < 14) <|
  ci (fn_J8_charAt N x1 x3 Ω1) fun r8 Ω7 =>
  if gI Ω1 38 0 j6 = r8 then (
    fn_X11_is_71 N K32 x0 x1 x3 1 Ω7
    ) else
  fn_X11_is_71 N K32 x0 x1 x3 0 Ω7
theorem cb_X11_is_32 {Y : zo_Y} (hY : zo_Gd Y cX11_is 4 RX11 4) (hJ : zo_JC (zo_J Y)) (hCon : ∀ Ω, zo_J Y Ω → zo_Con Ω) (hr : zo_rt Y (Option.some Jvm.ClassFile.FieldType.boolean)) (N : Nat)  (K32 : Nat → Nat → Int32 → Int32 → zo_O → Option zo_R)  (hK32 : ∀ (x0 : Nat) (x1 : Nat) (x2 : Int32) (x3 : Int32) (Ω : zo_O) (res : zo_R), K32 x0 x1 x2 x3 Ω = some res → TW Y res Ω 32 [(0, vr 9 x0), (1, vr 21 x1), (2, vi x2), (3, vi x3)] []) (x0 : Nat) (x1 : Nat) (x2 : Int32) (x3 : Int32) (Ω : zo_O) (res : zo_R) (h : bd_X11_is_32 N  K32 x0 x1 x2 x3 Ω = some res) : TW Y res Ω 32 [(0, vr 9 x0), (1, vr 21 x1), (2, vi x2), (3, vi x3)] [] := by
  unfold bd_X11_is_32 at h
  refine zo_iload_n hY dX11_is_32 rfl 3 rfl ?_
  refine zo_aload_n hY dX11_is_33 rfl 1 rfl ?_
  obtain ⟨e3, h⟩ := gd_e h
  refine zo_callVS hY (fun q hq => mt_J8_length hJ hCon N x1 Ω q hq) e3 (by decide) (by decide) rfl cn_J8_length rfl q620 q621 q622 q98 q623 (Nat.le_of_ble_eq_true rfl) dX11_is_34 rfl h (ci_k (fun r2 Ω1 res h => ?_))
  refine zo_icmp_ge hY 78 dX11_is_37 (by decide) h (fun c4 h => ?_) (fun c4 h => ?_)
  · refine zo_sub [2] rfl ?_
    exact ct_X11_is_78 hY hJ hCon hr N x2 Ω1 _ h
  · refine zo_iload_n hY dX11_is_40 rfl 2 rfl ?_
    refine zo_if_eq hY 78 dX11_is_41 (by decide) h (fun c5 h => ?_) (fun c5 h => ?_)
    · refine zo_sub [2] rfl ?_
      exact ct_X11_is_78 hY hJ hCon hr N x2 Ω1 _ h
    · refine zo_aload_n hY dX11_is_44 rfl 0 rfl ?_
      refine zo_getG hY LX11_3_9 rfl dX11_is_45 h (fun h => ?_)
      refine zo_getC hY LX11_26_0 rfl (fun Ω q => (hCon Ω q).1 12 _ rfl) dX11_is_48 ?_
      refine zo_aload_n hY dX11_is_51 rfl 0 rfl ?_
      refine zo_getI hY LX11_37_9 rfl dX11_is_52 ?_
      refine zo_iload_n hY dX11_is_55 rfl 3 rfl ?_
      refine zo_iadd hY dX11_is_56 ?_
      refine zo_ald hY (by decide) (Or.inr ⟨Or.inl rfl, dX11_is_57⟩) (fun q => (hCon _ q).2.2.2 38 0 300 rfl) h (fun j6 h => ?_)
      refine zo_aload_n hY dX11_is_58 rfl 1 rfl ?_
      refine zo_iload_n hY dX11_is_59 rfl 3 rfl ?_
      obtain ⟨e9, h⟩ := gd_e h
      refine zo_callVS hY (fun q hq => mt_J8_charAt hJ hCon N x1 x3 Ω1 q hq) e9 (by decide) (by decide) rfl cn_J8_charAt rfl q630 q631 q632 q98 q633 (Nat.le_of_ble_eq_true rfl) dX11_is_60 rfl h (ci_k (fun r8 Ω7 res h => ?_))
      refine zo_icmp_ne hY 70 dX11_is_63 (by decide) h (fun c10 h => ?_) (fun c10 h => ?_)
      · refine zo_iconst hY 1 (by decide) dX11_is_66 ?_
        refine zo_goto hY 71 dX11_is_67 (by decide) ?_
        refine zo_sub [0, 1, 3] rfl ?_
        exact ct_X11_is_71 hY hJ hCon hr N K32 hK32 x0 x1 x3 1 Ω7 _ h
      · refine zo_iconst hY 0 (by decide) dX11_is_70 ?_
        refine zo_sub [0, 1, 3] rfl ?_
        exact ct_X11_is_71 hY hJ hCon hr N K32 hK32 x0 x1 x3 0 Ω7 _ h
def fn_X11_is_32 (N : Nat)  : Nat → Nat → Nat → Int32 → Int32 → zo_O → Option zo_R
  | 0, _, _, _, _, _ => none
  | n + 1, x0, x1, x2, x3, Ω => bd_X11_is_32 N  (fn_X11_is_32 N  n) x0 x1 x2 x3 Ω
theorem ct_X11_is_32 {Y : zo_Y} (hY : zo_Gd Y cX11_is 4 RX11 4) (hJ : zo_JC (zo_J Y)) (hCon : ∀ Ω, zo_J Y Ω → zo_Con Ω) (hr : zo_rt Y (Option.some Jvm.ClassFile.FieldType.boolean)) (N : Nat)   : ∀ (n : Nat) (x0 : Nat) (x1 : Nat) (x2 : Int32) (x3 : Int32) (Ω : zo_O) (res : zo_R), fn_X11_is_32 N  n x0 x1 x2 x3 Ω = some res → TW Y res Ω 32 [(0, vr 9 x0), (1, vr 21 x1), (2, vi x2), (3, vi x3)] [] := by
  intro n
  induction n with
  | zero => intro x0 x1 x2 x3 Ω res h; exact nomatch (show (none : Option zo_R) = some res from h)
  | succ n ih => intro x0 x1 x2 x3 Ω res h; exact cb_X11_is_32 hY hJ hCon hr N  (fn_X11_is_32 N  n)  ih x0 x1 x2 x3 Ω res h
def fn_X11_is_29 (N : Nat)  (x0 : Nat) (x1 : Nat) (s0 : Int32) (Ω : zo_O) : Option zo_R :=
  fn_X11_is_32 N N x0 x1 s0 0 Ω
theorem ct_X11_is_29 {Y : zo_Y} (hY : zo_Gd Y cX11_is 4 RX11 4) (hJ : zo_JC (zo_J Y)) (hCon : ∀ Ω, zo_J Y Ω → zo_Con Ω) (hr : zo_rt Y (Option.some Jvm.ClassFile.FieldType.boolean)) (N : Nat)   (x0 : Nat) (x1 : Nat) (s0 : Int32) (Ω : zo_O) (res : zo_R) (h : fn_X11_is_29 N  x0 x1 s0 Ω = some res) : TW Y res Ω 29 [(0, vr 9 x0), (1, vr 21 x1)] [vi s0] := by
  unfold fn_X11_is_29 at h
  refine zo_istore_n hY dX11_is_29 rfl (by decide) rfl (ls' := [(2, vi s0), (0, vr 9 x0), (1, vr 21 x1)]) rfl ?_
  refine zo_iconst hY 0 (by decide) dX11_is_30 ?_
  refine zo_istore_n hY dX11_is_31 rfl (by decide) rfl (ls' := [(3, vi 0), (2, vi s0), (0, vr 9 x0), (1, vr 21 x1)]) rfl ?_
  refine zo_sub [2, 3, 1, 0] rfl ?_
  exact ct_X11_is_32 hY hJ hCon hr N N x0 x1 s0 0 Ω _ h
def fn_X11_is_28 (N : Nat)  (x0 : Nat) (x1 : Nat) (Ω : zo_O) : Option zo_R :=
  fn_X11_is_29 N x0 x1 0 Ω
theorem ct_X11_is_28 {Y : zo_Y} (hY : zo_Gd Y cX11_is 4 RX11 4) (hJ : zo_JC (zo_J Y)) (hCon : ∀ Ω, zo_J Y Ω → zo_Con Ω) (hr : zo_rt Y (Option.some Jvm.ClassFile.FieldType.boolean)) (N : Nat)   (x0 : Nat) (x1 : Nat) (Ω : zo_O) (res : zo_R) (h : fn_X11_is_28 N  x0 x1 Ω = some res) : TW Y res Ω 28 [(0, vr 9 x0), (1, vr 21 x1)] [] := by
  unfold fn_X11_is_28 at h
  refine zo_iconst hY 0 (by decide) dX11_is_28 ?_
  exact ct_X11_is_29 hY hJ hCon hr N x0 x1 0 Ω _ h
def fn_X11_is (N : Nat) (x0 : Nat) (x1 : Nat) (Ω : zo_O) : Option zo_R :=
  if gI Ω 9 x0 3 = 3 then (
    gd (x1 < 14) <|
    ci (fn_J8_length N x1 Ω) fun r3 Ω2 =>
    if (gI Ω 9 x0 1) - (gI Ω 9 x0 2) = r3 then (
      fn_X11_is_29 N x0 x1 1 Ω2
      ) else
    fn_X11_is_28 N x0 x1 Ω2
    ) else
  fn_X11_is_28 N x0 x1 Ω
theorem mt_X11_is {G : zo_G} {J : zo_O → Prop} (hJ : zo_JC J) (hCon : ∀ Ω, J Ω → zo_Con Ω) (N : Nat) (x0 : Nat) (x1 : Nat) (Ω : zo_O) (res : zo_R) (h : fn_X11_is N x0 x1 Ω = some res) : zo_MT G J yX11_is cX11_is 4 (Option.some Jvm.ClassFile.FieldType.boolean) 4 [vr 9 x0, vr 21 x1] Ω res := by
  refine zo_enter (by decide) rfl (Nat.le_of_ble_eq_true rfl) (fun Y hY eJ hr hmn => ?_)
  subst eJ
  show TW Y res Ω 0 [(0, vr 9 x0), (1, vr 21 x1)] []
  unfold fn_X11_is at h
  refine zo_aload_n hY dX11_is_0 rfl 0 rfl ?_
  refine zo_getI hY LX11_40_9 rfl dX11_is_1 ?_
  refine zo_iconst hY 3 (by decide) dX11_is_4 ?_
  refine zo_icmp_ne hY 28 dX11_is_5 (by decide) h (fun c1 h => ?_) (fun c1 h => ?_)
  · refine zo_aload_n hY dX11_is_8 rfl 0 rfl ?_
    refine zo_getI hY LX11_30_9 rfl dX11_is_9 ?_
    refine zo_aload_n hY dX11_is_12 rfl 0 rfl ?_
    refine zo_getI hY LX11_37_9 rfl dX11_is_13 ?_
    refine zo_isub hY dX11_is_16 ?_
    refine zo_aload_n hY dX11_is_17 rfl 1 rfl ?_
    obtain ⟨e4, h⟩ := gd_e h
    refine zo_callVS hY (fun q hq => mt_J8_length hJ hCon N x1 Ω q hq) e4 (by decide) (by decide) rfl cn_J8_length rfl q620 q621 q622 q98 q623 (Nat.le_of_ble_eq_true rfl) dX11_is_18 rfl h (ci_k (fun r3 Ω2 res h => ?_))
    refine zo_icmp_ne hY 28 dX11_is_21 (by decide) h (fun c5 h => ?_) (fun c5 h => ?_)
    · refine zo_iconst hY 1 (by decide) dX11_is_24 ?_
      refine zo_goto hY 29 dX11_is_25 (by decide) ?_
      exact ct_X11_is_29 hY hJ hCon hr N x0 x1 1 Ω2 _ h
    · exact ct_X11_is_28 hY hJ hCon hr N x0 x1 Ω2 _ h
  · exact ct_X11_is_28 hY hJ hCon hr N x0 x1 Ω _ h
theorem dX11_isSigned_0 : decode cX11_isSigned 0 = .ok (.aload_n 0, 1) := by decide +kernel
theorem dX11_isSigned_1 : decode cX11_isSigned 1 = .ok (.getfield 40, 3) := by decide +kernel
theorem dX11_isSigned_4 : decode cX11_isSigned 4 = .ok (.iconst 4, 1) := by decide +kernel
theorem dX11_isSigned_5 : decode cX11_isSigned 5 = .ok (.if_icmp .ne 15, 3) := by decide +kernel
theorem dX11_isSigned_8 : decode cX11_isSigned 8 = .ok (.aload_n 0, 1) := by decide +kernel
theorem dX11_isSigned_9 : decode cX11_isSigned 9 = .ok (.getfield 43, 3) := by decide +kernel
theorem dX11_isSigned_12 : decode cX11_isSigned 12 = .ok (.iload_n 1, 1) := by decide +kernel
theorem dX11_isSigned_13 : decode cX11_isSigned 13 = .ok (.if_icmp .ne 7, 3) := by decide +kernel
theorem dX11_isSigned_16 : decode cX11_isSigned 16 = .ok (.iconst 1, 1) := by decide +kernel
theorem dX11_isSigned_17 : decode cX11_isSigned 17 = .ok (.goto 4, 3) := by decide +kernel
theorem dX11_isSigned_20 : decode cX11_isSigned 20 = .ok (.iconst 0, 1) := by decide +kernel
theorem dX11_isSigned_21 : decode cX11_isSigned 21 = .ok (.ireturn, 1) := by decide +kernel
def fn_X11_isSigned_21 (N : Nat)  (s0 : Int32) (Ω : zo_O) : Option zo_R :=
  rZ s0 Ω
theorem ct_X11_isSigned_21 {Y : zo_Y} (hY : zo_Gd Y cX11_isSigned 2 RX11 0) (hJ : zo_JC (zo_J Y)) (hCon : ∀ Ω, zo_J Y Ω → zo_Con Ω) (hr : zo_rt Y (Option.some Jvm.ClassFile.FieldType.boolean)) (N : Nat)   (s0 : Int32) (Ω : zo_O) (res : zo_R) (h : fn_X11_isSigned_21 N  s0 Ω = some res) : TW Y res Ω 21 [] [vi s0] := by
  unfold fn_X11_isSigned_21 at h
  exact zo_zret hY hr dX11_isSigned_21 h
def fn_X11_isSigned_20 (N : Nat)   (Ω : zo_O) : Option zo_R :=
  fn_X11_isSigned_21 N 0 Ω
theorem ct_X11_isSigned_20 {Y : zo_Y} (hY : zo_Gd Y cX11_isSigned 2 RX11 0) (hJ : zo_JC (zo_J Y)) (hCon : ∀ Ω, zo_J Y Ω → zo_Con Ω) (hr : zo_rt Y (Option.some Jvm.ClassFile.FieldType.boolean)) (N : Nat)    (Ω : zo_O) (res : zo_R) (h : fn_X11_isSigned_20 N   Ω = some res) : TW Y res Ω 20 [] [] := by
  unfold fn_X11_isSigned_20 at h
  refine zo_iconst hY 0 (by decide) dX11_isSigned_20 ?_
  exact ct_X11_isSigned_21 hY hJ hCon hr N 0 Ω _ h
def fn_X11_isSigned (N : Nat) (x0 : Nat) (x1 : Int32) (Ω : zo_O) : Option zo_R :=
  if gI Ω 9 x0 3 = 4 then (
    if gI Ω 9 x0 4 = x1 then (
      fn_X11_isSigned_21 N 1 Ω
      ) else
    fn_X11_isSigned_20 N Ω
    ) else
  fn_X11_isSigned_20 N Ω
theorem mt_X11_isSigned {G : zo_G} {J : zo_O → Prop} (hJ : zo_JC J) (hCon : ∀ Ω, J Ω → zo_Con Ω) (N : Nat) (x0 : Nat) (x1 : Int32) (Ω : zo_O) (res : zo_R) (h : fn_X11_isSigned N x0 x1 Ω = some res) : zo_MT G J yX11_isSigned cX11_isSigned 2 (Option.some Jvm.ClassFile.FieldType.boolean) 0 [vr 9 x0, vi x1] Ω res := by
  refine zo_enter (by decide) rfl (Nat.le_of_ble_eq_true rfl) (fun Y hY eJ hr hmn => ?_)
  subst eJ
  show TW Y res Ω 0 [(0, vr 9 x0), (1, vi x1)] []
  unfold fn_X11_isSigned at h
  refine zo_aload_n hY dX11_isSigned_0 rfl 0 rfl ?_
  refine zo_getI hY LX11_40_9 rfl dX11_isSigned_1 ?_
  refine zo_iconst hY 4 (by decide) dX11_isSigned_4 ?_
  refine zo_icmp_ne hY 20 dX11_isSigned_5 (by decide) h (fun c1 h => ?_) (fun c1 h => ?_)
  · refine zo_aload_n hY dX11_isSigned_8 rfl 0 rfl ?_
    refine zo_getI hY LX11_43_9 rfl dX11_isSigned_9 ?_
    refine zo_iload_n hY dX11_isSigned_12 rfl 1 rfl ?_
    refine zo_icmp_ne hY 20 dX11_isSigned_13 (by decide) h (fun c2 h => ?_) (fun c2 h => ?_)
    · refine zo_iconst hY 1 (by decide) dX11_isSigned_16 ?_
      refine zo_goto hY 21 dX11_isSigned_17 (by decide) ?_
      refine zo_sub [] rfl ?_
      exact ct_X11_isSigned_21 hY hJ hCon hr N 1 Ω _ h
    · refine zo_sub [] rfl ?_
      exact ct_X11_isSigned_20 hY hJ hCon hr N Ω _ h
  · refine zo_sub [] rfl ?_
    exact ct_X11_isSigned_20 hY hJ hCon hr N Ω _ h
theorem dX11_word_0 : decode cX11_word 0 = .ok (.aload_n 0, 1) := by decide +kernel
theorem dX11_word_1 : decode cX11_word 1 = .ok (.ldc 68, 2) := by decide +kernel
theorem dX11_word_3 : decode cX11_word 3 = .ok (.invokevirtual 70, 3) := by decide +kernel
theorem dX11_word_6 : decode cX11_word 6 = .ok (.ifCond .eq 5, 3) := by decide +kernel
theorem dX11_word_9 : decode cX11_word 9 = .ok (.iconst 0, 1) := by decide +kernel
theorem dX11_word_10 : decode cX11_word 10 = .ok (.ireturn, 1) := by decide +kernel
theorem dX11_word_11 : decode cX11_word 11 = .ok (.aload_n 0, 1) := by decide +kernel
theorem dX11_word_12 : decode cX11_word 12 = .ok (.ldc 74, 2) := by decide +kernel
theorem dX11_word_14 : decode cX11_word 14 = .ok (.invokevirtual 70, 3) := by decide +kernel
theorem dX11_word_17 : decode cX11_word 17 = .ok (.ifCond .eq 5, 3) := by decide +kernel
theorem dX11_word_20 : decode cX11_word 20 = .ok (.iconst 1, 1) := by decide +kernel
theorem dX11_word_21 : decode cX11_word 21 = .ok (.ireturn, 1) := by decide +kernel
theorem dX11_word_22 : decode cX11_word 22 = .ok (.aload_n 0, 1) := by decide +kernel
theorem dX11_word_23 : decode cX11_word 23 = .ok (.ldc 76, 2) := by decide +kernel
theorem dX11_word_25 : decode cX11_word 25 = .ok (.invokevirtual 70, 3) := by decide +kernel
theorem dX11_word_28 : decode cX11_word 28 = .ok (.ifCond .eq 5, 3) := by decide +kernel
theorem dX11_word_31 : decode cX11_word 31 = .ok (.iconst 2, 1) := by decide +kernel
theorem dX11_word_32 : decode cX11_word 32 = .ok (.ireturn, 1) := by decide +kernel
theorem dX11_word_33 : decode cX11_word 33 = .ok (.aload_n 0, 1) := by decide +kernel
theorem dX11_word_34 : decode cX11_word 34 = .ok (.ldc 78, 2) := by decide +kernel
theorem dX11_word_36 : decode cX11_word 36 = .ok (.invokevirtual 70, 3) := by decide +kernel
theorem dX11_word_39 : decode cX11_word 39 = .ok (.ifCond .eq 5, 3) := by decide +kernel
theorem dX11_word_42 : decode cX11_word 42 = .ok (.iconst 3, 1) := by decide +kernel
theorem dX11_word_43 : decode cX11_word 43 = .ok (.ireturn, 1) := by decide +kernel
theorem dX11_word_44 : decode cX11_word 44 = .ok (.aload_n 0, 1) := by decide +kernel
theorem dX11_word_45 : decode cX11_word 45 = .ok (.ldc 80, 2) := by decide +kernel
theorem dX11_word_47 : decode cX11_word 47 = .ok (.invokevirtual 70, 3) := by decide +kernel
theorem dX11_word_50 : decode cX11_word 50 = .ok (.ifCond .eq 5, 3) := by decide +kernel
theorem dX11_word_53 : decode cX11_word 53 = .ok (.iconst 4, 1) := by decide +kernel
theorem dX11_word_54 : decode cX11_word 54 = .ok (.ireturn, 1) := by decide +kernel
theorem dX11_word_55 : decode cX11_word 55 = .ok (.aload_n 0, 1) := by decide +kernel
theorem dX11_word_56 : decode cX11_word 56 = .ok (.ldc 82, 2) := by decide +kernel
theorem dX11_word_58 : decode cX11_word 58 = .ok (.invokevirtual 70, 3) := by decide +kernel
theorem dX11_word_61 : decode cX11_word 61 = .ok (.ifCond .eq 5, 3) := by decide +kernel
theorem dX11_word_64 : decode cX11_word 64 = .ok (.iconst 5, 1) := by decide +kernel
theorem dX11_word_65 : decode cX11_word 65 = .ok (.ireturn, 1) := by decide +kernel
theorem dX11_word_66 : decode cX11_word 66 = .ok (.aload_n 0, 1) := by decide +kernel
theorem dX11_word_67 : decode cX11_word 67 = .ok (.ldc 84, 2) := by decide +kernel
theorem dX11_word_69 : decode cX11_word 69 = .ok (.invokevirtual 70, 3) := by decide +kernel
theorem dX11_word_72 : decode cX11_word 72 = .ok (.ifCond .eq 6, 3) := by decide +kernel
theorem dX11_word_75 : decode cX11_word 75 = .ok (.bipush 6, 2) := by decide +kernel
theorem dX11_word_77 : decode cX11_word 77 = .ok (.ireturn, 1) := by decide +kernel
theorem dX11_word_78 : decode cX11_word 78 = .ok (.aload_n 0, 1) := by decide +kernel
theorem dX11_word_79 : decode cX11_word 79 = .ok (.ldc 86, 2) := by decide +kernel
theorem dX11_word_81 : decode cX11_word 81 = .ok (.invokevirtual 70, 3) := by decide +kernel
theorem dX11_word_84 : decode cX11_word 84 = .ok (.ifCond .eq 6, 3) := by decide +kernel
theorem dX11_word_87 : decode cX11_word 87 = .ok (.bipush 7, 2) := by decide +kernel
theorem dX11_word_89 : decode cX11_word 89 = .ok (.ireturn, 1) := by decide +kernel
theorem dX11_word_90 : decode cX11_word 90 = .ok (.aload_n 0, 1) := by decide +kernel
theorem dX11_word_91 : decode cX11_word 91 = .ok (.ldc 88, 2) := by decide +kernel
theorem dX11_word_93 : decode cX11_word 93 = .ok (.invokevirtual 70, 3) := by decide +kernel
theorem dX11_word_96 : decode cX11_word 96 = .ok (.ifCond .eq 8, 3) := by decide +kernel
theorem dX11_word_99 : decode cX11_word 99 = .ok (.bipush 8, 2) := by decide +kernel
theorem dX11_word_101 : decode cX11_word 101 = .ok (.goto 18, 3) := by decide +kernel
theorem dX11_word_104 : decode cX11_word 104 = .ok (.aload_n 0, 1) := by decide +kernel
theorem dX11_word_105 : decode cX11_word 105 = .ok (.ldc 90, 2) := by decide +kernel
theorem dX11_word_107 : decode cX11_word 107 = .ok (.invokevirtual 70, 3) := by decide +kernel
theorem dX11_word_110 : decode cX11_word 110 = .ok (.ifCond .eq 8, 3) := by decide +kernel
theorem dX11_word_113 : decode cX11_word 113 = .ok (.bipush 9, 2) := by decide +kernel
theorem dX11_word_115 : decode cX11_word 115 = .ok (.goto 4, 3) := by decide +kernel
theorem dX11_word_118 : decode cX11_word 118 = .ok (.iconst (-1), 1) := by decide +kernel
theorem dX11_word_119 : decode cX11_word 119 = .ok (.ireturn, 1) := by decide +kernel
def fn_X11_word_119 (N : Nat)  (s0 : Int32) (Ω : zo_O) : Option zo_R :=
  rI s0 Ω
theorem ct_X11_word_119 {Y : zo_Y} (hY : zo_Gd Y cX11_word 1 RX11 5) (hJ : zo_JC (zo_J Y)) (hCon : ∀ Ω, zo_J Y Ω → zo_Con Ω) (hr : zo_rt Y (Option.some Jvm.ClassFile.FieldType.int)) (N : Nat)   (s0 : Int32) (Ω : zo_O) (res : zo_R) (h : fn_X11_word_119 N  s0 Ω = some res) : TW Y res Ω 119 [] [vi s0] := by
  unfold fn_X11_word_119 at h
  exact zo_iret hY hr dX11_word_119 h
def fn_X11_word (N : Nat) (x0 : Nat) (Ω : zo_O) : Option zo_R :=
  ci (fn_X11_is N x0 3 Ω) fun r2 Ω1 =>
  if r2 = 0 then (
    ci (fn_X11_is N x0 4 Ω1) fun r5 Ω4 =>
    if r5 = 0 then (
      ci (fn_X11_is N x0 5 Ω4) fun r8 Ω7 =>
      if r8 = 0 then (
        ci (fn_X11_is N x0 6 Ω7) fun r11 Ω10 =>
        if r11 = 0 then (
          ci (fn_X11_is N x0 7 Ω10) fun r14 Ω13 =>
          if r14 = 0 then (
            ci (fn_X11_is N x0 8 Ω13) fun r17 Ω16 =>
            if r17 = 0 then (
              ci (fn_X11_is N x0 9 Ω16) fun r20 Ω19 =>
              if r20 = 0 then (
                ci (fn_X11_is N x0 10 Ω19) fun r23 Ω22 =>
                if r23 = 0 then (
                  ci (fn_X11_is N x0 11 Ω22) fun r26 Ω25 =>
                  if r26 = 0 then (
                    ci (fn_X11_is N x0 12 Ω25) fun r29 Ω28 =>
                    if r29 = 0 then (
                      fn_X11_word_119 N ((-1)) Ω28
                      ) else
                    fn_X11_word_119 N 9 Ω28
                    ) else
                  fn_X11_word_119 N 8 Ω25
                  ) else
                rI 7 Ω22
                ) else
              rI 6 Ω19
              ) else
            rI 5 Ω16
            ) else
          rI 4 Ω13
          ) else
        rI 3 Ω10
        ) else
      rI 2 Ω7
      ) else
    rI 1 Ω4
    ) else
  rI 0 Ω1
theorem mt_X11_word {G : zo_G} {J : zo_O → Prop} (hJ : zo_JC J) (hCon : ∀ Ω, J Ω → zo_Con Ω) (N : Nat) (x0 : Nat) (Ω : zo_O) (res : zo_R) (h : fn_X11_word N x0 Ω = some res) : zo_MT G J yX11_word cX11_word 1 (Option.some Jvm.ClassFile.FieldType.int) 5 [vr 9 x0] Ω res := by
  refine zo_enter (by decide) rfl (Nat.le_of_ble_eq_true rfl) (fun Y hY eJ hr hmn => ?_)
  subst eJ
  show TW Y res Ω 0 [(0, vr 9 x0)] []
  unfold fn_X11_word at h
  refine zo_aload_n hY dX11_word_0 rfl 0 rfl ?_
  refine zo_ldcS hY (tx := "site") (j := 3) (by decide) dX11_word_1 ?_
  refine zo_callV hY (fun q hq => mt_X11_is hJ hCon N x0 3 Ω q hq) (by decide) (by decide) (by decide) ⟨rfl, cn_X11_is⟩ rfl q616 q618 qs10 q97 q619 (Nat.le_of_ble_eq_true rfl) dX11_word_3 rfl h (ci_k (fun r2 Ω1 res h => ?_))
  refine zo_if_eq hY 11 dX11_word_6 (by decide) h (fun c3 h => ?_) (fun c3 h => ?_)
  · refine zo_aload_n hY dX11_word_11 rfl 0 rfl ?_
    refine zo_ldcS hY (tx := "kind") (j := 4) (by decide) dX11_word_12 ?_
    refine zo_callV hY (fun q hq => mt_X11_is hJ hCon N x0 4 Ω1 q hq) (by decide) (by decide) (by decide) ⟨rfl, cn_X11_is⟩ rfl q616 q618 qs10 q97 q619 (Nat.le_of_ble_eq_true rfl) dX11_word_14 rfl h (ci_k (fun r5 Ω4 res h => ?_))
    refine zo_if_eq hY 22 dX11_word_17 (by decide) h (fun c6 h => ?_) (fun c6 h => ?_)
    · refine zo_aload_n hY dX11_word_22 rfl 0 rfl ?_
      refine zo_ldcS hY (tx := "measurer") (j := 5) (by decide) dX11_word_23 ?_
      refine zo_callV hY (fun q hq => mt_X11_is hJ hCon N x0 5 Ω4 q hq) (by decide) (by decide) (by decide) ⟨rfl, cn_X11_is⟩ rfl q616 q618 qs10 q97 q619 (Nat.le_of_ble_eq_true rfl) dX11_word_25 rfl h (ci_k (fun r8 Ω7 res h => ?_))
      refine zo_if_eq hY 33 dX11_word_28 (by decide) h (fun c9 h => ?_) (fun c9 h => ?_)
      · refine zo_aload_n hY dX11_word_33 rfl 0 rfl ?_
        refine zo_ldcS hY (tx := "long") (j := 6) (by decide) dX11_word_34 ?_
        refine zo_callV hY (fun q hq => mt_X11_is hJ hCon N x0 6 Ω7 q hq) (by decide) (by decide) (by decide) ⟨rfl, cn_X11_is⟩ rfl q616 q618 qs10 q97 q619 (Nat.le_of_ble_eq_true rfl) dX11_word_36 rfl h (ci_k (fun r11 Ω10 res h => ?_))
        refine zo_if_eq hY 44 dX11_word_39 (by decide) h (fun c12 h => ?_) (fun c12 h => ?_)
        · refine zo_aload_n hY dX11_word_44 rfl 0 rfl ?_
          refine zo_ldcS hY (tx := "short") (j := 7) (by decide) dX11_word_45 ?_
          refine zo_callV hY (fun q hq => mt_X11_is hJ hCon N x0 7 Ω10 q hq) (by decide) (by decide) (by decide) ⟨rfl, cn_X11_is⟩ rfl q616 q618 qs10 q97 q619 (Nat.le_of_ble_eq_true rfl) dX11_word_47 rfl h (ci_k (fun r14 Ω13 res h => ?_))
          refine zo_if_eq hY 55 dX11_word_50 (by decide) h (fun c15 h => ?_) (fun c15 h => ?_)
          · refine zo_aload_n hY dX11_word_55 rfl 0 rfl ?_
            refine zo_ldcS hY (tx := "year") (j := 8) (by decide) dX11_word_56 ?_
            refine zo_callV hY (fun q hq => mt_X11_is hJ hCon N x0 8 Ω13 q hq) (by decide) (by decide) (by decide) ⟨rfl, cn_X11_is⟩ rfl q616 q618 qs10 q97 q619 (Nat.le_of_ble_eq_true rfl) dX11_word_58 rfl h (ci_k (fun r17 Ω16 res h => ?_))
            refine zo_if_eq hY 66 dX11_word_61 (by decide) h (fun c18 h => ?_) (fun c18 h => ?_)
            · refine zo_aload_n hY dX11_word_66 rfl 0 rfl ?_
              refine zo_ldcS hY (tx := "merged") (j := 9) (by decide) dX11_word_67 ?_
              refine zo_callV hY (fun q hq => mt_X11_is hJ hCon N x0 9 Ω16 q hq) (by decide) (by decide) (by decide) ⟨rfl, cn_X11_is⟩ rfl q616 q618 qs10 q97 q619 (Nat.le_of_ble_eq_true rfl) dX11_word_69 rfl h (ci_k (fun r20 Ω19 res h => ?_))
              refine zo_if_eq hY 78 dX11_word_72 (by decide) h (fun c21 h => ?_) (fun c21 h => ?_)
              · refine zo_aload_n hY dX11_word_78 rfl 0 rfl ?_
                refine zo_ldcS hY (tx := "round") (j := 10) (by decide) dX11_word_79 ?_
                refine zo_callV hY (fun q hq => mt_X11_is hJ hCon N x0 10 Ω19 q hq) (by decide) (by decide) (by decide) ⟨rfl, cn_X11_is⟩ rfl q616 q618 qs10 q97 q619 (Nat.le_of_ble_eq_true rfl) dX11_word_81 rfl h (ci_k (fun r23 Ω22 res h => ?_))
                refine zo_if_eq hY 90 dX11_word_84 (by decide) h (fun c24 h => ?_) (fun c24 h => ?_)
                · refine zo_aload_n hY dX11_word_90 rfl 0 rfl ?_
                  refine zo_ldcS hY (tx := "side") (j := 11) (by decide) dX11_word_91 ?_
                  refine zo_callV hY (fun q hq => mt_X11_is hJ hCon N x0 11 Ω22 q hq) (by decide) (by decide) (by decide) ⟨rfl, cn_X11_is⟩ rfl q616 q618 qs10 q97 q619 (Nat.le_of_ble_eq_true rfl) dX11_word_93 rfl h (ci_k (fun r26 Ω25 res h => ?_))
                  refine zo_if_eq hY 104 dX11_word_96 (by decide) h (fun c27 h => ?_) (fun c27 h => ?_)
                  · refine zo_aload_n hY dX11_word_104 rfl 0 rfl ?_
                    refine zo_ldcS hY (tx := "belt") (j := 12) (by decide) dX11_word_105 ?_
                    refine zo_callV hY (fun q hq => mt_X11_is hJ hCon N x0 12 Ω25 q hq) (by decide) (by decide) (by decide) ⟨rfl, cn_X11_is⟩ rfl q616 q618 qs10 q97 q619 (Nat.le_of_ble_eq_true rfl) dX11_word_107 rfl h (ci_k (fun r29 Ω28 res h => ?_))
                    refine zo_if_eq hY 118 dX11_word_110 (by decide) h (fun c30 h => ?_) (fun c30 h => ?_)
                    · refine zo_iconst hY (-1) (by decide) dX11_word_118 ?_
                      refine zo_sub [] rfl ?_
                      exact ct_X11_word_119 hY hJ hCon hr N ((-1)) Ω28 _ h
                    · refine zo_bipush hY 9 (by decide) dX11_word_113 ?_
                      refine zo_goto hY 119 dX11_word_115 (by decide) ?_
                      refine zo_sub [] rfl ?_
                      exact ct_X11_word_119 hY hJ hCon hr N 9 Ω28 _ h
                  · refine zo_bipush hY 8 (by decide) dX11_word_99 ?_
                    refine zo_goto hY 119 dX11_word_101 (by decide) ?_
                    refine zo_sub [] rfl ?_
                    exact ct_X11_word_119 hY hJ hCon hr N 8 Ω25 _ h
                · refine zo_bipush hY 7 (by decide) dX11_word_87 ?_
                  exact zo_iret hY hr dX11_word_89 h
              · refine zo_bipush hY 6 (by decide) dX11_word_75 ?_
                exact zo_iret hY hr dX11_word_77 h
            · refine zo_iconst hY 5 (by decide) dX11_word_64 ?_
              exact zo_iret hY hr dX11_word_65 h
          · refine zo_iconst hY 4 (by decide) dX11_word_53 ?_
            exact zo_iret hY hr dX11_word_54 h
        · refine zo_iconst hY 3 (by decide) dX11_word_42 ?_
          exact zo_iret hY hr dX11_word_43 h
      · refine zo_iconst hY 2 (by decide) dX11_word_31 ?_
        exact zo_iret hY hr dX11_word_32 h
    · refine zo_iconst hY 1 (by decide) dX11_word_20 ?_
      exact zo_iret hY hr dX11_word_21 h
  · refine zo_iconst hY 0 (by decide) dX11_word_9 ?_
    exact zo_iret hY hr dX11_word_10 h
theorem dX16_init_0 : decode cX16_init 0 = .ok (.aload_n 0, 1) := by decide +kernel
theorem dX16_init_1 : decode cX16_init 1 = .ok (.invokespecial 1, 3) := by decide +kernel
theorem dX16_init_4 : decode cX16_init 4 = .ok (.aload_n 0, 1) := by decide +kernel
theorem dX16_init_5 : decode cX16_init 5 = .ok (.iload_n 1, 1) := by decide +kernel
theorem dX16_init_6 : decode cX16_init 6 = .ok (.putfield 7, 3) := by decide +kernel
theorem dX16_init_9 : decode cX16_init 9 = .ok (.aload_n 0, 1) := by decide +kernel
theorem dX16_init_10 : decode cX16_init 10 = .ok (.iload_n 2, 1) := by decide +kernel
theorem dX16_init_11 : decode cX16_init 11 = .ok (.putfield 13, 3) := by decide +kernel
theorem dX16_init_14 : decode cX16_init 14 = .ok (.aload_n 0, 1) := by decide +kernel
theorem dX16_init_15 : decode cX16_init 15 = .ok (.iload_n 3, 1) := by decide +kernel
theorem dX16_init_16 : decode cX16_init 16 = .ok (.putfield 16, 3) := by decide +kernel
theorem dX16_init_19 : decode cX16_init 19 = .ok (.aload_n 0, 1) := by decide +kernel
theorem dX16_init_20 : decode cX16_init 20 = .ok (.iload 4, 2) := by decide +kernel
theorem dX16_init_22 : decode cX16_init 22 = .ok (.putfield 19, 3) := by decide +kernel
theorem dX16_init_25 : decode cX16_init 25 = .ok (.return_, 1) := by decide +kernel
def fn_X16_init (N : Nat) (x0 : Nat) (x1 : Int32) (x2 : Int32) (x3 : Int32) (x4 : Int32) (Ω : zo_O) : Option zo_R :=
  lt (sI Ω 13 x0 0 x1) fun Ω1 =>
  lt (sI Ω1 13 x0 1 x2) fun Ω2 =>
  lt (sI Ω2 13 x0 2 x3) fun Ω3 =>
  gd (x4 = 0 ∨ x4 = 1) <| lt (sI Ω3 13 x0 3 x4) fun Ω4 =>
  rV Ω4
theorem mt_X16_init {G : zo_G} {J : zo_O → Prop} (hJ : zo_JC J) (hCon : ∀ Ω, J Ω → zo_Con Ω) (N : Nat) (x0 : Nat) (x1 : Int32) (x2 : Int32) (x3 : Int32) (x4 : Int32) (Ω : zo_O) (res : zo_R) (h : fn_X16_init N x0 x1 x2 x3 x4 Ω = some res) : zo_MT G J yX16_init cX16_init 5 (Option.none : Option Jvm.ClassFile.FieldType) 1 [vr 13 x0, vi x1, vi x2, vi x3, vi x4] Ω res := by
  refine zo_enter (by decide) rfl (Nat.le_of_ble_eq_true rfl) (fun Y hY eJ hr hmn => ?_)
  subst eJ
  have hmn := hmn rfl
  show TW Y res Ω 0 [(0, vr 13 x0), (1, vi x1), (2, vi x2), (3, vi x3), (4, vi x4)] []
  unfold fn_X16_init at h
  refine zo_aload_n hY dX16_init_0 rfl 0 rfl ?_
  refine zo_oini hY (by decide) q788 (fun ρ => zo_room8 (Nat.le_of_ble_eq_true rfl)) dX16_init_1 ?_
  refine zo_aload_n hY dX16_init_4 rfl 0 rfl ?_
  refine zo_iload_n hY dX16_init_5 rfl 1 rfl ?_
  refine zo_putI hY hJ LX16_7_13 rfl (Or.inr ⟨rfl, hmn, rfl, _, q789, Or.inl rfl⟩) dX16_init_6 h (fun Ω1 h => ?_)
  refine zo_aload_n hY dX16_init_9 rfl 0 rfl ?_
  refine zo_iload_n hY dX16_init_10 rfl 2 rfl ?_
  refine zo_putI hY hJ LX16_13_13 rfl (Or.inr ⟨rfl, hmn, rfl, _, q790, Or.inl rfl⟩) dX16_init_11 h (fun Ω2 h => ?_)
  refine zo_aload_n hY dX16_init_14 rfl 0 rfl ?_
  refine zo_iload_n hY dX16_init_15 rfl 3 rfl ?_
  refine zo_putI hY hJ LX16_16_13 rfl (Or.inr ⟨rfl, hmn, rfl, _, q791, Or.inl rfl⟩) dX16_init_16 h (fun Ω3 h => ?_)
  refine zo_aload_n hY dX16_init_19 rfl 0 rfl ?_
  refine zo_iload hY dX16_init_20 4 rfl ?_
  refine zo_putZ hY hJ LX16_19_13 rfl (Or.inr ⟨rfl, hmn, rfl, _, q792, Or.inl rfl⟩) dX16_init_22 h (fun Ω4 h => ?_)
  exact zo_vret hY hr dX16_init_25 h
theorem dX11_term_0 : decode cX11_term 0 = .ok (.aload_n 0, 1) := by decide +kernel
theorem dX11_term_1 : decode cX11_term 1 = .ok (.aload_n 0, 1) := by decide +kernel
theorem dX11_term_2 : decode cX11_term 2 = .ok (.ldc 92, 2) := by decide +kernel
theorem dX11_term_4 : decode cX11_term 4 = .ok (.invokevirtual 70, 3) := by decide +kernel
theorem dX11_term_7 : decode cX11_term 7 = .ok (.ifCond .ne 11, 3) := by decide +kernel
theorem dX11_term_10 : decode cX11_term 10 = .ok (.aload_n 0, 1) := by decide +kernel
theorem dX11_term_11 : decode cX11_term 11 = .ok (.invokevirtual 94, 3) := by decide +kernel
theorem dX11_term_14 : decode cX11_term 14 = .ok (.iconst (-1), 1) := by decide +kernel
theorem dX11_term_15 : decode cX11_term 15 = .ok (.if_icmp .eq 7, 3) := by decide +kernel
theorem dX11_term_18 : decode cX11_term 18 = .ok (.iconst 1, 1) := by decide +kernel
theorem dX11_term_19 : decode cX11_term 19 = .ok (.goto 4, 3) := by decide +kernel
theorem dX11_term_22 : decode cX11_term 22 = .ok (.iconst 0, 1) := by decide +kernel
theorem dX11_term_23 : decode cX11_term 23 = .ok (.iconst 1, 1) := by decide +kernel
theorem dX11_term_24 : decode cX11_term 24 = .ok (.invokevirtual 97, 3) := by decide +kernel
theorem dX11_term_27 : decode cX11_term 27 = .ok (.aload_n 0, 1) := by decide +kernel
theorem dX11_term_28 : decode cX11_term 28 = .ok (.aload_n 1, 1) := by decide +kernel
theorem dX11_term_29 : decode cX11_term 29 = .ok (.getfield 101, 3) := by decide +kernel
theorem dX11_term_32 : decode cX11_term 32 = .ok (.invokevirtual 106, 3) := by decide +kernel
theorem dX11_term_35 : decode cX11_term 35 = .ok (.iconst 4, 1) := by decide +kernel
theorem dX11_term_36 : decode cX11_term 36 = .ok (.if_icmp .ge 7, 3) := by decide +kernel
theorem dX11_term_39 : decode cX11_term 39 = .ok (.iconst 1, 1) := by decide +kernel
theorem dX11_term_40 : decode cX11_term 40 = .ok (.goto 4, 3) := by decide +kernel
theorem dX11_term_43 : decode cX11_term 43 = .ok (.iconst 0, 1) := by decide +kernel
theorem dX11_term_44 : decode cX11_term 44 = .ok (.iconst 2, 1) := by decide +kernel
theorem dX11_term_45 : decode cX11_term 45 = .ok (.invokevirtual 97, 3) := by decide +kernel
theorem dX11_term_48 : decode cX11_term 48 = .ok (.aload_n 0, 1) := by decide +kernel
theorem dX11_term_49 : decode cX11_term 49 = .ok (.ldc 92, 2) := by decide +kernel
theorem dX11_term_51 : decode cX11_term 51 = .ok (.invokevirtual 70, 3) := by decide +kernel
theorem dX11_term_54 : decode cX11_term 54 = .ok (.istore_n 2, 1) := by decide +kernel
theorem dX11_term_55 : decode cX11_term 55 = .ok (.iload_n 2, 1) := by decide +kernel
theorem dX11_term_56 : decode cX11_term 56 = .ok (.ifCond .eq 7, 3) := by decide +kernel
theorem dX11_term_59 : decode cX11_term 59 = .ok (.aload_n 0, 1) := by decide +kernel
theorem dX11_term_60 : decode cX11_term 60 = .ok (.invokevirtual 109, 3) := by decide +kernel
theorem dX11_term_63 : decode cX11_term 63 = .ok (.aload_n 0, 1) := by decide +kernel
theorem dX11_term_64 : decode cX11_term 64 = .ok (.invokevirtual 94, 3) := by decide +kernel
theorem dX11_term_67 : decode cX11_term 67 = .ok (.istore_n 3, 1) := by decide +kernel
theorem dX11_term_68 : decode cX11_term 68 = .ok (.aload_n 0, 1) := by decide +kernel
theorem dX11_term_69 : decode cX11_term 69 = .ok (.iload_n 3, 1) := by decide +kernel
theorem dX11_term_70 : decode cX11_term 70 = .ok (.iconst (-1), 1) := by decide +kernel
theorem dX11_term_71 : decode cX11_term 71 = .ok (.if_icmp .eq 7, 3) := by decide +kernel
theorem dX11_term_74 : decode cX11_term 74 = .ok (.iconst 1, 1) := by decide +kernel
theorem dX11_term_75 : decode cX11_term 75 = .ok (.goto 4, 3) := by decide +kernel
theorem dX11_term_78 : decode cX11_term 78 = .ok (.iconst 0, 1) := by decide +kernel
theorem dX11_term_79 : decode cX11_term 79 = .ok (.iconst 1, 1) := by decide +kernel
theorem dX11_term_80 : decode cX11_term 80 = .ok (.invokevirtual 97, 3) := by decide +kernel
theorem dX11_term_83 : decode cX11_term 83 = .ok (.aload_n 0, 1) := by decide +kernel
theorem dX11_term_84 : decode cX11_term 84 = .ok (.invokevirtual 109, 3) := by decide +kernel
theorem dX11_term_87 : decode cX11_term 87 = .ok (.aload_n 0, 1) := by decide +kernel
theorem dX11_term_88 : decode cX11_term 88 = .ok (.aload_n 0, 1) := by decide +kernel
theorem dX11_term_89 : decode cX11_term 89 = .ok (.bipush 60, 2) := by decide +kernel
theorem dX11_term_91 : decode cX11_term 91 = .ok (.invokevirtual 112, 3) := by decide +kernel
theorem dX11_term_94 : decode cX11_term 94 = .ok (.ifCond .ne 21, 3) := by decide +kernel
theorem dX11_term_97 : decode cX11_term 97 = .ok (.aload_n 0, 1) := by decide +kernel
theorem dX11_term_98 : decode cX11_term 98 = .ok (.bipush 61, 2) := by decide +kernel
theorem dX11_term_100 : decode cX11_term 100 = .ok (.invokevirtual 112, 3) := by decide +kernel
theorem dX11_term_103 : decode cX11_term 103 = .ok (.ifCond .ne 12, 3) := by decide +kernel
theorem dX11_term_106 : decode cX11_term 106 = .ok (.aload_n 0, 1) := by decide +kernel
theorem dX11_term_107 : decode cX11_term 107 = .ok (.bipush 62, 2) := by decide +kernel
theorem dX11_term_109 : decode cX11_term 109 = .ok (.invokevirtual 112, 3) := by decide +kernel
theorem dX11_term_112 : decode cX11_term 112 = .ok (.ifCond .eq 7, 3) := by decide +kernel
theorem dX11_term_115 : decode cX11_term 115 = .ok (.iconst 1, 1) := by decide +kernel
theorem dX11_term_116 : decode cX11_term 116 = .ok (.goto 4, 3) := by decide +kernel
theorem dX11_term_119 : decode cX11_term 119 = .ok (.iconst 0, 1) := by decide +kernel
theorem dX11_term_120 : decode cX11_term 120 = .ok (.iconst 1, 1) := by decide +kernel
theorem dX11_term_121 : decode cX11_term 121 = .ok (.invokevirtual 97, 3) := by decide +kernel
theorem dX11_term_124 : decode cX11_term 124 = .ok (.aload_n 0, 1) := by decide +kernel
theorem dX11_term_125 : decode cX11_term 125 = .ok (.getfield 43, 3) := by decide +kernel
theorem dX11_term_128 : decode cX11_term 128 = .ok (.istore 4, 2) := by decide +kernel
theorem dX11_term_130 : decode cX11_term 130 = .ok (.aload_n 0, 1) := by decide +kernel
theorem dX11_term_131 : decode cX11_term 131 = .ok (.invokevirtual 109, 3) := by decide +kernel
theorem dX11_term_134 : decode cX11_term 134 = .ok (.aload_n 0, 1) := by decide +kernel
theorem dX11_term_135 : decode cX11_term 135 = .ok (.aload_n 0, 1) := by decide +kernel
theorem dX11_term_136 : decode cX11_term 136 = .ok (.getfield 40, 3) := by decide +kernel
theorem dX11_term_139 : decode cX11_term 139 = .ok (.iconst 2, 1) := by decide +kernel
theorem dX11_term_140 : decode cX11_term 140 = .ok (.if_icmp .ne 7, 3) := by decide +kernel
theorem dX11_term_143 : decode cX11_term 143 = .ok (.iconst 1, 1) := by decide +kernel
theorem dX11_term_144 : decode cX11_term 144 = .ok (.goto 4, 3) := by decide +kernel
theorem dX11_term_147 : decode cX11_term 147 = .ok (.iconst 0, 1) := by decide +kernel
theorem dX11_term_148 : decode cX11_term 148 = .ok (.iconst 1, 1) := by decide +kernel
theorem dX11_term_149 : decode cX11_term 149 = .ok (.invokevirtual 97, 3) := by decide +kernel
theorem dX11_term_152 : decode cX11_term 152 = .ok (.aload_n 1, 1) := by decide +kernel
theorem dX11_term_153 : decode cX11_term 153 = .ok (.getfield 101, 3) := by decide +kernel
theorem dX11_term_156 : decode cX11_term 156 = .ok (.new 115, 3) := by decide +kernel
theorem dX11_term_159 : decode cX11_term 159 = .ok (.dup, 1) := by decide +kernel
theorem dX11_term_160 : decode cX11_term 160 = .ok (.iload_n 3, 1) := by decide +kernel
theorem dX11_term_161 : decode cX11_term 161 = .ok (.iload 4, 2) := by decide +kernel
theorem dX11_term_163 : decode cX11_term 163 = .ok (.aload_n 0, 1) := by decide +kernel
theorem dX11_term_164 : decode cX11_term 164 = .ok (.getfield 43, 3) := by decide +kernel
theorem dX11_term_167 : decode cX11_term 167 = .ok (.iload_n 2, 1) := by decide +kernel
theorem dX11_term_168 : decode cX11_term 168 = .ok (.invokespecial 117, 3) := by decide +kernel
theorem dX11_term_171 : decode cX11_term 171 = .ok (.invokevirtual 120, 3) := by decide +kernel
theorem dX11_term_174 : decode cX11_term 174 = .ok (.pop, 1) := by decide +kernel
theorem dX11_term_175 : decode cX11_term 175 = .ok (.aload_n 0, 1) := by decide +kernel
theorem dX11_term_176 : decode cX11_term 176 = .ok (.invokevirtual 109, 3) := by decide +kernel
theorem dX11_term_179 : decode cX11_term 179 = .ok (.return_, 1) := by decide +kernel
def fn_X11_term_148 (N : Nat)  (x0 : Nat) (x1 : Option zo_T) (x2 : Int32) (x3 : Int32) (x4 : Int32) (s0 : Int32) (s1 : Nat) (Ω : zo_O) : Option zo_R :=
  cx (fn_X11_need N s1 s0 1 Ω) fun Ω1 =>
  gT Ω1 x1 fun j2 =>
  ad 1 4 <| lt (nw Ω1 13 0) fun Ω3 =>
  cv (fn_X16_init N (gC Ω1 13) x3 x4 (gI Ω3 9 x0 4) x2 Ω3) fun Ω4 =>
  ci (fn_J2_add N j2 (some (13, gC Ω1 13)) Ω4) fun r6 Ω5 =>
  cv (fn_X11_next N x0 Ω5) fun Ω7 =>
  rV Ω7
theorem ct_X11_term_148 {Y : zo_Y} (hY : zo_Gd Y cX11_term 5 RX11 7) (hJ : zo_JC (zo_J Y)) (hCon : ∀ Ω, zo_J Y Ω → zo_Con Ω) (hr : zo_rtX Y (Option.none : Option Jvm.ClassFile.FieldType)) (N : Nat)   (x0 : Nat) (x1 : Option zo_T) (x2 : Int32) (x3 : Int32) (x4 : Int32) (s0 : Int32) (s1 : Nat) (Ω : zo_O) (res : zo_R) (h : fn_X11_term_148 N  x0 x1 x2 x3 x4 s0 s1 Ω = some res) : TW Y res Ω 148 [(0, vr 9 x0), (1, vo x1), (2, vi x2), (3, vi x3), (4, vi x4)] [vi s0, vr 9 s1] := by
  unfold fn_X11_term_148 at h
  refine zo_iconst hY 1 (by decide) dX11_term_148 ?_
  refine zo_callVX hY hr (fun q hq => mt_X11_need hJ hCon N s1 s0 1 Ω q hq) (by decide) (by decide) (by decide) ⟨rfl, cn_X11_need⟩ rfl q667 q669 qs11 q97 q670 (Nat.le_of_ble_eq_true rfl) dX11_term_149 rfl h (fun Ω1 res h => ?_)
  refine zo_aload_n hY dX11_term_152 rfl 1 rfl ?_
  refine zo_getS hY LX11_101_11 LX11_101_12 dX11_term_153 h (fun j2 h => ?_)
  refine zo_new hY hJ (k := 13) (by decide) (Or.inl rfl) rfl q783 q784 q107 dX11_term_156 h (fun Ω3 res h => ?_)
  refine zo_dup hY dX11_term_159 (Or.inr ⟨_, rfl⟩) ?_
  refine zo_iload_n hY dX11_term_160 rfl 3 rfl ?_
  refine zo_iload hY dX11_term_161 4 rfl ?_
  refine zo_aload_n hY dX11_term_163 rfl 0 rfl ?_
  refine zo_getI hY LX11_43_9 rfl dX11_term_164 ?_
  refine zo_iload_n hY dX11_term_167 rfl 2 rfl ?_
  refine zo_callI hY (fun q hq => mt_X16_init hJ hCon N (gC Ω1 13) x3 x4 (gI Ω3 9 x0 4) x2 Ω3 q hq) (by decide) (by decide) cn_X16_init rfl rfl q785 q786 q107 q787 (Nat.le_of_ble_eq_true rfl) dX11_term_168 rfl h (cv_k (fun Ω4 res h => ?_))
  refine zo_callV hY (fun q hq => mt_J2_add hJ hCon N j2 (some (13, gC Ω1 13)) Ω4 q hq) (by decide) (by decide) (by decide) ⟨rfl, cn_J2_add⟩ rfl q802 q285 q286 q81 q287 (Nat.le_of_ble_eq_true rfl) dX11_term_171 rfl h (ci_k (fun r6 Ω5 res h => ?_))
  refine zo_pop hY dX11_term_174 (Or.inl rfl) ?_
  refine zo_aload_n hY dX11_term_175 rfl 0 rfl ?_
  refine zo_callV hY (fun q hq => mt_X11_next hJ hCon N x0 Ω5 q hq) (by decide) (by decide) (by decide) ⟨rfl, cn_X11_next⟩ rfl q595 q597 qs5 q97 q598 (Nat.le_of_ble_eq_true rfl) dX11_term_176 rfl h (cv_k (fun Ω7 res h => ?_))
  exact zo_vretX hY hr dX11_term_179 h
def fn_X11_term_120 (N : Nat)  (x0 : Nat) (x1 : Option zo_T) (x2 : Int32) (x3 : Int32) (s0 : Int32) (s1 : Nat) (Ω : zo_O) : Option zo_R :=
  cx (fn_X11_need N s1 s0 1 Ω) fun Ω1 =>
  li (gI Ω1 9 x0 4) fun y2 =>
  cv (fn_X11_next N x0 Ω1) fun Ω3 =>
  if gI Ω3 9 x0 3 = 2 then (
    fn_X11_term_148 N x0 x1 x2 x3 y2 1 x0 Ω3
    ) else
  fn_X11_term_148 N x0 x1 x2 x3 y2 0 x0 Ω3
theorem ct_X11_term_120 {Y : zo_Y} (hY : zo_Gd Y cX11_term 5 RX11 7) (hJ : zo_JC (zo_J Y)) (hCon : ∀ Ω, zo_J Y Ω → zo_Con Ω) (hr : zo_rtX Y (Option.none : Option Jvm.ClassFile.FieldType)) (N : Nat)   (x0 : Nat) (x1 : Option zo_T) (x2 : Int32) (x3 : Int32) (s0 : Int32) (s1 : Nat) (Ω : zo_O) (res : zo_R) (h : fn_X11_term_120 N  x0 x1 x2 x3 s0 s1 Ω = some res) : TW Y res Ω 120 [(0, vr 9 x0), (1, vo x1), (2, vi x2), (3, vi x3)] [vi s0, vr 9 s1] := by
  unfold fn_X11_term_120 at h
  refine zo_iconst hY 1 (by decide) dX11_term_120 ?_
  refine zo_callVX hY hr (fun q hq => mt_X11_need hJ hCon N s1 s0 1 Ω q hq) (by decide) (by decide) (by decide) ⟨rfl, cn_X11_need⟩ rfl q667 q669 qs11 q97 q670 (Nat.le_of_ble_eq_true rfl) dX11_term_121 rfl h (fun Ω1 res h => ?_)
  refine zo_aload_n hY dX11_term_124 rfl 0 rfl ?_
  refine zo_getI hY LX11_43_9 rfl dX11_term_125 ?_
  refine zo_nmi h (fun y2 h => ?_)
  refine zo_istore hY dX11_term_128 (by decide) rfl (ls' := [(4, vi y2), (0, vr 9 x0), (1, vo x1), (2, vi x2), (3, vi x3)]) rfl ?_
  refine zo_aload_n hY dX11_term_130 rfl 1 rfl ?_
  refine zo_callV hY (fun q hq => mt_X11_next hJ hCon N x0 Ω1 q hq) (by decide) (by decide) (by decide) ⟨rfl, cn_X11_next⟩ rfl q595 q597 qs5 q97 q598 (Nat.le_of_ble_eq_true rfl) dX11_term_131 rfl h (cv_k (fun Ω3 res h => ?_))
  refine zo_aload_n hY dX11_term_134 rfl 1 rfl ?_
  refine zo_aload_n hY dX11_term_135 rfl 1 rfl ?_
  refine zo_getI hY LX11_40_9 rfl dX11_term_136 ?_
  refine zo_iconst hY 2 (by decide) dX11_term_139 ?_
  refine zo_icmp_ne hY 147 dX11_term_140 (by decide) h (fun c4 h => ?_) (fun c4 h => ?_)
  · refine zo_iconst hY 1 (by decide) dX11_term_143 ?_
    refine zo_goto hY 148 dX11_term_144 (by decide) ?_
    refine zo_sub [1, 2, 3, 4, 0] rfl ?_
    exact ct_X11_term_148 hY hJ hCon hr N x0 x1 x2 x3 y2 1 x0 Ω3 _ h
  · refine zo_iconst hY 0 (by decide) dX11_term_147 ?_
    refine zo_sub [1, 2, 3, 4, 0] rfl ?_
    exact ct_X11_term_148 hY hJ hCon hr N x0 x1 x2 x3 y2 0 x0 Ω3 _ h
def fn_X11_term_115 (N : Nat)  (x0 : Nat) (x1 : Option zo_T) (x2 : Int32) (x3 : Int32) (s0 : Nat) (Ω : zo_O) : Option zo_R :=
  fn_X11_term_120 N x0 x1 x2 x3 1 s0 Ω
theorem ct_X11_term_115 {Y : zo_Y} (hY : zo_Gd Y cX11_term 5 RX11 7) (hJ : zo_JC (zo_J Y)) (hCon : ∀ Ω, zo_J Y Ω → zo_Con Ω) (hr : zo_rtX Y (Option.none : Option Jvm.ClassFile.FieldType)) (N : Nat)   (x0 : Nat) (x1 : Option zo_T) (x2 : Int32) (x3 : Int32) (s0 : Nat) (Ω : zo_O) (res : zo_R) (h : fn_X11_term_115 N  x0 x1 x2 x3 s0 Ω = some res) : TW Y res Ω 115 [(0, vr 9 x0), (1, vo x1), (2, vi x2), (3, vi x3)] [vr 9 s0] := by
  unfold fn_X11_term_115 at h
  refine zo_iconst hY 1 (by decide) dX11_term_115 ?_
  refine zo_goto hY 120 dX11_term_116 (by decide) ?_
  exact ct_X11_term_120 hY hJ hCon hr N x0 x1 x2 x3 1 s0 Ω _ h
def fn_X11_term_79 (N : Nat)  (x0 : Nat) (x1 : Option zo_T) (x2 : Int32) (x3 : Int32) (s0 : Int32) (s1 : Nat) (Ω : zo_O) : Option zo_R :=
  cx (fn_X11_need N s1 s0 1 Ω) fun Ω1 =>
  cv (fn_X11_next N x0 Ω1) fun Ω2 =>
  ci (fn_X11_isSigned N x0 60 Ω2) fun r4 Ω3 =>
  if r4 = 0 then (
    ci (fn_X11_isSigned N x0 61 Ω3) fun r7 Ω6 =>
    if r7 = 0 then (
      ci (fn_X11_isSigned N x0 62 Ω6) fun r10 Ω9 =>
      if r10 = 0 then (
        fn_X11_term_120 N x0 x1 x2 x3 0 x0 Ω9
        ) else
      fn_X11_term_115 N x0 x1 x2 x3 x0 Ω9
      ) else
    fn_X11_term_115 N x0 x1 x2 x3 x0 Ω6
    ) else
  fn_X11_term_115 N x0 x1 x2 x3 x0 Ω3
theorem ct_X11_term_79 {Y : zo_Y} (hY : zo_Gd Y cX11_term 5 RX11 7) (hJ : zo_JC (zo_J Y)) (hCon : ∀ Ω, zo_J Y Ω → zo_Con Ω) (hr : zo_rtX Y (Option.none : Option Jvm.ClassFile.FieldType)) (N : Nat)   (x0 : Nat) (x1 : Option zo_T) (x2 : Int32) (x3 : Int32) (s0 : Int32) (s1 : Nat) (Ω : zo_O) (res : zo_R) (h : fn_X11_term_79 N  x0 x1 x2 x3 s0 s1 Ω = some res) : TW Y res Ω 79 [(0, vr 9 x0), (1, vo x1), (2, vi x2), (3, vi x3)] [vi s0, vr 9 s1] := by
  unfold fn_X11_term_79 at h
  refine zo_iconst hY 1 (by decide) dX11_term_79 ?_
  refine zo_callVX hY hr (fun q hq => mt_X11_need hJ hCon N s1 s0 1 Ω q hq) (by decide) (by decide) (by decide) ⟨rfl, cn_X11_need⟩ rfl q667 q669 qs11 q97 q670 (Nat.le_of_ble_eq_true rfl) dX11_term_80 rfl h (fun Ω1 res h => ?_)
  refine zo_aload_n hY dX11_term_83 rfl 0 rfl ?_
  refine zo_callV hY (fun q hq => mt_X11_next hJ hCon N x0 Ω1 q hq) (by decide) (by decide) (by decide) ⟨rfl, cn_X11_next⟩ rfl q595 q597 qs5 q97 q598 (Nat.le_of_ble_eq_true rfl) dX11_term_84 rfl h (cv_k (fun Ω2 res h => ?_))
  refine zo_aload_n hY dX11_term_87 rfl 0 rfl ?_
  refine zo_aload_n hY dX11_term_88 rfl 0 rfl ?_
  refine zo_bipush hY 60 (by decide) dX11_term_89 ?_
  refine zo_callV hY (fun q hq => mt_X11_isSigned hJ hCon N x0 60 Ω2 q hq) (by decide) (by decide) (by decide) ⟨rfl, cn_X11_isSigned⟩ rfl q779 q781 qs15 q97 q782 (Nat.le_of_ble_eq_true rfl) dX11_term_91 rfl h (ci_k (fun r4 Ω3 res h => ?_))
  refine zo_if_ne hY 115 dX11_term_94 (by decide) h (fun c5 h => ?_) (fun c5 h => ?_)
  · refine zo_aload_n hY dX11_term_97 rfl 0 rfl ?_
    refine zo_bipush hY 61 (by decide) dX11_term_98 ?_
    refine zo_callV hY (fun q hq => mt_X11_isSigned hJ hCon N x0 61 Ω3 q hq) (by decide) (by decide) (by decide) ⟨rfl, cn_X11_isSigned⟩ rfl q779 q781 qs15 q97 q782 (Nat.le_of_ble_eq_true rfl) dX11_term_100 rfl h (ci_k (fun r7 Ω6 res h => ?_))
    refine zo_if_ne hY 115 dX11_term_103 (by decide) h (fun c8 h => ?_) (fun c8 h => ?_)
    · refine zo_aload_n hY dX11_term_106 rfl 0 rfl ?_
      refine zo_bipush hY 62 (by decide) dX11_term_107 ?_
      refine zo_callV hY (fun q hq => mt_X11_isSigned hJ hCon N x0 62 Ω6 q hq) (by decide) (by decide) (by decide) ⟨rfl, cn_X11_isSigned⟩ rfl q779 q781 qs15 q97 q782 (Nat.le_of_ble_eq_true rfl) dX11_term_109 rfl h (ci_k (fun r10 Ω9 res h => ?_))
      refine zo_if_eq hY 119 dX11_term_112 (by decide) h (fun c11 h => ?_) (fun c11 h => ?_)
      · refine zo_iconst hY 0 (by decide) dX11_term_119 ?_
        exact ct_X11_term_120 hY hJ hCon hr N x0 x1 x2 x3 0 x0 Ω9 _ h
      · exact ct_X11_term_115 hY hJ hCon hr N x0 x1 x2 x3 x0 Ω9 _ h
    · exact ct_X11_term_115 hY hJ hCon hr N x0 x1 x2 x3 x0 Ω6 _ h
  · exact ct_X11_term_115 hY hJ hCon hr N x0 x1 x2 x3 x0 Ω3 _ h
def fn_X11_term_63 (N : Nat)  (x0 : Nat) (x1 : Option zo_T) (x2 : Int32) (Ω : zo_O) : Option zo_R :=
  ci (fn_X11_word N x0 Ω) fun r2 Ω1 =>
  if r2 = (-1) then (
    fn_X11_term_79 N x0 x1 x2 r2 0 x0 Ω1
    ) else
  fn_X11_term_79 N x0 x1 x2 r2 1 x0 Ω1
theorem ct_X11_term_63 {Y : zo_Y} (hY : zo_Gd Y cX11_term 5 RX11 7) (hJ : zo_JC (zo_J Y)) (hCon : ∀ Ω, zo_J Y Ω → zo_Con Ω) (hr : zo_rtX Y (Option.none : Option Jvm.ClassFile.FieldType)) (N : Nat)   (x0 : Nat) (x1 : Option zo_T) (x2 : Int32) (Ω : zo_O) (res : zo_R) (h : fn_X11_term_63 N  x0 x1 x2 Ω = some res) : TW Y res Ω 63 [(0, vr 9 x0), (1, vo x1), (2, vi x2)] [] := by
  unfold fn_X11_term_63 at h
  refine zo_aload_n hY dX11_term_63 rfl 0 rfl ?_
  refine zo_callV hY (fun q hq => mt_X11_word hJ hCon N x0 Ω q hq) (by decide) (by decide) (by decide) ⟨rfl, cn_X11_word⟩ rfl q765 q767 qs14 q97 q768 (Nat.le_of_ble_eq_true rfl) dX11_term_64 rfl h (ci_k (fun r2 Ω1 res h => ?_))
  refine zo_istore_n hY dX11_term_67 rfl (by decide) rfl (ls' := [(3, vi r2), (0, vr 9 x0), (1, vo x1), (2, vi x2)]) rfl ?_
  refine zo_aload_n hY dX11_term_68 rfl 1 rfl ?_
  refine zo_iload_n hY dX11_term_69 rfl 0 rfl ?_
  refine zo_iconst hY (-1) (by decide) dX11_term_70 ?_
  refine zo_icmp_eq hY 78 dX11_term_71 (by decide) h (fun c3 h => ?_) (fun c3 h => ?_)
  · refine zo_iconst hY 0 (by decide) dX11_term_78 ?_
    refine zo_sub [1, 2, 3, 0] rfl ?_
    exact ct_X11_term_79 hY hJ hCon hr N x0 x1 x2 r2 0 x0 Ω1 _ h
  · refine zo_iconst hY 1 (by decide) dX11_term_74 ?_
    refine zo_goto hY 79 dX11_term_75 (by decide) ?_
    refine zo_sub [1, 2, 3, 0] rfl ?_
    exact ct_X11_term_79 hY hJ hCon hr N x0 x1 x2 r2 1 x0 Ω1 _ h
def fn_X11_term_44 (N : Nat)  (x0 : Nat) (x1 : Option zo_T) (s0 : Int32) (s1 : Nat) (Ω : zo_O) : Option zo_R :=
  cx (fn_X11_need N s1 s0 2 Ω) fun Ω1 =>
  ci (fn_X11_is N x0 2 Ω1) fun r3 Ω2 =>
  if r3 = 0 then (
    fn_X11_term_63 N x0 x1 r3 Ω2
    ) else
  cv (fn_X11_next N x0 Ω2) fun Ω5 =>
  fn_X11_term_63 N x0 x1 r3 Ω5
theorem ct_X11_term_44 {Y : zo_Y} (hY : zo_Gd Y cX11_term 5 RX11 7) (hJ : zo_JC (zo_J Y)) (hCon : ∀ Ω, zo_J Y Ω → zo_Con Ω) (hr : zo_rtX Y (Option.none : Option Jvm.ClassFile.FieldType)) (N : Nat)   (x0 : Nat) (x1 : Option zo_T) (s0 : Int32) (s1 : Nat) (Ω : zo_O) (res : zo_R) (h : fn_X11_term_44 N  x0 x1 s0 s1 Ω = some res) : TW Y res Ω 44 [(0, vr 9 x0), (1, vo x1)] [vi s0, vr 9 s1] := by
  unfold fn_X11_term_44 at h
  refine zo_iconst hY 2 (by decide) dX11_term_44 ?_
  refine zo_callVX hY hr (fun q hq => mt_X11_need hJ hCon N s1 s0 2 Ω q hq) (by decide) (by decide) (by decide) ⟨rfl, cn_X11_need⟩ rfl q667 q669 qs11 q97 q670 (Nat.le_of_ble_eq_true rfl) dX11_term_45 rfl h (fun Ω1 res h => ?_)
  refine zo_aload_n hY dX11_term_48 rfl 0 rfl ?_
  refine zo_ldcS hY (tx := "not") (j := 2) (by decide) dX11_term_49 ?_
  refine zo_callV hY (fun q hq => mt_X11_is hJ hCon N x0 2 Ω1 q hq) (by decide) (by decide) (by decide) ⟨rfl, cn_X11_is⟩ rfl q616 q618 qs10 q97 q619 (Nat.le_of_ble_eq_true rfl) dX11_term_51 rfl h (ci_k (fun r3 Ω2 res h => ?_))
  refine zo_istore_n hY dX11_term_54 rfl (by decide) rfl (ls' := [(2, vi r3), (0, vr 9 x0), (1, vo x1)]) rfl ?_
  refine zo_iload_n hY dX11_term_55 rfl 0 rfl ?_
  refine zo_if_eq hY 63 dX11_term_56 (by decide) h (fun c4 h => ?_) (fun c4 h => ?_)
  · refine zo_sub [1, 2, 0] rfl ?_
    exact ct_X11_term_63 hY hJ hCon hr N x0 x1 r3 Ω2 _ h
  · refine zo_aload_n hY dX11_term_59 rfl 1 rfl ?_
    refine zo_callV hY (fun q hq => mt_X11_next hJ hCon N x0 Ω2 q hq) (by decide) (by decide) (by decide) ⟨rfl, cn_X11_next⟩ rfl q595 q597 qs5 q97 q598 (Nat.le_of_ble_eq_true rfl) dX11_term_60 rfl h (cv_k (fun Ω5 res h => ?_))
    refine zo_sub [1, 2, 0] rfl ?_
    exact ct_X11_term_63 hY hJ hCon hr N x0 x1 r3 Ω5 _ h
def fn_X11_term_23 (N : Nat)  (x0 : Nat) (x1 : Option zo_T) (s0 : Int32) (s1 : Nat) (Ω : zo_O) : Option zo_R :=
  cx (fn_X11_need N s1 s0 1 Ω) fun Ω1 =>
  gT Ω1 x1 fun j2 =>
  ci (fn_J2_size N j2 Ω1) fun r4 Ω3 =>
  if 4 ≤ r4 then (
    fn_X11_term_44 N x0 x1 0 x0 Ω3
    ) else
  fn_X11_term_44 N x0 x1 1 x0 Ω3
theorem ct_X11_term_23 {Y : zo_Y} (hY : zo_Gd Y cX11_term 5 RX11 7) (hJ : zo_JC (zo_J Y)) (hCon : ∀ Ω, zo_J Y Ω → zo_Con Ω) (hr : zo_rtX Y (Option.none : Option Jvm.ClassFile.FieldType)) (N : Nat)   (x0 : Nat) (x1 : Option zo_T) (s0 : Int32) (s1 : Nat) (Ω : zo_O) (res : zo_R) (h : fn_X11_term_23 N  x0 x1 s0 s1 Ω = some res) : TW Y res Ω 23 [(0, vr 9 x0), (1, vo x1)] [vi s0, vr 9 s1] := by
  unfold fn_X11_term_23 at h
  refine zo_iconst hY 1 (by decide) dX11_term_23 ?_
  refine zo_callVX hY hr (fun q hq => mt_X11_need hJ hCon N s1 s0 1 Ω q hq) (by decide) (by decide) (by decide) ⟨rfl, cn_X11_need⟩ rfl q667 q669 qs11 q97 q670 (Nat.le_of_ble_eq_true rfl) dX11_term_24 rfl h (fun Ω1 res h => ?_)
  refine zo_aload_n hY dX11_term_27 rfl 0 rfl ?_
  refine zo_aload_n hY dX11_term_28 rfl 1 rfl ?_
  refine zo_getS hY LX11_101_11 LX11_101_12 dX11_term_29 h (fun j2 h => ?_)
  refine zo_callV hY (fun q hq => mt_J2_size hJ hCon N j2 Ω1 q hq) (by decide) (by decide) (by decide) ⟨rfl, cn_J2_size⟩ rfl q735 q246 q247 q81 q248 (Nat.le_of_ble_eq_true rfl) dX11_term_32 rfl h (ci_k (fun r4 Ω3 res h => ?_))
  refine zo_iconst hY 4 (by decide) dX11_term_35 ?_
  refine zo_icmp_ge hY 43 dX11_term_36 (by decide) h (fun c5 h => ?_) (fun c5 h => ?_)
  · refine zo_iconst hY 0 (by decide) dX11_term_43 ?_
    exact ct_X11_term_44 hY hJ hCon hr N x0 x1 0 x0 Ω3 _ h
  · refine zo_iconst hY 1 (by decide) dX11_term_39 ?_
    refine zo_goto hY 44 dX11_term_40 (by decide) ?_
    exact ct_X11_term_44 hY hJ hCon hr N x0 x1 1 x0 Ω3 _ h
def fn_X11_term_18 (N : Nat)  (x0 : Nat) (x1 : Option zo_T) (s0 : Nat) (Ω : zo_O) : Option zo_R :=
  fn_X11_term_23 N x0 x1 1 s0 Ω
theorem ct_X11_term_18 {Y : zo_Y} (hY : zo_Gd Y cX11_term 5 RX11 7) (hJ : zo_JC (zo_J Y)) (hCon : ∀ Ω, zo_J Y Ω → zo_Con Ω) (hr : zo_rtX Y (Option.none : Option Jvm.ClassFile.FieldType)) (N : Nat)   (x0 : Nat) (x1 : Option zo_T) (s0 : Nat) (Ω : zo_O) (res : zo_R) (h : fn_X11_term_18 N  x0 x1 s0 Ω = some res) : TW Y res Ω 18 [(0, vr 9 x0), (1, vo x1)] [vr 9 s0] := by
  unfold fn_X11_term_18 at h
  refine zo_iconst hY 1 (by decide) dX11_term_18 ?_
  refine zo_goto hY 23 dX11_term_19 (by decide) ?_
  exact ct_X11_term_23 hY hJ hCon hr N x0 x1 1 s0 Ω _ h
def fn_X11_term (N : Nat) (x0 : Nat) (x1 : Option zo_T) (Ω : zo_O) : Option zo_R :=
  ci (fn_X11_is N x0 2 Ω) fun r2 Ω1 =>
  if r2 = 0 then (
    ci (fn_X11_word N x0 Ω1) fun r5 Ω4 =>
    if r5 = (-1) then (
      fn_X11_term_23 N x0 x1 0 x0 Ω4
      ) else
    fn_X11_term_18 N x0 x1 x0 Ω4
    ) else
  fn_X11_term_18 N x0 x1 x0 Ω1
theorem mt_X11_term {G : zo_G} {J : zo_O → Prop} (hJ : zo_JC J) (hCon : ∀ Ω, J Ω → zo_Con Ω) (N : Nat) (x0 : Nat) (x1 : Option zo_T) (Ω : zo_O) (res : zo_R) (h : fn_X11_term N x0 x1 Ω = some res) : zo_MX G J yX11_term cX11_term 5 (Option.none : Option Jvm.ClassFile.FieldType) 7 [vr 9 x0, vo x1] Ω res := by
  refine zo_enterX (by decide) rfl (Nat.le_of_ble_eq_true rfl) (fun Y hY eJ hr hmn => ?_)
  subst eJ
  show TW Y res Ω 0 [(0, vr 9 x0), (1, vo x1)] []
  unfold fn_X11_term at h
  refine zo_aload_n hY dX11_term_0 rfl 0 rfl ?_
  refine zo_aload_n hY dX11_term_1 rfl 0 rfl ?_
  refine zo_ldcS hY (tx := "not") (j := 2) (by decide) dX11_term_2 ?_
  refine zo_callV hY (fun q hq => mt_X11_is hJ hCon N x0 2 Ω q hq) (by decide) (by decide) (by decide) ⟨rfl, cn_X11_is⟩ rfl q616 q618 qs10 q97 q619 (Nat.le_of_ble_eq_true rfl) dX11_term_4 rfl h (ci_k (fun r2 Ω1 res h => ?_))
  refine zo_if_ne hY 18 dX11_term_7 (by decide) h (fun c3 h => ?_) (fun c3 h => ?_)
  · refine zo_aload_n hY dX11_term_10 rfl 0 rfl ?_
    refine zo_callV hY (fun q hq => mt_X11_word hJ hCon N x0 Ω1 q hq) (by decide) (by decide) (by decide) ⟨rfl, cn_X11_word⟩ rfl q765 q767 qs14 q97 q768 (Nat.le_of_ble_eq_true rfl) dX11_term_11 rfl h (ci_k (fun r5 Ω4 res h => ?_))
    refine zo_iconst hY (-1) (by decide) dX11_term_14 ?_
    refine zo_icmp_eq hY 22 dX11_term_15 (by decide) h (fun c6 h => ?_) (fun c6 h => ?_)
    · refine zo_iconst hY 0 (by decide) dX11_term_22 ?_
      exact ct_X11_term_23 hY hJ hCon hr N x0 x1 0 x0 Ω4 _ h
    · exact ct_X11_term_18 hY hJ hCon hr N x0 x1 x0 Ω4 _ h
  · exact ct_X11_term_18 hY hJ hCon hr N x0 x1 x0 Ω1 _ h
theorem dX13_init_0 : decode cX13_init 0 = .ok (.aload_n 0, 1) := by decide +kernel
theorem dX13_init_1 : decode cX13_init 1 = .ok (.invokespecial 1, 3) := by decide +kernel
theorem dX13_init_4 : decode cX13_init 4 = .ok (.aload_n 0, 1) := by decide +kernel
theorem dX13_init_5 : decode cX13_init 5 = .ok (.new 7, 3) := by decide +kernel
theorem dX13_init_8 : decode cX13_init 8 = .ok (.dup, 1) := by decide +kernel
theorem dX13_init_9 : decode cX13_init 9 = .ok (.invokespecial 9, 3) := by decide +kernel
theorem dX13_init_12 : decode cX13_init 12 = .ok (.putfield 10, 3) := by decide +kernel
theorem dX13_init_15 : decode cX13_init 15 = .ok (.return_, 1) := by decide +kernel
def fn_X13_init_12 (N : Nat) (x0 : Nat) (Ω : zo_O) : Option zo_R :=
  ad 1 3 <| lt (nw Ω 20 0) fun Ω1 =>
  lt (sR Ω1 12 x0 0 (some (20, gC Ω 20))) fun Ω2 =>
  rV Ω2
theorem mt_X13_init_12 {G : zo_G} {J : zo_O → Prop} (hJ : zo_JC J) (hCon : ∀ Ω, J Ω → zo_Con Ω) (N : Nat) (x0 : Nat) (Ω : zo_O) (res : zo_R) (h : fn_X13_init_12 N x0 Ω = some res) : zo_MT G J yX13_init cX13_init 1 (Option.none : Option Jvm.ClassFile.FieldType) 5 [vr 12 x0] Ω res := by
  refine zo_enter (by decide) rfl (Nat.le_of_ble_eq_true rfl) (fun Y hY eJ hr hmn => ?_)
  subst eJ
  have hmn := hmn rfl
  show TW Y res Ω 0 [(0, vr 12 x0)] []
  unfold fn_X13_init_12 at h
  refine zo_aload_n hY dX13_init_0 rfl 0 rfl ?_
  refine zo_oini hY (by decide) q744 (fun ρ => zo_room8 (Nat.le_of_ble_eq_true rfl)) dX13_init_1 ?_
  refine zo_aload_n hY dX13_init_4 rfl 0 rfl ?_
  refine zo_newL hY hJ (by decide) q745 q746 (Nat.le_of_ble_eq_true rfl) dX13_init_5 dX13_init_8 dX13_init_9 h (fun Ω1 res h => ?_)
  refine zo_putR hY hJ LX13_10_12 rfl (Or.inl rfl) (Or.inr ⟨rfl, hmn, rfl, _, q747, Or.inl rfl⟩) dX13_init_12 h (fun Ω2 h => ?_)
  exact zo_vret hY hr dX13_init_15 h
theorem dX15_init_0 : decode cX15_init 0 = .ok (.aload_n 0, 1) := by decide +kernel
theorem dX15_init_1 : decode cX15_init 1 = .ok (.invokespecial 1, 3) := by decide +kernel
theorem dX15_init_4 : decode cX15_init 4 = .ok (.return_, 1) := by decide +kernel
def fn_X15_init (N : Nat) (x0 : Nat) (Ω : zo_O) : Option zo_R :=
  cv (fn_X13_init_12 N x0 Ω) fun Ω1 =>
  rV Ω1
theorem mt_X15_init {G : zo_G} {J : zo_O → Prop} (hJ : zo_JC J) (hCon : ∀ Ω, J Ω → zo_Con Ω) (N : Nat) (x0 : Nat) (Ω : zo_O) (res : zo_R) (h : fn_X15_init N x0 Ω = some res) : zo_MT G J yX15_init cX15_init 1 (Option.none : Option Jvm.ClassFile.FieldType) 6 [vr 12 x0] Ω res := by
  refine zo_enter (by decide) rfl (Nat.le_of_ble_eq_true rfl) (fun Y hY eJ hr hmn => ?_)
  subst eJ
  show TW Y res Ω 0 [(0, vr 12 x0)] []
  unfold fn_X15_init at h
  refine zo_aload_n hY dX15_init_0 rfl 0 rfl ?_
  refine zo_callIN hY (fun q hq => mt_X13_init_12 hJ hCon N x0 Ω q hq) (by decide) (by decide) cn_X13_init rfl rfl q757 q742 q104 q743 (Nat.le_of_ble_eq_true rfl) dX15_init_1 rfl h (cv_k (fun Ω1 res h => ?_))
  exact zo_vret hY hr dX15_init_4 h
def fn_X13_init_11 (N : Nat) (x0 : Nat) (Ω : zo_O) : Option zo_R :=
  ad 1 3 <| lt (nw Ω 20 0) fun Ω1 =>
  lt (sR Ω1 11 x0 0 (some (20, gC Ω 20))) fun Ω2 =>
  rV Ω2
theorem mt_X13_init_11 {G : zo_G} {J : zo_O → Prop} (hJ : zo_JC J) (hCon : ∀ Ω, J Ω → zo_Con Ω) (N : Nat) (x0 : Nat) (Ω : zo_O) (res : zo_R) (h : fn_X13_init_11 N x0 Ω = some res) : zo_MT G J yX13_init cX13_init 1 (Option.none : Option Jvm.ClassFile.FieldType) 5 [vr 11 x0] Ω res := by
  refine zo_enter (by decide) rfl (Nat.le_of_ble_eq_true rfl) (fun Y hY eJ hr hmn => ?_)
  subst eJ
  have hmn := hmn rfl
  show TW Y res Ω 0 [(0, vr 11 x0)] []
  unfold fn_X13_init_11 at h
  refine zo_aload_n hY dX13_init_0 rfl 0 rfl ?_
  refine zo_oini hY (by decide) q744 (fun ρ => zo_room8 (Nat.le_of_ble_eq_true rfl)) dX13_init_1 ?_
  refine zo_aload_n hY dX13_init_4 rfl 0 rfl ?_
  refine zo_newL hY hJ (by decide) q745 q746 (Nat.le_of_ble_eq_true rfl) dX13_init_5 dX13_init_8 dX13_init_9 h (fun Ω1 res h => ?_)
  refine zo_putR hY hJ LX13_10_11 rfl (Or.inl rfl) (Or.inr ⟨rfl, hmn, rfl, _, q747, Or.inl rfl⟩) dX13_init_12 h (fun Ω2 h => ?_)
  exact zo_vret hY hr dX13_init_15 h
theorem dX14_init_0 : decode cX14_init 0 = .ok (.aload_n 0, 1) := by decide +kernel
theorem dX14_init_1 : decode cX14_init 1 = .ok (.invokespecial 1, 3) := by decide +kernel
theorem dX14_init_4 : decode cX14_init 4 = .ok (.return_, 1) := by decide +kernel
def fn_X14_init (N : Nat) (x0 : Nat) (Ω : zo_O) : Option zo_R :=
  cv (fn_X13_init_11 N x0 Ω) fun Ω1 =>
  rV Ω1
theorem mt_X14_init {G : zo_G} {J : zo_O → Prop} (hJ : zo_JC J) (hCon : ∀ Ω, J Ω → zo_Con Ω) (N : Nat) (x0 : Nat) (Ω : zo_O) (res : zo_R) (h : fn_X14_init N x0 Ω = some res) : zo_MT G J yX14_init cX14_init 1 (Option.none : Option Jvm.ClassFile.FieldType) 6 [vr 11 x0] Ω res := by
  refine zo_enter (by decide) rfl (Nat.le_of_ble_eq_true rfl) (fun Y hY eJ hr hmn => ?_)
  subst eJ
  show TW Y res Ω 0 [(0, vr 11 x0)] []
  unfold fn_X14_init at h
  refine zo_aload_n hY dX14_init_0 rfl 0 rfl ?_
  refine zo_callIN hY (fun q hq => mt_X13_init_11 hJ hCon N x0 Ω q hq) (by decide) (by decide) cn_X13_init rfl rfl q741 q742 q104 q743 (Nat.le_of_ble_eq_true rfl) dX14_init_1 rfl h (cv_k (fun Ω1 res h => ?_))
  exact zo_vret hY hr dX14_init_4 h
theorem dX11_statement_0 : decode cX11_statement 0 = .ok (.aload_n 0, 1) := by decide +kernel
theorem dX11_statement_1 : decode cX11_statement 1 = .ok (.aload_n 0, 1) := by decide +kernel
theorem dX11_statement_2 : decode cX11_statement 2 = .ok (.ldc 124, 2) := by decide +kernel
theorem dX11_statement_4 : decode cX11_statement 4 = .ok (.invokevirtual 70, 3) := by decide +kernel
theorem dX11_statement_7 : decode cX11_statement 7 = .ok (.ifCond .ne 12, 3) := by decide +kernel
theorem dX11_statement_10 : decode cX11_statement 10 = .ok (.aload_n 0, 1) := by decide +kernel
theorem dX11_statement_11 : decode cX11_statement 11 = .ok (.ldc 126, 2) := by decide +kernel
theorem dX11_statement_13 : decode cX11_statement 13 = .ok (.invokevirtual 70, 3) := by decide +kernel
theorem dX11_statement_16 : decode cX11_statement 16 = .ok (.ifCond .eq 7, 3) := by decide +kernel
theorem dX11_statement_19 : decode cX11_statement 19 = .ok (.iconst 1, 1) := by decide +kernel
theorem dX11_statement_20 : decode cX11_statement 20 = .ok (.goto 4, 3) := by decide +kernel
theorem dX11_statement_23 : decode cX11_statement 23 = .ok (.iconst 0, 1) := by decide +kernel
theorem dX11_statement_24 : decode cX11_statement 24 = .ok (.iconst 1, 1) := by decide +kernel
theorem dX11_statement_25 : decode cX11_statement 25 = .ok (.invokevirtual 97, 3) := by decide +kernel
theorem dX11_statement_28 : decode cX11_statement 28 = .ok (.aload_n 0, 1) := by decide +kernel
theorem dX11_statement_29 : decode cX11_statement 29 = .ok (.aload_n 0, 1) := by decide +kernel
theorem dX11_statement_30 : decode cX11_statement 30 = .ok (.getfield 18, 3) := by decide +kernel
theorem dX11_statement_33 : decode cX11_statement 33 = .ok (.invokevirtual 106, 3) := by decide +kernel
theorem dX11_statement_36 : decode cX11_statement 36 = .ok (.bipush 12, 2) := by decide +kernel
theorem dX11_statement_38 : decode cX11_statement 38 = .ok (.if_icmp .ge 7, 3) := by decide +kernel
theorem dX11_statement_41 : decode cX11_statement 41 = .ok (.iconst 1, 1) := by decide +kernel
theorem dX11_statement_42 : decode cX11_statement 42 = .ok (.goto 4, 3) := by decide +kernel
theorem dX11_statement_45 : decode cX11_statement 45 = .ok (.iconst 0, 1) := by decide +kernel
theorem dX11_statement_46 : decode cX11_statement 46 = .ok (.iconst 2, 1) := by decide +kernel
theorem dX11_statement_47 : decode cX11_statement 47 = .ok (.invokevirtual 97, 3) := by decide +kernel
theorem dX11_statement_50 : decode cX11_statement 50 = .ok (.aload_n 0, 1) := by decide +kernel
theorem dX11_statement_51 : decode cX11_statement 51 = .ok (.ldc 124, 2) := by decide +kernel
theorem dX11_statement_53 : decode cX11_statement 53 = .ok (.invokevirtual 70, 3) := by decide +kernel
theorem dX11_statement_56 : decode cX11_statement 56 = .ok (.ifCond .eq 13, 3) := by decide +kernel
theorem dX11_statement_59 : decode cX11_statement 59 = .ok (.new 128, 3) := by decide +kernel
theorem dX11_statement_62 : decode cX11_statement 62 = .ok (.dup, 1) := by decide +kernel
theorem dX11_statement_63 : decode cX11_statement 63 = .ok (.invokespecial 130, 3) := by decide +kernel
theorem dX11_statement_66 : decode cX11_statement 66 = .ok (.goto 10, 3) := by decide +kernel
theorem dX11_statement_69 : decode cX11_statement 69 = .ok (.new 131, 3) := by decide +kernel
theorem dX11_statement_72 : decode cX11_statement 72 = .ok (.dup, 1) := by decide +kernel
theorem dX11_statement_73 : decode cX11_statement 73 = .ok (.invokespecial 133, 3) := by decide +kernel
theorem dX11_statement_76 : decode cX11_statement 76 = .ok (.astore_n 1, 1) := by decide +kernel
theorem dX11_statement_77 : decode cX11_statement 77 = .ok (.aload_n 0, 1) := by decide +kernel
theorem dX11_statement_78 : decode cX11_statement 78 = .ok (.invokevirtual 109, 3) := by decide +kernel
theorem dX11_statement_81 : decode cX11_statement 81 = .ok (.aload_n 0, 1) := by decide +kernel
theorem dX11_statement_82 : decode cX11_statement 82 = .ok (.aload_n 1, 1) := by decide +kernel
theorem dX11_statement_83 : decode cX11_statement 83 = .ok (.invokevirtual 134, 3) := by decide +kernel
theorem dX11_statement_86 : decode cX11_statement 86 = .ok (.aload_n 0, 1) := by decide +kernel
theorem dX11_statement_87 : decode cX11_statement 87 = .ok (.ldc 138, 2) := by decide +kernel
theorem dX11_statement_89 : decode cX11_statement 89 = .ok (.invokevirtual 70, 3) := by decide +kernel
theorem dX11_statement_92 : decode cX11_statement 92 = .ok (.ifCond .eq 15, 3) := by decide +kernel
theorem dX11_statement_95 : decode cX11_statement 95 = .ok (.aload_n 0, 1) := by decide +kernel
theorem dX11_statement_96 : decode cX11_statement 96 = .ok (.invokevirtual 109, 3) := by decide +kernel
theorem dX11_statement_99 : decode cX11_statement 99 = .ok (.aload_n 0, 1) := by decide +kernel
theorem dX11_statement_100 : decode cX11_statement 100 = .ok (.aload_n 1, 1) := by decide +kernel
theorem dX11_statement_101 : decode cX11_statement 101 = .ok (.invokevirtual 134, 3) := by decide +kernel
theorem dX11_statement_104 : decode cX11_statement 104 = .ok (.goto (-18), 3) := by decide +kernel
theorem dX11_statement_107 : decode cX11_statement 107 = .ok (.aload_n 0, 1) := by decide +kernel
theorem dX11_statement_108 : decode cX11_statement 108 = .ok (.aload_n 0, 1) := by decide +kernel
theorem dX11_statement_109 : decode cX11_statement 109 = .ok (.bipush 59, 2) := by decide +kernel
theorem dX11_statement_111 : decode cX11_statement 111 = .ok (.invokevirtual 112, 3) := by decide +kernel
theorem dX11_statement_114 : decode cX11_statement 114 = .ok (.iconst 1, 1) := by decide +kernel
theorem dX11_statement_115 : decode cX11_statement 115 = .ok (.invokevirtual 97, 3) := by decide +kernel
theorem dX11_statement_118 : decode cX11_statement 118 = .ok (.aload_n 0, 1) := by decide +kernel
theorem dX11_statement_119 : decode cX11_statement 119 = .ok (.invokevirtual 109, 3) := by decide +kernel
theorem dX11_statement_122 : decode cX11_statement 122 = .ok (.aload_n 0, 1) := by decide +kernel
theorem dX11_statement_123 : decode cX11_statement 123 = .ok (.getfield 18, 3) := by decide +kernel
theorem dX11_statement_126 : decode cX11_statement 126 = .ok (.aload_n 1, 1) := by decide +kernel
theorem dX11_statement_127 : decode cX11_statement 127 = .ok (.invokevirtual 120, 3) := by decide +kernel
theorem dX11_statement_130 : decode cX11_statement 130 = .ok (.pop, 1) := by decide +kernel
theorem dX11_statement_131 : decode cX11_statement 131 = .ok (.return_, 1) := by decide +kernel
def bd_X11_statement_86 (N : Nat)  (K86 : Nat → Option zo_T → zo_O → Option zo_R) (x0 : Nat) (x1 : Option zo_T) (Ω : zo_O) : Option zo_R :=
  ci (fn_X11_is N x0 13 Ω) fun r2 Ω1 =>
  if r2 = 0 then (
    ci (fn_X11_isSigned N x0 59 Ω1) fun r5 Ω4 =>
    cx (fn_X11_need N x0 r5 1 Ω4) fun Ω6 =>
    cv (fn_X11_next N x0 Ω6) fun Ω7 =>
    bk (gR Ω7 9 x0 0) 20 fun j8 =>
    ci (fn_J2_add N j8 x1 Ω7) fun r10 Ω9 =>
    rV Ω9
    ) else
  cv (fn_X11_next N x0 Ω1) fun Ω11 =>
  cx (fn_X11_term N x0 x1 Ω11) fun Ω12 =>
  K86 x0 x1 Ω12
theorem cb_X11_statement_86 {Y : zo_Y} (hY : zo_Gd Y cX11_statement 2 RX11 8) (hJ : zo_JC (zo_J Y)) (hCon : ∀ Ω, zo_J Y Ω → zo_Con Ω) (hr : zo_rtX Y (Option.none : Option Jvm.ClassFile.FieldType)) (N : Nat)  (K86 : Nat → Option zo_T → zo_O → Option zo_R)  (hK86 : ∀ (x0 : Nat) (x1 : Option zo_T) (Ω : zo_O) (res : zo_R), K86 x0 x1 Ω = some res → TW Y res Ω 86 [(0, vr 9 x0), (1, vo x1)] []) (x0 : Nat) (x1 : Option zo_T) (Ω : zo_O) (res : zo_R) (h : bd_X11_statement_86 N  K86 x0 x1 Ω = some res) : TW Y res Ω 86 [(0, vr 9 x0), (1, vo x1)] [] := by
  unfold bd_X11_statement_86 at h
  refine zo_aload_n hY dX11_statement_86 rfl 0 rfl ?_
  refine zo_ldcS hY (tx := "and") (j := 13) (by decide) dX11_statement_87 ?_
  refine zo_callV hY (fun q hq => mt_X11_is hJ hCon N x0 13 Ω q hq) (by decide) (by decide) (by decide) ⟨rfl, cn_X11_is⟩ rfl q616 q618 qs10 q97 q619 (Nat.le_of_ble_eq_true rfl) dX11_statement_89 rfl h (ci_k (fun r2 Ω1 res h => ?_))
  refine zo_if_eq hY 107 dX11_statement_92 (by decide) h (fun c3 h => ?_) (fun c3 h => ?_)
  · refine zo_aload_n hY dX11_statement_107 rfl 0 rfl ?_
    refine zo_aload_n hY dX11_statement_108 rfl 0 rfl ?_
    refine zo_bipush hY 59 (by decide) dX11_statement_109 ?_
    refine zo_callV hY (fun q hq => mt_X11_isSigned hJ hCon N x0 59 Ω1 q hq) (by decide) (by decide) (by decide) ⟨rfl, cn_X11_isSigned⟩ rfl q779 q781 qs15 q97 q782 (Nat.le_of_ble_eq_true rfl) dX11_statement_111 rfl h (ci_k (fun r5 Ω4 res h => ?_))
    refine zo_iconst hY 1 (by decide) dX11_statement_114 ?_
    refine zo_callVX hY hr (fun q hq => mt_X11_need hJ hCon N x0 r5 1 Ω4 q hq) (by decide) (by decide) (by decide) ⟨rfl, cn_X11_need⟩ rfl q667 q669 qs11 q97 q670 (Nat.le_of_ble_eq_true rfl) dX11_statement_115 rfl h (fun Ω6 res h => ?_)
    refine zo_aload_n hY dX11_statement_118 rfl 0 rfl ?_
    refine zo_callV hY (fun q hq => mt_X11_next hJ hCon N x0 Ω6 q hq) (by decide) (by decide) (by decide) ⟨rfl, cn_X11_next⟩ rfl q595 q597 qs5 q97 q598 (Nat.le_of_ble_eq_true rfl) dX11_statement_119 rfl h (cv_k (fun Ω7 res h => ?_))
    refine zo_aload_n hY dX11_statement_122 rfl 0 rfl ?_
    refine zo_getK hY LX11_18_9 rfl dX11_statement_123 h (fun j8 h => ?_)
    refine zo_aload_n hY dX11_statement_126 rfl 1 rfl ?_
    refine zo_callV hY (fun q hq => mt_J2_add hJ hCon N j8 x1 Ω7 q hq) (by decide) (by decide) (by decide) ⟨rfl, cn_J2_add⟩ rfl q802 q285 q286 q81 q287 (Nat.le_of_ble_eq_true rfl) dX11_statement_127 rfl h (ci_k (fun r10 Ω9 res h => ?_))
    refine zo_pop hY dX11_statement_130 (Or.inl rfl) ?_
    exact zo_vretX hY hr dX11_statement_131 h
  · refine zo_aload_n hY dX11_statement_95 rfl 0 rfl ?_
    refine zo_callV hY (fun q hq => mt_X11_next hJ hCon N x0 Ω1 q hq) (by decide) (by decide) (by decide) ⟨rfl, cn_X11_next⟩ rfl q595 q597 qs5 q97 q598 (Nat.le_of_ble_eq_true rfl) dX11_statement_96 rfl h (cv_k (fun Ω11 res h => ?_))
    refine zo_aload_n hY dX11_statement_99 rfl 0 rfl ?_
    refine zo_aload_n hY dX11_statement_100 rfl 1 rfl ?_
    refine zo_callVX hY hr (fun q hq => mt_X11_term hJ hCon N x0 x1 Ω11 q hq) (by decide) (by decide) (by decide) ⟨rfl, cn_X11_term⟩ rfl q760 q762 qs13 q97 q763 (Nat.le_of_ble_eq_true rfl) dX11_statement_101 rfl h (fun Ω12 res h => ?_)
    refine zo_goto hY 86 dX11_statement_104 (by decide) ?_
    exact hK86 x0 x1 Ω12 _ h
def fn_X11_statement_86 (N : Nat)  : Nat → Nat → Option zo_T → zo_O → Option zo_R
  | 0, _, _, _ => none
  | n + 1, x0, x1, Ω => bd_X11_statement_86 N  (fn_X11_statement_86 N  n) x0 x1 Ω
theorem ct_X11_statement_86 {Y : zo_Y} (hY : zo_Gd Y cX11_statement 2 RX11 8) (hJ : zo_JC (zo_J Y)) (hCon : ∀ Ω, zo_J Y Ω → zo_Con Ω) (hr : zo_rtX Y (Option.none : Option Jvm.ClassFile.FieldType)) (N : Nat)   : ∀ (n : Nat) (x0 : Nat) (x1 : Option zo_T) (Ω : zo_O) (res : zo_R), fn_X11_statement_86 N  n x0 x1 Ω = some res → TW Y res Ω 86 [(0, vr 9 x0), (1, vo x1)] [] := by
  intro n
  induction n with
  | zero => intro x0 x1 Ω res h; exact nomatch (show (none : Option zo_R) = some res from h)
  | succ n ih => intro x0 x1 Ω res h; exact cb_X11_statement_86 hY hJ hCon hr N  (fn_X11_statement_86 N  n)  ih x0 x1 Ω res h
def fn_X11_statement_76 (N : Nat)  (x0 : Nat) (s0 : Option zo_T) (Ω : zo_O) : Option zo_R :=
  cv (fn_X11_next N x0 Ω) fun Ω1 =>
  cx (fn_X11_term N x0 s0 Ω1) fun Ω2 =>
  fn_X11_statement_86 N N x0 s0 Ω2
theorem ct_X11_statement_76 {Y : zo_Y} (hY : zo_Gd Y cX11_statement 2 RX11 8) (hJ : zo_JC (zo_J Y)) (hCon : ∀ Ω, zo_J Y Ω → zo_Con Ω) (hr : zo_rtX Y (Option.none : Option Jvm.ClassFile.FieldType)) (N : Nat)   (x0 : Nat) (s0 : Option zo_T) (Ω : zo_O) (res : zo_R) (h : fn_X11_statement_76 N  x0 s0 Ω = some res) : TW Y res Ω 76 [(0, vr 9 x0)] [vo s0] := by
  unfold fn_X11_statement_76 at h
  refine zo_astore_n hY dX11_statement_76 rfl (by decide) rfl (ls' := [(1, vo s0), (0, vr 9 x0)]) rfl ?_
  refine zo_aload_n hY dX11_statement_77 rfl 1 rfl ?_
  refine zo_callV hY (fun q hq => mt_X11_next hJ hCon N x0 Ω q hq) (by decide) (by decide) (by decide) ⟨rfl, cn_X11_next⟩ rfl q595 q597 qs5 q97 q598 (Nat.le_of_ble_eq_true rfl) dX11_statement_78 rfl h (cv_k (fun Ω1 res h => ?_))
  refine zo_aload_n hY dX11_statement_81 rfl 1 rfl ?_
  refine zo_aload_n hY dX11_statement_82 rfl 0 rfl ?_
  refine zo_callVX hY hr (fun q hq => mt_X11_term hJ hCon N x0 s0 Ω1 q hq) (by decide) (by decide) (by decide) ⟨rfl, cn_X11_term⟩ rfl q760 q762 qs13 q97 q763 (Nat.le_of_ble_eq_true rfl) dX11_statement_83 rfl h (fun Ω2 res h => ?_)
  refine zo_sub [1, 0] rfl ?_
  exact ct_X11_statement_86 hY hJ hCon hr N N x0 s0 Ω2 _ h
def fn_X11_statement_46 (N : Nat)  (x0 : Nat) (s0 : Int32) (s1 : Nat) (Ω : zo_O) : Option zo_R :=
  cx (fn_X11_need N s1 s0 2 Ω) fun Ω1 =>
  ci (fn_X11_is N x0 0 Ω1) fun r3 Ω2 =>
  if r3 = 0 then (
    ad 1 1 <| lt (nw Ω2 12 0) fun Ω5 =>
    cv (fn_X15_init N (gC Ω2 12) Ω5) fun Ω6 =>
    fn_X11_statement_76 N x0 (some (12, gC Ω2 12)) Ω6
    ) else
  ad 1 1 <| lt (nw Ω2 11 0) fun Ω7 =>
  cv (fn_X14_init N (gC Ω2 11) Ω7) fun Ω8 =>
  fn_X11_statement_76 N x0 (some (11, gC Ω2 11)) Ω8
theorem ct_X11_statement_46 {Y : zo_Y} (hY : zo_Gd Y cX11_statement 2 RX11 8) (hJ : zo_JC (zo_J Y)) (hCon : ∀ Ω, zo_J Y Ω → zo_Con Ω) (hr : zo_rtX Y (Option.none : Option Jvm.ClassFile.FieldType)) (N : Nat)   (x0 : Nat) (s0 : Int32) (s1 : Nat) (Ω : zo_O) (res : zo_R) (h : fn_X11_statement_46 N  x0 s0 s1 Ω = some res) : TW Y res Ω 46 [(0, vr 9 x0)] [vi s0, vr 9 s1] := by
  unfold fn_X11_statement_46 at h
  refine zo_iconst hY 2 (by decide) dX11_statement_46 ?_
  refine zo_callVX hY hr (fun q hq => mt_X11_need hJ hCon N s1 s0 2 Ω q hq) (by decide) (by decide) (by decide) ⟨rfl, cn_X11_need⟩ rfl q667 q669 qs11 q97 q670 (Nat.le_of_ble_eq_true rfl) dX11_statement_47 rfl h (fun Ω1 res h => ?_)
  refine zo_aload_n hY dX11_statement_50 rfl 0 rfl ?_
  refine zo_ldcS hY (tx := "use") (j := 0) (by decide) dX11_statement_51 ?_
  refine zo_callV hY (fun q hq => mt_X11_is hJ hCon N x0 0 Ω1 q hq) (by decide) (by decide) (by decide) ⟨rfl, cn_X11_is⟩ rfl q616 q618 qs10 q97 q619 (Nat.le_of_ble_eq_true rfl) dX11_statement_53 rfl h (ci_k (fun r3 Ω2 res h => ?_))
  refine zo_if_eq hY 69 dX11_statement_56 (by decide) h (fun c4 h => ?_) (fun c4 h => ?_)
  · refine zo_new hY hJ (k := 12) (by decide) (Or.inl rfl) rfl q752 q753 q106 dX11_statement_69 h (fun Ω5 res h => ?_)
    refine zo_dup hY dX11_statement_72 (Or.inr ⟨_, rfl⟩) ?_
    refine zo_callIN hY (fun q hq => mt_X15_init hJ hCon N (gC Ω2 12) Ω5 q hq) (by decide) (by decide) cn_X15_init rfl rfl q754 q755 q106 q756 (Nat.le_of_ble_eq_true rfl) dX11_statement_73 rfl h (cv_k (fun Ω6 res h => ?_))
    exact ct_X11_statement_76 hY hJ hCon hr N x0 (some (12, gC Ω2 12)) Ω6 _ h
  · refine zo_new hY hJ (k := 11) (by decide) (Or.inl rfl) rfl q736 q737 q105 dX11_statement_59 h (fun Ω7 res h => ?_)
    refine zo_dup hY dX11_statement_62 (Or.inr ⟨_, rfl⟩) ?_
    refine zo_callIN hY (fun q hq => mt_X14_init hJ hCon N (gC Ω2 11) Ω7 q hq) (by decide) (by decide) cn_X14_init rfl rfl q738 q739 q105 q740 (Nat.le_of_ble_eq_true rfl) dX11_statement_63 rfl h (cv_k (fun Ω8 res h => ?_))
    refine zo_goto hY 76 dX11_statement_66 (by decide) ?_
    exact ct_X11_statement_76 hY hJ hCon hr N x0 (some (11, gC Ω2 11)) Ω8 _ h
def fn_X11_statement_24 (N : Nat)  (x0 : Nat) (s0 : Int32) (s1 : Nat) (Ω : zo_O) : Option zo_R :=
  cx (fn_X11_need N s1 s0 1 Ω) fun Ω1 =>
  bk (gR Ω1 9 x0 0) 20 fun j2 =>
  ci (fn_J2_size N j2 Ω1) fun r4 Ω3 =>
  if 12 ≤ r4 then (
    fn_X11_statement_46 N x0 0 x0 Ω3
    ) else
  fn_X11_statement_46 N x0 1 x0 Ω3
theorem ct_X11_statement_24 {Y : zo_Y} (hY : zo_Gd Y cX11_statement 2 RX11 8) (hJ : zo_JC (zo_J Y)) (hCon : ∀ Ω, zo_J Y Ω → zo_Con Ω) (hr : zo_rtX Y (Option.none : Option Jvm.ClassFile.FieldType)) (N : Nat)   (x0 : Nat) (s0 : Int32) (s1 : Nat) (Ω : zo_O) (res : zo_R) (h : fn_X11_statement_24 N  x0 s0 s1 Ω = some res) : TW Y res Ω 24 [(0, vr 9 x0)] [vi s0, vr 9 s1] := by
  unfold fn_X11_statement_24 at h
  refine zo_iconst hY 1 (by decide) dX11_statement_24 ?_
  refine zo_callVX hY hr (fun q hq => mt_X11_need hJ hCon N s1 s0 1 Ω q hq) (by decide) (by decide) (by decide) ⟨rfl, cn_X11_need⟩ rfl q667 q669 qs11 q97 q670 (Nat.le_of_ble_eq_true rfl) dX11_statement_25 rfl h (fun Ω1 res h => ?_)
  refine zo_aload_n hY dX11_statement_28 rfl 0 rfl ?_
  refine zo_aload_n hY dX11_statement_29 rfl 0 rfl ?_
  refine zo_getK hY LX11_18_9 rfl dX11_statement_30 h (fun j2 h => ?_)
  refine zo_callV hY (fun q hq => mt_J2_size hJ hCon N j2 Ω1 q hq) (by decide) (by decide) (by decide) ⟨rfl, cn_J2_size⟩ rfl q735 q246 q247 q81 q248 (Nat.le_of_ble_eq_true rfl) dX11_statement_33 rfl h (ci_k (fun r4 Ω3 res h => ?_))
  refine zo_bipush hY 12 (by decide) dX11_statement_36 ?_
  refine zo_icmp_ge hY 45 dX11_statement_38 (by decide) h (fun c5 h => ?_) (fun c5 h => ?_)
  · refine zo_iconst hY 0 (by decide) dX11_statement_45 ?_
    exact ct_X11_statement_46 hY hJ hCon hr N x0 0 x0 Ω3 _ h
  · refine zo_iconst hY 1 (by decide) dX11_statement_41 ?_
    refine zo_goto hY 46 dX11_statement_42 (by decide) ?_
    exact ct_X11_statement_46 hY hJ hCon hr N x0 1 x0 Ω3 _ h
def fn_X11_statement_19 (N : Nat)  (x0 : Nat) (s0 : Nat) (Ω : zo_O) : Option zo_R :=
  fn_X11_statement_24 N x0 1 s0 Ω
theorem ct_X11_statement_19 {Y : zo_Y} (hY : zo_Gd Y cX11_statement 2 RX11 8) (hJ : zo_JC (zo_J Y)) (hCon : ∀ Ω, zo_J Y Ω → zo_Con Ω) (hr : zo_rtX Y (Option.none : Option Jvm.ClassFile.FieldType)) (N : Nat)   (x0 : Nat) (s0 : Nat) (Ω : zo_O) (res : zo_R) (h : fn_X11_statement_19 N  x0 s0 Ω = some res) : TW Y res Ω 19 [(0, vr 9 x0)] [vr 9 s0] := by
  unfold fn_X11_statement_19 at h
  refine zo_iconst hY 1 (by decide) dX11_statement_19 ?_
  refine zo_goto hY 24 dX11_statement_20 (by decide) ?_
  exact ct_X11_statement_24 hY hJ hCon hr N x0 1 s0 Ω _ h
def fn_X11_statement (N : Nat) (x0 : Nat) (Ω : zo_O) : Option zo_R :=
  ci (fn_X11_is N x0 0 Ω) fun r2 Ω1 =>
  if r2 = 0 then (
    ci (fn_X11_is N x0 1 Ω1) fun r5 Ω4 =>
    if r5 = 0 then (
      fn_X11_statement_24 N x0 0 x0 Ω4
      ) else
    fn_X11_statement_19 N x0 x0 Ω4
    ) else
  fn_X11_statement_19 N x0 x0 Ω1
theorem mt_X11_statement {G : zo_G} {J : zo_O → Prop} (hJ : zo_JC J) (hCon : ∀ Ω, J Ω → zo_Con Ω) (N : Nat) (x0 : Nat) (Ω : zo_O) (res : zo_R) (h : fn_X11_statement N x0 Ω = some res) : zo_MX G J yX11_statement cX11_statement 2 (Option.none : Option Jvm.ClassFile.FieldType) 8 [vr 9 x0] Ω res := by
  refine zo_enterX (by decide) rfl (Nat.le_of_ble_eq_true rfl) (fun Y hY eJ hr hmn => ?_)
  subst eJ
  show TW Y res Ω 0 [(0, vr 9 x0)] []
  unfold fn_X11_statement at h
  refine zo_aload_n hY dX11_statement_0 rfl 0 rfl ?_
  refine zo_aload_n hY dX11_statement_1 rfl 0 rfl ?_
  refine zo_ldcS hY (tx := "use") (j := 0) (by decide) dX11_statement_2 ?_
  refine zo_callV hY (fun q hq => mt_X11_is hJ hCon N x0 0 Ω q hq) (by decide) (by decide) (by decide) ⟨rfl, cn_X11_is⟩ rfl q616 q618 qs10 q97 q619 (Nat.le_of_ble_eq_true rfl) dX11_statement_4 rfl h (ci_k (fun r2 Ω1 res h => ?_))
  refine zo_if_ne hY 19 dX11_statement_7 (by decide) h (fun c3 h => ?_) (fun c3 h => ?_)
  · refine zo_aload_n hY dX11_statement_10 rfl 0 rfl ?_
    refine zo_ldcS hY (tx := "skip") (j := 1) (by decide) dX11_statement_11 ?_
    refine zo_callV hY (fun q hq => mt_X11_is hJ hCon N x0 1 Ω1 q hq) (by decide) (by decide) (by decide) ⟨rfl, cn_X11_is⟩ rfl q616 q618 qs10 q97 q619 (Nat.le_of_ble_eq_true rfl) dX11_statement_13 rfl h (ci_k (fun r5 Ω4 res h => ?_))
    refine zo_if_eq hY 23 dX11_statement_16 (by decide) h (fun c6 h => ?_) (fun c6 h => ?_)
    · refine zo_iconst hY 0 (by decide) dX11_statement_23 ?_
      exact ct_X11_statement_24 hY hJ hCon hr N x0 0 x0 Ω4 _ h
    · exact ct_X11_statement_19 hY hJ hCon hr N x0 x0 Ω4 _ h
  · exact ct_X11_statement_19 hY hJ hCon hr N x0 x0 Ω1 _ h
theorem dX11_read_0 : decode cX11_read 0 = .ok (.aload_n 0, 1) := by decide +kernel
theorem dX11_read_1 : decode cX11_read 1 = .ok (.invokevirtual 109, 3) := by decide +kernel
theorem dX11_read_4 : decode cX11_read 4 = .ok (.aload_n 0, 1) := by decide +kernel
theorem dX11_read_5 : decode cX11_read 5 = .ok (.getfield 40, 3) := by decide +kernel
theorem dX11_read_8 : decode cX11_read 8 = .ok (.ifCond .eq 10, 3) := by decide +kernel
theorem dX11_read_11 : decode cX11_read 11 = .ok (.aload_n 0, 1) := by decide +kernel
theorem dX11_read_12 : decode cX11_read 12 = .ok (.invokevirtual 140, 3) := by decide +kernel
theorem dX11_read_15 : decode cX11_read 15 = .ok (.goto (-11), 3) := by decide +kernel
theorem dX11_read_18 : decode cX11_read 18 = .ok (.return_, 1) := by decide +kernel
def bd_X11_read_4 (N : Nat)  (K4 : Nat → zo_O → Option zo_R) (x0 : Nat) (Ω : zo_O) : Option zo_R :=
  if gI Ω 9 x0 3 = 0 then (
    rV Ω
    ) else
  cx (fn_X11_statement N x0 Ω) fun Ω2 =>
  K4 x0 Ω2
theorem cb_X11_read_4 {Y : zo_Y} (hY : zo_Gd Y cX11_read 1 RX11 9) (hJ : zo_JC (zo_J Y)) (hCon : ∀ Ω, zo_J Y Ω → zo_Con Ω) (hr : zo_rtX Y (Option.none : Option Jvm.ClassFile.FieldType)) (N : Nat)  (K4 : Nat → zo_O → Option zo_R)  (hK4 : ∀ (x0 : Nat) (Ω : zo_O) (res : zo_R), K4 x0 Ω = some res → TW Y res Ω 4 [(0, vr 9 x0)] []) (x0 : Nat) (Ω : zo_O) (res : zo_R) (h : bd_X11_read_4 N  K4 x0 Ω = some res) : TW Y res Ω 4 [(0, vr 9 x0)] [] := by
  unfold bd_X11_read_4 at h
  refine zo_aload_n hY dX11_read_4 rfl 0 rfl ?_
  refine zo_getI hY LX11_40_9 rfl dX11_read_5 ?_
  refine zo_if_eq hY 18 dX11_read_8 (by decide) h (fun c1 h => ?_) (fun c1 h => ?_)
  · exact zo_vretX hY hr dX11_read_18 h
  · refine zo_aload_n hY dX11_read_11 rfl 0 rfl ?_
    refine zo_callVX hY hr (fun q hq => mt_X11_statement hJ hCon N x0 Ω q hq) (by decide) (by decide) (by decide) ⟨rfl, cn_X11_statement⟩ rfl q611 q613 qs9 q97 q614 (Nat.le_of_ble_eq_true rfl) dX11_read_12 rfl h (fun Ω2 res h => ?_)
    refine zo_goto hY 4 dX11_read_15 (by decide) ?_
    exact hK4 x0 Ω2 _ h
def fn_X11_read_4 (N : Nat)  : Nat → Nat → zo_O → Option zo_R
  | 0, _, _ => none
  | n + 1, x0, Ω => bd_X11_read_4 N  (fn_X11_read_4 N  n) x0 Ω
theorem ct_X11_read_4 {Y : zo_Y} (hY : zo_Gd Y cX11_read 1 RX11 9) (hJ : zo_JC (zo_J Y)) (hCon : ∀ Ω, zo_J Y Ω → zo_Con Ω) (hr : zo_rtX Y (Option.none : Option Jvm.ClassFile.FieldType)) (N : Nat)   : ∀ (n : Nat) (x0 : Nat) (Ω : zo_O) (res : zo_R), fn_X11_read_4 N  n x0 Ω = some res → TW Y res Ω 4 [(0, vr 9 x0)] [] := by
  intro n
  induction n with
  | zero => intro x0 Ω res h; exact nomatch (show (none : Option zo_R) = some res from h)
  | succ n ih => intro x0 Ω res h; exact cb_X11_read_4 hY hJ hCon hr N  (fn_X11_read_4 N  n)  ih x0 Ω res h
def fn_X11_read (N : Nat) (x0 : Nat) (Ω : zo_O) : Option zo_R :=
  cv (fn_X11_next N x0 Ω) fun Ω1 =>
  fn_X11_read_4 N N x0 Ω1
theorem mt_X11_read {G : zo_G} {J : zo_O → Prop} (hJ : zo_JC J) (hCon : ∀ Ω, J Ω → zo_Con Ω) (N : Nat) (x0 : Nat) (Ω : zo_O) (res : zo_R) (h : fn_X11_read N x0 Ω = some res) : zo_MX G J yX11_read cX11_read 1 (Option.none : Option Jvm.ClassFile.FieldType) 9 [vr 9 x0] Ω res := by
  refine zo_enterX (by decide) rfl (Nat.le_of_ble_eq_true rfl) (fun Y hY eJ hr hmn => ?_)
  subst eJ
  show TW Y res Ω 0 [(0, vr 9 x0)] []
  unfold fn_X11_read at h
  refine zo_aload_n hY dX11_read_0 rfl 0 rfl ?_
  refine zo_callV hY (fun q hq => mt_X11_next hJ hCon N x0 Ω q hq) (by decide) (by decide) (by decide) ⟨rfl, cn_X11_next⟩ rfl q595 q597 qs5 q97 q598 (Nat.le_of_ble_eq_true rfl) dX11_read_1 rfl h (cv_k (fun Ω1 res h => ?_))
  exact ct_X11_read_4 hY hJ hCon hr N N x0 Ω1 _ h
theorem dX11_init_0 : decode cX11_init 0 = .ok (.aload_n 0, 1) := by decide +kernel
theorem dX11_init_1 : decode cX11_init 1 = .ok (.aload_n 1, 1) := by decide +kernel
theorem dX11_init_2 : decode cX11_init 2 = .ok (.putfield 3, 3) := by decide +kernel
theorem dX11_init_5 : decode cX11_init 5 = .ok (.aload_n 0, 1) := by decide +kernel
theorem dX11_init_6 : decode cX11_init 6 = .ok (.invokespecial 9, 3) := by decide +kernel
theorem dX11_init_9 : decode cX11_init 9 = .ok (.aload_n 0, 1) := by decide +kernel
theorem dX11_init_10 : decode cX11_init 10 = .ok (.new 15, 3) := by decide +kernel
theorem dX11_init_13 : decode cX11_init 13 = .ok (.dup, 1) := by decide +kernel
theorem dX11_init_14 : decode cX11_init 14 = .ok (.invokespecial 17, 3) := by decide +kernel
theorem dX11_init_17 : decode cX11_init 17 = .ok (.putfield 18, 3) := by decide +kernel
theorem dX11_init_20 : decode cX11_init 20 = .ok (.return_, 1) := by decide +kernel
def fn_X11_init (N : Nat) (x0 : Nat) (Ω : zo_O) : Option zo_R :=
  lt (sR Ω 9 x0 5 (some (0, 0))) fun Ω1 =>
  ad 1 3 <| lt (nw Ω1 20 0) fun Ω2 =>
  lt (sR Ω2 9 x0 0 (some (20, gC Ω1 20))) fun Ω3 =>
  rV Ω3
theorem mt_X11_init {G : zo_G} {J : zo_O → Prop} (hJ : zo_JC J) (hCon : ∀ Ω, J Ω → zo_Con Ω) (N : Nat) (x0 : Nat) (Ω : zo_O) (res : zo_R) (h : fn_X11_init N x0 Ω = some res) : zo_MT G J yX11_init cX11_init 2 (Option.none : Option Jvm.ClassFile.FieldType) 5 [vr 9 x0, vr 0 0] Ω res := by
  refine zo_enter (by decide) rfl (Nat.le_of_ble_eq_true rfl) (fun Y hY eJ hr hmn => ?_)
  subst eJ
  have hmn := hmn rfl
  show TW Y res Ω 0 [(0, vr 9 x0), (1, vr 0 0)] []
  unfold fn_X11_init at h
  refine zo_aload_n hY dX11_init_0 rfl 0 rfl ?_
  refine zo_aload_n hY dX11_init_1 rfl 1 rfl ?_
  refine zo_putR hY hJ LX11_3_9 rfl (Or.inl rfl) (Or.inr ⟨rfl, hmn, rfl, _, q577, Or.inl rfl⟩) dX11_init_2 h (fun Ω1 h => ?_)
  refine zo_aload_n hY dX11_init_5 rfl 0 rfl ?_
  refine zo_oini hY (by decide) q567 (fun ρ => zo_room8 (Nat.le_of_ble_eq_true rfl)) dX11_init_6 ?_
  refine zo_aload_n hY dX11_init_9 rfl 0 rfl ?_
  refine zo_newL hY hJ (by decide) q568 q569 (Nat.le_of_ble_eq_true rfl) dX11_init_10 dX11_init_13 dX11_init_14 h (fun Ω2 res h => ?_)
  refine zo_putR hY hJ LX11_18_9 rfl (Or.inl rfl) (Or.inr ⟨rfl, hmn, rfl, _, q570, Or.inl rfl⟩) dX11_init_17 h (fun Ω3 h => ?_)
  exact zo_vret hY hr dX11_init_20 h
theorem dX1_rule_0 : decode cX1_rule 0 = .ok (.new 190, 3) := by decide +kernel
theorem dX1_rule_3 : decode cX1_rule 3 = .ok (.dup, 1) := by decide +kernel
theorem dX1_rule_4 : decode cX1_rule 4 = .ok (.aload_n 0, 1) := by decide +kernel
theorem dX1_rule_5 : decode cX1_rule 5 = .ok (.invokespecial 192, 3) := by decide +kernel
theorem dX1_rule_8 : decode cX1_rule 8 = .ok (.astore_n 1, 1) := by decide +kernel
theorem dX1_rule_9 : decode cX1_rule 9 = .ok (.iconst 0, 1) := by decide +kernel
theorem dX1_rule_10 : decode cX1_rule 10 = .ok (.istore_n 2, 1) := by decide +kernel
theorem dX1_rule_11 : decode cX1_rule 11 = .ok (.aload_n 1, 1) := by decide +kernel
theorem dX1_rule_12 : decode cX1_rule 12 = .ok (.invokevirtual 195, 3) := by decide +kernel
theorem dX1_rule_15 : decode cX1_rule 15 = .ok (.aload_n 0, 1) := by decide +kernel
theorem dX1_rule_16 : decode cX1_rule 16 = .ok (.aload_n 1, 1) := by decide +kernel
theorem dX1_rule_17 : decode cX1_rule 17 = .ok (.getfield 198, 3) := by decide +kernel
theorem dX1_rule_20 : decode cX1_rule 20 = .ok (.putfield 59, 3) := by decide +kernel
theorem dX1_rule_23 : decode cX1_rule 23 = .ok (.goto 11, 3) := by decide +kernel
theorem dX1_rule_26 : decode cX1_rule 26 = .ok (.astore_n 3, 1) := by decide +kernel
theorem dX1_rule_27 : decode cX1_rule 27 = .ok (.iconst (-1), 1) := by decide +kernel
theorem dX1_rule_28 : decode cX1_rule 28 = .ok (.aload_n 3, 1) := by decide +kernel
theorem dX1_rule_29 : decode cX1_rule 29 = .ok (.getfield 203, 3) := by decide +kernel
theorem dX1_rule_32 : decode cX1_rule 32 = .ok (.isub, 1) := by decide +kernel
theorem dX1_rule_33 : decode cX1_rule 33 = .ok (.istore_n 2, 1) := by decide +kernel
theorem dX1_rule_34 : decode cX1_rule 34 = .ok (.aload_n 0, 1) := by decide +kernel
theorem dX1_rule_35 : decode cX1_rule 35 = .ok (.iconst 0, 1) := by decide +kernel
theorem dX1_rule_36 : decode cX1_rule 36 = .ok (.putfield 183, 3) := by decide +kernel
theorem dX1_rule_39 : decode cX1_rule 39 = .ok (.aload_n 0, 1) := by decide +kernel
theorem dX1_rule_40 : decode cX1_rule 40 = .ok (.iload_n 2, 1) := by decide +kernel
theorem dX1_rule_41 : decode cX1_rule 41 = .ok (.ifCond .ge 10, 3) := by decide +kernel
theorem dX1_rule_44 : decode cX1_rule 44 = .ok (.aload_n 1, 1) := by decide +kernel
theorem dX1_rule_45 : decode cX1_rule 45 = .ok (.getfield 204, 3) := by decide +kernel
theorem dX1_rule_48 : decode cX1_rule 48 = .ok (.goto 4, 3) := by decide +kernel
theorem dX1_rule_51 : decode cX1_rule 51 = .ok (.iconst (-1), 1) := by decide +kernel
theorem dX1_rule_52 : decode cX1_rule 52 = .ok (.putfield 56, 3) := by decide +kernel
theorem dX1_rule_55 : decode cX1_rule 55 = .ok (.iload_n 2, 1) := by decide +kernel
theorem dX1_rule_56 : decode cX1_rule 56 = .ok (.ifCond .ge 7, 3) := by decide +kernel
theorem dX1_rule_59 : decode cX1_rule 59 = .ok (.iload_n 2, 1) := by decide +kernel
theorem dX1_rule_60 : decode cX1_rule 60 = .ok (.goto 10, 3) := by decide +kernel
theorem dX1_rule_63 : decode cX1_rule 63 = .ok (.aload_n 0, 1) := by decide +kernel
theorem dX1_rule_64 : decode cX1_rule 64 = .ok (.getfield 59, 3) := by decide +kernel
theorem dX1_rule_67 : decode cX1_rule 67 = .ok (.invokevirtual 85, 3) := by decide +kernel
theorem dX1_rule_70 : decode cX1_rule 70 = .ok (.ireturn, 1) := by decide +kernel
def fn_X1_rule_70 (N : Nat)  (s0 : Int32) (Ω : zo_O) : Option zo_R :=
  rI s0 Ω
theorem ct_X1_rule_70 {Y : zo_Y} (hY : zo_Gd Y cX1_rule 4 RX1 10) (hJ : zo_JC (zo_J Y)) (hCon : ∀ Ω, zo_J Y Ω → zo_Con Ω) (hr : zo_rt Y (Option.some Jvm.ClassFile.FieldType.int)) (hh : zo_hh Y [(11, 23, 26, 201)]) (N : Nat)   (s0 : Int32) (Ω : zo_O) (res : zo_R) (h : fn_X1_rule_70 N  s0 Ω = some res) : TW Y res Ω 70 [] [vi s0] := by
  unfold fn_X1_rule_70 at h
  exact zo_iret hY hr dX1_rule_70 h
def fn_X1_rule_52 (N : Nat)  (x2 : Int32) (s0 : Int32) (Ω : zo_O) : Option zo_R :=
  lt (sI Ω 0 0 14 s0) fun Ω1 =>
  if 0 ≤ x2 then (
    bk (gR Ω1 0 0 15) 20 fun j3 =>
    ci (fn_J2_size N j3 Ω1) fun r5 Ω4 =>
    fn_X1_rule_70 N r5 Ω4
    ) else
  fn_X1_rule_70 N x2 Ω1
theorem ct_X1_rule_52 {Y : zo_Y} (hY : zo_Gd Y cX1_rule 4 RX1 10) (hJ : zo_JC (zo_J Y)) (hCon : ∀ Ω, zo_J Y Ω → zo_Con Ω) (hr : zo_rt Y (Option.some Jvm.ClassFile.FieldType.int)) (hh : zo_hh Y [(11, 23, 26, 201)]) (N : Nat)   (x2 : Int32) (s0 : Int32) (Ω : zo_O) (res : zo_R) (h : fn_X1_rule_52 N  x2 s0 Ω = some res) : TW Y res Ω 52 [(0, vr 0 0), (2, vi x2)] [vi s0, vr 0 0] := by
  unfold fn_X1_rule_52 at h
  refine zo_putI hY hJ LX1_56_0 rfl (Or.inl rfl) dX1_rule_52 h (fun Ω1 h => ?_)
  refine zo_iload_n hY dX1_rule_55 rfl 1 rfl ?_
  refine zo_if_ge hY 63 dX1_rule_56 (by decide) h (fun c2 h => ?_) (fun c2 h => ?_)
  · refine zo_aload_n hY dX1_rule_63 rfl 0 rfl ?_
    refine zo_getK hY LX1_59_0 rfl dX1_rule_64 h (fun j3 h => ?_)
    refine zo_callV hY (fun q hq => mt_J2_size hJ hCon N j3 Ω1 q hq) (by decide) (by decide) (by decide) ⟨rfl, cn_J2_size⟩ rfl q245 q246 q247 q81 q248 (Nat.le_of_ble_eq_true rfl) dX1_rule_67 rfl h (ci_k (fun r5 Ω4 res h => ?_))
    refine zo_sub [] rfl ?_
    exact ct_X1_rule_70 hY hJ hCon hr hh N r5 Ω4 _ h
  · refine zo_iload_n hY dX1_rule_59 rfl 1 rfl ?_
    refine zo_goto hY 70 dX1_rule_60 (by decide) ?_
    refine zo_sub [] rfl ?_
    exact ct_X1_rule_70 hY hJ hCon hr hh N x2 Ω1 _ h
def fn_X1_rule_34 (N : Nat)  (x1 : Nat) (x2 : Int32) (Ω : zo_O) : Option zo_R :=
  lt (sI Ω 0 0 13 0) fun Ω1 =>
  if 0 ≤ x2 then (
    fn_X1_rule_52 N x2 ((-1)) Ω1
    ) else
  fn_X1_rule_52 N x2 (gI Ω1 9 x1 2) Ω1
theorem ct_X1_rule_34 {Y : zo_Y} (hY : zo_Gd Y cX1_rule 4 RX1 10) (hJ : zo_JC (zo_J Y)) (hCon : ∀ Ω, zo_J Y Ω → zo_Con Ω) (hr : zo_rt Y (Option.some Jvm.ClassFile.FieldType.int)) (hh : zo_hh Y [(11, 23, 26, 201)]) (N : Nat)   (x1 : Nat) (x2 : Int32) (Ω : zo_O) (res : zo_R) (h : fn_X1_rule_34 N  x1 x2 Ω = some res) : TW Y res Ω 34 [(0, vr 0 0), (1, vr 9 x1), (2, vi x2)] [] := by
  unfold fn_X1_rule_34 at h
  refine zo_aload_n hY dX1_rule_34 rfl 0 rfl ?_
  refine zo_iconst hY 0 (by decide) dX1_rule_35 ?_
  refine zo_putI hY hJ LX1_183_0 rfl (Or.inl rfl) dX1_rule_36 h (fun Ω1 h => ?_)
  refine zo_aload_n hY dX1_rule_39 rfl 0 rfl ?_
  refine zo_iload_n hY dX1_rule_40 rfl 2 rfl ?_
  refine zo_if_ge hY 51 dX1_rule_41 (by decide) h (fun c2 h => ?_) (fun c2 h => ?_)
  · refine zo_iconst hY (-1) (by decide) dX1_rule_51 ?_
    refine zo_sub [0, 2] rfl ?_
    exact ct_X1_rule_52 hY hJ hCon hr hh N x2 ((-1)) Ω1 _ h
  · refine zo_aload_n hY dX1_rule_44 rfl 1 rfl ?_
    refine zo_getI hY LX1_204_9 rfl dX1_rule_45 ?_
    refine zo_goto hY 52 dX1_rule_48 (by decide) ?_
    refine zo_sub [0, 2] rfl ?_
    exact ct_X1_rule_52 hY hJ hCon hr hh N x2 (gI Ω1 9 x1 2) Ω1 _ h
def fn_X1_rule (N : Nat)  (Ω : zo_O) : Option zo_R :=
  ad 1 6 <| lt (nw Ω 9 0) fun Ω1 =>
  cv (fn_X11_init N (gC Ω 9) Ω1) fun Ω2 =>
  chV (fn_X11_read N (gC Ω 9) Ω2) (fun Ω3 =>
    bk (gR Ω3 9 (gC Ω 9) 0) 20 fun j7 =>
    lt (sR Ω3 0 0 15 (some (20, j7))) fun Ω8 =>
    fn_X1_rule_34 N (gC Ω 9) 0 Ω8
    ) fun n4 Ω5 =>
  li (((-1)) - (gI Ω5 10 n4 6)) fun y9 =>
  fn_X1_rule_34 N (gC Ω 9) y9 Ω5
theorem mt_X1_rule {G : zo_G} {J : zo_O → Prop} (hJ : zo_JC J) (hCon : ∀ Ω, J Ω → zo_Con Ω) (N : Nat)  (Ω : zo_O) (res : zo_R) (h : fn_X1_rule N  Ω = some res) : zo_MW G J yX1_rule cX1_rule 4 (Option.some Jvm.ClassFile.FieldType.int) [(11, 23, 26, 201)] 10 [vr 0 0] Ω res := by
  refine zo_enterW (by decide) rfl (Nat.le_of_ble_eq_true rfl) (fun Y hY eJ hr hh => ?_)
  subst eJ
  show TW Y res Ω 0 [(0, vr 0 0)] []
  unfold fn_X1_rule at h
  refine zo_new hY hJ (k := 9) (by decide) (Or.inl rfl) rfl q562 q563 q97 dX1_rule_0 h (fun Ω1 res h => ?_)
  refine zo_dup hY dX1_rule_3 (Or.inr ⟨_, rfl⟩) ?_
  refine zo_aload_n hY dX1_rule_4 rfl 0 rfl ?_
  refine zo_callIN hY (fun q hq => mt_X11_init hJ hCon N (gC Ω 9) Ω1 q hq) (by decide) (by decide) cn_X11_init rfl rfl q564 q565 q97 q566 (Nat.le_of_ble_eq_true rfl) dX1_rule_5 rfl h (cv_k (fun Ω2 res h => ?_))
  refine zo_astore_n hY dX1_rule_8 rfl (by decide) rfl (ls' := [(1, vr 9 (gC Ω 9)), (0, vr 0 0)]) rfl ?_
  refine zo_iconst hY 0 (by decide) dX1_rule_9 ?_
  refine zo_istore_n hY dX1_rule_10 rfl (by decide) rfl (ls' := [(2, vi 0), (1, vr 9 (gC Ω 9)), (0, vr 0 0)]) rfl ?_
  refine zo_aload_n hY dX1_rule_11 rfl 1 rfl ?_
  refine zo_callHV hY hh (fun q hq => mt_X11_read hJ hCon N (gC Ω 9) Ω2 q hq) (by decide) (by decide) (by decide) ⟨rfl, cn_X11_read⟩ rfl q591 q592 q593 q97 q594 q561 (by decide) (by decide) (Nat.le_of_ble_eq_true rfl) dX1_rule_12 rfl h (fun Ω3 res h => ?_) (fun n4 Ω5 res h => ?_)
  · refine zo_aload_n hY dX1_rule_15 rfl 2 rfl ?_
    refine zo_aload_n hY dX1_rule_16 rfl 1 rfl ?_
    refine zo_getK hY LX1_198_9 rfl dX1_rule_17 h (fun j7 h => ?_)
    refine zo_putR hY hJ LX1_59_0 rfl (Or.inl rfl) (Or.inl rfl) dX1_rule_20 h (fun Ω8 h => ?_)
    refine zo_goto hY 34 dX1_rule_23 (by decide) ?_
    refine zo_sub [2, 1, 0] rfl ?_
    exact ct_X1_rule_34 hY hJ hCon hr hh N (gC Ω 9) 0 Ω8 _ h
  · refine zo_astore_n hY dX1_rule_26 rfl (by decide) rfl (ls' := [(3, vr 10 n4), (2, vi 0), (1, vr 9 (gC Ω 9)), (0, vr 0 0)]) rfl ?_
    refine zo_iconst hY (-1) (by decide) dX1_rule_27 ?_
    refine zo_aload_n hY dX1_rule_28 rfl 0 rfl ?_
    refine zo_getI hY LX1_203_10 rfl dX1_rule_29 ?_
    refine zo_isub hY dX1_rule_32 ?_
    refine zo_nmi h (fun y9 h => ?_)
    refine zo_istore_n hY dX1_rule_33 rfl (by decide) rfl (ls' := [(2, vi y9), (3, vr 10 n4), (1, vr 9 (gC Ω 9)), (0, vr 0 0)]) rfl ?_
    refine zo_sub [3, 2, 0] rfl ?_
    exact ct_X1_rule_34 hY hJ hCon hr hh N (gC Ω 9) y9 Ω5 _ h
