set_option maxRecDepth 100000
theorem cn_J8_length : zo_Cn yJ8_length 0 := ⟨by decide, by decide, by decide +kernel⟩
theorem cn_J8_charAt : zo_Cn yJ8_charAt 1 := ⟨by decide, by decide, by decide +kernel⟩
theorem cn_X2_factWord : zo_Cn yX2_factWord 1 := ⟨by decide, by decide, by decide +kernel⟩
theorem cn_X2_isWord : zo_Cn yX2_isWord 1 := ⟨by decide, by decide, by decide +kernel⟩
theorem cn_X2_factHere : zo_Cn yX2_factHere 0 := ⟨by decide, by decide, by decide +kernel⟩
theorem cn_X2_wrong : zo_Cn yX2_wrong 1 := ⟨by decide, by decide, by decide +kernel⟩
theorem cn_X2_next : zo_Cn yX2_next 0 := ⟨by decide, by decide, by decide +kernel⟩
theorem cn_X2_signHere : zo_Cn yX2_signHere 0 := ⟨by decide, by decide, by decide +kernel⟩
theorem LX2_311_1 : zo_FL RX2 311 1 46 := ⟨by decide, by decide, by decide, Or.inl ⟨_, q1317, Or.inl rfl⟩⟩
theorem cn_X2_takesTerms : zo_Cn yX2_takesTerms 1 := ⟨by decide, by decide, by decide +kernel⟩
theorem cn_X2_statement : zo_Cn yX2_statement 0 := ⟨by decide, by decide, by decide +kernel⟩
theorem dX2_isWord_0 : decode cX2_isWord 0 = .ok (.aload_n 0, 1) := by decide +kernel
theorem dX2_isWord_1 : decode cX2_isWord 1 = .ok (.getfield 248, 3) := by decide +kernel
theorem dX2_isWord_4 : decode cX2_isWord 4 = .ok (.iconst 1, 1) := by decide +kernel
theorem dX2_isWord_5 : decode cX2_isWord 5 = .ok (.if_icmp .ne 23, 3) := by decide +kernel
theorem dX2_isWord_8 : decode cX2_isWord 8 = .ok (.aload_n 0, 1) := by decide +kernel
theorem dX2_isWord_9 : decode cX2_isWord 9 = .ok (.getfield 238, 3) := by decide +kernel
theorem dX2_isWord_12 : decode cX2_isWord 12 = .ok (.aload_n 0, 1) := by decide +kernel
theorem dX2_isWord_13 : decode cX2_isWord 13 = .ok (.getfield 241, 3) := by decide +kernel
theorem dX2_isWord_16 : decode cX2_isWord 16 = .ok (.isub, 1) := by decide +kernel
theorem dX2_isWord_17 : decode cX2_isWord 17 = .ok (.aload_n 1, 1) := by decide +kernel
theorem dX2_isWord_18 : decode cX2_isWord 18 = .ok (.invokevirtual 254, 3) := by decide +kernel
theorem dX2_isWord_21 : decode cX2_isWord 21 = .ok (.if_icmp .ne 7, 3) := by decide +kernel
theorem dX2_isWord_24 : decode cX2_isWord 24 = .ok (.iconst 1, 1) := by decide +kernel
theorem dX2_isWord_25 : decode cX2_isWord 25 = .ok (.goto 4, 3) := by decide +kernel
theorem dX2_isWord_28 : decode cX2_isWord 28 = .ok (.iconst 0, 1) := by decide +kernel
theorem dX2_isWord_29 : decode cX2_isWord 29 = .ok (.istore_n 2, 1) := by decide +kernel
theorem dX2_isWord_30 : decode cX2_isWord 30 = .ok (.iconst 0, 1) := by decide +kernel
theorem dX2_isWord_31 : decode cX2_isWord 31 = .ok (.istore_n 3, 1) := by decide +kernel
theorem dX2_isWord_32 : decode cX2_isWord 32 = .ok (.iload_n 3, 1) := by decide +kernel
theorem dX2_isWord_33 : decode cX2_isWord 33 = .ok (.aload_n 1, 1) := by decide +kernel
theorem dX2_isWord_34 : decode cX2_isWord 34 = .ok (.invokevirtual 254, 3) := by decide +kernel
theorem dX2_isWord_37 : decode cX2_isWord 37 = .ok (.if_icmp .ge 37, 3) := by decide +kernel
theorem dX2_isWord_40 : decode cX2_isWord 40 = .ok (.iload_n 2, 1) := by decide +kernel
theorem dX2_isWord_41 : decode cX2_isWord 41 = .ok (.ifCond .eq 33, 3) := by decide +kernel
theorem dX2_isWord_44 : decode cX2_isWord 44 = .ok (.aload_n 0, 1) := by decide +kernel
theorem dX2_isWord_45 : decode cX2_isWord 45 = .ok (.aload_n 0, 1) := by decide +kernel
theorem dX2_isWord_46 : decode cX2_isWord 46 = .ok (.getfield 241, 3) := by decide +kernel
theorem dX2_isWord_49 : decode cX2_isWord 49 = .ok (.iload_n 3, 1) := by decide +kernel
theorem dX2_isWord_50 : decode cX2_isWord 50 = .ok (.iadd, 1) := by decide +kernel
theorem dX2_isWord_51 : decode cX2_isWord 51 = .ok (.invokevirtual 244, 3) := by decide +kernel
theorem dX2_isWord_54 : decode cX2_isWord 54 = .ok (.aload_n 1, 1) := by decide +kernel
theorem dX2_isWord_55 : decode cX2_isWord 55 = .ok (.iload_n 3, 1) := by decide +kernel
theorem dX2_isWord_56 : decode cX2_isWord 56 = .ok (.invokevirtual 260, 3) := by decide +kernel
theorem dX2_isWord_59 : decode cX2_isWord 59 = .ok (.if_icmp .ne 7, 3) := by decide +kernel
theorem dX2_isWord_62 : decode cX2_isWord 62 = .ok (.iconst 1, 1) := by decide +kernel
theorem dX2_isWord_63 : decode cX2_isWord 63 = .ok (.goto 4, 3) := by decide +kernel
theorem dX2_isWord_66 : decode cX2_isWord 66 = .ok (.iconst 0, 1) := by decide +kernel
theorem dX2_isWord_67 : decode cX2_isWord 67 = .ok (.istore_n 2, 1) := by decide +kernel
theorem dX2_isWord_68 : decode cX2_isWord 68 = .ok (.iinc 3 1, 3) := by decide +kernel
theorem dX2_isWord_71 : decode cX2_isWord 71 = .ok (.goto (-39), 3) := by decide +kernel
theorem dX2_isWord_74 : decode cX2_isWord 74 = .ok (.iload_n 2, 1) := by decide +kernel
theorem dX2_isWord_75 : decode cX2_isWord 75 = .ok (.ireturn, 1) := by decide +kernel
def fn_X2_isWord_67 (N : Nat) (K32 : Nat → Int32 → Int32 → zo_O → Option zo_R) (x1 : Nat) (x3 : Int32) (s0 : Int32) (Ω : zo_O) : Option zo_R :=
  K32 x1 s0 (x3 + 1) Ω
theorem ct_X2_isWord_67 {Y : zo_Y} (hY : zo_Gd Y cX2_isWord 4 RX2 4) (hJ : zo_JC (zo_J Y)) (hCon : ∀ Ω, zo_J Y Ω → zo_Con Ω) (hr : zo_rt Y (Option.some Jvm.ClassFile.FieldType.boolean)) (N : Nat) (K32 : Nat → Int32 → Int32 → zo_O → Option zo_R) (hK32 : ∀ (x1 : Nat) (x2 : Int32) (x3 : Int32) (Ω : zo_O) (res : zo_R), K32 x1 x2 x3 Ω = some res → TW Y res Ω 32 [(0, vr 1 0), (1, vr 21 x1), (2, vi x2), (3, vi x3)] []) (x1 : Nat) (x3 : Int32) (s0 : Int32) (Ω : zo_O) (res : zo_R) (h : fn_X2_isWord_67 N K32 x1 x3 s0 Ω = some res) : TW Y res Ω 67 [(0, vr 1 0), (1, vr 21 x1), (3, vi x3)] [vi s0] := by
  unfold fn_X2_isWord_67 at h
  refine zo_istore_n hY dX2_isWord_67 rfl (by decide) rfl (ls' := [(2, vi s0), (0, vr 1 0), (1, vr 21 x1), (3, vi x3)]) rfl ?_
  refine zo_iinc hY 1 dX2_isWord_68 (by decide) (by decide) 3 rfl rfl (ls' := [(3, vi (x3 + 1)), (2, vi s0), (0, vr 1 0), (1, vr 21 x1)]) rfl ?_
  refine zo_goto hY 32 dX2_isWord_71 (by decide) ?_
  refine zo_sub [2, 3, 1, 0] rfl ?_
  exact hK32 x1 s0 (x3 + 1) Ω _ h
def fn_X2_isWord_74 (N : Nat)  (x2 : Int32) (Ω : zo_O) : Option zo_R :=
  rZ x2 Ω
theorem ct_X2_isWord_74 {Y : zo_Y} (hY : zo_Gd Y cX2_isWord 4 RX2 4) (hJ : zo_JC (zo_J Y)) (hCon : ∀ Ω, zo_J Y Ω → zo_Con Ω) (hr : zo_rt Y (Option.some Jvm.ClassFile.FieldType.boolean)) (N : Nat)   (x2 : Int32) (Ω : zo_O) (res : zo_R) (h : fn_X2_isWord_74 N  x2 Ω = some res) : TW Y res Ω 74 [(2, vi x2)] [] := by
  unfold fn_X2_isWord_74 at h
  refine zo_iload_n hY dX2_isWord_74 rfl 0 rfl ?_
  exact zo_zret hY hr dX2_isWord_75 h
def bd_X2_isWord_32 (N : Nat)  (K32 : Nat → Int32 → Int32 → zo_O → Option zo_R) (x1 : Nat) (x2 : Int32) (x3 : Int32) (Ω : zo_O) : Option zo_R :=
  gd (x1 < 14) <|
  ci (fn_J8_length N x1 Ω) fun r2 Ω1 =>
  if r2 ≤ x3 then (
    fn_X2_isWord_74 N x2 Ω1
    ) else
  if x2 = 0 then (
    fn_X2_isWord_74 N x2 Ω1
    ) else
  ci (fn_X2_byteAt N ((gI Ω1 1 0 57) + x3) Ω1) fun r7 Ω6 =>
  gd (x1 < 14) <|
  ci (fn_J8_charAt N x1 x3 Ω6) fun r9 Ω8 =>
  if r7 = r9 then (
    fn_X2_isWord_67 N K32 x1 x3 1 Ω8
    ) else
  fn_X2_isWord_67 N K32 x1 x3 0 Ω8
theorem cb_X2_isWord_32 {Y : zo_Y} (hY : zo_Gd Y cX2_isWord 4 RX2 4) (hJ : zo_JC (zo_J Y)) (hCon : ∀ Ω, zo_J Y Ω → zo_Con Ω) (hr : zo_rt Y (Option.some Jvm.ClassFile.FieldType.boolean)) (N : Nat)  (K32 : Nat → Int32 → Int32 → zo_O → Option zo_R)  (hK32 : ∀ (x1 : Nat) (x2 : Int32) (x3 : Int32) (Ω : zo_O) (res : zo_R), K32 x1 x2 x3 Ω = some res → TW Y res Ω 32 [(0, vr 1 0), (1, vr 21 x1), (2, vi x2), (3, vi x3)] []) (x1 : Nat) (x2 : Int32) (x3 : Int32) (Ω : zo_O) (res : zo_R) (h : bd_X2_isWord_32 N  K32 x1 x2 x3 Ω = some res) : TW Y res Ω 32 [(0, vr 1 0), (1, vr 21 x1), (2, vi x2), (3, vi x3)] [] := by
  unfold bd_X2_isWord_32 at h
  refine zo_iload_n hY dX2_isWord_32 rfl 3 rfl ?_
  refine zo_aload_n hY dX2_isWord_33 rfl 1 rfl ?_
  obtain ⟨e3, h⟩ := gd_e h
  refine zo_callVS hY (fun q hq => mt_J8_length hJ hCon N x1 Ω q hq) e3 (by decide) (by decide) rfl cn_J8_length rfl q1607 q621 q622 q98 q623 (Nat.le_of_ble_eq_true rfl) dX2_isWord_34 rfl h (ci_k (fun r2 Ω1 res h => ?_))
  refine zo_icmp_ge hY 74 dX2_isWord_37 (by decide) h (fun c4 h => ?_) (fun c4 h => ?_)
  · refine zo_sub [2] rfl ?_
    exact ct_X2_isWord_74 hY hJ hCon hr N x2 Ω1 _ h
  · refine zo_iload_n hY dX2_isWord_40 rfl 2 rfl ?_
    refine zo_if_eq hY 74 dX2_isWord_41 (by decide) h (fun c5 h => ?_) (fun c5 h => ?_)
    · refine zo_sub [2] rfl ?_
      exact ct_X2_isWord_74 hY hJ hCon hr N x2 Ω1 _ h
    · refine zo_aload_n hY dX2_isWord_44 rfl 0 rfl ?_
      refine zo_aload_n hY dX2_isWord_45 rfl 0 rfl ?_
      refine zo_getI hY LX2_241_1 rfl dX2_isWord_46 ?_
      refine zo_iload_n hY dX2_isWord_49 rfl 3 rfl ?_
      refine zo_iadd hY dX2_isWord_50 ?_
      refine zo_callV hY (fun q hq => mt_X2_byteAt hJ hCon N ((gI Ω1 1 0 57) + x3) Ω1 q hq) (by decide) (by decide) (by decide) ⟨rfl, cn_X2_byteAt⟩ rfl q1594 q1596 qs42 q82 q1597 (Nat.le_of_ble_eq_true rfl) dX2_isWord_51 rfl h (ci_k (fun r7 Ω6 res h => ?_))
      refine zo_aload_n hY dX2_isWord_54 rfl 1 rfl ?_
      refine zo_iload_n hY dX2_isWord_55 rfl 3 rfl ?_
      obtain ⟨e10, h⟩ := gd_e h
      refine zo_callVS hY (fun q hq => mt_J8_charAt hJ hCon N x1 x3 Ω6 q hq) e10 (by decide) (by decide) rfl cn_J8_charAt rfl q1608 q631 q632 q98 q633 (Nat.le_of_ble_eq_true rfl) dX2_isWord_56 rfl h (ci_k (fun r9 Ω8 res h => ?_))
      refine zo_icmp_ne hY 66 dX2_isWord_59 (by decide) h (fun c11 h => ?_) (fun c11 h => ?_)
      · refine zo_iconst hY 1 (by decide) dX2_isWord_62 ?_
        refine zo_goto hY 67 dX2_isWord_63 (by decide) ?_
        refine zo_sub [0, 1, 3] rfl ?_
        exact ct_X2_isWord_67 hY hJ hCon hr N K32 hK32 x1 x3 1 Ω8 _ h
      · refine zo_iconst hY 0 (by decide) dX2_isWord_66 ?_
        refine zo_sub [0, 1, 3] rfl ?_
        exact ct_X2_isWord_67 hY hJ hCon hr N K32 hK32 x1 x3 0 Ω8 _ h
def fn_X2_isWord_32 (N : Nat)  : Nat → Nat → Int32 → Int32 → zo_O → Option zo_R
  | 0, _, _, _, _ => none
  | n + 1, x1, x2, x3, Ω => bd_X2_isWord_32 N  (fn_X2_isWord_32 N  n) x1 x2 x3 Ω
theorem ct_X2_isWord_32 {Y : zo_Y} (hY : zo_Gd Y cX2_isWord 4 RX2 4) (hJ : zo_JC (zo_J Y)) (hCon : ∀ Ω, zo_J Y Ω → zo_Con Ω) (hr : zo_rt Y (Option.some Jvm.ClassFile.FieldType.boolean)) (N : Nat)   : ∀ (n : Nat) (x1 : Nat) (x2 : Int32) (x3 : Int32) (Ω : zo_O) (res : zo_R), fn_X2_isWord_32 N  n x1 x2 x3 Ω = some res → TW Y res Ω 32 [(0, vr 1 0), (1, vr 21 x1), (2, vi x2), (3, vi x3)] [] := by
  intro n
  induction n with
  | zero => intro x1 x2 x3 Ω res h; exact nomatch (show (none : Option zo_R) = some res from h)
  | succ n ih => intro x1 x2 x3 Ω res h; exact cb_X2_isWord_32 hY hJ hCon hr N  (fn_X2_isWord_32 N  n)  ih x1 x2 x3 Ω res h
def fn_X2_isWord_29 (N : Nat)  (x1 : Nat) (s0 : Int32) (Ω : zo_O) : Option zo_R :=
  fn_X2_isWord_32 N N x1 s0 0 Ω
theorem ct_X2_isWord_29 {Y : zo_Y} (hY : zo_Gd Y cX2_isWord 4 RX2 4) (hJ : zo_JC (zo_J Y)) (hCon : ∀ Ω, zo_J Y Ω → zo_Con Ω) (hr : zo_rt Y (Option.some Jvm.ClassFile.FieldType.boolean)) (N : Nat)   (x1 : Nat) (s0 : Int32) (Ω : zo_O) (res : zo_R) (h : fn_X2_isWord_29 N  x1 s0 Ω = some res) : TW Y res Ω 29 [(0, vr 1 0), (1, vr 21 x1)] [vi s0] := by
  unfold fn_X2_isWord_29 at h
  refine zo_istore_n hY dX2_isWord_29 rfl (by decide) rfl (ls' := [(2, vi s0), (0, vr 1 0), (1, vr 21 x1)]) rfl ?_
  refine zo_iconst hY 0 (by decide) dX2_isWord_30 ?_
  refine zo_istore_n hY dX2_isWord_31 rfl (by decide) rfl (ls' := [(3, vi 0), (2, vi s0), (0, vr 1 0), (1, vr 21 x1)]) rfl ?_
  refine zo_sub [2, 3, 1, 0] rfl ?_
  exact ct_X2_isWord_32 hY hJ hCon hr N N x1 s0 0 Ω _ h
def fn_X2_isWord_28 (N : Nat)  (x1 : Nat) (Ω : zo_O) : Option zo_R :=
  fn_X2_isWord_29 N x1 0 Ω
theorem ct_X2_isWord_28 {Y : zo_Y} (hY : zo_Gd Y cX2_isWord 4 RX2 4) (hJ : zo_JC (zo_J Y)) (hCon : ∀ Ω, zo_J Y Ω → zo_Con Ω) (hr : zo_rt Y (Option.some Jvm.ClassFile.FieldType.boolean)) (N : Nat)   (x1 : Nat) (Ω : zo_O) (res : zo_R) (h : fn_X2_isWord_28 N  x1 Ω = some res) : TW Y res Ω 28 [(0, vr 1 0), (1, vr 21 x1)] [] := by
  unfold fn_X2_isWord_28 at h
  refine zo_iconst hY 0 (by decide) dX2_isWord_28 ?_
  exact ct_X2_isWord_29 hY hJ hCon hr N x1 0 Ω _ h
def fn_X2_isWord (N : Nat) (x1 : Nat) (Ω : zo_O) : Option zo_R :=
  if gI Ω 1 0 60 = 1 then (
    gd (x1 < 14) <|
    ci (fn_J8_length N x1 Ω) fun r3 Ω2 =>
    if (gI Ω 1 0 58) - (gI Ω 1 0 57) = r3 then (
      fn_X2_isWord_29 N x1 1 Ω2
      ) else
    fn_X2_isWord_28 N x1 Ω2
    ) else
  fn_X2_isWord_28 N x1 Ω
theorem mt_X2_isWord {G : zo_G} {J : zo_O → Prop} (hJ : zo_JC J) (hCon : ∀ Ω, J Ω → zo_Con Ω) (N : Nat) (x1 : Nat) (Ω : zo_O) (res : zo_R) (h : fn_X2_isWord N x1 Ω = some res) : zo_MT G J yX2_isWord cX2_isWord 4 (Option.some Jvm.ClassFile.FieldType.boolean) 4 [vr 1 0, vr 21 x1] Ω res := by
  refine zo_enter (by decide) rfl (Nat.le_of_ble_eq_true rfl) (fun Y hY eJ hr hmn => ?_)
  subst eJ
  show TW Y res Ω 0 [(0, vr 1 0), (1, vr 21 x1)] []
  unfold fn_X2_isWord at h
  refine zo_aload_n hY dX2_isWord_0 rfl 0 rfl ?_
  refine zo_getI hY LX2_248_1 rfl dX2_isWord_1 ?_
  refine zo_iconst hY 1 (by decide) dX2_isWord_4 ?_
  refine zo_icmp_ne hY 28 dX2_isWord_5 (by decide) h (fun c1 h => ?_) (fun c1 h => ?_)
  · refine zo_aload_n hY dX2_isWord_8 rfl 0 rfl ?_
    refine zo_getI hY LX2_238_1 rfl dX2_isWord_9 ?_
    refine zo_aload_n hY dX2_isWord_12 rfl 0 rfl ?_
    refine zo_getI hY LX2_241_1 rfl dX2_isWord_13 ?_
    refine zo_isub hY dX2_isWord_16 ?_
    refine zo_aload_n hY dX2_isWord_17 rfl 1 rfl ?_
    obtain ⟨e4, h⟩ := gd_e h
    refine zo_callVS hY (fun q hq => mt_J8_length hJ hCon N x1 Ω q hq) e4 (by decide) (by decide) rfl cn_J8_length rfl q1607 q621 q622 q98 q623 (Nat.le_of_ble_eq_true rfl) dX2_isWord_18 rfl h (ci_k (fun r3 Ω2 res h => ?_))
    refine zo_icmp_ne hY 28 dX2_isWord_21 (by decide) h (fun c5 h => ?_) (fun c5 h => ?_)
    · refine zo_iconst hY 1 (by decide) dX2_isWord_24 ?_
      refine zo_goto hY 29 dX2_isWord_25 (by decide) ?_
      exact ct_X2_isWord_29 hY hJ hCon hr N x1 1 Ω2 _ h
    · exact ct_X2_isWord_28 hY hJ hCon hr N x1 Ω2 _ h
  · exact ct_X2_isWord_28 hY hJ hCon hr N x1 Ω _ h
theorem dX2_factWord_0 : decode cX2_factWord 0 = .ok (.iload_n 0, 1) := by decide +kernel
theorem dX2_factWord_1 : decode cX2_factWord 1 = .ok (.tableswitch 87 0 8 #[51, 55, 59, 63, 67, 71, 75, 79, 83], 51) := by decide +kernel
theorem dX2_factWord_52 : decode cX2_factWord 52 = .ok (.ldc_w 267, 3) := by decide +kernel
theorem dX2_factWord_55 : decode cX2_factWord 55 = .ok (.areturn, 1) := by decide +kernel
theorem dX2_factWord_56 : decode cX2_factWord 56 = .ok (.ldc_w 269, 3) := by decide +kernel
theorem dX2_factWord_59 : decode cX2_factWord 59 = .ok (.areturn, 1) := by decide +kernel
theorem dX2_factWord_60 : decode cX2_factWord 60 = .ok (.ldc_w 270, 3) := by decide +kernel
theorem dX2_factWord_63 : decode cX2_factWord 63 = .ok (.areturn, 1) := by decide +kernel
theorem dX2_factWord_64 : decode cX2_factWord 64 = .ok (.ldc_w 271, 3) := by decide +kernel
theorem dX2_factWord_67 : decode cX2_factWord 67 = .ok (.areturn, 1) := by decide +kernel
theorem dX2_factWord_68 : decode cX2_factWord 68 = .ok (.ldc_w 273, 3) := by decide +kernel
theorem dX2_factWord_71 : decode cX2_factWord 71 = .ok (.areturn, 1) := by decide +kernel
theorem dX2_factWord_72 : decode cX2_factWord 72 = .ok (.ldc_w 275, 3) := by decide +kernel
theorem dX2_factWord_75 : decode cX2_factWord 75 = .ok (.areturn, 1) := by decide +kernel
theorem dX2_factWord_76 : decode cX2_factWord 76 = .ok (.ldc_w 277, 3) := by decide +kernel
theorem dX2_factWord_79 : decode cX2_factWord 79 = .ok (.areturn, 1) := by decide +kernel
theorem dX2_factWord_80 : decode cX2_factWord 80 = .ok (.ldc_w 279, 3) := by decide +kernel
theorem dX2_factWord_83 : decode cX2_factWord 83 = .ok (.areturn, 1) := by decide +kernel
theorem dX2_factWord_84 : decode cX2_factWord 84 = .ok (.ldc_w 281, 3) := by decide +kernel
theorem dX2_factWord_87 : decode cX2_factWord 87 = .ok (.areturn, 1) := by decide +kernel
theorem dX2_factWord_88 : decode cX2_factWord 88 = .ok (.ldc_w 282, 3) := by decide +kernel
theorem dX2_factWord_91 : decode cX2_factWord 91 = .ok (.areturn, 1) := by decide +kernel
def fn_X2_factWord (N : Nat) (x0 : Int32) (Ω : zo_O) : Option zo_R :=
  if x0 = 0 then (
    rR (some (21, 3)) Ω
    ) else
  if x0 = 1 then (
    rR (some (21, 4)) Ω
    ) else
  if x0 = 2 then (
    rR (some (21, 5)) Ω
    ) else
  if x0 = 3 then (
    rR (some (21, 6)) Ω
    ) else
  if x0 = 4 then (
    rR (some (21, 7)) Ω
    ) else
  if x0 = 5 then (
    rR (some (21, 8)) Ω
    ) else
  if x0 = 6 then (
    rR (some (21, 9)) Ω
    ) else
  if x0 = 7 then (
    rR (some (21, 10)) Ω
    ) else
  if x0 = 8 then (
    rR (some (21, 11)) Ω
    ) else
  rR (some (21, 12)) Ω
theorem mt_X2_factWord {G : zo_G} {J : zo_O → Prop} (hJ : zo_JC J) (hCon : ∀ Ω, J Ω → zo_Con Ω) (N : Nat) (x0 : Int32) (Ω : zo_O) (res : zo_R) (h : fn_X2_factWord N x0 Ω = some res) : zo_MT G J yX2_factWord cX2_factWord 1 (Option.some (Jvm.ClassFile.FieldType.object "java/lang/String")) 0 [vi x0] Ω res := by
  refine zo_enter (by decide) rfl (Nat.le_of_ble_eq_true rfl) (fun Y hY eJ hr hmn => ?_)
  subst eJ
  show TW Y res Ω 0 [(0, vi x0)] []
  unfold fn_X2_factWord at h
  refine zo_iload_n hY dX2_factWord_0 rfl 0 rfl ?_
  by_cases c1 : x0 = 0
  · rw [if_pos c1] at h
    refine zo_tsIn hY (off := 51) 0 52 c1 dX2_factWord_1 (by decide) (by decide) (by decide) (by decide) ?_
    refine zo_ldcwS hY (tx := "site") (j := 3) (by decide) dX2_factWord_52 ?_
    exact zo_aret hY hr (Or.inl ⟨_, rfl⟩) dX2_factWord_55 h
  · rw [if_neg c1] at h
    by_cases c2 : x0 = 1
    · rw [if_pos c2] at h
      refine zo_tsIn hY (off := 55) 1 56 c2 dX2_factWord_1 (by decide) (by decide) (by decide) (by decide) ?_
      refine zo_ldcwS hY (tx := "kind") (j := 4) (by decide) dX2_factWord_56 ?_
      exact zo_aret hY hr (Or.inl ⟨_, rfl⟩) dX2_factWord_59 h
    · rw [if_neg c2] at h
      by_cases c3 : x0 = 2
      · rw [if_pos c3] at h
        refine zo_tsIn hY (off := 59) 2 60 c3 dX2_factWord_1 (by decide) (by decide) (by decide) (by decide) ?_
        refine zo_ldcwS hY (tx := "measurer") (j := 5) (by decide) dX2_factWord_60 ?_
        exact zo_aret hY hr (Or.inl ⟨_, rfl⟩) dX2_factWord_63 h
      · rw [if_neg c3] at h
        by_cases c4 : x0 = 3
        · rw [if_pos c4] at h
          refine zo_tsIn hY (off := 63) 3 64 c4 dX2_factWord_1 (by decide) (by decide) (by decide) (by decide) ?_
          refine zo_ldcwS hY (tx := "long") (j := 6) (by decide) dX2_factWord_64 ?_
          exact zo_aret hY hr (Or.inl ⟨_, rfl⟩) dX2_factWord_67 h
        · rw [if_neg c4] at h
          by_cases c5 : x0 = 4
          · rw [if_pos c5] at h
            refine zo_tsIn hY (off := 67) 4 68 c5 dX2_factWord_1 (by decide) (by decide) (by decide) (by decide) ?_
            refine zo_ldcwS hY (tx := "short") (j := 7) (by decide) dX2_factWord_68 ?_
            exact zo_aret hY hr (Or.inl ⟨_, rfl⟩) dX2_factWord_71 h
          · rw [if_neg c5] at h
            by_cases c6 : x0 = 5
            · rw [if_pos c6] at h
              refine zo_tsIn hY (off := 71) 5 72 c6 dX2_factWord_1 (by decide) (by decide) (by decide) (by decide) ?_
              refine zo_ldcwS hY (tx := "year") (j := 8) (by decide) dX2_factWord_72 ?_
              exact zo_aret hY hr (Or.inl ⟨_, rfl⟩) dX2_factWord_75 h
            · rw [if_neg c6] at h
              by_cases c7 : x0 = 6
              · rw [if_pos c7] at h
                refine zo_tsIn hY (off := 75) 6 76 c7 dX2_factWord_1 (by decide) (by decide) (by decide) (by decide) ?_
                refine zo_ldcwS hY (tx := "merged") (j := 9) (by decide) dX2_factWord_76 ?_
                exact zo_aret hY hr (Or.inl ⟨_, rfl⟩) dX2_factWord_79 h
              · rw [if_neg c7] at h
                by_cases c8 : x0 = 7
                · rw [if_pos c8] at h
                  refine zo_tsIn hY (off := 79) 7 80 c8 dX2_factWord_1 (by decide) (by decide) (by decide) (by decide) ?_
                  refine zo_ldcwS hY (tx := "round") (j := 10) (by decide) dX2_factWord_80 ?_
                  exact zo_aret hY hr (Or.inl ⟨_, rfl⟩) dX2_factWord_83 h
                · rw [if_neg c8] at h
                  by_cases c9 : x0 = 8
                  · rw [if_pos c9] at h
                    refine zo_tsIn hY (off := 83) 8 84 c9 dX2_factWord_1 (by decide) (by decide) (by decide) (by decide) ?_
                    refine zo_ldcwS hY (tx := "side") (j := 11) (by decide) dX2_factWord_84 ?_
                    exact zo_aret hY hr (Or.inl ⟨_, rfl⟩) dX2_factWord_87 h
                  · rw [if_neg c9] at h
                    refine zo_tsOut hY 88 dX2_factWord_1 (by have z0 := lv_neT (a := 0) c1 (by decide); have z1 := lv_neT (a := 1) c2 (by decide); have z2 := lv_neT (a := 2) c3 (by decide); have z3 := lv_neT (a := 3) c4 (by decide); have z4 := lv_neT (a := 4) c5 (by decide); have z5 := lv_neT (a := 5) c6 (by decide); have z6 := lv_neT (a := 6) c7 (by decide); have z7 := lv_neT (a := 7) c8 (by decide); have z8 := lv_neT (a := 8) c9 (by decide); omega) (by decide) ?_
                    refine zo_ldcwS hY (tx := "belt") (j := 12) (by decide) dX2_factWord_88 ?_
                    exact zo_aret hY hr (Or.inl ⟨_, rfl⟩) dX2_factWord_91 h
theorem dX2_factHere_0 : decode cX2_factHere 0 = .ok (.iconst 0, 1) := by decide +kernel
theorem dX2_factHere_1 : decode cX2_factHere 1 = .ok (.istore_n 1, 1) := by decide +kernel
theorem dX2_factHere_2 : decode cX2_factHere 2 = .ok (.iload_n 1, 1) := by decide +kernel
theorem dX2_factHere_3 : decode cX2_factHere 3 = .ok (.bipush 10, 2) := by decide +kernel
theorem dX2_factHere_5 : decode cX2_factHere 5 = .ok (.if_icmp .ge 22, 3) := by decide +kernel
theorem dX2_factHere_8 : decode cX2_factHere 8 = .ok (.aload_n 0, 1) := by decide +kernel
theorem dX2_factHere_9 : decode cX2_factHere 9 = .ok (.iload_n 1, 1) := by decide +kernel
theorem dX2_factHere_10 : decode cX2_factHere 10 = .ok (.invokestatic 283, 3) := by decide +kernel
theorem dX2_factHere_13 : decode cX2_factHere 13 = .ok (.invokevirtual 287, 3) := by decide +kernel
theorem dX2_factHere_16 : decode cX2_factHere 16 = .ok (.ifCond .eq 5, 3) := by decide +kernel
theorem dX2_factHere_19 : decode cX2_factHere 19 = .ok (.iload_n 1, 1) := by decide +kernel
theorem dX2_factHere_20 : decode cX2_factHere 20 = .ok (.ireturn, 1) := by decide +kernel
theorem dX2_factHere_21 : decode cX2_factHere 21 = .ok (.iinc 1 1, 3) := by decide +kernel
theorem dX2_factHere_24 : decode cX2_factHere 24 = .ok (.goto (-22), 3) := by decide +kernel
theorem dX2_factHere_27 : decode cX2_factHere 27 = .ok (.iconst (-1), 1) := by decide +kernel
theorem dX2_factHere_28 : decode cX2_factHere 28 = .ok (.ireturn, 1) := by decide +kernel
def bd_X2_factHere_2 (N : Nat)  (K2 : Int32 → zo_O → Option zo_R) (x1 : Int32) (Ω : zo_O) : Option zo_R :=
  if 10 ≤ x1 then (
    rI ((-1)) Ω
    ) else
  ck (fn_X2_factWord N x1 Ω) 21 fun r3 Ω2 =>
  ci (fn_X2_isWord N r3 Ω2) fun r5 Ω4 =>
  if r5 = 0 then (
    K2 (x1 + 1) Ω4
    ) else
  rI x1 Ω4
theorem cb_X2_factHere_2 {Y : zo_Y} (hY : zo_Gd Y cX2_factHere 2 RX2 5) (hJ : zo_JC (zo_J Y)) (hCon : ∀ Ω, zo_J Y Ω → zo_Con Ω) (hr : zo_rt Y (Option.some Jvm.ClassFile.FieldType.int)) (N : Nat)  (K2 : Int32 → zo_O → Option zo_R)  (hK2 : ∀ (x1 : Int32) (Ω : zo_O) (res : zo_R), K2 x1 Ω = some res → TW Y res Ω 2 [(0, vr 1 0), (1, vi x1)] []) (x1 : Int32) (Ω : zo_O) (res : zo_R) (h : bd_X2_factHere_2 N  K2 x1 Ω = some res) : TW Y res Ω 2 [(0, vr 1 0), (1, vi x1)] [] := by
  unfold bd_X2_factHere_2 at h
  refine zo_iload_n hY dX2_factHere_2 rfl 1 rfl ?_
  refine zo_bipush hY 10 (by decide) dX2_factHere_3 ?_
  refine zo_icmp_ge hY 27 dX2_factHere_5 (by decide) h (fun c1 h => ?_) (fun c1 h => ?_)
  · refine zo_iconst hY (-1) (by decide) dX2_factHere_27 ?_
    exact zo_iret hY hr dX2_factHere_28 h
  · refine zo_aload_n hY dX2_factHere_8 rfl 0 rfl ?_
    refine zo_iload_n hY dX2_factHere_9 rfl 1 rfl ?_
    refine zo_callS hY (fun q hq => mt_X2_factWord hJ hCon N x1 Ω q hq) (by decide) (by decide) cn_X2_factWord rfl q1623 q1624 q82 q1625 (Nat.le_of_ble_eq_true rfl) dX2_factHere_10 rfl h (ck_k (fun r3 Ω2 res h => ?_))
    refine zo_callV hY (fun q hq => mt_X2_isWord hJ hCon N r3 Ω2 q hq) (by decide) (by decide) (by decide) ⟨rfl, cn_X2_isWord⟩ rfl q1603 q1605 qs44 q82 q1606 (Nat.le_of_ble_eq_true rfl) dX2_factHere_13 rfl h (ci_k (fun r5 Ω4 res h => ?_))
    refine zo_if_eq hY 21 dX2_factHere_16 (by decide) h (fun c6 h => ?_) (fun c6 h => ?_)
    · refine zo_iinc hY 1 dX2_factHere_21 (by decide) (by decide) 1 rfl rfl (ls' := [(1, vi (x1 + 1)), (0, vr 1 0)]) rfl ?_
      refine zo_goto hY 2 dX2_factHere_24 (by decide) ?_
      refine zo_sub [1, 0] rfl ?_
      exact hK2 (x1 + 1) Ω4 _ h
    · refine zo_iload_n hY dX2_factHere_19 rfl 1 rfl ?_
      exact zo_iret hY hr dX2_factHere_20 h
def fn_X2_factHere_2 (N : Nat)  : Nat → Int32 → zo_O → Option zo_R
  | 0, _, _ => none
  | n + 1, x1, Ω => bd_X2_factHere_2 N  (fn_X2_factHere_2 N  n) x1 Ω
theorem ct_X2_factHere_2 {Y : zo_Y} (hY : zo_Gd Y cX2_factHere 2 RX2 5) (hJ : zo_JC (zo_J Y)) (hCon : ∀ Ω, zo_J Y Ω → zo_Con Ω) (hr : zo_rt Y (Option.some Jvm.ClassFile.FieldType.int)) (N : Nat)   : ∀ (n : Nat) (x1 : Int32) (Ω : zo_O) (res : zo_R), fn_X2_factHere_2 N  n x1 Ω = some res → TW Y res Ω 2 [(0, vr 1 0), (1, vi x1)] [] := by
  intro n
  induction n with
  | zero => intro x1 Ω res h; exact nomatch (show (none : Option zo_R) = some res from h)
  | succ n ih => intro x1 Ω res h; exact cb_X2_factHere_2 hY hJ hCon hr N  (fn_X2_factHere_2 N  n)  ih x1 Ω res h
def fn_X2_factHere (N : Nat)  (Ω : zo_O) : Option zo_R :=
  fn_X2_factHere_2 N N 0 Ω
theorem mt_X2_factHere {G : zo_G} {J : zo_O → Prop} (hJ : zo_JC J) (hCon : ∀ Ω, J Ω → zo_Con Ω) (N : Nat)  (Ω : zo_O) (res : zo_R) (h : fn_X2_factHere N  Ω = some res) : zo_MT G J yX2_factHere cX2_factHere 2 (Option.some Jvm.ClassFile.FieldType.int) 5 [vr 1 0] Ω res := by
  refine zo_enter (by decide) rfl (Nat.le_of_ble_eq_true rfl) (fun Y hY eJ hr hmn => ?_)
  subst eJ
  show TW Y res Ω 0 [(0, vr 1 0)] []
  unfold fn_X2_factHere at h
  refine zo_iconst hY 0 (by decide) dX2_factHere_0 ?_
  refine zo_istore_n hY dX2_factHere_1 rfl (by decide) rfl (ls' := [(1, vi 0), (0, vr 1 0)]) rfl ?_
  refine zo_sub [1, 0] rfl ?_
  exact ct_X2_factHere_2 hY hJ hCon hr N N 0 Ω _ h
theorem dX2_takesTerms_0 : decode cX2_takesTerms 0 = .ok (.aload_n 0, 1) := by decide +kernel
theorem dX2_takesTerms_1 : decode cX2_takesTerms 1 = .ok (.getfield 123, 3) := by decide +kernel
theorem dX2_takesTerms_4 : decode cX2_takesTerms 4 = .ok (.iload_n 1, 1) := by decide +kernel
theorem dX2_takesTerms_5 : decode cX2_takesTerms 5 = .ok (.iconst 0, 1) := by decide +kernel
theorem dX2_takesTerms_6 : decode cX2_takesTerms 6 = .ok (.iastore, 1) := by decide +kernel
theorem dX2_takesTerms_7 : decode cX2_takesTerms 7 = .ok (.iconst 1, 1) := by decide +kernel
theorem dX2_takesTerms_8 : decode cX2_takesTerms 8 = .ok (.istore_n 2, 1) := by decide +kernel
theorem dX2_takesTerms_9 : decode cX2_takesTerms 9 = .ok (.iload_n 2, 1) := by decide +kernel
theorem dX2_takesTerms_10 : decode cX2_takesTerms 10 = .ok (.ifCond .eq 201, 3) := by decide +kernel
theorem dX2_takesTerms_13 : decode cX2_takesTerms 13 = .ok (.aload_n 0, 1) := by decide +kernel
theorem dX2_takesTerms_14 : decode cX2_takesTerms 14 = .ok (.ldc_w 291, 3) := by decide +kernel
theorem dX2_takesTerms_17 : decode cX2_takesTerms 17 = .ok (.invokevirtual 287, 3) := by decide +kernel
theorem dX2_takesTerms_20 : decode cX2_takesTerms 20 = .ok (.ifCond .ne 17, 3) := by decide +kernel
theorem dX2_takesTerms_23 : decode cX2_takesTerms 23 = .ok (.aload_n 0, 1) := by decide +kernel
theorem dX2_takesTerms_24 : decode cX2_takesTerms 24 = .ok (.invokevirtual 293, 3) := by decide +kernel
theorem dX2_takesTerms_27 : decode cX2_takesTerms 27 = .ok (.iconst (-1), 1) := by decide +kernel
theorem dX2_takesTerms_28 : decode cX2_takesTerms 28 = .ok (.if_icmp .ne 9, 3) := by decide +kernel
theorem dX2_takesTerms_31 : decode cX2_takesTerms 31 = .ok (.aload_n 0, 1) := by decide +kernel
theorem dX2_takesTerms_32 : decode cX2_takesTerms 32 = .ok (.iconst 1, 1) := by decide +kernel
theorem dX2_takesTerms_33 : decode cX2_takesTerms 33 = .ok (.invokevirtual 296, 3) := by decide +kernel
theorem dX2_takesTerms_36 : decode cX2_takesTerms 36 = .ok (.ireturn, 1) := by decide +kernel
theorem dX2_takesTerms_37 : decode cX2_takesTerms 37 = .ok (.aload_n 0, 1) := by decide +kernel
theorem dX2_takesTerms_38 : decode cX2_takesTerms 38 = .ok (.getfield 123, 3) := by decide +kernel
theorem dX2_takesTerms_41 : decode cX2_takesTerms 41 = .ok (.iload_n 1, 1) := by decide +kernel
theorem dX2_takesTerms_42 : decode cX2_takesTerms 42 = .ok (.iaload, 1) := by decide +kernel
theorem dX2_takesTerms_43 : decode cX2_takesTerms 43 = .ok (.iconst 4, 1) := by decide +kernel
theorem dX2_takesTerms_44 : decode cX2_takesTerms 44 = .ok (.if_icmp .ne 9, 3) := by decide +kernel
theorem dX2_takesTerms_47 : decode cX2_takesTerms 47 = .ok (.aload_n 0, 1) := by decide +kernel
theorem dX2_takesTerms_48 : decode cX2_takesTerms 48 = .ok (.iconst 2, 1) := by decide +kernel
theorem dX2_takesTerms_49 : decode cX2_takesTerms 49 = .ok (.invokevirtual 296, 3) := by decide +kernel
theorem dX2_takesTerms_52 : decode cX2_takesTerms 52 = .ok (.ireturn, 1) := by decide +kernel
theorem dX2_takesTerms_53 : decode cX2_takesTerms 53 = .ok (.iconst 4, 1) := by decide +kernel
theorem dX2_takesTerms_54 : decode cX2_takesTerms 54 = .ok (.iload_n 1, 1) := by decide +kernel
theorem dX2_takesTerms_55 : decode cX2_takesTerms 55 = .ok (.imul, 1) := by decide +kernel
theorem dX2_takesTerms_56 : decode cX2_takesTerms 56 = .ok (.aload_n 0, 1) := by decide +kernel
theorem dX2_takesTerms_57 : decode cX2_takesTerms 57 = .ok (.getfield 123, 3) := by decide +kernel
theorem dX2_takesTerms_60 : decode cX2_takesTerms 60 = .ok (.iload_n 1, 1) := by decide +kernel
theorem dX2_takesTerms_61 : decode cX2_takesTerms 61 = .ok (.iaload, 1) := by decide +kernel
theorem dX2_takesTerms_62 : decode cX2_takesTerms 62 = .ok (.iadd, 1) := by decide +kernel
theorem dX2_takesTerms_63 : decode cX2_takesTerms 63 = .ok (.istore_n 3, 1) := by decide +kernel
theorem dX2_takesTerms_64 : decode cX2_takesTerms 64 = .ok (.aload_n 0, 1) := by decide +kernel
theorem dX2_takesTerms_65 : decode cX2_takesTerms 65 = .ok (.getfield 126, 3) := by decide +kernel
theorem dX2_takesTerms_68 : decode cX2_takesTerms 68 = .ok (.iload_n 3, 1) := by decide +kernel
theorem dX2_takesTerms_69 : decode cX2_takesTerms 69 = .ok (.aload_n 0, 1) := by decide +kernel
theorem dX2_takesTerms_70 : decode cX2_takesTerms 70 = .ok (.ldc_w 291, 3) := by decide +kernel
theorem dX2_takesTerms_73 : decode cX2_takesTerms 73 = .ok (.invokevirtual 287, 3) := by decide +kernel
theorem dX2_takesTerms_76 : decode cX2_takesTerms 76 = .ok (.bastore, 1) := by decide +kernel
theorem dX2_takesTerms_77 : decode cX2_takesTerms 77 = .ok (.aload_n 0, 1) := by decide +kernel
theorem dX2_takesTerms_78 : decode cX2_takesTerms 78 = .ok (.getfield 126, 3) := by decide +kernel
theorem dX2_takesTerms_81 : decode cX2_takesTerms 81 = .ok (.iload_n 3, 1) := by decide +kernel
theorem dX2_takesTerms_82 : decode cX2_takesTerms 82 = .ok (.baload, 1) := by decide +kernel
theorem dX2_takesTerms_83 : decode cX2_takesTerms 83 = .ok (.ifCond .eq 7, 3) := by decide +kernel
theorem dX2_takesTerms_86 : decode cX2_takesTerms 86 = .ok (.aload_n 0, 1) := by decide +kernel
theorem dX2_takesTerms_87 : decode cX2_takesTerms 87 = .ok (.invokevirtual 299, 3) := by decide +kernel
theorem dX2_takesTerms_90 : decode cX2_takesTerms 90 = .ok (.aload_n 0, 1) := by decide +kernel
theorem dX2_takesTerms_91 : decode cX2_takesTerms 91 = .ok (.getfield 129, 3) := by decide +kernel
theorem dX2_takesTerms_94 : decode cX2_takesTerms 94 = .ok (.iload_n 3, 1) := by decide +kernel
theorem dX2_takesTerms_95 : decode cX2_takesTerms 95 = .ok (.aload_n 0, 1) := by decide +kernel
theorem dX2_takesTerms_96 : decode cX2_takesTerms 96 = .ok (.invokevirtual 293, 3) := by decide +kernel
theorem dX2_takesTerms_99 : decode cX2_takesTerms 99 = .ok (.iastore, 1) := by decide +kernel
theorem dX2_takesTerms_100 : decode cX2_takesTerms 100 = .ok (.aload_n 0, 1) := by decide +kernel
theorem dX2_takesTerms_101 : decode cX2_takesTerms 101 = .ok (.getfield 129, 3) := by decide +kernel
theorem dX2_takesTerms_104 : decode cX2_takesTerms 104 = .ok (.iload_n 3, 1) := by decide +kernel
theorem dX2_takesTerms_105 : decode cX2_takesTerms 105 = .ok (.iaload, 1) := by decide +kernel
theorem dX2_takesTerms_106 : decode cX2_takesTerms 106 = .ok (.iconst (-1), 1) := by decide +kernel
theorem dX2_takesTerms_107 : decode cX2_takesTerms 107 = .ok (.if_icmp .ne 9, 3) := by decide +kernel
theorem dX2_takesTerms_110 : decode cX2_takesTerms 110 = .ok (.aload_n 0, 1) := by decide +kernel
theorem dX2_takesTerms_111 : decode cX2_takesTerms 111 = .ok (.iconst 1, 1) := by decide +kernel
theorem dX2_takesTerms_112 : decode cX2_takesTerms 112 = .ok (.invokevirtual 296, 3) := by decide +kernel
theorem dX2_takesTerms_115 : decode cX2_takesTerms 115 = .ok (.ireturn, 1) := by decide +kernel
theorem dX2_takesTerms_116 : decode cX2_takesTerms 116 = .ok (.aload_n 0, 1) := by decide +kernel
theorem dX2_takesTerms_117 : decode cX2_takesTerms 117 = .ok (.invokevirtual 299, 3) := by decide +kernel
theorem dX2_takesTerms_120 : decode cX2_takesTerms 120 = .ok (.aload_n 0, 1) := by decide +kernel
theorem dX2_takesTerms_121 : decode cX2_takesTerms 121 = .ok (.getfield 132, 3) := by decide +kernel
theorem dX2_takesTerms_124 : decode cX2_takesTerms 124 = .ok (.iload_n 3, 1) := by decide +kernel
theorem dX2_takesTerms_125 : decode cX2_takesTerms 125 = .ok (.aload_n 0, 1) := by decide +kernel
theorem dX2_takesTerms_126 : decode cX2_takesTerms 126 = .ok (.invokevirtual 302, 3) := by decide +kernel
theorem dX2_takesTerms_129 : decode cX2_takesTerms 129 = .ok (.iastore, 1) := by decide +kernel
theorem dX2_takesTerms_130 : decode cX2_takesTerms 130 = .ok (.aload_n 0, 1) := by decide +kernel
theorem dX2_takesTerms_131 : decode cX2_takesTerms 131 = .ok (.getfield 132, 3) := by decide +kernel
theorem dX2_takesTerms_134 : decode cX2_takesTerms 134 = .ok (.iload_n 3, 1) := by decide +kernel
theorem dX2_takesTerms_135 : decode cX2_takesTerms 135 = .ok (.iaload, 1) := by decide +kernel
theorem dX2_takesTerms_136 : decode cX2_takesTerms 136 = .ok (.iconst 0, 1) := by decide +kernel
theorem dX2_takesTerms_137 : decode cX2_takesTerms 137 = .ok (.iconst 2, 1) := by decide +kernel
theorem dX2_takesTerms_138 : decode cX2_takesTerms 138 = .ok (.invokestatic 190, 3) := by decide +kernel
theorem dX2_takesTerms_141 : decode cX2_takesTerms 141 = .ok (.ifCond .ne 9, 3) := by decide +kernel
theorem dX2_takesTerms_144 : decode cX2_takesTerms 144 = .ok (.aload_n 0, 1) := by decide +kernel
theorem dX2_takesTerms_145 : decode cX2_takesTerms 145 = .ok (.iconst 1, 1) := by decide +kernel
theorem dX2_takesTerms_146 : decode cX2_takesTerms 146 = .ok (.invokevirtual 296, 3) := by decide +kernel
theorem dX2_takesTerms_149 : decode cX2_takesTerms 149 = .ok (.ireturn, 1) := by decide +kernel
theorem dX2_takesTerms_150 : decode cX2_takesTerms 150 = .ok (.aload_n 0, 1) := by decide +kernel
theorem dX2_takesTerms_151 : decode cX2_takesTerms 151 = .ok (.invokevirtual 299, 3) := by decide +kernel
theorem dX2_takesTerms_154 : decode cX2_takesTerms 154 = .ok (.aload_n 0, 1) := by decide +kernel
theorem dX2_takesTerms_155 : decode cX2_takesTerms 155 = .ok (.getfield 248, 3) := by decide +kernel
theorem dX2_takesTerms_158 : decode cX2_takesTerms 158 = .ok (.iconst 2, 1) := by decide +kernel
theorem dX2_takesTerms_159 : decode cX2_takesTerms 159 = .ok (.if_icmp .eq 9, 3) := by decide +kernel
theorem dX2_takesTerms_162 : decode cX2_takesTerms 162 = .ok (.aload_n 0, 1) := by decide +kernel
theorem dX2_takesTerms_163 : decode cX2_takesTerms 163 = .ok (.iconst 1, 1) := by decide +kernel
theorem dX2_takesTerms_164 : decode cX2_takesTerms 164 = .ok (.invokevirtual 296, 3) := by decide +kernel
theorem dX2_takesTerms_167 : decode cX2_takesTerms 167 = .ok (.ireturn, 1) := by decide +kernel
theorem dX2_takesTerms_168 : decode cX2_takesTerms 168 = .ok (.aload_n 0, 1) := by decide +kernel
theorem dX2_takesTerms_169 : decode cX2_takesTerms 169 = .ok (.getfield 135, 3) := by decide +kernel
theorem dX2_takesTerms_172 : decode cX2_takesTerms 172 = .ok (.iload_n 3, 1) := by decide +kernel
theorem dX2_takesTerms_173 : decode cX2_takesTerms 173 = .ok (.aload_n 0, 1) := by decide +kernel
theorem dX2_takesTerms_174 : decode cX2_takesTerms 174 = .ok (.getfield 251, 3) := by decide +kernel
theorem dX2_takesTerms_177 : decode cX2_takesTerms 177 = .ok (.iastore, 1) := by decide +kernel
theorem dX2_takesTerms_178 : decode cX2_takesTerms 178 = .ok (.aload_n 0, 1) := by decide +kernel
theorem dX2_takesTerms_179 : decode cX2_takesTerms 179 = .ok (.invokevirtual 299, 3) := by decide +kernel
theorem dX2_takesTerms_182 : decode cX2_takesTerms 182 = .ok (.aload_n 0, 1) := by decide +kernel
theorem dX2_takesTerms_183 : decode cX2_takesTerms 183 = .ok (.getfield 123, 3) := by decide +kernel
theorem dX2_takesTerms_186 : decode cX2_takesTerms 186 = .ok (.iload_n 1, 1) := by decide +kernel
theorem dX2_takesTerms_187 : decode cX2_takesTerms 187 = .ok (.dup2, 1) := by decide +kernel
theorem dX2_takesTerms_188 : decode cX2_takesTerms 188 = .ok (.iaload, 1) := by decide +kernel
theorem dX2_takesTerms_189 : decode cX2_takesTerms 189 = .ok (.iconst 1, 1) := by decide +kernel
theorem dX2_takesTerms_190 : decode cX2_takesTerms 190 = .ok (.iadd, 1) := by decide +kernel
theorem dX2_takesTerms_191 : decode cX2_takesTerms 191 = .ok (.iastore, 1) := by decide +kernel
theorem dX2_takesTerms_192 : decode cX2_takesTerms 192 = .ok (.aload_n 0, 1) := by decide +kernel
theorem dX2_takesTerms_193 : decode cX2_takesTerms 193 = .ok (.ldc_w 305, 3) := by decide +kernel
theorem dX2_takesTerms_196 : decode cX2_takesTerms 196 = .ok (.invokevirtual 287, 3) := by decide +kernel
theorem dX2_takesTerms_199 : decode cX2_takesTerms 199 = .ok (.istore_n 2, 1) := by decide +kernel
theorem dX2_takesTerms_200 : decode cX2_takesTerms 200 = .ok (.iload_n 2, 1) := by decide +kernel
theorem dX2_takesTerms_201 : decode cX2_takesTerms 201 = .ok (.ifCond .eq 7, 3) := by decide +kernel
theorem dX2_takesTerms_204 : decode cX2_takesTerms 204 = .ok (.aload_n 0, 1) := by decide +kernel
theorem dX2_takesTerms_205 : decode cX2_takesTerms 205 = .ok (.invokevirtual 299, 3) := by decide +kernel
theorem dX2_takesTerms_208 : decode cX2_takesTerms 208 = .ok (.goto (-199), 3) := by decide +kernel
theorem dX2_takesTerms_211 : decode cX2_takesTerms 211 = .ok (.iconst 1, 1) := by decide +kernel
theorem dX2_takesTerms_212 : decode cX2_takesTerms 212 = .ok (.ireturn, 1) := by decide +kernel
def fn_X2_takesTerms_208 (N : Nat) (K9 : Int32 → Int32 → zo_O → Option zo_R) (x1 : Int32) (x2 : Int32) (Ω : zo_O) : Option zo_R :=
  K9 x1 x2 Ω
theorem ct_X2_takesTerms_208 {Y : zo_Y} (hY : zo_Gd Y cX2_takesTerms 4 RX2 6) (hJ : zo_JC (zo_J Y)) (hCon : ∀ Ω, zo_J Y Ω → zo_Con Ω) (hr : zo_rt Y (Option.some Jvm.ClassFile.FieldType.boolean)) (N : Nat) (K9 : Int32 → Int32 → zo_O → Option zo_R) (hK9 : ∀ (x1 : Int32) (x2 : Int32) (Ω : zo_O) (res : zo_R), K9 x1 x2 Ω = some res → TW Y res Ω 9 [(0, vr 1 0), (1, vi x1), (2, vi x2)] []) (x1 : Int32) (x2 : Int32) (Ω : zo_O) (res : zo_R) (h : fn_X2_takesTerms_208 N K9 x1 x2 Ω = some res) : TW Y res Ω 208 [(0, vr 1 0), (1, vi x1), (2, vi x2)] [] := by
  unfold fn_X2_takesTerms_208 at h
  refine zo_goto hY 9 dX2_takesTerms_208 (by decide) ?_
  exact hK9 x1 x2 Ω _ h
def fn_X2_takesTerms_90 (N : Nat) (K9 : Int32 → Int32 → zo_O → Option zo_R) (x1 : Int32) (x3 : Int32) (Ω : zo_O) : Option zo_R :=
  ci (fn_X2_factHere N Ω) fun r2 Ω1 =>
  ix x3 96 fun j3 => lt (sI Ω1 32 33 j3 r2) fun Ω4 =>
  ix x3 96 fun j5 =>
  if gI Ω4 32 33 j5 = (-1) then (
    ci (fn_X2_wrong N 1 Ω4) fun r8 Ω7 =>
    rZ r8 Ω7
    ) else
  cv (fn_X2_next N Ω4) fun Ω9 =>
  ci (fn_X2_signHere N Ω9) fun r11 Ω10 =>
  ix x3 96 fun j12 => lt (sI Ω10 32 34 j12 r11) fun Ω13 =>
  ix x3 96 fun j14 =>
  ci (fn_X2_within N (gI Ω13 32 34 j14) 0 2 Ω13) fun r16 Ω15 =>
  if r16 = 0 then (
    ci (fn_X2_wrong N 1 Ω15) fun r19 Ω18 =>
    rZ r19 Ω18
    ) else
  cv (fn_X2_next N Ω15) fun Ω20 =>
  if gI Ω20 1 0 60 = 2 then (
    ix x3 96 fun j22 => lt (sI Ω20 32 35 j22 (gI Ω20 1 0 59)) fun Ω23 =>
    cv (fn_X2_next N Ω23) fun Ω24 =>
    ix x1 24 fun j25 =>
    ix x1 24 fun j26 => lt (sI Ω24 32 32 j26 ((gI Ω24 32 32 j25) + 1)) fun Ω27 =>
    ci (fn_X2_isWord N 13 Ω27) fun r29 Ω28 =>
    if r29 = 0 then (
      fn_X2_takesTerms_208 N K9 x1 r29 Ω28
      ) else
    cv (fn_X2_next N Ω28) fun Ω31 =>
    fn_X2_takesTerms_208 N K9 x1 r29 Ω31
    ) else
  ci (fn_X2_wrong N 1 Ω20) fun r33 Ω32 =>
  rZ r33 Ω32
theorem ct_X2_takesTerms_90 {Y : zo_Y} (hY : zo_Gd Y cX2_takesTerms 4 RX2 6) (hJ : zo_JC (zo_J Y)) (hCon : ∀ Ω, zo_J Y Ω → zo_Con Ω) (hr : zo_rt Y (Option.some Jvm.ClassFile.FieldType.boolean)) (N : Nat) (K9 : Int32 → Int32 → zo_O → Option zo_R) (hK9 : ∀ (x1 : Int32) (x2 : Int32) (Ω : zo_O) (res : zo_R), K9 x1 x2 Ω = some res → TW Y res Ω 9 [(0, vr 1 0), (1, vi x1), (2, vi x2)] []) (x1 : Int32) (x3 : Int32) (Ω : zo_O) (res : zo_R) (h : fn_X2_takesTerms_90 N K9 x1 x3 Ω = some res) : TW Y res Ω 90 [(0, vr 1 0), (1, vi x1), (3, vi x3)] [] := by
  unfold fn_X2_takesTerms_90 at h
  refine zo_aload_n hY dX2_takesTerms_90 rfl 0 rfl ?_
  refine zo_getC hY LX2_129_1 rfl (fun Ω q => (hCon Ω q).2.1 50 _ rfl) dX2_takesTerms_91 ?_
  refine zo_iload_n hY dX2_takesTerms_94 rfl 2 rfl ?_
  refine zo_aload_n hY dX2_takesTerms_95 rfl 0 rfl ?_
  refine zo_callV hY (fun q hq => mt_X2_factHere hJ hCon N Ω q hq) (by decide) (by decide) (by decide) ⟨rfl, cn_X2_factHere⟩ rfl q1619 q1621 qs47 q82 q1622 (Nat.le_of_ble_eq_true rfl) dX2_takesTerms_96 rfl h (ci_k (fun r2 Ω1 res h => ?_))
  refine zo_ast hY hJ (by decide) (Or.inl ⟨rfl, rfl, dX2_takesTerms_99⟩) (fun q => (hCon _ q).2.2.2 32 33 96 rfl) h (fun j3 Ω4 h => ?_)
  refine zo_aload_n hY dX2_takesTerms_100 rfl 0 rfl ?_
  refine zo_getC hY LX2_129_1 rfl (fun Ω q => (hCon Ω q).2.1 50 _ rfl) dX2_takesTerms_101 ?_
  refine zo_iload_n hY dX2_takesTerms_104 rfl 2 rfl ?_
  refine zo_ald hY (by decide) (Or.inl ⟨rfl, dX2_takesTerms_105⟩) (fun q => (hCon _ q).2.2.2 32 33 96 rfl) h (fun j5 h => ?_)
  refine zo_iconst hY (-1) (by decide) dX2_takesTerms_106 ?_
  refine zo_icmp_ne hY 116 dX2_takesTerms_107 (by decide) h (fun c6 h => ?_) (fun c6 h => ?_)
  · refine zo_aload_n hY dX2_takesTerms_110 rfl 0 rfl ?_
    refine zo_iconst hY 1 (by decide) dX2_takesTerms_111 ?_
    refine zo_callV hY (fun q hq => mt_X2_wrong hJ hCon N 1 Ω4 q hq) (by decide) (by decide) (by decide) ⟨rfl, cn_X2_wrong⟩ rfl q1610 q1612 qs45 q82 q1613 (Nat.le_of_ble_eq_true rfl) dX2_takesTerms_112 rfl h (ci_k (fun r8 Ω7 res h => ?_))
    exact zo_zret hY hr dX2_takesTerms_115 h
  · refine zo_aload_n hY dX2_takesTerms_116 rfl 0 rfl ?_
    refine zo_callV hY (fun q hq => mt_X2_next hJ hCon N Ω4 q hq) (by decide) (by decide) (by decide) ⟨rfl, cn_X2_next⟩ rfl q1590 q1592 qs41 q82 q1593 (Nat.le_of_ble_eq_true rfl) dX2_takesTerms_117 rfl h (cv_k (fun Ω9 res h => ?_))
    refine zo_aload_n hY dX2_takesTerms_120 rfl 0 rfl ?_
    refine zo_getC hY LX2_132_1 rfl (fun Ω q => (hCon Ω q).2.1 51 _ rfl) dX2_takesTerms_121 ?_
    refine zo_iload_n hY dX2_takesTerms_124 rfl 2 rfl ?_
    refine zo_aload_n hY dX2_takesTerms_125 rfl 0 rfl ?_
    refine zo_callV hY (fun q hq => mt_X2_signHere hJ hCon N Ω9 q hq) (by decide) (by decide) (by decide) ⟨rfl, cn_X2_signHere⟩ rfl q1636 q1638 qs48 q82 q1639 (Nat.le_of_ble_eq_true rfl) dX2_takesTerms_126 rfl h (ci_k (fun r11 Ω10 res h => ?_))
    refine zo_ast hY hJ (by decide) (Or.inl ⟨rfl, rfl, dX2_takesTerms_129⟩) (fun q => (hCon _ q).2.2.2 32 34 96 rfl) h (fun j12 Ω13 h => ?_)
    refine zo_aload_n hY dX2_takesTerms_130 rfl 0 rfl ?_
    refine zo_getC hY LX2_132_1 rfl (fun Ω q => (hCon Ω q).2.1 51 _ rfl) dX2_takesTerms_131 ?_
    refine zo_iload_n hY dX2_takesTerms_134 rfl 2 rfl ?_
    refine zo_ald hY (by decide) (Or.inl ⟨rfl, dX2_takesTerms_135⟩) (fun q => (hCon _ q).2.2.2 32 34 96 rfl) h (fun j14 h => ?_)
    refine zo_iconst hY 0 (by decide) dX2_takesTerms_136 ?_
    refine zo_iconst hY 2 (by decide) dX2_takesTerms_137 ?_
    refine zo_callS hY (fun q hq => mt_X2_within hJ hCon N (gI Ω13 32 34 j14) 0 2 Ω13 q hq) (by decide) (by decide) cn_X2_within rfl q1521 q1522 q82 q1523 (Nat.le_of_ble_eq_true rfl) dX2_takesTerms_138 rfl h (ci_k (fun r16 Ω15 res h => ?_))
    refine zo_if_ne hY 150 dX2_takesTerms_141 (by decide) h (fun c17 h => ?_) (fun c17 h => ?_)
    · refine zo_aload_n hY dX2_takesTerms_144 rfl 0 rfl ?_
      refine zo_iconst hY 1 (by decide) dX2_takesTerms_145 ?_
      refine zo_callV hY (fun q hq => mt_X2_wrong hJ hCon N 1 Ω15 q hq) (by decide) (by decide) (by decide) ⟨rfl, cn_X2_wrong⟩ rfl q1610 q1612 qs45 q82 q1613 (Nat.le_of_ble_eq_true rfl) dX2_takesTerms_146 rfl h (ci_k (fun r19 Ω18 res h => ?_))
      exact zo_zret hY hr dX2_takesTerms_149 h
    · refine zo_aload_n hY dX2_takesTerms_150 rfl 0 rfl ?_
      refine zo_callV hY (fun q hq => mt_X2_next hJ hCon N Ω15 q hq) (by decide) (by decide) (by decide) ⟨rfl, cn_X2_next⟩ rfl q1590 q1592 qs41 q82 q1593 (Nat.le_of_ble_eq_true rfl) dX2_takesTerms_151 rfl h (cv_k (fun Ω20 res h => ?_))
      refine zo_aload_n hY dX2_takesTerms_154 rfl 0 rfl ?_
      refine zo_getI hY LX2_248_1 rfl dX2_takesTerms_155 ?_
      refine zo_iconst hY 2 (by decide) dX2_takesTerms_158 ?_
      refine zo_icmp_eq hY 168 dX2_takesTerms_159 (by decide) h (fun c21 h => ?_) (fun c21 h => ?_)
      · refine zo_aload_n hY dX2_takesTerms_168 rfl 0 rfl ?_
        refine zo_getC hY LX2_135_1 rfl (fun Ω q => (hCon Ω q).2.1 52 _ rfl) dX2_takesTerms_169 ?_
        refine zo_iload_n hY dX2_takesTerms_172 rfl 2 rfl ?_
        refine zo_aload_n hY dX2_takesTerms_173 rfl 0 rfl ?_
        refine zo_getI hY LX2_251_1 rfl dX2_takesTerms_174 ?_
        refine zo_ast hY hJ (by decide) (Or.inl ⟨rfl, rfl, dX2_takesTerms_177⟩) (fun q => (hCon _ q).2.2.2 32 35 96 rfl) h (fun j22 Ω23 h => ?_)
        refine zo_aload_n hY dX2_takesTerms_178 rfl 0 rfl ?_
        refine zo_callV hY (fun q hq => mt_X2_next hJ hCon N Ω23 q hq) (by decide) (by decide) (by decide) ⟨rfl, cn_X2_next⟩ rfl q1590 q1592 qs41 q82 q1593 (Nat.le_of_ble_eq_true rfl) dX2_takesTerms_179 rfl h (cv_k (fun Ω24 res h => ?_))
        refine zo_aload_n hY dX2_takesTerms_182 rfl 0 rfl ?_
        refine zo_getC hY LX2_123_1 rfl (fun Ω q => (hCon Ω q).2.1 48 _ rfl) dX2_takesTerms_183 ?_
        refine zo_iload_n hY dX2_takesTerms_186 rfl 1 rfl ?_
        refine zo_dup2 hY dX2_takesTerms_187 (Or.inl rfl) (Or.inr ⟨_, rfl⟩) ?_
        refine zo_ald hY (by decide) (Or.inl ⟨rfl, dX2_takesTerms_188⟩) (fun q => (hCon _ q).2.2.2 32 32 24 rfl) h (fun j25 h => ?_)
        refine zo_iconst hY 1 (by decide) dX2_takesTerms_189 ?_
        refine zo_iadd hY dX2_takesTerms_190 ?_
        refine zo_ast hY hJ (by decide) (Or.inl ⟨rfl, rfl, dX2_takesTerms_191⟩) (fun q => (hCon _ q).2.2.2 32 32 24 rfl) h (fun j26 Ω27 h => ?_)
        refine zo_aload_n hY dX2_takesTerms_192 rfl 0 rfl ?_
        refine zo_ldcwS hY (tx := "and") (j := 13) (by decide) dX2_takesTerms_193 ?_
        refine zo_callV hY (fun q hq => mt_X2_isWord hJ hCon N 13 Ω27 q hq) (by decide) (by decide) (by decide) ⟨rfl, cn_X2_isWord⟩ rfl q1603 q1605 qs44 q82 q1606 (Nat.le_of_ble_eq_true rfl) dX2_takesTerms_196 rfl h (ci_k (fun r29 Ω28 res h => ?_))
        refine zo_istore_n hY dX2_takesTerms_199 rfl (by decide) rfl (ls' := [(2, vi r29), (0, vr 1 0), (1, vi x1), (3, vi x3)]) rfl ?_
        refine zo_iload_n hY dX2_takesTerms_200 rfl 0 rfl ?_
        refine zo_if_eq hY 208 dX2_takesTerms_201 (by decide) h (fun c30 h => ?_) (fun c30 h => ?_)
        · refine zo_sub [1, 2, 0] rfl ?_
          exact ct_X2_takesTerms_208 hY hJ hCon hr N K9 hK9 x1 r29 Ω28 _ h
        · refine zo_aload_n hY dX2_takesTerms_204 rfl 1 rfl ?_
          refine zo_callV hY (fun q hq => mt_X2_next hJ hCon N Ω28 q hq) (by decide) (by decide) (by decide) ⟨rfl, cn_X2_next⟩ rfl q1590 q1592 qs41 q82 q1593 (Nat.le_of_ble_eq_true rfl) dX2_takesTerms_205 rfl h (cv_k (fun Ω31 res h => ?_))
          refine zo_sub [1, 2, 0] rfl ?_
          exact ct_X2_takesTerms_208 hY hJ hCon hr N K9 hK9 x1 r29 Ω31 _ h
      · refine zo_aload_n hY dX2_takesTerms_162 rfl 0 rfl ?_
        refine zo_iconst hY 1 (by decide) dX2_takesTerms_163 ?_
        refine zo_callV hY (fun q hq => mt_X2_wrong hJ hCon N 1 Ω20 q hq) (by decide) (by decide) (by decide) ⟨rfl, cn_X2_wrong⟩ rfl q1610 q1612 qs45 q82 q1613 (Nat.le_of_ble_eq_true rfl) dX2_takesTerms_164 rfl h (ci_k (fun r33 Ω32 res h => ?_))
        exact zo_zret hY hr dX2_takesTerms_167 h
def fn_X2_takesTerms_37 (N : Nat) (K9 : Int32 → Int32 → zo_O → Option zo_R) (x1 : Int32) (Ω : zo_O) : Option zo_R :=
  ix x1 24 fun j1 =>
  if gI Ω 32 32 j1 = 4 then (
    ci (fn_X2_wrong N 2 Ω) fun r4 Ω3 =>
    rZ r4 Ω3
    ) else
  ix x1 24 fun j5 =>
  li ((4 * x1) + (gI Ω 32 32 j5)) fun y6 =>
  ci (fn_X2_isWord N 2 Ω) fun r8 Ω7 =>
  ix y6 96 fun j9 => lt (sI Ω7 33 2 j9 (vp_nar .boolean r8)) fun Ω10 =>
  ix y6 96 fun j11 =>
  if gI Ω10 33 2 j11 = 0 then (
    fn_X2_takesTerms_90 N K9 x1 y6 Ω10
    ) else
  cv (fn_X2_next N Ω10) fun Ω13 =>
  fn_X2_takesTerms_90 N K9 x1 y6 Ω13
theorem ct_X2_takesTerms_37 {Y : zo_Y} (hY : zo_Gd Y cX2_takesTerms 4 RX2 6) (hJ : zo_JC (zo_J Y)) (hCon : ∀ Ω, zo_J Y Ω → zo_Con Ω) (hr : zo_rt Y (Option.some Jvm.ClassFile.FieldType.boolean)) (N : Nat) (K9 : Int32 → Int32 → zo_O → Option zo_R) (hK9 : ∀ (x1 : Int32) (x2 : Int32) (Ω : zo_O) (res : zo_R), K9 x1 x2 Ω = some res → TW Y res Ω 9 [(0, vr 1 0), (1, vi x1), (2, vi x2)] []) (x1 : Int32) (Ω : zo_O) (res : zo_R) (h : fn_X2_takesTerms_37 N K9 x1 Ω = some res) : TW Y res Ω 37 [(0, vr 1 0), (1, vi x1)] [] := by
  unfold fn_X2_takesTerms_37 at h
  refine zo_aload_n hY dX2_takesTerms_37 rfl 0 rfl ?_
  refine zo_getC hY LX2_123_1 rfl (fun Ω q => (hCon Ω q).2.1 48 _ rfl) dX2_takesTerms_38 ?_
  refine zo_iload_n hY dX2_takesTerms_41 rfl 1 rfl ?_
  refine zo_ald hY (by decide) (Or.inl ⟨rfl, dX2_takesTerms_42⟩) (fun q => (hCon _ q).2.2.2 32 32 24 rfl) h (fun j1 h => ?_)
  refine zo_iconst hY 4 (by decide) dX2_takesTerms_43 ?_
  refine zo_icmp_ne hY 53 dX2_takesTerms_44 (by decide) h (fun c2 h => ?_) (fun c2 h => ?_)
  · refine zo_aload_n hY dX2_takesTerms_47 rfl 0 rfl ?_
    refine zo_iconst hY 2 (by decide) dX2_takesTerms_48 ?_
    refine zo_callV hY (fun q hq => mt_X2_wrong hJ hCon N 2 Ω q hq) (by decide) (by decide) (by decide) ⟨rfl, cn_X2_wrong⟩ rfl q1610 q1612 qs45 q82 q1613 (Nat.le_of_ble_eq_true rfl) dX2_takesTerms_49 rfl h (ci_k (fun r4 Ω3 res h => ?_))
    exact zo_zret hY hr dX2_takesTerms_52 h
  · refine zo_iconst hY 4 (by decide) dX2_takesTerms_53 ?_
    refine zo_iload_n hY dX2_takesTerms_54 rfl 1 rfl ?_
    refine zo_imul hY dX2_takesTerms_55 ?_
    refine zo_aload_n hY dX2_takesTerms_56 rfl 0 rfl ?_
    refine zo_getC hY LX2_123_1 rfl (fun Ω q => (hCon Ω q).2.1 48 _ rfl) dX2_takesTerms_57 ?_
    refine zo_iload_n hY dX2_takesTerms_60 rfl 1 rfl ?_
    refine zo_ald hY (by decide) (Or.inl ⟨rfl, dX2_takesTerms_61⟩) (fun q => (hCon _ q).2.2.2 32 32 24 rfl) h (fun j5 h => ?_)
    refine zo_iadd hY dX2_takesTerms_62 ?_
    refine zo_nmi h (fun y6 h => ?_)
    refine zo_istore_n hY dX2_takesTerms_63 rfl (by decide) rfl (ls' := [(3, vi y6), (0, vr 1 0), (1, vi x1)]) rfl ?_
    refine zo_aload_n hY dX2_takesTerms_64 rfl 1 rfl ?_
    refine zo_getC hY LX2_126_1 rfl (fun Ω q => (hCon Ω q).2.1 49 _ rfl) dX2_takesTerms_65 ?_
    refine zo_iload_n hY dX2_takesTerms_68 rfl 0 rfl ?_
    refine zo_aload_n hY dX2_takesTerms_69 rfl 1 rfl ?_
    refine zo_ldcwS hY (tx := "not") (j := 2) (by decide) dX2_takesTerms_70 ?_
    refine zo_callV hY (fun q hq => mt_X2_isWord hJ hCon N 2 Ω q hq) (by decide) (by decide) (by decide) ⟨rfl, cn_X2_isWord⟩ rfl q1603 q1605 qs44 q82 q1606 (Nat.le_of_ble_eq_true rfl) dX2_takesTerms_73 rfl h (ci_k (fun r8 Ω7 res h => ?_))
    refine zo_ast hY hJ (by decide) (Or.inr (Or.inr ⟨rfl, rfl, dX2_takesTerms_76⟩)) (fun q => (hCon _ q).2.2.2 33 2 96 rfl) h (fun j9 Ω10 h => ?_)
    refine zo_aload_n hY dX2_takesTerms_77 rfl 1 rfl ?_
    refine zo_getC hY LX2_126_1 rfl (fun Ω q => (hCon Ω q).2.1 49 _ rfl) dX2_takesTerms_78 ?_
    refine zo_iload_n hY dX2_takesTerms_81 rfl 0 rfl ?_
    refine zo_ald hY (by decide) (Or.inr ⟨Or.inr rfl, dX2_takesTerms_82⟩) (fun q => (hCon _ q).2.2.2 33 2 96 rfl) h (fun j11 h => ?_)
    refine zo_if_eq hY 90 dX2_takesTerms_83 (by decide) h (fun c12 h => ?_) (fun c12 h => ?_)
    · refine zo_sub [1, 2, 0] rfl ?_
      exact ct_X2_takesTerms_90 hY hJ hCon hr N K9 hK9 x1 y6 Ω10 _ h
    · refine zo_aload_n hY dX2_takesTerms_86 rfl 1 rfl ?_
      refine zo_callV hY (fun q hq => mt_X2_next hJ hCon N Ω10 q hq) (by decide) (by decide) (by decide) ⟨rfl, cn_X2_next⟩ rfl q1590 q1592 qs41 q82 q1593 (Nat.le_of_ble_eq_true rfl) dX2_takesTerms_87 rfl h (cv_k (fun Ω13 res h => ?_))
      refine zo_sub [1, 2, 0] rfl ?_
      exact ct_X2_takesTerms_90 hY hJ hCon hr N K9 hK9 x1 y6 Ω13 _ h
def bd_X2_takesTerms_9 (N : Nat)  (K9 : Int32 → Int32 → zo_O → Option zo_R) (x1 : Int32) (x2 : Int32) (Ω : zo_O) : Option zo_R :=
  if x2 = 0 then (
    rZ 1 Ω
    ) else
  ci (fn_X2_isWord N 2 Ω) fun r3 Ω2 =>
  if r3 = 0 then (
    ci (fn_X2_factHere N Ω2) fun r6 Ω5 =>
    if r6 = (-1) then (
      ci (fn_X2_wrong N 1 Ω5) fun r9 Ω8 =>
      rZ r9 Ω8
      ) else
    fn_X2_takesTerms_37 N K9 x1 Ω5
    ) else
  fn_X2_takesTerms_37 N K9 x1 Ω2
theorem cb_X2_takesTerms_9 {Y : zo_Y} (hY : zo_Gd Y cX2_takesTerms 4 RX2 6) (hJ : zo_JC (zo_J Y)) (hCon : ∀ Ω, zo_J Y Ω → zo_Con Ω) (hr : zo_rt Y (Option.some Jvm.ClassFile.FieldType.boolean)) (N : Nat)  (K9 : Int32 → Int32 → zo_O → Option zo_R)  (hK9 : ∀ (x1 : Int32) (x2 : Int32) (Ω : zo_O) (res : zo_R), K9 x1 x2 Ω = some res → TW Y res Ω 9 [(0, vr 1 0), (1, vi x1), (2, vi x2)] []) (x1 : Int32) (x2 : Int32) (Ω : zo_O) (res : zo_R) (h : bd_X2_takesTerms_9 N  K9 x1 x2 Ω = some res) : TW Y res Ω 9 [(0, vr 1 0), (1, vi x1), (2, vi x2)] [] := by
  unfold bd_X2_takesTerms_9 at h
  refine zo_iload_n hY dX2_takesTerms_9 rfl 2 rfl ?_
  refine zo_if_eq hY 211 dX2_takesTerms_10 (by decide) h (fun c1 h => ?_) (fun c1 h => ?_)
  · refine zo_iconst hY 1 (by decide) dX2_takesTerms_211 ?_
    exact zo_zret hY hr dX2_takesTerms_212 h
  · refine zo_aload_n hY dX2_takesTerms_13 rfl 0 rfl ?_
    refine zo_ldcwS hY (tx := "not") (j := 2) (by decide) dX2_takesTerms_14 ?_
    refine zo_callV hY (fun q hq => mt_X2_isWord hJ hCon N 2 Ω q hq) (by decide) (by decide) (by decide) ⟨rfl, cn_X2_isWord⟩ rfl q1603 q1605 qs44 q82 q1606 (Nat.le_of_ble_eq_true rfl) dX2_takesTerms_17 rfl h (ci_k (fun r3 Ω2 res h => ?_))
    refine zo_if_ne hY 37 dX2_takesTerms_20 (by decide) h (fun c4 h => ?_) (fun c4 h => ?_)
    · refine zo_aload_n hY dX2_takesTerms_23 rfl 0 rfl ?_
      refine zo_callV hY (fun q hq => mt_X2_factHere hJ hCon N Ω2 q hq) (by decide) (by decide) (by decide) ⟨rfl, cn_X2_factHere⟩ rfl q1619 q1621 qs47 q82 q1622 (Nat.le_of_ble_eq_true rfl) dX2_takesTerms_24 rfl h (ci_k (fun r6 Ω5 res h => ?_))
      refine zo_iconst hY (-1) (by decide) dX2_takesTerms_27 ?_
      refine zo_icmp_ne hY 37 dX2_takesTerms_28 (by decide) h (fun c7 h => ?_) (fun c7 h => ?_)
      · refine zo_aload_n hY dX2_takesTerms_31 rfl 0 rfl ?_
        refine zo_iconst hY 1 (by decide) dX2_takesTerms_32 ?_
        refine zo_callV hY (fun q hq => mt_X2_wrong hJ hCon N 1 Ω5 q hq) (by decide) (by decide) (by decide) ⟨rfl, cn_X2_wrong⟩ rfl q1610 q1612 qs45 q82 q1613 (Nat.le_of_ble_eq_true rfl) dX2_takesTerms_33 rfl h (ci_k (fun r9 Ω8 res h => ?_))
        exact zo_zret hY hr dX2_takesTerms_36 h
      · refine zo_sub [0, 1] rfl ?_
        exact ct_X2_takesTerms_37 hY hJ hCon hr N K9 hK9 x1 Ω5 _ h
    · refine zo_sub [0, 1] rfl ?_
      exact ct_X2_takesTerms_37 hY hJ hCon hr N K9 hK9 x1 Ω2 _ h
def fn_X2_takesTerms_9 (N : Nat)  : Nat → Int32 → Int32 → zo_O → Option zo_R
  | 0, _, _, _ => none
  | n + 1, x1, x2, Ω => bd_X2_takesTerms_9 N  (fn_X2_takesTerms_9 N  n) x1 x2 Ω
theorem ct_X2_takesTerms_9 {Y : zo_Y} (hY : zo_Gd Y cX2_takesTerms 4 RX2 6) (hJ : zo_JC (zo_J Y)) (hCon : ∀ Ω, zo_J Y Ω → zo_Con Ω) (hr : zo_rt Y (Option.some Jvm.ClassFile.FieldType.boolean)) (N : Nat)   : ∀ (n : Nat) (x1 : Int32) (x2 : Int32) (Ω : zo_O) (res : zo_R), fn_X2_takesTerms_9 N  n x1 x2 Ω = some res → TW Y res Ω 9 [(0, vr 1 0), (1, vi x1), (2, vi x2)] [] := by
  intro n
  induction n with
  | zero => intro x1 x2 Ω res h; exact nomatch (show (none : Option zo_R) = some res from h)
  | succ n ih => intro x1 x2 Ω res h; exact cb_X2_takesTerms_9 hY hJ hCon hr N  (fn_X2_takesTerms_9 N  n)  ih x1 x2 Ω res h
def fn_X2_takesTerms (N : Nat) (x1 : Int32) (Ω : zo_O) : Option zo_R :=
  ix x1 24 fun j1 => lt (sI Ω 32 32 j1 0) fun Ω2 =>
  fn_X2_takesTerms_9 N N x1 1 Ω2
theorem mt_X2_takesTerms {G : zo_G} {J : zo_O → Prop} (hJ : zo_JC J) (hCon : ∀ Ω, J Ω → zo_Con Ω) (N : Nat) (x1 : Int32) (Ω : zo_O) (res : zo_R) (h : fn_X2_takesTerms N x1 Ω = some res) : zo_MT G J yX2_takesTerms cX2_takesTerms 4 (Option.some Jvm.ClassFile.FieldType.boolean) 6 [vr 1 0, vi x1] Ω res := by
  refine zo_enter (by decide) rfl (Nat.le_of_ble_eq_true rfl) (fun Y hY eJ hr hmn => ?_)
  subst eJ
  show TW Y res Ω 0 [(0, vr 1 0), (1, vi x1)] []
  unfold fn_X2_takesTerms at h
  refine zo_aload_n hY dX2_takesTerms_0 rfl 0 rfl ?_
  refine zo_getC hY LX2_123_1 rfl (fun Ω q => (hCon Ω q).2.1 48 _ rfl) dX2_takesTerms_1 ?_
  refine zo_iload_n hY dX2_takesTerms_4 rfl 1 rfl ?_
  refine zo_iconst hY 0 (by decide) dX2_takesTerms_5 ?_
  refine zo_ast hY hJ (by decide) (Or.inl ⟨rfl, rfl, dX2_takesTerms_6⟩) (fun q => (hCon _ q).2.2.2 32 32 24 rfl) h (fun j1 Ω2 h => ?_)
  refine zo_iconst hY 1 (by decide) dX2_takesTerms_7 ?_
  refine zo_istore_n hY dX2_takesTerms_8 rfl (by decide) rfl (ls' := [(2, vi 1), (0, vr 1 0), (1, vi x1)]) rfl ?_
  refine zo_sub [1, 2, 0] rfl ?_
  exact ct_X2_takesTerms_9 hY hJ hCon hr N N x1 1 Ω2 _ h
theorem dX2_statement_0 : decode cX2_statement 0 = .ok (.aload_n 0, 1) := by decide +kernel
theorem dX2_statement_1 : decode cX2_statement 1 = .ok (.ldc_w 307, 3) := by decide +kernel
theorem dX2_statement_4 : decode cX2_statement 4 = .ok (.invokevirtual 287, 3) := by decide +kernel
theorem dX2_statement_7 : decode cX2_statement 7 = .ok (.istore_n 1, 1) := by decide +kernel
theorem dX2_statement_8 : decode cX2_statement 8 = .ok (.iload_n 1, 1) := by decide +kernel
theorem dX2_statement_9 : decode cX2_statement 9 = .ok (.ifCond .ne 19, 3) := by decide +kernel
theorem dX2_statement_12 : decode cX2_statement 12 = .ok (.aload_n 0, 1) := by decide +kernel
theorem dX2_statement_13 : decode cX2_statement 13 = .ok (.ldc_w 309, 3) := by decide +kernel
theorem dX2_statement_16 : decode cX2_statement 16 = .ok (.invokevirtual 287, 3) := by decide +kernel
theorem dX2_statement_19 : decode cX2_statement 19 = .ok (.ifCond .ne 9, 3) := by decide +kernel
theorem dX2_statement_22 : decode cX2_statement 22 = .ok (.aload_n 0, 1) := by decide +kernel
theorem dX2_statement_23 : decode cX2_statement 23 = .ok (.iconst 1, 1) := by decide +kernel
theorem dX2_statement_24 : decode cX2_statement 24 = .ok (.invokevirtual 296, 3) := by decide +kernel
theorem dX2_statement_27 : decode cX2_statement 27 = .ok (.ireturn, 1) := by decide +kernel
theorem dX2_statement_28 : decode cX2_statement 28 = .ok (.aload_n 0, 1) := by decide +kernel
theorem dX2_statement_29 : decode cX2_statement 29 = .ok (.getfield 311, 3) := by decide +kernel
theorem dX2_statement_32 : decode cX2_statement 32 = .ok (.bipush 12, 2) := by decide +kernel
theorem dX2_statement_34 : decode cX2_statement 34 = .ok (.if_icmp .ne 9, 3) := by decide +kernel
theorem dX2_statement_37 : decode cX2_statement 37 = .ok (.aload_n 0, 1) := by decide +kernel
theorem dX2_statement_38 : decode cX2_statement 38 = .ok (.iconst 2, 1) := by decide +kernel
theorem dX2_statement_39 : decode cX2_statement 39 = .ok (.invokevirtual 296, 3) := by decide +kernel
theorem dX2_statement_42 : decode cX2_statement 42 = .ok (.ireturn, 1) := by decide +kernel
theorem dX2_statement_43 : decode cX2_statement 43 = .ok (.aload_n 0, 1) := by decide +kernel
theorem dX2_statement_44 : decode cX2_statement 44 = .ok (.getfield 120, 3) := by decide +kernel
theorem dX2_statement_47 : decode cX2_statement 47 = .ok (.bipush 12, 2) := by decide +kernel
theorem dX2_statement_49 : decode cX2_statement 49 = .ok (.aload_n 0, 1) := by decide +kernel
theorem dX2_statement_50 : decode cX2_statement 50 = .ok (.getfield 311, 3) := by decide +kernel
theorem dX2_statement_53 : decode cX2_statement 53 = .ok (.iadd, 1) := by decide +kernel
theorem dX2_statement_54 : decode cX2_statement 54 = .ok (.iload_n 1, 1) := by decide +kernel
theorem dX2_statement_55 : decode cX2_statement 55 = .ok (.bastore, 1) := by decide +kernel
theorem dX2_statement_56 : decode cX2_statement 56 = .ok (.aload_n 0, 1) := by decide +kernel
theorem dX2_statement_57 : decode cX2_statement 57 = .ok (.invokevirtual 299, 3) := by decide +kernel
theorem dX2_statement_60 : decode cX2_statement 60 = .ok (.aload_n 0, 1) := by decide +kernel
theorem dX2_statement_61 : decode cX2_statement 61 = .ok (.bipush 12, 2) := by decide +kernel
theorem dX2_statement_63 : decode cX2_statement 63 = .ok (.aload_n 0, 1) := by decide +kernel
theorem dX2_statement_64 : decode cX2_statement 64 = .ok (.getfield 311, 3) := by decide +kernel
theorem dX2_statement_67 : decode cX2_statement 67 = .ok (.iadd, 1) := by decide +kernel
theorem dX2_statement_68 : decode cX2_statement 68 = .ok (.invokevirtual 314, 3) := by decide +kernel
theorem dX2_statement_71 : decode cX2_statement 71 = .ok (.ifCond .ne 5, 3) := by decide +kernel
theorem dX2_statement_74 : decode cX2_statement 74 = .ok (.iconst 0, 1) := by decide +kernel
theorem dX2_statement_75 : decode cX2_statement 75 = .ok (.ireturn, 1) := by decide +kernel
theorem dX2_statement_76 : decode cX2_statement 76 = .ok (.aload_n 0, 1) := by decide +kernel
theorem dX2_statement_77 : decode cX2_statement 77 = .ok (.invokevirtual 302, 3) := by decide +kernel
theorem dX2_statement_80 : decode cX2_statement 80 = .ok (.iconst 3, 1) := by decide +kernel
theorem dX2_statement_81 : decode cX2_statement 81 = .ok (.if_icmp .eq 9, 3) := by decide +kernel
theorem dX2_statement_84 : decode cX2_statement 84 = .ok (.aload_n 0, 1) := by decide +kernel
theorem dX2_statement_85 : decode cX2_statement 85 = .ok (.iconst 1, 1) := by decide +kernel
theorem dX2_statement_86 : decode cX2_statement 86 = .ok (.invokevirtual 296, 3) := by decide +kernel
theorem dX2_statement_89 : decode cX2_statement 89 = .ok (.ireturn, 1) := by decide +kernel
theorem dX2_statement_90 : decode cX2_statement 90 = .ok (.aload_n 0, 1) := by decide +kernel
theorem dX2_statement_91 : decode cX2_statement 91 = .ok (.invokevirtual 299, 3) := by decide +kernel
theorem dX2_statement_94 : decode cX2_statement 94 = .ok (.aload_n 0, 1) := by decide +kernel
theorem dX2_statement_95 : decode cX2_statement 95 = .ok (.dup, 1) := by decide +kernel
theorem dX2_statement_96 : decode cX2_statement 96 = .ok (.getfield 311, 3) := by decide +kernel
theorem dX2_statement_99 : decode cX2_statement 99 = .ok (.iconst 1, 1) := by decide +kernel
theorem dX2_statement_100 : decode cX2_statement 100 = .ok (.iadd, 1) := by decide +kernel
theorem dX2_statement_101 : decode cX2_statement 101 = .ok (.putfield 311, 3) := by decide +kernel
theorem dX2_statement_104 : decode cX2_statement 104 = .ok (.iconst 1, 1) := by decide +kernel
theorem dX2_statement_105 : decode cX2_statement 105 = .ok (.ireturn, 1) := by decide +kernel
def fn_X2_statement_28 (N : Nat)  (x1 : Int32) (Ω : zo_O) : Option zo_R :=
  if gI Ω 1 0 46 = 12 then (
    ci (fn_X2_wrong N 2 Ω) fun r3 Ω2 =>
    rZ r3 Ω2
    ) else
  ix (12 + (gI Ω 1 0 46)) 24 fun j4 => lt (sI Ω 33 1 j4 (vp_nar .boolean x1)) fun Ω5 =>
  cv (fn_X2_next N Ω5) fun Ω6 =>
  ci (fn_X2_takesTerms N (12 + (gI Ω6 1 0 46)) Ω6) fun r8 Ω7 =>
  if r8 = 0 then (
    rZ 0 Ω7
    ) else
  ci (fn_X2_signHere N Ω7) fun r11 Ω10 =>
  if r11 = 3 then (
    cv (fn_X2_next N Ω10) fun Ω13 =>
    lt (sI Ω13 1 0 46 ((gI Ω13 1 0 46) + 1)) fun Ω14 =>
    rZ 1 Ω14
    ) else
  ci (fn_X2_wrong N 1 Ω10) fun r16 Ω15 =>
  rZ r16 Ω15
theorem ct_X2_statement_28 {Y : zo_Y} (hY : zo_Gd Y cX2_statement 2 RX2 7) (hJ : zo_JC (zo_J Y)) (hCon : ∀ Ω, zo_J Y Ω → zo_Con Ω) (hr : zo_rt Y (Option.some Jvm.ClassFile.FieldType.boolean)) (N : Nat)   (x1 : Int32) (Ω : zo_O) (res : zo_R) (h : fn_X2_statement_28 N  x1 Ω = some res) : TW Y res Ω 28 [(0, vr 1 0), (1, vi x1)] [] := by
  unfold fn_X2_statement_28 at h
  refine zo_aload_n hY dX2_statement_28 rfl 0 rfl ?_
  refine zo_getI hY LX2_311_1 rfl dX2_statement_29 ?_
  refine zo_bipush hY 12 (by decide) dX2_statement_32 ?_
  refine zo_icmp_ne hY 43 dX2_statement_34 (by decide) h (fun c1 h => ?_) (fun c1 h => ?_)
  · refine zo_aload_n hY dX2_statement_37 rfl 0 rfl ?_
    refine zo_iconst hY 2 (by decide) dX2_statement_38 ?_
    refine zo_callV hY (fun q hq => mt_X2_wrong hJ hCon N 2 Ω q hq) (by decide) (by decide) (by decide) ⟨rfl, cn_X2_wrong⟩ rfl q1610 q1612 qs45 q82 q1613 (Nat.le_of_ble_eq_true rfl) dX2_statement_39 rfl h (ci_k (fun r3 Ω2 res h => ?_))
    exact zo_zret hY hr dX2_statement_42 h
  · refine zo_aload_n hY dX2_statement_43 rfl 0 rfl ?_
    refine zo_getC hY LX2_120_1 rfl (fun Ω q => (hCon Ω q).2.1 47 _ rfl) dX2_statement_44 ?_
    refine zo_bipush hY 12 (by decide) dX2_statement_47 ?_
    refine zo_aload_n hY dX2_statement_49 rfl 0 rfl ?_
    refine zo_getI hY LX2_311_1 rfl dX2_statement_50 ?_
    refine zo_iadd hY dX2_statement_53 ?_
    refine zo_iload_n hY dX2_statement_54 rfl 1 rfl ?_
    refine zo_ast hY hJ (by decide) (Or.inr (Or.inr ⟨rfl, rfl, dX2_statement_55⟩)) (fun q => (hCon _ q).2.2.2 33 1 24 rfl) h (fun j4 Ω5 h => ?_)
    refine zo_aload_n hY dX2_statement_56 rfl 0 rfl ?_
    refine zo_callV hY (fun q hq => mt_X2_next hJ hCon N Ω5 q hq) (by decide) (by decide) (by decide) ⟨rfl, cn_X2_next⟩ rfl q1590 q1592 qs41 q82 q1593 (Nat.le_of_ble_eq_true rfl) dX2_statement_57 rfl h (cv_k (fun Ω6 res h => ?_))
    refine zo_aload_n hY dX2_statement_60 rfl 0 rfl ?_
    refine zo_bipush hY 12 (by decide) dX2_statement_61 ?_
    refine zo_aload_n hY dX2_statement_63 rfl 0 rfl ?_
    refine zo_getI hY LX2_311_1 rfl dX2_statement_64 ?_
    refine zo_iadd hY dX2_statement_67 ?_
    refine zo_callV hY (fun q hq => mt_X2_takesTerms hJ hCon N (12 + (gI Ω6 1 0 46)) Ω6 q hq) (by decide) (by decide) (by decide) ⟨rfl, cn_X2_takesTerms⟩ rfl q1614 q1616 qs46 q82 q1617 (Nat.le_of_ble_eq_true rfl) dX2_statement_68 rfl h (ci_k (fun r8 Ω7 res h => ?_))
    refine zo_if_ne hY 76 dX2_statement_71 (by decide) h (fun c9 h => ?_) (fun c9 h => ?_)
    · refine zo_iconst hY 0 (by decide) dX2_statement_74 ?_
      exact zo_zret hY hr dX2_statement_75 h
    · refine zo_aload_n hY dX2_statement_76 rfl 0 rfl ?_
      refine zo_callV hY (fun q hq => mt_X2_signHere hJ hCon N Ω7 q hq) (by decide) (by decide) (by decide) ⟨rfl, cn_X2_signHere⟩ rfl q1636 q1638 qs48 q82 q1639 (Nat.le_of_ble_eq_true rfl) dX2_statement_77 rfl h (ci_k (fun r11 Ω10 res h => ?_))
      refine zo_iconst hY 3 (by decide) dX2_statement_80 ?_
      refine zo_icmp_eq hY 90 dX2_statement_81 (by decide) h (fun c12 h => ?_) (fun c12 h => ?_)
      · refine zo_aload_n hY dX2_statement_90 rfl 0 rfl ?_
        refine zo_callV hY (fun q hq => mt_X2_next hJ hCon N Ω10 q hq) (by decide) (by decide) (by decide) ⟨rfl, cn_X2_next⟩ rfl q1590 q1592 qs41 q82 q1593 (Nat.le_of_ble_eq_true rfl) dX2_statement_91 rfl h (cv_k (fun Ω13 res h => ?_))
        refine zo_aload_n hY dX2_statement_94 rfl 0 rfl ?_
        refine zo_dup hY dX2_statement_95 (Or.inr ⟨_, rfl⟩) ?_
        refine zo_getI hY LX2_311_1 rfl dX2_statement_96 ?_
        refine zo_iconst hY 1 (by decide) dX2_statement_99 ?_
        refine zo_iadd hY dX2_statement_100 ?_
        refine zo_putI hY hJ LX2_311_1 rfl (Or.inl rfl) dX2_statement_101 h (fun Ω14 h => ?_)
        refine zo_iconst hY 1 (by decide) dX2_statement_104 ?_
        exact zo_zret hY hr dX2_statement_105 h
      · refine zo_aload_n hY dX2_statement_84 rfl 0 rfl ?_
        refine zo_iconst hY 1 (by decide) dX2_statement_85 ?_
        refine zo_callV hY (fun q hq => mt_X2_wrong hJ hCon N 1 Ω10 q hq) (by decide) (by decide) (by decide) ⟨rfl, cn_X2_wrong⟩ rfl q1610 q1612 qs45 q82 q1613 (Nat.le_of_ble_eq_true rfl) dX2_statement_86 rfl h (ci_k (fun r16 Ω15 res h => ?_))
        exact zo_zret hY hr dX2_statement_89 h
def fn_X2_statement (N : Nat)  (Ω : zo_O) : Option zo_R :=
  ci (fn_X2_isWord N 0 Ω) fun r2 Ω1 =>
  if r2 = 0 then (
    ci (fn_X2_isWord N 1 Ω1) fun r5 Ω4 =>
    if r5 = 0 then (
      ci (fn_X2_wrong N 1 Ω4) fun r8 Ω7 =>
      rZ r8 Ω7
      ) else
    fn_X2_statement_28 N r2 Ω4
    ) else
  fn_X2_statement_28 N r2 Ω1
theorem mt_X2_statement {G : zo_G} {J : zo_O → Prop} (hJ : zo_JC J) (hCon : ∀ Ω, J Ω → zo_Con Ω) (N : Nat)  (Ω : zo_O) (res : zo_R) (h : fn_X2_statement N  Ω = some res) : zo_MT G J yX2_statement cX2_statement 2 (Option.some Jvm.ClassFile.FieldType.boolean) 7 [vr 1 0] Ω res := by
  refine zo_enter (by decide) rfl (Nat.le_of_ble_eq_true rfl) (fun Y hY eJ hr hmn => ?_)
  subst eJ
  show TW Y res Ω 0 [(0, vr 1 0)] []
  unfold fn_X2_statement at h
  refine zo_aload_n hY dX2_statement_0 rfl 0 rfl ?_
  refine zo_ldcwS hY (tx := "use") (j := 0) (by decide) dX2_statement_1 ?_
  refine zo_callV hY (fun q hq => mt_X2_isWord hJ hCon N 0 Ω q hq) (by decide) (by decide) (by decide) ⟨rfl, cn_X2_isWord⟩ rfl q1603 q1605 qs44 q82 q1606 (Nat.le_of_ble_eq_true rfl) dX2_statement_4 rfl h (ci_k (fun r2 Ω1 res h => ?_))
  refine zo_istore_n hY dX2_statement_7 rfl (by decide) rfl (ls' := [(1, vi r2), (0, vr 1 0)]) rfl ?_
  refine zo_iload_n hY dX2_statement_8 rfl 0 rfl ?_
  refine zo_if_ne hY 28 dX2_statement_9 (by decide) h (fun c3 h => ?_) (fun c3 h => ?_)
  · refine zo_aload_n hY dX2_statement_12 rfl 1 rfl ?_
    refine zo_ldcwS hY (tx := "skip") (j := 1) (by decide) dX2_statement_13 ?_
    refine zo_callV hY (fun q hq => mt_X2_isWord hJ hCon N 1 Ω1 q hq) (by decide) (by decide) (by decide) ⟨rfl, cn_X2_isWord⟩ rfl q1603 q1605 qs44 q82 q1606 (Nat.le_of_ble_eq_true rfl) dX2_statement_16 rfl h (ci_k (fun r5 Ω4 res h => ?_))
    refine zo_if_ne hY 28 dX2_statement_19 (by decide) h (fun c6 h => ?_) (fun c6 h => ?_)
    · refine zo_aload_n hY dX2_statement_22 rfl 1 rfl ?_
      refine zo_iconst hY 1 (by decide) dX2_statement_23 ?_
      refine zo_callV hY (fun q hq => mt_X2_wrong hJ hCon N 1 Ω4 q hq) (by decide) (by decide) (by decide) ⟨rfl, cn_X2_wrong⟩ rfl q1610 q1612 qs45 q82 q1613 (Nat.le_of_ble_eq_true rfl) dX2_statement_24 rfl h (ci_k (fun r8 Ω7 res h => ?_))
      exact zo_zret hY hr dX2_statement_27 h
    · refine zo_sub [1, 0] rfl ?_
      exact ct_X2_statement_28 hY hJ hCon hr N r2 Ω4 _ h
  · refine zo_sub [1, 0] rfl ?_
    exact ct_X2_statement_28 hY hJ hCon hr N r2 Ω1 _ h
theorem dX2_rule_0 : decode cX2_rule 0 = .ok (.aload_n 0, 1) := by decide +kernel
theorem dX2_rule_1 : decode cX2_rule 1 = .ok (.iconst 0, 1) := by decide +kernel
theorem dX2_rule_2 : decode cX2_rule 2 = .ok (.putfield 187, 3) := by decide +kernel
theorem dX2_rule_5 : decode cX2_rule 5 = .ok (.aload_n 0, 1) := by decide +kernel
theorem dX2_rule_6 : decode cX2_rule 6 = .ok (.iconst 0, 1) := by decide +kernel
theorem dX2_rule_7 : decode cX2_rule 7 = .ok (.putfield 264, 3) := by decide +kernel
theorem dX2_rule_10 : decode cX2_rule 10 = .ok (.aload_n 0, 1) := by decide +kernel
theorem dX2_rule_11 : decode cX2_rule 11 = .ok (.iconst (-1), 1) := by decide +kernel
theorem dX2_rule_12 : decode cX2_rule 12 = .ok (.putfield 142, 3) := by decide +kernel
theorem dX2_rule_15 : decode cX2_rule 15 = .ok (.aload_n 0, 1) := by decide +kernel
theorem dX2_rule_16 : decode cX2_rule 16 = .ok (.iconst 0, 1) := by decide +kernel
theorem dX2_rule_17 : decode cX2_rule 17 = .ok (.putfield 311, 3) := by decide +kernel
theorem dX2_rule_20 : decode cX2_rule 20 = .ok (.aload_n 0, 1) := by decide +kernel
theorem dX2_rule_21 : decode cX2_rule 21 = .ok (.iconst 0, 1) := by decide +kernel
theorem dX2_rule_22 : decode cX2_rule 22 = .ok (.putfield 238, 3) := by decide +kernel
theorem dX2_rule_25 : decode cX2_rule 25 = .ok (.aload_n 0, 1) := by decide +kernel
theorem dX2_rule_26 : decode cX2_rule 26 = .ok (.invokevirtual 299, 3) := by decide +kernel
theorem dX2_rule_29 : decode cX2_rule 29 = .ok (.iconst 1, 1) := by decide +kernel
theorem dX2_rule_30 : decode cX2_rule 30 = .ok (.istore_n 1, 1) := by decide +kernel
theorem dX2_rule_31 : decode cX2_rule 31 = .ok (.iload_n 1, 1) := by decide +kernel
theorem dX2_rule_32 : decode cX2_rule 32 = .ok (.ifCond .eq 18, 3) := by decide +kernel
theorem dX2_rule_35 : decode cX2_rule 35 = .ok (.aload_n 0, 1) := by decide +kernel
theorem dX2_rule_36 : decode cX2_rule 36 = .ok (.getfield 248, 3) := by decide +kernel
theorem dX2_rule_39 : decode cX2_rule 39 = .ok (.ifCond .eq 11, 3) := by decide +kernel
theorem dX2_rule_42 : decode cX2_rule 42 = .ok (.aload_n 0, 1) := by decide +kernel
theorem dX2_rule_43 : decode cX2_rule 43 = .ok (.invokevirtual 317, 3) := by decide +kernel
theorem dX2_rule_46 : decode cX2_rule 46 = .ok (.istore_n 1, 1) := by decide +kernel
theorem dX2_rule_47 : decode cX2_rule 47 = .ok (.goto (-16), 3) := by decide +kernel
theorem dX2_rule_50 : decode cX2_rule 50 = .ok (.aload_n 0, 1) := by decide +kernel
theorem dX2_rule_51 : decode cX2_rule 51 = .ok (.iconst 0, 1) := by decide +kernel
theorem dX2_rule_52 : decode cX2_rule 52 = .ok (.putfield 235, 3) := by decide +kernel
theorem dX2_rule_55 : decode cX2_rule 55 = .ok (.aload_n 0, 1) := by decide +kernel
theorem dX2_rule_56 : decode cX2_rule 56 = .ok (.getfield 264, 3) := by decide +kernel
theorem dX2_rule_59 : decode cX2_rule 59 = .ok (.ifCond .le 10, 3) := by decide +kernel
theorem dX2_rule_62 : decode cX2_rule 62 = .ok (.iconst (-1), 1) := by decide +kernel
theorem dX2_rule_63 : decode cX2_rule 63 = .ok (.aload_n 0, 1) := by decide +kernel
theorem dX2_rule_64 : decode cX2_rule 64 = .ok (.getfield 264, 3) := by decide +kernel
theorem dX2_rule_67 : decode cX2_rule 67 = .ok (.isub, 1) := by decide +kernel
theorem dX2_rule_68 : decode cX2_rule 68 = .ok (.ireturn, 1) := by decide +kernel
theorem dX2_rule_69 : decode cX2_rule 69 = .ok (.aload_n 0, 1) := by decide +kernel
theorem dX2_rule_70 : decode cX2_rule 70 = .ok (.aload_n 0, 1) := by decide +kernel
theorem dX2_rule_71 : decode cX2_rule 71 = .ok (.getfield 311, 3) := by decide +kernel
theorem dX2_rule_74 : decode cX2_rule 74 = .ok (.putfield 321, 3) := by decide +kernel
theorem dX2_rule_77 : decode cX2_rule 77 = .ok (.iconst 0, 1) := by decide +kernel
theorem dX2_rule_78 : decode cX2_rule 78 = .ok (.istore_n 2, 1) := by decide +kernel
theorem dX2_rule_79 : decode cX2_rule 79 = .ok (.iload_n 2, 1) := by decide +kernel
theorem dX2_rule_80 : decode cX2_rule 80 = .ok (.bipush 12, 2) := by decide +kernel
theorem dX2_rule_82 : decode cX2_rule 82 = .ok (.if_icmp .ge 39, 3) := by decide +kernel
theorem dX2_rule_85 : decode cX2_rule 85 = .ok (.aload_n 0, 1) := by decide +kernel
theorem dX2_rule_86 : decode cX2_rule 86 = .ok (.getfield 120, 3) := by decide +kernel
theorem dX2_rule_89 : decode cX2_rule 89 = .ok (.iload_n 2, 1) := by decide +kernel
theorem dX2_rule_90 : decode cX2_rule 90 = .ok (.aload_n 0, 1) := by decide +kernel
theorem dX2_rule_91 : decode cX2_rule 91 = .ok (.getfield 120, 3) := by decide +kernel
theorem dX2_rule_94 : decode cX2_rule 94 = .ok (.bipush 12, 2) := by decide +kernel
theorem dX2_rule_96 : decode cX2_rule 96 = .ok (.iload_n 2, 1) := by decide +kernel
theorem dX2_rule_97 : decode cX2_rule 97 = .ok (.iadd, 1) := by decide +kernel
theorem dX2_rule_98 : decode cX2_rule 98 = .ok (.baload, 1) := by decide +kernel
theorem dX2_rule_99 : decode cX2_rule 99 = .ok (.bastore, 1) := by decide +kernel
theorem dX2_rule_100 : decode cX2_rule 100 = .ok (.aload_n 0, 1) := by decide +kernel
theorem dX2_rule_101 : decode cX2_rule 101 = .ok (.getfield 123, 3) := by decide +kernel
theorem dX2_rule_104 : decode cX2_rule 104 = .ok (.iload_n 2, 1) := by decide +kernel
theorem dX2_rule_105 : decode cX2_rule 105 = .ok (.aload_n 0, 1) := by decide +kernel
theorem dX2_rule_106 : decode cX2_rule 106 = .ok (.getfield 123, 3) := by decide +kernel
theorem dX2_rule_109 : decode cX2_rule 109 = .ok (.bipush 12, 2) := by decide +kernel
theorem dX2_rule_111 : decode cX2_rule 111 = .ok (.iload_n 2, 1) := by decide +kernel
theorem dX2_rule_112 : decode cX2_rule 112 = .ok (.iadd, 1) := by decide +kernel
theorem dX2_rule_113 : decode cX2_rule 113 = .ok (.iaload, 1) := by decide +kernel
theorem dX2_rule_114 : decode cX2_rule 114 = .ok (.iastore, 1) := by decide +kernel
theorem dX2_rule_115 : decode cX2_rule 115 = .ok (.iinc 2 1, 3) := by decide +kernel
theorem dX2_rule_118 : decode cX2_rule 118 = .ok (.goto (-39), 3) := by decide +kernel
theorem dX2_rule_121 : decode cX2_rule 121 = .ok (.iconst 0, 1) := by decide +kernel
theorem dX2_rule_122 : decode cX2_rule 122 = .ok (.istore_n 2, 1) := by decide +kernel
theorem dX2_rule_123 : decode cX2_rule 123 = .ok (.iload_n 2, 1) := by decide +kernel
theorem dX2_rule_124 : decode cX2_rule 124 = .ok (.bipush 48, 2) := by decide +kernel
theorem dX2_rule_126 : decode cX2_rule 126 = .ok (.if_icmp .ge 69, 3) := by decide +kernel
theorem dX2_rule_129 : decode cX2_rule 129 = .ok (.aload_n 0, 1) := by decide +kernel
theorem dX2_rule_130 : decode cX2_rule 130 = .ok (.getfield 126, 3) := by decide +kernel
theorem dX2_rule_133 : decode cX2_rule 133 = .ok (.iload_n 2, 1) := by decide +kernel
theorem dX2_rule_134 : decode cX2_rule 134 = .ok (.aload_n 0, 1) := by decide +kernel
theorem dX2_rule_135 : decode cX2_rule 135 = .ok (.getfield 126, 3) := by decide +kernel
theorem dX2_rule_138 : decode cX2_rule 138 = .ok (.bipush 48, 2) := by decide +kernel
theorem dX2_rule_140 : decode cX2_rule 140 = .ok (.iload_n 2, 1) := by decide +kernel
theorem dX2_rule_141 : decode cX2_rule 141 = .ok (.iadd, 1) := by decide +kernel
theorem dX2_rule_142 : decode cX2_rule 142 = .ok (.baload, 1) := by decide +kernel
theorem dX2_rule_143 : decode cX2_rule 143 = .ok (.bastore, 1) := by decide +kernel
theorem dX2_rule_144 : decode cX2_rule 144 = .ok (.aload_n 0, 1) := by decide +kernel
theorem dX2_rule_145 : decode cX2_rule 145 = .ok (.getfield 129, 3) := by decide +kernel
theorem dX2_rule_148 : decode cX2_rule 148 = .ok (.iload_n 2, 1) := by decide +kernel
theorem dX2_rule_149 : decode cX2_rule 149 = .ok (.aload_n 0, 1) := by decide +kernel
theorem dX2_rule_150 : decode cX2_rule 150 = .ok (.getfield 129, 3) := by decide +kernel
theorem dX2_rule_153 : decode cX2_rule 153 = .ok (.bipush 48, 2) := by decide +kernel
theorem dX2_rule_155 : decode cX2_rule 155 = .ok (.iload_n 2, 1) := by decide +kernel
theorem dX2_rule_156 : decode cX2_rule 156 = .ok (.iadd, 1) := by decide +kernel
theorem dX2_rule_157 : decode cX2_rule 157 = .ok (.iaload, 1) := by decide +kernel
theorem dX2_rule_158 : decode cX2_rule 158 = .ok (.iastore, 1) := by decide +kernel
theorem dX2_rule_159 : decode cX2_rule 159 = .ok (.aload_n 0, 1) := by decide +kernel
theorem dX2_rule_160 : decode cX2_rule 160 = .ok (.getfield 132, 3) := by decide +kernel
theorem dX2_rule_163 : decode cX2_rule 163 = .ok (.iload_n 2, 1) := by decide +kernel
theorem dX2_rule_164 : decode cX2_rule 164 = .ok (.aload_n 0, 1) := by decide +kernel
theorem dX2_rule_165 : decode cX2_rule 165 = .ok (.getfield 132, 3) := by decide +kernel
theorem dX2_rule_168 : decode cX2_rule 168 = .ok (.bipush 48, 2) := by decide +kernel
theorem dX2_rule_170 : decode cX2_rule 170 = .ok (.iload_n 2, 1) := by decide +kernel
theorem dX2_rule_171 : decode cX2_rule 171 = .ok (.iadd, 1) := by decide +kernel
theorem dX2_rule_172 : decode cX2_rule 172 = .ok (.iaload, 1) := by decide +kernel
theorem dX2_rule_173 : decode cX2_rule 173 = .ok (.iastore, 1) := by decide +kernel
theorem dX2_rule_174 : decode cX2_rule 174 = .ok (.aload_n 0, 1) := by decide +kernel
theorem dX2_rule_175 : decode cX2_rule 175 = .ok (.getfield 135, 3) := by decide +kernel
theorem dX2_rule_178 : decode cX2_rule 178 = .ok (.iload_n 2, 1) := by decide +kernel
theorem dX2_rule_179 : decode cX2_rule 179 = .ok (.aload_n 0, 1) := by decide +kernel
theorem dX2_rule_180 : decode cX2_rule 180 = .ok (.getfield 135, 3) := by decide +kernel
theorem dX2_rule_183 : decode cX2_rule 183 = .ok (.bipush 48, 2) := by decide +kernel
theorem dX2_rule_185 : decode cX2_rule 185 = .ok (.iload_n 2, 1) := by decide +kernel
theorem dX2_rule_186 : decode cX2_rule 186 = .ok (.iadd, 1) := by decide +kernel
theorem dX2_rule_187 : decode cX2_rule 187 = .ok (.iaload, 1) := by decide +kernel
theorem dX2_rule_188 : decode cX2_rule 188 = .ok (.iastore, 1) := by decide +kernel
theorem dX2_rule_189 : decode cX2_rule 189 = .ok (.iinc 2 1, 3) := by decide +kernel
theorem dX2_rule_192 : decode cX2_rule 192 = .ok (.goto (-69), 3) := by decide +kernel
theorem dX2_rule_195 : decode cX2_rule 195 = .ok (.aload_n 0, 1) := by decide +kernel
theorem dX2_rule_196 : decode cX2_rule 196 = .ok (.getfield 321, 3) := by decide +kernel
theorem dX2_rule_199 : decode cX2_rule 199 = .ok (.ireturn, 1) := by decide +kernel
def bd_X2_rule_123 (N : Nat)  (K123 : Int32 → zo_O → Option zo_R) (x2 : Int32) (Ω : zo_O) : Option zo_R :=
  if 48 ≤ x2 then (
    rI (gI Ω 1 0 45) Ω
    ) else
  ix (48 + x2) 96 fun j2 =>
  ix x2 96 fun j3 => lt (sI Ω 33 2 j3 (vp_nar .boolean (gI Ω 33 2 j2))) fun Ω4 =>
  ix (48 + x2) 96 fun j5 =>
  ix x2 96 fun j6 => lt (sI Ω4 32 33 j6 (gI Ω4 32 33 j5)) fun Ω7 =>
  ix (48 + x2) 96 fun j8 =>
  ix x2 96 fun j9 => lt (sI Ω7 32 34 j9 (gI Ω7 32 34 j8)) fun Ω10 =>
  ix (48 + x2) 96 fun j11 =>
  ix x2 96 fun j12 => lt (sI Ω10 32 35 j12 (gI Ω10 32 35 j11)) fun Ω13 =>
  K123 (x2 + 1) Ω13
theorem cb_X2_rule_123 {Y : zo_Y} (hY : zo_Gd Y cX2_rule 3 RX2 8) (hJ : zo_JC (zo_J Y)) (hCon : ∀ Ω, zo_J Y Ω → zo_Con Ω) (hr : zo_rt Y (Option.some Jvm.ClassFile.FieldType.int)) (N : Nat)  (K123 : Int32 → zo_O → Option zo_R)  (hK123 : ∀ (x2 : Int32) (Ω : zo_O) (res : zo_R), K123 x2 Ω = some res → TW Y res Ω 123 [(0, vr 1 0), (2, vi x2)] []) (x2 : Int32) (Ω : zo_O) (res : zo_R) (h : bd_X2_rule_123 N  K123 x2 Ω = some res) : TW Y res Ω 123 [(0, vr 1 0), (2, vi x2)] [] := by
  unfold bd_X2_rule_123 at h
  refine zo_iload_n hY dX2_rule_123 rfl 1 rfl ?_
  refine zo_bipush hY 48 (by decide) dX2_rule_124 ?_
  refine zo_icmp_ge hY 195 dX2_rule_126 (by decide) h (fun c1 h => ?_) (fun c1 h => ?_)
  · refine zo_aload_n hY dX2_rule_195 rfl 0 rfl ?_
    refine zo_getI hY LX2_321_1 rfl dX2_rule_196 ?_
    exact zo_iret hY hr dX2_rule_199 h
  · refine zo_aload_n hY dX2_rule_129 rfl 0 rfl ?_
    refine zo_getC hY LX2_126_1 rfl (fun Ω q => (hCon Ω q).2.1 49 _ rfl) dX2_rule_130 ?_
    refine zo_iload_n hY dX2_rule_133 rfl 1 rfl ?_
    refine zo_aload_n hY dX2_rule_134 rfl 0 rfl ?_
    refine zo_getC hY LX2_126_1 rfl (fun Ω q => (hCon Ω q).2.1 49 _ rfl) dX2_rule_135 ?_
    refine zo_bipush hY 48 (by decide) dX2_rule_138 ?_
    refine zo_iload_n hY dX2_rule_140 rfl 1 rfl ?_
    refine zo_iadd hY dX2_rule_141 ?_
    refine zo_ald hY (by decide) (Or.inr ⟨Or.inr rfl, dX2_rule_142⟩) (fun q => (hCon _ q).2.2.2 33 2 96 rfl) h (fun j2 h => ?_)
    refine zo_ast hY hJ (by decide) (Or.inr (Or.inr ⟨rfl, rfl, dX2_rule_143⟩)) (fun q => (hCon _ q).2.2.2 33 2 96 rfl) h (fun j3 Ω4 h => ?_)
    refine zo_aload_n hY dX2_rule_144 rfl 0 rfl ?_
    refine zo_getC hY LX2_129_1 rfl (fun Ω q => (hCon Ω q).2.1 50 _ rfl) dX2_rule_145 ?_
    refine zo_iload_n hY dX2_rule_148 rfl 1 rfl ?_
    refine zo_aload_n hY dX2_rule_149 rfl 0 rfl ?_
    refine zo_getC hY LX2_129_1 rfl (fun Ω q => (hCon Ω q).2.1 50 _ rfl) dX2_rule_150 ?_
    refine zo_bipush hY 48 (by decide) dX2_rule_153 ?_
    refine zo_iload_n hY dX2_rule_155 rfl 1 rfl ?_
    refine zo_iadd hY dX2_rule_156 ?_
    refine zo_ald hY (by decide) (Or.inl ⟨rfl, dX2_rule_157⟩) (fun q => (hCon _ q).2.2.2 32 33 96 rfl) h (fun j5 h => ?_)
    refine zo_ast hY hJ (by decide) (Or.inl ⟨rfl, rfl, dX2_rule_158⟩) (fun q => (hCon _ q).2.2.2 32 33 96 rfl) h (fun j6 Ω7 h => ?_)
    refine zo_aload_n hY dX2_rule_159 rfl 0 rfl ?_
    refine zo_getC hY LX2_132_1 rfl (fun Ω q => (hCon Ω q).2.1 51 _ rfl) dX2_rule_160 ?_
    refine zo_iload_n hY dX2_rule_163 rfl 1 rfl ?_
    refine zo_aload_n hY dX2_rule_164 rfl 0 rfl ?_
    refine zo_getC hY LX2_132_1 rfl (fun Ω q => (hCon Ω q).2.1 51 _ rfl) dX2_rule_165 ?_
    refine zo_bipush hY 48 (by decide) dX2_rule_168 ?_
    refine zo_iload_n hY dX2_rule_170 rfl 1 rfl ?_
    refine zo_iadd hY dX2_rule_171 ?_
    refine zo_ald hY (by decide) (Or.inl ⟨rfl, dX2_rule_172⟩) (fun q => (hCon _ q).2.2.2 32 34 96 rfl) h (fun j8 h => ?_)
    refine zo_ast hY hJ (by decide) (Or.inl ⟨rfl, rfl, dX2_rule_173⟩) (fun q => (hCon _ q).2.2.2 32 34 96 rfl) h (fun j9 Ω10 h => ?_)
    refine zo_aload_n hY dX2_rule_174 rfl 0 rfl ?_
    refine zo_getC hY LX2_135_1 rfl (fun Ω q => (hCon Ω q).2.1 52 _ rfl) dX2_rule_175 ?_
    refine zo_iload_n hY dX2_rule_178 rfl 1 rfl ?_
    refine zo_aload_n hY dX2_rule_179 rfl 0 rfl ?_
    refine zo_getC hY LX2_135_1 rfl (fun Ω q => (hCon Ω q).2.1 52 _ rfl) dX2_rule_180 ?_
    refine zo_bipush hY 48 (by decide) dX2_rule_183 ?_
    refine zo_iload_n hY dX2_rule_185 rfl 1 rfl ?_
    refine zo_iadd hY dX2_rule_186 ?_
    refine zo_ald hY (by decide) (Or.inl ⟨rfl, dX2_rule_187⟩) (fun q => (hCon _ q).2.2.2 32 35 96 rfl) h (fun j11 h => ?_)
    refine zo_ast hY hJ (by decide) (Or.inl ⟨rfl, rfl, dX2_rule_188⟩) (fun q => (hCon _ q).2.2.2 32 35 96 rfl) h (fun j12 Ω13 h => ?_)
    refine zo_iinc hY 1 dX2_rule_189 (by decide) (by decide) 1 rfl rfl (ls' := [(2, vi (x2 + 1)), (0, vr 1 0)]) rfl ?_
    refine zo_goto hY 123 dX2_rule_192 (by decide) ?_
    refine zo_sub [1, 0] rfl ?_
    exact hK123 (x2 + 1) Ω13 _ h
def fn_X2_rule_123 (N : Nat)  : Nat → Int32 → zo_O → Option zo_R
  | 0, _, _ => none
  | n + 1, x2, Ω => bd_X2_rule_123 N  (fn_X2_rule_123 N  n) x2 Ω
theorem ct_X2_rule_123 {Y : zo_Y} (hY : zo_Gd Y cX2_rule 3 RX2 8) (hJ : zo_JC (zo_J Y)) (hCon : ∀ Ω, zo_J Y Ω → zo_Con Ω) (hr : zo_rt Y (Option.some Jvm.ClassFile.FieldType.int)) (N : Nat)   : ∀ (n : Nat) (x2 : Int32) (Ω : zo_O) (res : zo_R), fn_X2_rule_123 N  n x2 Ω = some res → TW Y res Ω 123 [(0, vr 1 0), (2, vi x2)] [] := by
  intro n
  induction n with
  | zero => intro x2 Ω res h; exact nomatch (show (none : Option zo_R) = some res from h)
  | succ n ih => intro x2 Ω res h; exact cb_X2_rule_123 hY hJ hCon hr N  (fn_X2_rule_123 N  n)  ih x2 Ω res h
def bd_X2_rule_79 (N : Nat)  (K79 : Int32 → zo_O → Option zo_R) (x2 : Int32) (Ω : zo_O) : Option zo_R :=
  if 12 ≤ x2 then (
    fn_X2_rule_123 N N 0 Ω
    ) else
  ix (12 + x2) 24 fun j2 =>
  ix x2 24 fun j3 => lt (sI Ω 33 1 j3 (vp_nar .boolean (gI Ω 33 1 j2))) fun Ω4 =>
  ix (12 + x2) 24 fun j5 =>
  ix x2 24 fun j6 => lt (sI Ω4 32 32 j6 (gI Ω4 32 32 j5)) fun Ω7 =>
  K79 (x2 + 1) Ω7
theorem cb_X2_rule_79 {Y : zo_Y} (hY : zo_Gd Y cX2_rule 3 RX2 8) (hJ : zo_JC (zo_J Y)) (hCon : ∀ Ω, zo_J Y Ω → zo_Con Ω) (hr : zo_rt Y (Option.some Jvm.ClassFile.FieldType.int)) (N : Nat)  (K79 : Int32 → zo_O → Option zo_R)  (hK79 : ∀ (x2 : Int32) (Ω : zo_O) (res : zo_R), K79 x2 Ω = some res → TW Y res Ω 79 [(0, vr 1 0), (2, vi x2)] []) (x2 : Int32) (Ω : zo_O) (res : zo_R) (h : bd_X2_rule_79 N  K79 x2 Ω = some res) : TW Y res Ω 79 [(0, vr 1 0), (2, vi x2)] [] := by
  unfold bd_X2_rule_79 at h
  refine zo_iload_n hY dX2_rule_79 rfl 1 rfl ?_
  refine zo_bipush hY 12 (by decide) dX2_rule_80 ?_
  refine zo_icmp_ge hY 121 dX2_rule_82 (by decide) h (fun c1 h => ?_) (fun c1 h => ?_)
  · refine zo_iconst hY 0 (by decide) dX2_rule_121 ?_
    refine zo_istore_n hY dX2_rule_122 rfl (by decide) rfl (ls' := [(2, vi 0), (0, vr 1 0)]) rfl ?_
    refine zo_sub [1, 0] rfl ?_
    exact ct_X2_rule_123 hY hJ hCon hr N N 0 Ω _ h
  · refine zo_aload_n hY dX2_rule_85 rfl 0 rfl ?_
    refine zo_getC hY LX2_120_1 rfl (fun Ω q => (hCon Ω q).2.1 47 _ rfl) dX2_rule_86 ?_
    refine zo_iload_n hY dX2_rule_89 rfl 1 rfl ?_
    refine zo_aload_n hY dX2_rule_90 rfl 0 rfl ?_
    refine zo_getC hY LX2_120_1 rfl (fun Ω q => (hCon Ω q).2.1 47 _ rfl) dX2_rule_91 ?_
    refine zo_bipush hY 12 (by decide) dX2_rule_94 ?_
    refine zo_iload_n hY dX2_rule_96 rfl 1 rfl ?_
    refine zo_iadd hY dX2_rule_97 ?_
    refine zo_ald hY (by decide) (Or.inr ⟨Or.inr rfl, dX2_rule_98⟩) (fun q => (hCon _ q).2.2.2 33 1 24 rfl) h (fun j2 h => ?_)
    refine zo_ast hY hJ (by decide) (Or.inr (Or.inr ⟨rfl, rfl, dX2_rule_99⟩)) (fun q => (hCon _ q).2.2.2 33 1 24 rfl) h (fun j3 Ω4 h => ?_)
    refine zo_aload_n hY dX2_rule_100 rfl 0 rfl ?_
    refine zo_getC hY LX2_123_1 rfl (fun Ω q => (hCon Ω q).2.1 48 _ rfl) dX2_rule_101 ?_
    refine zo_iload_n hY dX2_rule_104 rfl 1 rfl ?_
    refine zo_aload_n hY dX2_rule_105 rfl 0 rfl ?_
    refine zo_getC hY LX2_123_1 rfl (fun Ω q => (hCon Ω q).2.1 48 _ rfl) dX2_rule_106 ?_
    refine zo_bipush hY 12 (by decide) dX2_rule_109 ?_
    refine zo_iload_n hY dX2_rule_111 rfl 1 rfl ?_
    refine zo_iadd hY dX2_rule_112 ?_
    refine zo_ald hY (by decide) (Or.inl ⟨rfl, dX2_rule_113⟩) (fun q => (hCon _ q).2.2.2 32 32 24 rfl) h (fun j5 h => ?_)
    refine zo_ast hY hJ (by decide) (Or.inl ⟨rfl, rfl, dX2_rule_114⟩) (fun q => (hCon _ q).2.2.2 32 32 24 rfl) h (fun j6 Ω7 h => ?_)
    refine zo_iinc hY 1 dX2_rule_115 (by decide) (by decide) 1 rfl rfl (ls' := [(2, vi (x2 + 1)), (0, vr 1 0)]) rfl ?_
    refine zo_goto hY 79 dX2_rule_118 (by decide) ?_
    refine zo_sub [1, 0] rfl ?_
    exact hK79 (x2 + 1) Ω7 _ h
def fn_X2_rule_79 (N : Nat)  : Nat → Int32 → zo_O → Option zo_R
  | 0, _, _ => none
  | n + 1, x2, Ω => bd_X2_rule_79 N  (fn_X2_rule_79 N  n) x2 Ω
theorem ct_X2_rule_79 {Y : zo_Y} (hY : zo_Gd Y cX2_rule 3 RX2 8) (hJ : zo_JC (zo_J Y)) (hCon : ∀ Ω, zo_J Y Ω → zo_Con Ω) (hr : zo_rt Y (Option.some Jvm.ClassFile.FieldType.int)) (N : Nat)   : ∀ (n : Nat) (x2 : Int32) (Ω : zo_O) (res : zo_R), fn_X2_rule_79 N  n x2 Ω = some res → TW Y res Ω 79 [(0, vr 1 0), (2, vi x2)] [] := by
  intro n
  induction n with
  | zero => intro x2 Ω res h; exact nomatch (show (none : Option zo_R) = some res from h)
  | succ n ih => intro x2 Ω res h; exact cb_X2_rule_79 hY hJ hCon hr N  (fn_X2_rule_79 N  n)  ih x2 Ω res h
def fn_X2_rule_50 (N : Nat)   (Ω : zo_O) : Option zo_R :=
  lt (sI Ω 1 0 54 0) fun Ω1 =>
  if gI Ω1 1 0 55 ≤ 0 then (
    lt (sI Ω1 1 0 45 (gI Ω1 1 0 46)) fun Ω3 =>
    fn_X2_rule_79 N N 0 Ω3
    ) else
  rI (((-1)) - (gI Ω1 1 0 55)) Ω1
theorem ct_X2_rule_50 {Y : zo_Y} (hY : zo_Gd Y cX2_rule 3 RX2 8) (hJ : zo_JC (zo_J Y)) (hCon : ∀ Ω, zo_J Y Ω → zo_Con Ω) (hr : zo_rt Y (Option.some Jvm.ClassFile.FieldType.int)) (N : Nat)    (Ω : zo_O) (res : zo_R) (h : fn_X2_rule_50 N   Ω = some res) : TW Y res Ω 50 [(0, vr 1 0)] [] := by
  unfold fn_X2_rule_50 at h
  refine zo_aload_n hY dX2_rule_50 rfl 0 rfl ?_
  refine zo_iconst hY 0 (by decide) dX2_rule_51 ?_
  refine zo_putI hY hJ LX2_235_1 rfl (Or.inl rfl) dX2_rule_52 h (fun Ω1 h => ?_)
  refine zo_aload_n hY dX2_rule_55 rfl 0 rfl ?_
  refine zo_getI hY LX2_264_1 rfl dX2_rule_56 ?_
  refine zo_if_le hY 69 dX2_rule_59 (by decide) h (fun c2 h => ?_) (fun c2 h => ?_)
  · refine zo_aload_n hY dX2_rule_69 rfl 0 rfl ?_
    refine zo_aload_n hY dX2_rule_70 rfl 0 rfl ?_
    refine zo_getI hY LX2_311_1 rfl dX2_rule_71 ?_
    refine zo_putI hY hJ LX2_321_1 rfl (Or.inl rfl) dX2_rule_74 h (fun Ω3 h => ?_)
    refine zo_iconst hY 0 (by decide) dX2_rule_77 ?_
    refine zo_istore_n hY dX2_rule_78 rfl (by decide) rfl (ls' := [(2, vi 0), (0, vr 1 0)]) rfl ?_
    refine zo_sub [1, 0] rfl ?_
    exact ct_X2_rule_79 hY hJ hCon hr N N 0 Ω3 _ h
  · refine zo_iconst hY (-1) (by decide) dX2_rule_62 ?_
    refine zo_aload_n hY dX2_rule_63 rfl 0 rfl ?_
    refine zo_getI hY LX2_264_1 rfl dX2_rule_64 ?_
    refine zo_isub hY dX2_rule_67 ?_
    exact zo_iret hY hr dX2_rule_68 h
def bd_X2_rule_31 (N : Nat)  (K31 : Int32 → zo_O → Option zo_R) (x1 : Int32) (Ω : zo_O) : Option zo_R :=
  if x1 = 0 then (
    fn_X2_rule_50 N Ω
    ) else
  if gI Ω 1 0 60 = 0 then (
    fn_X2_rule_50 N Ω
    ) else
  ci (fn_X2_statement N Ω) fun r4 Ω3 =>
  K31 r4 Ω3
theorem cb_X2_rule_31 {Y : zo_Y} (hY : zo_Gd Y cX2_rule 3 RX2 8) (hJ : zo_JC (zo_J Y)) (hCon : ∀ Ω, zo_J Y Ω → zo_Con Ω) (hr : zo_rt Y (Option.some Jvm.ClassFile.FieldType.int)) (N : Nat)  (K31 : Int32 → zo_O → Option zo_R)  (hK31 : ∀ (x1 : Int32) (Ω : zo_O) (res : zo_R), K31 x1 Ω = some res → TW Y res Ω 31 [(0, vr 1 0), (1, vi x1)] []) (x1 : Int32) (Ω : zo_O) (res : zo_R) (h : bd_X2_rule_31 N  K31 x1 Ω = some res) : TW Y res Ω 31 [(0, vr 1 0), (1, vi x1)] [] := by
  unfold bd_X2_rule_31 at h
  refine zo_iload_n hY dX2_rule_31 rfl 1 rfl ?_
  refine zo_if_eq hY 50 dX2_rule_32 (by decide) h (fun c1 h => ?_) (fun c1 h => ?_)
  · refine zo_sub [0] rfl ?_
    exact ct_X2_rule_50 hY hJ hCon hr N Ω _ h
  · refine zo_aload_n hY dX2_rule_35 rfl 0 rfl ?_
    refine zo_getI hY LX2_248_1 rfl dX2_rule_36 ?_
    refine zo_if_eq hY 50 dX2_rule_39 (by decide) h (fun c2 h => ?_) (fun c2 h => ?_)
    · refine zo_sub [0] rfl ?_
      exact ct_X2_rule_50 hY hJ hCon hr N Ω _ h
    · refine zo_aload_n hY dX2_rule_42 rfl 0 rfl ?_
      refine zo_callV hY (fun q hq => mt_X2_statement hJ hCon N Ω q hq) (by decide) (by decide) (by decide) ⟨rfl, cn_X2_statement⟩ rfl q1598 q1600 qs43 q82 q1601 (Nat.le_of_ble_eq_true rfl) dX2_rule_43 rfl h (ci_k (fun r4 Ω3 res h => ?_))
      refine zo_istore_n hY dX2_rule_46 rfl (by decide) rfl (ls' := [(1, vi r4), (0, vr 1 0)]) rfl ?_
      refine zo_goto hY 31 dX2_rule_47 (by decide) ?_
      refine zo_sub [1, 0] rfl ?_
      exact hK31 r4 Ω3 _ h
def fn_X2_rule_31 (N : Nat)  : Nat → Int32 → zo_O → Option zo_R
  | 0, _, _ => none
  | n + 1, x1, Ω => bd_X2_rule_31 N  (fn_X2_rule_31 N  n) x1 Ω
theorem ct_X2_rule_31 {Y : zo_Y} (hY : zo_Gd Y cX2_rule 3 RX2 8) (hJ : zo_JC (zo_J Y)) (hCon : ∀ Ω, zo_J Y Ω → zo_Con Ω) (hr : zo_rt Y (Option.some Jvm.ClassFile.FieldType.int)) (N : Nat)   : ∀ (n : Nat) (x1 : Int32) (Ω : zo_O) (res : zo_R), fn_X2_rule_31 N  n x1 Ω = some res → TW Y res Ω 31 [(0, vr 1 0), (1, vi x1)] [] := by
  intro n
  induction n with
  | zero => intro x1 Ω res h; exact nomatch (show (none : Option zo_R) = some res from h)
  | succ n ih => intro x1 Ω res h; exact cb_X2_rule_31 hY hJ hCon hr N  (fn_X2_rule_31 N  n)  ih x1 Ω res h
def fn_X2_rule (N : Nat)  (Ω : zo_O) : Option zo_R :=
  lt (sI Ω 1 0 0 0) fun Ω1 =>
  lt (sI Ω1 1 0 55 0) fun Ω2 =>
  lt (sI Ω2 1 0 56 ((-1))) fun Ω3 =>
  lt (sI Ω3 1 0 46 0) fun Ω4 =>
  lt (sI Ω4 1 0 58 0) fun Ω5 =>
  cv (fn_X2_next N Ω5) fun Ω6 =>
  fn_X2_rule_31 N N 1 Ω6
theorem mt_X2_rule {G : zo_G} {J : zo_O → Prop} (hJ : zo_JC J) (hCon : ∀ Ω, J Ω → zo_Con Ω) (N : Nat)  (Ω : zo_O) (res : zo_R) (h : fn_X2_rule N  Ω = some res) : zo_MT G J yX2_rule cX2_rule 3 (Option.some Jvm.ClassFile.FieldType.int) 8 [vr 1 0] Ω res := by
  refine zo_enter (by decide) rfl (Nat.le_of_ble_eq_true rfl) (fun Y hY eJ hr hmn => ?_)
  subst eJ
  show TW Y res Ω 0 [(0, vr 1 0)] []
  unfold fn_X2_rule at h
  refine zo_aload_n hY dX2_rule_0 rfl 0 rfl ?_
  refine zo_iconst hY 0 (by decide) dX2_rule_1 ?_
  refine zo_putI hY hJ LX2_187_1 rfl (Or.inl rfl) dX2_rule_2 h (fun Ω1 h => ?_)
  refine zo_aload_n hY dX2_rule_5 rfl 0 rfl ?_
  refine zo_iconst hY 0 (by decide) dX2_rule_6 ?_
  refine zo_putI hY hJ LX2_264_1 rfl (Or.inl rfl) dX2_rule_7 h (fun Ω2 h => ?_)
  refine zo_aload_n hY dX2_rule_10 rfl 0 rfl ?_
  refine zo_iconst hY (-1) (by decide) dX2_rule_11 ?_
  refine zo_putI hY hJ LX2_142_1 rfl (Or.inl rfl) dX2_rule_12 h (fun Ω3 h => ?_)
  refine zo_aload_n hY dX2_rule_15 rfl 0 rfl ?_
  refine zo_iconst hY 0 (by decide) dX2_rule_16 ?_
  refine zo_putI hY hJ LX2_311_1 rfl (Or.inl rfl) dX2_rule_17 h (fun Ω4 h => ?_)
  refine zo_aload_n hY dX2_rule_20 rfl 0 rfl ?_
  refine zo_iconst hY 0 (by decide) dX2_rule_21 ?_
  refine zo_putI hY hJ LX2_238_1 rfl (Or.inl rfl) dX2_rule_22 h (fun Ω5 h => ?_)
  refine zo_aload_n hY dX2_rule_25 rfl 0 rfl ?_
  refine zo_callV hY (fun q hq => mt_X2_next hJ hCon N Ω5 q hq) (by decide) (by decide) (by decide) ⟨rfl, cn_X2_next⟩ rfl q1590 q1592 qs41 q82 q1593 (Nat.le_of_ble_eq_true rfl) dX2_rule_26 rfl h (cv_k (fun Ω6 res h => ?_))
  refine zo_iconst hY 1 (by decide) dX2_rule_29 ?_
  refine zo_istore_n hY dX2_rule_30 rfl (by decide) rfl (ls' := [(1, vi 1), (0, vr 1 0)]) rfl ?_
  refine zo_sub [1, 0] rfl ?_
  exact ct_X2_rule_31 hY hJ hCon hr N N 1 Ω6 _ h
