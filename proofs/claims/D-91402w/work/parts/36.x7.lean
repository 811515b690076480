set_option maxRecDepth 100000
theorem LX1_78_0 : zo_FL RX1 78 0 20 := ⟨by decide, by decide, by decide, Or.inl ⟨_, q183, Or.inl rfl⟩⟩
theorem cn_X1_narrows : zo_Cn yX1_narrows 3 := ⟨by decide, by decide, by decide +kernel⟩
theorem LX1_364_7 : zo_FL RX1 364 7 1 := ⟨by decide, by decide, by decide, Or.inr ⟨_, _, q499, Or.inl rfl⟩⟩
theorem LX1_365_7 : zo_FL RX1 365 7 2 := ⟨by decide, by decide, by decide, Or.inr ⟨_, _, q501, Or.inl rfl⟩⟩
theorem LX1_366_7 : zo_FL RX1 366 7 3 := ⟨by decide, by decide, by decide, Or.inr ⟨_, _, q503, Or.inl rfl⟩⟩
theorem cn_X1_findSpans : zo_Cn yX1_findSpans 1 := ⟨by decide, by decide, by decide +kernel⟩
theorem cn_X1_binds : zo_Cn yX1_binds 3 := ⟨by decide, by decide, by decide +kernel⟩
theorem LX1_401_2 : zo_FL RX1 401 2 4 := ⟨by decide, by decide, by decide, Or.inr ⟨_, _, q266, Or.inl rfl⟩⟩
theorem cn_X22_has : zo_Cn yX22_has 1 := ⟨by decide, by decide, by decide +kernel⟩
theorem LX1_399_8 : zo_FL RX1 399 8 1 := ⟨by decide, by decide, by decide, Or.inr ⟨_, _, q523, Or.inl rfl⟩⟩
theorem LX1_400_8 : zo_FL RX1 400 8 2 := ⟨by decide, by decide, by decide, Or.inr ⟨_, _, q525, Or.inl rfl⟩⟩
theorem dX1_findSpans_0 : decode cX1_findSpans 0 = .ok (.aload_n 0, 1) := by decide +kernel
theorem dX1_findSpans_1 : decode cX1_findSpans 1 = .ok (.iload_n 1, 1) := by decide +kernel
theorem dX1_findSpans_2 : decode cX1_findSpans 2 = .ok (.invokevirtual 305, 3) := by decide +kernel
theorem dX1_findSpans_5 : decode cX1_findSpans 5 = .ok (.iconst 0, 1) := by decide +kernel
theorem dX1_findSpans_6 : decode cX1_findSpans 6 = .ok (.istore_n 2, 1) := by decide +kernel
theorem dX1_findSpans_7 : decode cX1_findSpans 7 = .ok (.iload_n 2, 1) := by decide +kernel
theorem dX1_findSpans_8 : decode cX1_findSpans 8 = .ok (.aload_n 0, 1) := by decide +kernel
theorem dX1_findSpans_9 : decode cX1_findSpans 9 = .ok (.getfield 16, 3) := by decide +kernel
theorem dX1_findSpans_12 : decode cX1_findSpans 12 = .ok (.invokevirtual 85, 3) := by decide +kernel
theorem dX1_findSpans_15 : decode cX1_findSpans 15 = .ok (.if_icmp .ge 53, 3) := by decide +kernel
theorem dX1_findSpans_18 : decode cX1_findSpans 18 = .ok (.aload_n 0, 1) := by decide +kernel
theorem dX1_findSpans_19 : decode cX1_findSpans 19 = .ok (.getfield 78, 3) := by decide +kernel
theorem dX1_findSpans_22 : decode cX1_findSpans 22 = .ok (.iload_n 2, 1) := by decide +kernel
theorem dX1_findSpans_23 : decode cX1_findSpans 23 = .ok (.aload_n 0, 1) := by decide +kernel
theorem dX1_findSpans_24 : decode cX1_findSpans 24 = .ok (.getfield 16, 3) := by decide +kernel
theorem dX1_findSpans_27 : decode cX1_findSpans 27 = .ok (.iload_n 2, 1) := by decide +kernel
theorem dX1_findSpans_28 : decode cX1_findSpans 28 = .ok (.invokevirtual 116, 3) := by decide +kernel
theorem dX1_findSpans_31 : decode cX1_findSpans 31 = .ok (.checkcast 93, 3) := by decide +kernel
theorem dX1_findSpans_34 : decode cX1_findSpans 34 = .ok (.iload_n 1, 1) := by decide +kernel
theorem dX1_findSpans_35 : decode cX1_findSpans 35 = .ok (.invokevirtual 156, 3) := by decide +kernel
theorem dX1_findSpans_38 : decode cX1_findSpans 38 = .ok (.ifCond .eq 22, 3) := by decide +kernel
theorem dX1_findSpans_41 : decode cX1_findSpans 41 = .ok (.aload_n 0, 1) := by decide +kernel
theorem dX1_findSpans_42 : decode cX1_findSpans 42 = .ok (.aload_n 0, 1) := by decide +kernel
theorem dX1_findSpans_43 : decode cX1_findSpans 43 = .ok (.getfield 16, 3) := by decide +kernel
theorem dX1_findSpans_46 : decode cX1_findSpans 46 = .ok (.iload_n 2, 1) := by decide +kernel
theorem dX1_findSpans_47 : decode cX1_findSpans 47 = .ok (.invokevirtual 116, 3) := by decide +kernel
theorem dX1_findSpans_50 : decode cX1_findSpans 50 = .ok (.checkcast 93, 3) := by decide +kernel
theorem dX1_findSpans_53 : decode cX1_findSpans 53 = .ok (.iload_n 1, 1) := by decide +kernel
theorem dX1_findSpans_54 : decode cX1_findSpans 54 = .ok (.invokevirtual 355, 3) := by decide +kernel
theorem dX1_findSpans_57 : decode cX1_findSpans 57 = .ok (.goto 4, 3) := by decide +kernel
theorem dX1_findSpans_60 : decode cX1_findSpans 60 = .ok (.aconst_null, 1) := by decide +kernel
theorem dX1_findSpans_61 : decode cX1_findSpans 61 = .ok (.aastore, 1) := by decide +kernel
theorem dX1_findSpans_62 : decode cX1_findSpans 62 = .ok (.iinc 2 1, 3) := by decide +kernel
theorem dX1_findSpans_65 : decode cX1_findSpans 65 = .ok (.goto (-58), 3) := by decide +kernel
theorem dX1_findSpans_68 : decode cX1_findSpans 68 = .ok (.return_, 1) := by decide +kernel
def fn_X1_findSpans_61 (N : Nat) (K7 : Int32 → Int32 → zo_O → Option zo_R) (x1 : Int32) (x2 : Int32) (s0 : Option zo_T) (s1 : Int32) (Ω : zo_O) : Option zo_R :=
  gd (zo_kd s0 18 = true) <|
  ix s1 14 fun j1 => lt (sR Ω 41 0 j1 s0) fun Ω2 =>
  K7 x1 (x2 + 1) Ω2
theorem ct_X1_findSpans_61 {Y : zo_Y} (hY : zo_Gd Y cX1_findSpans 3 RX1 11) (hJ : zo_JC (zo_J Y)) (hCon : ∀ Ω, zo_J Y Ω → zo_Con Ω) (hr : zo_rt Y (Option.none : Option Jvm.ClassFile.FieldType)) (N : Nat) (K7 : Int32 → Int32 → zo_O → Option zo_R) (hK7 : ∀ (x1 : Int32) (x2 : Int32) (Ω : zo_O) (res : zo_R), K7 x1 x2 Ω = some res → TW Y res Ω 7 [(0, vr 0 0), (1, vi x1), (2, vi x2)] []) (x1 : Int32) (x2 : Int32) (s0 : Option zo_T) (s1 : Int32) (Ω : zo_O) (res : zo_R) (h : fn_X1_findSpans_61 N K7 x1 x2 s0 s1 Ω = some res) : TW Y res Ω 61 [(0, vr 0 0), (1, vi x1), (2, vi x2)] [vo s0, vi s1, vr 41 0] := by
  unfold fn_X1_findSpans_61 at h
  obtain ⟨e3, h⟩ := gd_e h
  refine zo_astR hY hJ (K := 18) (by decide) (by decide) ⟨rfl, fun _ => rfl⟩ (by decide) rfl (zo_kd_e e3) dX1_findSpans_61 (fun q => (hCon _ q).2.2.2 41 0 14 rfl) h (fun j1 Ω2 h => ?_)
  refine zo_iinc hY 1 dX1_findSpans_62 (by decide) (by decide) 2 rfl rfl (ls' := [(2, vi (x2 + 1)), (0, vr 0 0), (1, vi x1)]) rfl ?_
  refine zo_goto hY 7 dX1_findSpans_65 (by decide) ?_
  refine zo_sub [1, 2, 0] rfl ?_
  exact hK7 x1 (x2 + 1) Ω2 _ h
def bd_X1_findSpans_7 (N : Nat)  (K7 : Int32 → Int32 → zo_O → Option zo_R) (x1 : Int32) (x2 : Int32) (Ω : zo_O) : Option zo_R :=
  ci (fn_J2_size N 0 Ω) fun r2 Ω1 =>
  if r2 ≤ x2 then (
    rV Ω1
    ) else
  cr (fn_J2_get N 0 x2 Ω1) fun r5 Ω4 =>
  bk r5 2 fun j6 =>
  ci (fn_X3_isBy_2 N j6 x1 Ω4) fun r8 Ω7 =>
  if r8 = 0 then (
    fn_X1_findSpans_61 N K7 x1 x2 none x2 Ω7
    ) else
  cr (fn_J2_get N 0 x2 Ω7) fun r11 Ω10 =>
  bk r11 2 fun j12 =>
  ck (fn_X1_spanOf N j12 x1 Ω10) 18 fun r14 Ω13 =>
  fn_X1_findSpans_61 N K7 x1 x2 (some (18, r14)) x2 Ω13
theorem cb_X1_findSpans_7 {Y : zo_Y} (hY : zo_Gd Y cX1_findSpans 3 RX1 11) (hJ : zo_JC (zo_J Y)) (hCon : ∀ Ω, zo_J Y Ω → zo_Con Ω) (hr : zo_rt Y (Option.none : Option Jvm.ClassFile.FieldType)) (N : Nat)  (K7 : Int32 → Int32 → zo_O → Option zo_R)  (hK7 : ∀ (x1 : Int32) (x2 : Int32) (Ω : zo_O) (res : zo_R), K7 x1 x2 Ω = some res → TW Y res Ω 7 [(0, vr 0 0), (1, vi x1), (2, vi x2)] []) (x1 : Int32) (x2 : Int32) (Ω : zo_O) (res : zo_R) (h : bd_X1_findSpans_7 N  K7 x1 x2 Ω = some res) : TW Y res Ω 7 [(0, vr 0 0), (1, vi x1), (2, vi x2)] [] := by
  unfold bd_X1_findSpans_7 at h
  refine zo_iload_n hY dX1_findSpans_7 rfl 2 rfl ?_
  refine zo_aload_n hY dX1_findSpans_8 rfl 0 rfl ?_
  refine zo_getC hY LX1_16_0 rfl (fun Ω q => (hCon Ω q).1 0 _ rfl) dX1_findSpans_9 ?_
  refine zo_callV hY (fun q hq => mt_J2_size hJ hCon N 0 Ω q hq) (by decide) (by decide) (by decide) ⟨rfl, cn_J2_size⟩ rfl q245 q246 q247 q81 q248 (Nat.le_of_ble_eq_true rfl) dX1_findSpans_12 rfl h (ci_k (fun r2 Ω1 res h => ?_))
  refine zo_icmp_ge hY 68 dX1_findSpans_15 (by decide) h (fun c3 h => ?_) (fun c3 h => ?_)
  · exact zo_vret hY hr dX1_findSpans_68 h
  · refine zo_aload_n hY dX1_findSpans_18 rfl 0 rfl ?_
    refine zo_getC hY LX1_78_0 rfl (fun Ω q => (hCon Ω q).1 20 _ rfl) dX1_findSpans_19 ?_
    refine zo_iload_n hY dX1_findSpans_22 rfl 2 rfl ?_
    refine zo_aload_n hY dX1_findSpans_23 rfl 0 rfl ?_
    refine zo_getC hY LX1_16_0 rfl (fun Ω q => (hCon Ω q).1 0 _ rfl) dX1_findSpans_24 ?_
    refine zo_iload_n hY dX1_findSpans_27 rfl 2 rfl ?_
    refine zo_callV hY (fun q hq => mt_J2_get hJ hCon N 0 x2 Ω1 q hq) (by decide) (by decide) (by decide) ⟨rfl, cn_J2_get⟩ rfl q368 q369 q370 q81 q371 (Nat.le_of_ble_eq_true rfl) dX1_findSpans_28 rfl h (cr_k (fun r5 Ω4 res h => ?_))
    refine zo_castK hY (by decide) q249 (Or.inl rfl) dX1_findSpans_31 h (fun j6 h => ?_)
    refine zo_iload_n hY dX1_findSpans_34 rfl 1 rfl ?_
    refine zo_callU hY (fun q hq => mt_X3_isBy_2 hJ hCon N j6 x1 Ω4 q hq) (by decide) (by decide) (by decide) cn_X3_isBy rfl rfl q927 q928 q929 q829 q83 q830 (Nat.le_of_ble_eq_true rfl) dX1_findSpans_35 rfl h (ci_k (fun r8 Ω7 res h => ?_))
    refine zo_if_eq hY 60 dX1_findSpans_38 (by decide) h (fun c9 h => ?_) (fun c9 h => ?_)
    · refine zo_null hY dX1_findSpans_60 ?_
      exact ct_X1_findSpans_61 hY hJ hCon hr N K7 hK7 x1 x2 none x2 Ω7 _ h
    · refine zo_aload_n hY dX1_findSpans_41 rfl 0 rfl ?_
      refine zo_aload_n hY dX1_findSpans_42 rfl 0 rfl ?_
      refine zo_getC hY LX1_16_0 rfl (fun Ω q => (hCon Ω q).1 0 _ rfl) dX1_findSpans_43 ?_
      refine zo_iload_n hY dX1_findSpans_46 rfl 2 rfl ?_
      refine zo_callV hY (fun q hq => mt_J2_get hJ hCon N 0 x2 Ω7 q hq) (by decide) (by decide) (by decide) ⟨rfl, cn_J2_get⟩ rfl q368 q369 q370 q81 q371 (Nat.le_of_ble_eq_true rfl) dX1_findSpans_47 rfl h (cr_k (fun r11 Ω10 res h => ?_))
      refine zo_castK hY (by decide) q249 (Or.inl rfl) dX1_findSpans_50 h (fun j12 h => ?_)
      refine zo_iload_n hY dX1_findSpans_53 rfl 1 rfl ?_
      refine zo_callV hY (fun q hq => mt_X1_spanOf hJ hCon N j12 x1 Ω10 q hq) (by decide) (by decide) (by decide) ⟨rfl, cn_X1_spanOf⟩ rfl q1080 q1082 qs32 q78 q1083 (Nat.le_of_ble_eq_true rfl) dX1_findSpans_54 rfl h (ck_k (fun r14 Ω13 res h => ?_))
      refine zo_goto hY 61 dX1_findSpans_57 (by decide) ?_
      exact ct_X1_findSpans_61 hY hJ hCon hr N K7 hK7 x1 x2 (some (18, r14)) x2 Ω13 _ h
def fn_X1_findSpans_7 (N : Nat)  : Nat → Int32 → Int32 → zo_O → Option zo_R
  | 0, _, _, _ => none
  | n + 1, x1, x2, Ω => bd_X1_findSpans_7 N  (fn_X1_findSpans_7 N  n) x1 x2 Ω
theorem ct_X1_findSpans_7 {Y : zo_Y} (hY : zo_Gd Y cX1_findSpans 3 RX1 11) (hJ : zo_JC (zo_J Y)) (hCon : ∀ Ω, zo_J Y Ω → zo_Con Ω) (hr : zo_rt Y (Option.none : Option Jvm.ClassFile.FieldType)) (N : Nat)   : ∀ (n : Nat) (x1 : Int32) (x2 : Int32) (Ω : zo_O) (res : zo_R), fn_X1_findSpans_7 N  n x1 x2 Ω = some res → TW Y res Ω 7 [(0, vr 0 0), (1, vi x1), (2, vi x2)] [] := by
  intro n
  induction n with
  | zero => intro x1 x2 Ω res h; exact nomatch (show (none : Option zo_R) = some res from h)
  | succ n ih => intro x1 x2 Ω res h; exact cb_X1_findSpans_7 hY hJ hCon hr N  (fn_X1_findSpans_7 N  n)  ih x1 x2 Ω res h
def fn_X1_findSpans (N : Nat) (x1 : Int32) (Ω : zo_O) : Option zo_R :=
  cv (fn_X1_begins N x1 Ω) fun Ω1 =>
  fn_X1_findSpans_7 N N x1 0 Ω1
theorem mt_X1_findSpans {G : zo_G} {J : zo_O → Prop} (hJ : zo_JC J) (hCon : ∀ Ω, J Ω → zo_Con Ω) (N : Nat) (x1 : Int32) (Ω : zo_O) (res : zo_R) (h : fn_X1_findSpans N x1 Ω = some res) : zo_MT G J yX1_findSpans cX1_findSpans 3 (Option.none : Option Jvm.ClassFile.FieldType) 11 [vr 0 0, vi x1] Ω res := by
  refine zo_enter (by decide) rfl (Nat.le_of_ble_eq_true rfl) (fun Y hY eJ hr hmn => ?_)
  subst eJ
  show TW Y res Ω 0 [(0, vr 0 0), (1, vi x1)] []
  unfold fn_X1_findSpans at h
  refine zo_aload_n hY dX1_findSpans_0 rfl 0 rfl ?_
  refine zo_iload_n hY dX1_findSpans_1 rfl 1 rfl ?_
  refine zo_callV hY (fun q hq => mt_X1_begins hJ hCon N x1 Ω q hq) (by decide) (by decide) (by decide) ⟨rfl, cn_X1_begins⟩ rfl q894 q896 qs24 q78 q897 (Nat.le_of_ble_eq_true rfl) dX1_findSpans_2 rfl h (cv_k (fun Ω1 res h => ?_))
  refine zo_iconst hY 0 (by decide) dX1_findSpans_5 ?_
  refine zo_istore_n hY dX1_findSpans_6 rfl (by decide) rfl (ls' := [(2, vi 0), (0, vr 0 0), (1, vi x1)]) rfl ?_
  refine zo_sub [1, 2, 0] rfl ?_
  exact ct_X1_findSpans_7 hY hJ hCon hr N N x1 0 Ω1 _ h
theorem dX1_narrows_0 : decode cX1_narrows 0 = .ok (.aload_n 0, 1) := by decide +kernel
theorem dX1_narrows_1 : decode cX1_narrows 1 = .ok (.getfield 78, 3) := by decide +kernel
theorem dX1_narrows_4 : decode cX1_narrows 4 = .ok (.iload_n 1, 1) := by decide +kernel
theorem dX1_narrows_5 : decode cX1_narrows 5 = .ok (.aaload, 1) := by decide +kernel
theorem dX1_narrows_6 : decode cX1_narrows 6 = .ok (.astore 4, 2) := by decide +kernel
theorem dX1_narrows_8 : decode cX1_narrows 8 = .ok (.aload_n 0, 1) := by decide +kernel
theorem dX1_narrows_9 : decode cX1_narrows 9 = .ok (.getfield 78, 3) := by decide +kernel
theorem dX1_narrows_12 : decode cX1_narrows 12 = .ok (.iload_n 2, 1) := by decide +kernel
theorem dX1_narrows_13 : decode cX1_narrows 13 = .ok (.aaload, 1) := by decide +kernel
theorem dX1_narrows_14 : decode cX1_narrows 14 = .ok (.astore 5, 2) := by decide +kernel
theorem dX1_narrows_16 : decode cX1_narrows 16 = .ok (.aload 4, 2) := by decide +kernel
theorem dX1_narrows_18 : decode cX1_narrows 18 = .ok (.getfield 362, 3) := by decide +kernel
theorem dX1_narrows_21 : decode cX1_narrows 21 = .ok (.istore 6, 2) := by decide +kernel
theorem dX1_narrows_23 : decode cX1_narrows 23 = .ok (.aload 5, 2) := by decide +kernel
theorem dX1_narrows_25 : decode cX1_narrows 25 = .ok (.getfield 361, 3) := by decide +kernel
theorem dX1_narrows_28 : decode cX1_narrows 28 = .ok (.istore 7, 2) := by decide +kernel
theorem dX1_narrows_30 : decode cX1_narrows 30 = .ok (.aload 4, 2) := by decide +kernel
theorem dX1_narrows_32 : decode cX1_narrows 32 = .ok (.aload 4, 2) := by decide +kernel
theorem dX1_narrows_34 : decode cX1_narrows 34 = .ok (.getfield 362, 3) := by decide +kernel
theorem dX1_narrows_37 : decode cX1_narrows 37 = .ok (.aload 5, 2) := by decide +kernel
theorem dX1_narrows_39 : decode cX1_narrows 39 = .ok (.getfield 362, 3) := by decide +kernel
theorem dX1_narrows_42 : decode cX1_narrows 42 = .ok (.iload_n 3, 1) := by decide +kernel
theorem dX1_narrows_43 : decode cX1_narrows 43 = .ok (.isub, 1) := by decide +kernel
theorem dX1_narrows_44 : decode cX1_narrows 44 = .ok (.invokestatic 218, 3) := by decide +kernel
theorem dX1_narrows_47 : decode cX1_narrows 47 = .ok (.putfield 362, 3) := by decide +kernel
theorem dX1_narrows_50 : decode cX1_narrows 50 = .ok (.aload 5, 2) := by decide +kernel
theorem dX1_narrows_52 : decode cX1_narrows 52 = .ok (.aload 5, 2) := by decide +kernel
theorem dX1_narrows_54 : decode cX1_narrows 54 = .ok (.getfield 361, 3) := by decide +kernel
theorem dX1_narrows_57 : decode cX1_narrows 57 = .ok (.aload 4, 2) := by decide +kernel
theorem dX1_narrows_59 : decode cX1_narrows 59 = .ok (.getfield 361, 3) := by decide +kernel
theorem dX1_narrows_62 : decode cX1_narrows 62 = .ok (.iload_n 3, 1) := by decide +kernel
theorem dX1_narrows_63 : decode cX1_narrows 63 = .ok (.iadd, 1) := by decide +kernel
theorem dX1_narrows_64 : decode cX1_narrows 64 = .ok (.invokestatic 247, 3) := by decide +kernel
theorem dX1_narrows_67 : decode cX1_narrows 67 = .ok (.putfield 361, 3) := by decide +kernel
theorem dX1_narrows_70 : decode cX1_narrows 70 = .ok (.aload 4, 2) := by decide +kernel
theorem dX1_narrows_72 : decode cX1_narrows 72 = .ok (.getfield 362, 3) := by decide +kernel
theorem dX1_narrows_75 : decode cX1_narrows 75 = .ok (.iload 6, 2) := by decide +kernel
theorem dX1_narrows_77 : decode cX1_narrows 77 = .ok (.if_icmp .ne 13, 3) := by decide +kernel
theorem dX1_narrows_80 : decode cX1_narrows 80 = .ok (.aload 5, 2) := by decide +kernel
theorem dX1_narrows_82 : decode cX1_narrows 82 = .ok (.getfield 361, 3) := by decide +kernel
theorem dX1_narrows_85 : decode cX1_narrows 85 = .ok (.iload 7, 2) := by decide +kernel
theorem dX1_narrows_87 : decode cX1_narrows 87 = .ok (.if_icmp .eq 7, 3) := by decide +kernel
theorem dX1_narrows_90 : decode cX1_narrows 90 = .ok (.iconst 1, 1) := by decide +kernel
theorem dX1_narrows_91 : decode cX1_narrows 91 = .ok (.goto 4, 3) := by decide +kernel
theorem dX1_narrows_94 : decode cX1_narrows 94 = .ok (.iconst 0, 1) := by decide +kernel
theorem dX1_narrows_95 : decode cX1_narrows 95 = .ok (.ireturn, 1) := by decide +kernel
def fn_X1_narrows_95 (N : Nat)  (s0 : Int32) (Ω : zo_O) : Option zo_R :=
  rZ s0 Ω
theorem ct_X1_narrows_95 {Y : zo_Y} (hY : zo_Gd Y cX1_narrows 8 RX1 1) (hJ : zo_JC (zo_J Y)) (hCon : ∀ Ω, zo_J Y Ω → zo_Con Ω) (hr : zo_rt Y (Option.some Jvm.ClassFile.FieldType.boolean)) (N : Nat)   (s0 : Int32) (Ω : zo_O) (res : zo_R) (h : fn_X1_narrows_95 N  s0 Ω = some res) : TW Y res Ω 95 [] [vi s0] := by
  unfold fn_X1_narrows_95 at h
  exact zo_zret hY hr dX1_narrows_95 h
def fn_X1_narrows_90 (N : Nat)   (Ω : zo_O) : Option zo_R :=
  fn_X1_narrows_95 N 1 Ω
theorem ct_X1_narrows_90 {Y : zo_Y} (hY : zo_Gd Y cX1_narrows 8 RX1 1) (hJ : zo_JC (zo_J Y)) (hCon : ∀ Ω, zo_J Y Ω → zo_Con Ω) (hr : zo_rt Y (Option.some Jvm.ClassFile.FieldType.boolean)) (N : Nat)    (Ω : zo_O) (res : zo_R) (h : fn_X1_narrows_90 N   Ω = some res) : TW Y res Ω 90 [] [] := by
  unfold fn_X1_narrows_90 at h
  refine zo_iconst hY 1 (by decide) dX1_narrows_90 ?_
  refine zo_goto hY 95 dX1_narrows_91 (by decide) ?_
  exact ct_X1_narrows_95 hY hJ hCon hr N 1 Ω _ h
def fn_X1_narrows (N : Nat) (x1 : Int32) (x2 : Int32) (x3 : Int32) (Ω : zo_O) : Option zo_R :=
  ix x1 14 fun j1 =>
  ix x2 14 fun j2 =>
  bk (gR Ω 41 0 j1) 18 fun n3 =>
  li (gI Ω 18 n3 1) fun y5 =>
  bk (gR Ω 41 0 j2) 18 fun n6 =>
  li (gI Ω 18 n6 0) fun y8 =>
  lt (sI Ω 18 n3 1 (mn (gI Ω 18 n3 1) ((gI Ω 18 n6 1) - x3))) fun Ω9 =>
  lt (sI Ω9 18 n6 0 (mx (gI Ω9 18 n6 0) ((gI Ω9 18 n3 0) + x3))) fun Ω10 =>
  if gI Ω10 18 n3 1 = y5 then (
    if gI Ω10 18 n6 0 = y8 then (
      fn_X1_narrows_95 N 0 Ω10
      ) else
    fn_X1_narrows_90 N Ω10
    ) else
  fn_X1_narrows_90 N Ω10
theorem mt_X1_narrows {G : zo_G} {J : zo_O → Prop} (hJ : zo_JC J) (hCon : ∀ Ω, J Ω → zo_Con Ω) (N : Nat) (x1 : Int32) (x2 : Int32) (x3 : Int32) (Ω : zo_O) (res : zo_R) (h : fn_X1_narrows N x1 x2 x3 Ω = some res) : zo_MT G J yX1_narrows cX1_narrows 8 (Option.some Jvm.ClassFile.FieldType.boolean) 1 [vr 0 0, vi x1, vi x2, vi x3] Ω res := by
  refine zo_enter (by decide) rfl (Nat.le_of_ble_eq_true rfl) (fun Y hY eJ hr hmn => ?_)
  subst eJ
  show TW Y res Ω 0 [(0, vr 0 0), (1, vi x1), (2, vi x2), (3, vi x3)] []
  unfold fn_X1_narrows at h
  refine zo_aload_n hY dX1_narrows_0 rfl 0 rfl ?_
  refine zo_getC hY LX1_78_0 rfl (fun Ω q => (hCon Ω q).1 20 _ rfl) dX1_narrows_1 ?_
  refine zo_iload_n hY dX1_narrows_4 rfl 1 rfl ?_
  refine zo_aldR hY (by decide) (by decide) rfl dX1_narrows_5 (fun q => (hCon _ q).2.2.2 41 0 14 rfl) h (fun j1 h => ?_)
  refine zo_astore hY dX1_narrows_6 (by decide) rfl (ls' := [(4, vo (gR Ω 41 0 j1)), (0, vr 0 0), (1, vi x1), (2, vi x2), (3, vi x3)]) rfl ?_
  refine zo_aload_n hY dX1_narrows_8 rfl 1 rfl ?_
  refine zo_getC hY LX1_78_0 rfl (fun Ω q => (hCon Ω q).1 20 _ rfl) dX1_narrows_9 ?_
  refine zo_iload_n hY dX1_narrows_12 rfl 3 rfl ?_
  refine zo_aldR hY (by decide) (by decide) rfl dX1_narrows_13 (fun q => (hCon _ q).2.2.2 41 0 14 rfl) h (fun j2 h => ?_)
  refine zo_astore hY dX1_narrows_14 (by decide) rfl (ls' := [(5, vo (gR Ω 41 0 j2)), (4, vo (gR Ω 41 0 j1)), (0, vr 0 0), (1, vi x1), (2, vi x2), (3, vi x3)]) rfl ?_
  refine zo_aload hY dX1_narrows_16 1 rfl ?_
  obtain ⟨n3, e4, h⟩ := bk_e h
  rw [e4]
  refine zo_getI hY LX1_362_18 rfl dX1_narrows_18 ?_
  refine zo_nmi h (fun y5 h => ?_)
  refine zo_istore hY dX1_narrows_21 (by decide) rfl (ls' := [(6, vi y5), (5, vo (gR Ω 41 0 j2)), (4, vr 18 n3), (0, vr 0 0), (1, vi x1), (2, vi x2), (3, vi x3)]) rfl ?_
  refine zo_aload hY dX1_narrows_23 1 rfl ?_
  obtain ⟨n6, e7, h⟩ := bk_e h
  rw [e7]
  refine zo_getI hY LX1_361_18 rfl dX1_narrows_25 ?_
  refine zo_nmi h (fun y8 h => ?_)
  refine zo_istore hY dX1_narrows_28 (by decide) rfl (ls' := [(7, vi y8), (6, vi y5), (5, vr 18 n6), (4, vr 18 n3), (0, vr 0 0), (1, vi x1), (2, vi x2), (3, vi x3)]) rfl ?_
  refine zo_aload hY dX1_narrows_30 3 rfl ?_
  refine zo_aload hY dX1_narrows_32 3 rfl ?_
  refine zo_getI hY LX1_362_18 rfl dX1_narrows_34 ?_
  refine zo_aload hY dX1_narrows_37 2 rfl ?_
  refine zo_getI hY LX1_362_18 rfl dX1_narrows_39 ?_
  refine zo_iload_n hY dX1_narrows_42 rfl 7 rfl ?_
  refine zo_isub hY dX1_narrows_43 ?_
  refine zo_mmin hY (by decide) q831 (Nat.le_of_ble_eq_true rfl) dX1_narrows_44 ?_
  refine zo_putI hY hJ LX1_362_18 rfl (Or.inl rfl) dX1_narrows_47 h (fun Ω9 h => ?_)
  refine zo_aload hY dX1_narrows_50 2 rfl ?_
  refine zo_aload hY dX1_narrows_52 2 rfl ?_
  refine zo_getI hY LX1_361_18 rfl dX1_narrows_54 ?_
  refine zo_aload hY dX1_narrows_57 3 rfl ?_
  refine zo_getI hY LX1_361_18 rfl dX1_narrows_59 ?_
  refine zo_iload_n hY dX1_narrows_62 rfl 7 rfl ?_
  refine zo_iadd hY dX1_narrows_63 ?_
  refine zo_mmax hY (by decide) q881 (Nat.le_of_ble_eq_true rfl) dX1_narrows_64 ?_
  refine zo_putI hY hJ LX1_361_18 rfl (Or.inl rfl) dX1_narrows_67 h (fun Ω10 h => ?_)
  refine zo_aload hY dX1_narrows_70 3 rfl ?_
  refine zo_getI hY LX1_362_18 rfl dX1_narrows_72 ?_
  refine zo_iload hY dX1_narrows_75 1 rfl ?_
  refine zo_icmp_ne hY 90 dX1_narrows_77 (by decide) h (fun c11 h => ?_) (fun c11 h => ?_)
  · refine zo_aload hY dX1_narrows_80 2 rfl ?_
    refine zo_getI hY LX1_361_18 rfl dX1_narrows_82 ?_
    refine zo_iload hY dX1_narrows_85 0 rfl ?_
    refine zo_icmp_eq hY 94 dX1_narrows_87 (by decide) h (fun c12 h => ?_) (fun c12 h => ?_)
    · refine zo_iconst hY 0 (by decide) dX1_narrows_94 ?_
      refine zo_sub [] rfl ?_
      exact ct_X1_narrows_95 hY hJ hCon hr N 0 Ω10 _ h
    · refine zo_sub [] rfl ?_
      exact ct_X1_narrows_90 hY hJ hCon hr N Ω10 _ h
  · refine zo_sub [] rfl ?_
    exact ct_X1_narrows_90 hY hJ hCon hr N Ω10 _ h
def fn_X3_isBy_7_13 (N : Nat)  (s0 : Int32) (Ω : zo_O) : Option zo_R :=
  rZ s0 Ω
theorem ct_X3_isBy_7_13 {Y : zo_Y} (hY : zo_Gd Y cX3_isBy 2 RX3 0) (hJ : zo_JC (zo_J Y)) (hCon : ∀ Ω, zo_J Y Ω → zo_Con Ω) (hr : zo_rt Y (Option.some Jvm.ClassFile.FieldType.boolean)) (N : Nat)   (s0 : Int32) (Ω : zo_O) (res : zo_R) (h : fn_X3_isBy_7_13 N  s0 Ω = some res) : TW Y res Ω 13 [] [vi s0] := by
  unfold fn_X3_isBy_7_13 at h
  exact zo_zret hY hr dX3_isBy_13 h
def fn_X3_isBy_7 (N : Nat) (x0 : Nat) (x1 : Int32) (Ω : zo_O) : Option zo_R :=
  if x1 < gI Ω 7 x0 0 then (
    fn_X3_isBy_7_13 N 0 Ω
    ) else
  fn_X3_isBy_7_13 N 1 Ω
theorem mt_X3_isBy_7 {G : zo_G} {J : zo_O → Prop} (hJ : zo_JC J) (hCon : ∀ Ω, J Ω → zo_Con Ω) (N : Nat) (x0 : Nat) (x1 : Int32) (Ω : zo_O) (res : zo_R) (h : fn_X3_isBy_7 N x0 x1 Ω = some res) : zo_MT G J yX3_isBy cX3_isBy 2 (Option.some Jvm.ClassFile.FieldType.boolean) 0 [vr 7 x0, vi x1] Ω res := by
  refine zo_enter (by decide) rfl (Nat.le_of_ble_eq_true rfl) (fun Y hY eJ hr hmn => ?_)
  subst eJ
  show TW Y res Ω 0 [(0, vr 7 x0), (1, vi x1)] []
  unfold fn_X3_isBy_7 at h
  refine zo_aload_n hY dX3_isBy_0 rfl 0 rfl ?_
  refine zo_getI hY LX3_7_7 rfl dX3_isBy_1 ?_
  refine zo_iload_n hY dX3_isBy_4 rfl 1 rfl ?_
  refine zo_icmp_gt hY 12 dX3_isBy_5 (by decide) h (fun c1 h => ?_) (fun c1 h => ?_)
  · refine zo_iconst hY 0 (by decide) dX3_isBy_12 ?_
    refine zo_sub [] rfl ?_
    exact ct_X3_isBy_7_13 hY hJ hCon hr N 0 Ω _ h
  · refine zo_iconst hY 1 (by decide) dX3_isBy_8 ?_
    refine zo_goto hY 13 dX3_isBy_9 (by decide) ?_
    refine zo_sub [] rfl ?_
    exact ct_X3_isBy_7_13 hY hJ hCon hr N 1 Ω _ h
theorem dX1_binds_0 : decode cX1_binds 0 = .ok (.iconst 1, 1) := by decide +kernel
theorem dX1_binds_1 : decode cX1_binds 1 = .ok (.istore 4, 2) := by decide +kernel
theorem dX1_binds_3 : decode cX1_binds 3 = .ok (.iload 4, 2) := by decide +kernel
theorem dX1_binds_5 : decode cX1_binds 5 = .ok (.ifCond .eq 194, 3) := by decide +kernel
theorem dX1_binds_8 : decode cX1_binds 8 = .ok (.iconst 0, 1) := by decide +kernel
theorem dX1_binds_9 : decode cX1_binds 9 = .ok (.istore 4, 2) := by decide +kernel
theorem dX1_binds_11 : decode cX1_binds 11 = .ok (.iconst 0, 1) := by decide +kernel
theorem dX1_binds_12 : decode cX1_binds 12 = .ok (.istore 5, 2) := by decide +kernel
theorem dX1_binds_14 : decode cX1_binds 14 = .ok (.iload 5, 2) := by decide +kernel
theorem dX1_binds_16 : decode cX1_binds 16 = .ok (.aload_n 0, 1) := by decide +kernel
theorem dX1_binds_17 : decode cX1_binds 17 = .ok (.getfield 16, 3) := by decide +kernel
theorem dX1_binds_20 : decode cX1_binds 20 = .ok (.invokevirtual 85, 3) := by decide +kernel
theorem dX1_binds_23 : decode cX1_binds 23 = .ok (.if_icmp .ge 34, 3) := by decide +kernel
theorem dX1_binds_26 : decode cX1_binds 26 = .ok (.aload_n 0, 1) := by decide +kernel
theorem dX1_binds_27 : decode cX1_binds 27 = .ok (.getfield 78, 3) := by decide +kernel
theorem dX1_binds_30 : decode cX1_binds 30 = .ok (.iload 5, 2) := by decide +kernel
theorem dX1_binds_32 : decode cX1_binds 32 = .ok (.aaload, 1) := by decide +kernel
theorem dX1_binds_33 : decode cX1_binds 33 = .ok (.ifnull 18, 3) := by decide +kernel
theorem dX1_binds_36 : decode cX1_binds 36 = .ok (.aload_n 0, 1) := by decide +kernel
theorem dX1_binds_37 : decode cX1_binds 37 = .ok (.getfield 78, 3) := by decide +kernel
theorem dX1_binds_40 : decode cX1_binds 40 = .ok (.iload 5, 2) := by decide +kernel
theorem dX1_binds_42 : decode cX1_binds 42 = .ok (.aaload, 1) := by decide +kernel
theorem dX1_binds_43 : decode cX1_binds 43 = .ok (.invokevirtual 358, 3) := by decide +kernel
theorem dX1_binds_46 : decode cX1_binds 46 = .ok (.ifCond .eq 5, 3) := by decide +kernel
theorem dX1_binds_49 : decode cX1_binds 49 = .ok (.iconst 0, 1) := by decide +kernel
theorem dX1_binds_50 : decode cX1_binds 50 = .ok (.ireturn, 1) := by decide +kernel
theorem dX1_binds_51 : decode cX1_binds 51 = .ok (.iinc 5 1, 3) := by decide +kernel
theorem dX1_binds_54 : decode cX1_binds 54 = .ok (.goto (-40), 3) := by decide +kernel
theorem dX1_binds_57 : decode cX1_binds 57 = .ok (.iconst 0, 1) := by decide +kernel
theorem dX1_binds_58 : decode cX1_binds 58 = .ok (.istore 5, 2) := by decide +kernel
theorem dX1_binds_60 : decode cX1_binds 60 = .ok (.iload 5, 2) := by decide +kernel
theorem dX1_binds_62 : decode cX1_binds 62 = .ok (.aload_n 0, 1) := by decide +kernel
theorem dX1_binds_63 : decode cX1_binds 63 = .ok (.getfield 32, 3) := by decide +kernel
theorem dX1_binds_66 : decode cX1_binds 66 = .ok (.invokevirtual 85, 3) := by decide +kernel
theorem dX1_binds_69 : decode cX1_binds 69 = .ok (.if_icmp .ge 92, 3) := by decide +kernel
theorem dX1_binds_72 : decode cX1_binds 72 = .ok (.aload_n 0, 1) := by decide +kernel
theorem dX1_binds_73 : decode cX1_binds 73 = .ok (.getfield 32, 3) := by decide +kernel
theorem dX1_binds_76 : decode cX1_binds 76 = .ok (.iload 5, 2) := by decide +kernel
theorem dX1_binds_78 : decode cX1_binds 78 = .ok (.invokevirtual 116, 3) := by decide +kernel
theorem dX1_binds_81 : decode cX1_binds 81 = .ok (.checkcast 134, 3) := by decide +kernel
theorem dX1_binds_84 : decode cX1_binds 84 = .ok (.iload_n 1, 1) := by decide +kernel
theorem dX1_binds_85 : decode cX1_binds 85 = .ok (.invokevirtual 363, 3) := by decide +kernel
theorem dX1_binds_88 : decode cX1_binds 88 = .ok (.ifCond .eq 67, 3) := by decide +kernel
theorem dX1_binds_91 : decode cX1_binds 91 = .ok (.aload_n 0, 1) := by decide +kernel
theorem dX1_binds_92 : decode cX1_binds 92 = .ok (.aload_n 0, 1) := by decide +kernel
theorem dX1_binds_93 : decode cX1_binds 93 = .ok (.getfield 32, 3) := by decide +kernel
theorem dX1_binds_96 : decode cX1_binds 96 = .ok (.iload 5, 2) := by decide +kernel
theorem dX1_binds_98 : decode cX1_binds 98 = .ok (.invokevirtual 116, 3) := by decide +kernel
theorem dX1_binds_101 : decode cX1_binds 101 = .ok (.checkcast 134, 3) := by decide +kernel
theorem dX1_binds_104 : decode cX1_binds 104 = .ok (.getfield 364, 3) := by decide +kernel
theorem dX1_binds_107 : decode cX1_binds 107 = .ok (.aload_n 0, 1) := by decide +kernel
theorem dX1_binds_108 : decode cX1_binds 108 = .ok (.getfield 32, 3) := by decide +kernel
theorem dX1_binds_111 : decode cX1_binds 111 = .ok (.iload 5, 2) := by decide +kernel
theorem dX1_binds_113 : decode cX1_binds 113 = .ok (.invokevirtual 116, 3) := by decide +kernel
theorem dX1_binds_116 : decode cX1_binds 116 = .ok (.checkcast 134, 3) := by decide +kernel
theorem dX1_binds_119 : decode cX1_binds 119 = .ok (.getfield 365, 3) := by decide +kernel
theorem dX1_binds_122 : decode cX1_binds 122 = .ok (.aload_n 0, 1) := by decide +kernel
theorem dX1_binds_123 : decode cX1_binds 123 = .ok (.getfield 32, 3) := by decide +kernel
theorem dX1_binds_126 : decode cX1_binds 126 = .ok (.iload 5, 2) := by decide +kernel
theorem dX1_binds_128 : decode cX1_binds 128 = .ok (.invokevirtual 116, 3) := by decide +kernel
theorem dX1_binds_131 : decode cX1_binds 131 = .ok (.checkcast 134, 3) := by decide +kernel
theorem dX1_binds_134 : decode cX1_binds 134 = .ok (.getfield 366, 3) := by decide +kernel
theorem dX1_binds_137 : decode cX1_binds 137 = .ok (.invokevirtual 367, 3) := by decide +kernel
theorem dX1_binds_140 : decode cX1_binds 140 = .ok (.ifCond .ne 8, 3) := by decide +kernel
theorem dX1_binds_143 : decode cX1_binds 143 = .ok (.iload 4, 2) := by decide +kernel
theorem dX1_binds_145 : decode cX1_binds 145 = .ok (.ifCond .eq 7, 3) := by decide +kernel
theorem dX1_binds_148 : decode cX1_binds 148 = .ok (.iconst 1, 1) := by decide +kernel
theorem dX1_binds_149 : decode cX1_binds 149 = .ok (.goto 4, 3) := by decide +kernel
theorem dX1_binds_152 : decode cX1_binds 152 = .ok (.iconst 0, 1) := by decide +kernel
theorem dX1_binds_153 : decode cX1_binds 153 = .ok (.istore 4, 2) := by decide +kernel
theorem dX1_binds_155 : decode cX1_binds 155 = .ok (.iinc 5 1, 3) := by decide +kernel
theorem dX1_binds_158 : decode cX1_binds 158 = .ok (.goto (-98), 3) := by decide +kernel
theorem dX1_binds_161 : decode cX1_binds 161 = .ok (.iload_n 2, 1) := by decide +kernel
theorem dX1_binds_162 : decode cX1_binds 162 = .ok (.iconst (-1), 1) := by decide +kernel
theorem dX1_binds_163 : decode cX1_binds 163 = .ok (.if_icmp .eq (-160), 3) := by decide +kernel
theorem dX1_binds_166 : decode cX1_binds 166 = .ok (.aload_n 0, 1) := by decide +kernel
theorem dX1_binds_167 : decode cX1_binds 167 = .ok (.iload_n 2, 1) := by decide +kernel
theorem dX1_binds_168 : decode cX1_binds 168 = .ok (.iload_n 3, 1) := by decide +kernel
theorem dX1_binds_169 : decode cX1_binds 169 = .ok (.iconst 0, 1) := by decide +kernel
theorem dX1_binds_170 : decode cX1_binds 170 = .ok (.invokevirtual 367, 3) := by decide +kernel
theorem dX1_binds_173 : decode cX1_binds 173 = .ok (.aload_n 0, 1) := by decide +kernel
theorem dX1_binds_174 : decode cX1_binds 174 = .ok (.iload_n 3, 1) := by decide +kernel
theorem dX1_binds_175 : decode cX1_binds 175 = .ok (.iload_n 2, 1) := by decide +kernel
theorem dX1_binds_176 : decode cX1_binds 176 = .ok (.iconst 0, 1) := by decide +kernel
theorem dX1_binds_177 : decode cX1_binds 177 = .ok (.invokevirtual 367, 3) := by decide +kernel
theorem dX1_binds_180 : decode cX1_binds 180 = .ok (.ior, 1) := by decide +kernel
theorem dX1_binds_181 : decode cX1_binds 181 = .ok (.ifCond .ne 8, 3) := by decide +kernel
theorem dX1_binds_184 : decode cX1_binds 184 = .ok (.iload 4, 2) := by decide +kernel
theorem dX1_binds_186 : decode cX1_binds 186 = .ok (.ifCond .eq 7, 3) := by decide +kernel
theorem dX1_binds_189 : decode cX1_binds 189 = .ok (.iconst 1, 1) := by decide +kernel
theorem dX1_binds_190 : decode cX1_binds 190 = .ok (.goto 4, 3) := by decide +kernel
theorem dX1_binds_193 : decode cX1_binds 193 = .ok (.iconst 0, 1) := by decide +kernel
theorem dX1_binds_194 : decode cX1_binds 194 = .ok (.istore 4, 2) := by decide +kernel
theorem dX1_binds_196 : decode cX1_binds 196 = .ok (.goto (-193), 3) := by decide +kernel
theorem dX1_binds_199 : decode cX1_binds 199 = .ok (.iconst 1, 1) := by decide +kernel
theorem dX1_binds_200 : decode cX1_binds 200 = .ok (.ireturn, 1) := by decide +kernel
def fn_X1_binds_51 (N : Nat) (K3 : Int32 → Int32 → Int32 → Int32 → zo_O → Option zo_R) (K14 : Int32 → Int32 → Int32 → Int32 → Int32 → zo_O → Option zo_R) (x1 : Int32) (x2 : Int32) (x3 : Int32) (x4 : Int32) (x5 : Int32) (Ω : zo_O) : Option zo_R :=
  K14 x1 x2 x3 x4 (x5 + 1) Ω
theorem ct_X1_binds_51 {Y : zo_Y} (hY : zo_Gd Y cX1_binds 6 RX1 3) (hJ : zo_JC (zo_J Y)) (hCon : ∀ Ω, zo_J Y Ω → zo_Con Ω) (hr : zo_rt Y (Option.some Jvm.ClassFile.FieldType.boolean)) (N : Nat) (K3 : Int32 → Int32 → Int32 → Int32 → zo_O → Option zo_R) (K14 : Int32 → Int32 → Int32 → Int32 → Int32 → zo_O → Option zo_R) (hK3 : ∀ (x1 : Int32) (x2 : Int32) (x3 : Int32) (x4 : Int32) (Ω : zo_O) (res : zo_R), K3 x1 x2 x3 x4 Ω = some res → TW Y res Ω 3 [(0, vr 0 0), (1, vi x1), (2, vi x2), (3, vi x3), (4, vi x4)] []) (hK14 : ∀ (x1 : Int32) (x2 : Int32) (x3 : Int32) (x4 : Int32) (x5 : Int32) (Ω : zo_O) (res : zo_R), K14 x1 x2 x3 x4 x5 Ω = some res → TW Y res Ω 14 [(0, vr 0 0), (1, vi x1), (2, vi x2), (3, vi x3), (4, vi x4), (5, vi x5)] []) (x1 : Int32) (x2 : Int32) (x3 : Int32) (x4 : Int32) (x5 : Int32) (Ω : zo_O) (res : zo_R) (h : fn_X1_binds_51 N K3 K14 x1 x2 x3 x4 x5 Ω = some res) : TW Y res Ω 51 [(0, vr 0 0), (1, vi x1), (2, vi x2), (3, vi x3), (4, vi x4), (5, vi x5)] [] := by
  unfold fn_X1_binds_51 at h
  refine zo_iinc hY 1 dX1_binds_51 (by decide) (by decide) 5 rfl rfl (ls' := [(5, vi (x5 + 1)), (0, vr 0 0), (1, vi x1), (2, vi x2), (3, vi x3), (4, vi x4)]) rfl ?_
  refine zo_goto hY 14 dX1_binds_54 (by decide) ?_
  refine zo_sub [1, 2, 3, 4, 5, 0] rfl ?_
  exact hK14 x1 x2 x3 x4 (x5 + 1) Ω _ h
def fn_X1_binds_155 (N : Nat) (K3 : Int32 → Int32 → Int32 → Int32 → zo_O → Option zo_R) (K60 : Int32 → Int32 → Int32 → Int32 → Int32 → zo_O → Option zo_R) (x1 : Int32) (x2 : Int32) (x3 : Int32) (x4 : Int32) (x5 : Int32) (Ω : zo_O) : Option zo_R :=
  K60 x1 x2 x3 x4 (x5 + 1) Ω
theorem ct_X1_binds_155 {Y : zo_Y} (hY : zo_Gd Y cX1_binds 6 RX1 3) (hJ : zo_JC (zo_J Y)) (hCon : ∀ Ω, zo_J Y Ω → zo_Con Ω) (hr : zo_rt Y (Option.some Jvm.ClassFile.FieldType.boolean)) (N : Nat) (K3 : Int32 → Int32 → Int32 → Int32 → zo_O → Option zo_R) (K60 : Int32 → Int32 → Int32 → Int32 → Int32 → zo_O → Option zo_R) (hK3 : ∀ (x1 : Int32) (x2 : Int32) (x3 : Int32) (x4 : Int32) (Ω : zo_O) (res : zo_R), K3 x1 x2 x3 x4 Ω = some res → TW Y res Ω 3 [(0, vr 0 0), (1, vi x1), (2, vi x2), (3, vi x3), (4, vi x4)] []) (hK60 : ∀ (x1 : Int32) (x2 : Int32) (x3 : Int32) (x4 : Int32) (x5 : Int32) (Ω : zo_O) (res : zo_R), K60 x1 x2 x3 x4 x5 Ω = some res → TW Y res Ω 60 [(0, vr 0 0), (1, vi x1), (2, vi x2), (3, vi x3), (4, vi x4), (5, vi x5)] []) (x1 : Int32) (x2 : Int32) (x3 : Int32) (x4 : Int32) (x5 : Int32) (Ω : zo_O) (res : zo_R) (h : fn_X1_binds_155 N K3 K60 x1 x2 x3 x4 x5 Ω = some res) : TW Y res Ω 155 [(0, vr 0 0), (1, vi x1), (2, vi x2), (3, vi x3), (4, vi x4), (5, vi x5)] [] := by
  unfold fn_X1_binds_155 at h
  refine zo_iinc hY 1 dX1_binds_155 (by decide) (by decide) 5 rfl rfl (ls' := [(5, vi (x5 + 1)), (0, vr 0 0), (1, vi x1), (2, vi x2), (3, vi x3), (4, vi x4)]) rfl ?_
  refine zo_goto hY 60 dX1_binds_158 (by decide) ?_
  refine zo_sub [1, 2, 3, 4, 5, 0] rfl ?_
  exact hK60 x1 x2 x3 x4 (x5 + 1) Ω _ h
def fn_X1_binds_153 (N : Nat) (K3 : Int32 → Int32 → Int32 → Int32 → zo_O → Option zo_R) (K60 : Int32 → Int32 → Int32 → Int32 → Int32 → zo_O → Option zo_R) (x1 : Int32) (x2 : Int32) (x3 : Int32) (x5 : Int32) (s0 : Int32) (Ω : zo_O) : Option zo_R :=
  fn_X1_binds_155 N K3 K60 x1 x2 x3 s0 x5 Ω
theorem ct_X1_binds_153 {Y : zo_Y} (hY : zo_Gd Y cX1_binds 6 RX1 3) (hJ : zo_JC (zo_J Y)) (hCon : ∀ Ω, zo_J Y Ω → zo_Con Ω) (hr : zo_rt Y (Option.some Jvm.ClassFile.FieldType.boolean)) (N : Nat) (K3 : Int32 → Int32 → Int32 → Int32 → zo_O → Option zo_R) (K60 : Int32 → Int32 → Int32 → Int32 → Int32 → zo_O → Option zo_R) (hK3 : ∀ (x1 : Int32) (x2 : Int32) (x3 : Int32) (x4 : Int32) (Ω : zo_O) (res : zo_R), K3 x1 x2 x3 x4 Ω = some res → TW Y res Ω 3 [(0, vr 0 0), (1, vi x1), (2, vi x2), (3, vi x3), (4, vi x4)] []) (hK60 : ∀ (x1 : Int32) (x2 : Int32) (x3 : Int32) (x4 : Int32) (x5 : Int32) (Ω : zo_O) (res : zo_R), K60 x1 x2 x3 x4 x5 Ω = some res → TW Y res Ω 60 [(0, vr 0 0), (1, vi x1), (2, vi x2), (3, vi x3), (4, vi x4), (5, vi x5)] []) (x1 : Int32) (x2 : Int32) (x3 : Int32) (x5 : Int32) (s0 : Int32) (Ω : zo_O) (res : zo_R) (h : fn_X1_binds_153 N K3 K60 x1 x2 x3 x5 s0 Ω = some res) : TW Y res Ω 153 [(0, vr 0 0), (1, vi x1), (2, vi x2), (3, vi x3), (5, vi x5)] [vi s0] := by
  unfold fn_X1_binds_153 at h
  refine zo_istore hY dX1_binds_153 (by decide) rfl (ls' := [(4, vi s0), (0, vr 0 0), (1, vi x1), (2, vi x2), (3, vi x3), (5, vi x5)]) rfl ?_
  refine zo_sub [1, 2, 3, 4, 0, 5] rfl ?_
  exact ct_X1_binds_155 hY hJ hCon hr N K3 K60 hK3 hK60 x1 x2 x3 s0 x5 Ω _ h
def fn_X1_binds_148 (N : Nat) (K3 : Int32 → Int32 → Int32 → Int32 → zo_O → Option zo_R) (K60 : Int32 → Int32 → Int32 → Int32 → Int32 → zo_O → Option zo_R) (x1 : Int32) (x2 : Int32) (x3 : Int32) (x5 : Int32) (Ω : zo_O) : Option zo_R :=
  fn_X1_binds_153 N K3 K60 x1 x2 x3 x5 1 Ω
theorem ct_X1_binds_148 {Y : zo_Y} (hY : zo_Gd Y cX1_binds 6 RX1 3) (hJ : zo_JC (zo_J Y)) (hCon : ∀ Ω, zo_J Y Ω → zo_Con Ω) (hr : zo_rt Y (Option.some Jvm.ClassFile.FieldType.boolean)) (N : Nat) (K3 : Int32 → Int32 → Int32 → Int32 → zo_O → Option zo_R) (K60 : Int32 → Int32 → Int32 → Int32 → Int32 → zo_O → Option zo_R) (hK3 : ∀ (x1 : Int32) (x2 : Int32) (x3 : Int32) (x4 : Int32) (Ω : zo_O) (res : zo_R), K3 x1 x2 x3 x4 Ω = some res → TW Y res Ω 3 [(0, vr 0 0), (1, vi x1), (2, vi x2), (3, vi x3), (4, vi x4)] []) (hK60 : ∀ (x1 : Int32) (x2 : Int32) (x3 : Int32) (x4 : Int32) (x5 : Int32) (Ω : zo_O) (res : zo_R), K60 x1 x2 x3 x4 x5 Ω = some res → TW Y res Ω 60 [(0, vr 0 0), (1, vi x1), (2, vi x2), (3, vi x3), (4, vi x4), (5, vi x5)] []) (x1 : Int32) (x2 : Int32) (x3 : Int32) (x5 : Int32) (Ω : zo_O) (res : zo_R) (h : fn_X1_binds_148 N K3 K60 x1 x2 x3 x5 Ω = some res) : TW Y res Ω 148 [(0, vr 0 0), (1, vi x1), (2, vi x2), (3, vi x3), (5, vi x5)] [] := by
  unfold fn_X1_binds_148 at h
  refine zo_iconst hY 1 (by decide) dX1_binds_148 ?_
  refine zo_goto hY 153 dX1_binds_149 (by decide) ?_
  exact ct_X1_binds_153 hY hJ hCon hr N K3 K60 hK3 hK60 x1 x2 x3 x5 1 Ω _ h
def fn_X1_binds_194 (N : Nat) (K3 : Int32 → Int32 → Int32 → Int32 → zo_O → Option zo_R) (x1 : Int32) (x2 : Int32) (x3 : Int32) (s0 : Int32) (Ω : zo_O) : Option zo_R :=
  K3 x1 x2 x3 s0 Ω
theorem ct_X1_binds_194 {Y : zo_Y} (hY : zo_Gd Y cX1_binds 6 RX1 3) (hJ : zo_JC (zo_J Y)) (hCon : ∀ Ω, zo_J Y Ω → zo_Con Ω) (hr : zo_rt Y (Option.some Jvm.ClassFile.FieldType.boolean)) (N : Nat) (K3 : Int32 → Int32 → Int32 → Int32 → zo_O → Option zo_R) (hK3 : ∀ (x1 : Int32) (x2 : Int32) (x3 : Int32) (x4 : Int32) (Ω : zo_O) (res : zo_R), K3 x1 x2 x3 x4 Ω = some res → TW Y res Ω 3 [(0, vr 0 0), (1, vi x1), (2, vi x2), (3, vi x3), (4, vi x4)] []) (x1 : Int32) (x2 : Int32) (x3 : Int32) (s0 : Int32) (Ω : zo_O) (res : zo_R) (h : fn_X1_binds_194 N K3 x1 x2 x3 s0 Ω = some res) : TW Y res Ω 194 [(0, vr 0 0), (1, vi x1), (2, vi x2), (3, vi x3)] [vi s0] := by
  unfold fn_X1_binds_194 at h
  refine zo_istore hY dX1_binds_194 (by decide) rfl (ls' := [(4, vi s0), (0, vr 0 0), (1, vi x1), (2, vi x2), (3, vi x3)]) rfl ?_
  refine zo_goto hY 3 dX1_binds_196 (by decide) ?_
  refine zo_sub [1, 2, 3, 4, 0] rfl ?_
  exact hK3 x1 x2 x3 s0 Ω _ h
def fn_X1_binds_189 (N : Nat) (K3 : Int32 → Int32 → Int32 → Int32 → zo_O → Option zo_R) (x1 : Int32) (x2 : Int32) (x3 : Int32) (Ω : zo_O) : Option zo_R :=
  fn_X1_binds_194 N K3 x1 x2 x3 1 Ω
theorem ct_X1_binds_189 {Y : zo_Y} (hY : zo_Gd Y cX1_binds 6 RX1 3) (hJ : zo_JC (zo_J Y)) (hCon : ∀ Ω, zo_J Y Ω → zo_Con Ω) (hr : zo_rt Y (Option.some Jvm.ClassFile.FieldType.boolean)) (N : Nat) (K3 : Int32 → Int32 → Int32 → Int32 → zo_O → Option zo_R) (hK3 : ∀ (x1 : Int32) (x2 : Int32) (x3 : Int32) (x4 : Int32) (Ω : zo_O) (res : zo_R), K3 x1 x2 x3 x4 Ω = some res → TW Y res Ω 3 [(0, vr 0 0), (1, vi x1), (2, vi x2), (3, vi x3), (4, vi x4)] []) (x1 : Int32) (x2 : Int32) (x3 : Int32) (Ω : zo_O) (res : zo_R) (h : fn_X1_binds_189 N K3 x1 x2 x3 Ω = some res) : TW Y res Ω 189 [(0, vr 0 0), (1, vi x1), (2, vi x2), (3, vi x3)] [] := by
  unfold fn_X1_binds_189 at h
  refine zo_iconst hY 1 (by decide) dX1_binds_189 ?_
  refine zo_goto hY 194 dX1_binds_190 (by decide) ?_
  exact ct_X1_binds_194 hY hJ hCon hr N K3 hK3 x1 x2 x3 1 Ω _ h
def bd_X1_binds_60 (N : Nat) (K3 : Int32 → Int32 → Int32 → Int32 → zo_O → Option zo_R) (K60 : Int32 → Int32 → Int32 → Int32 → Int32 → zo_O → Option zo_R) (x1 : Int32) (x2 : Int32) (x3 : Int32) (x4 : Int32) (x5 : Int32) (Ω : zo_O) : Option zo_R :=
  ci (fn_J2_size N 5 Ω) fun r2 Ω1 =>
  if r2 ≤ x5 then (
    if x2 = (-1) then (
      K3 x1 x2 x3 x4 Ω1
      ) else
    ci (fn_X1_narrows N x2 x3 0 Ω1) fun r6 Ω5 =>
    ci (fn_X1_narrows N x3 x2 0 Ω5) fun r8 Ω7 =>
    if r6 ||| r8 = 0 then (
      if x4 = 0 then (
        fn_X1_binds_194 N K3 x1 x2 x3 0 Ω7
        ) else
      fn_X1_binds_189 N K3 x1 x2 x3 Ω7
      ) else
    fn_X1_binds_189 N K3 x1 x2 x3 Ω7
    ) else
  cr (fn_J2_get N 5 x5 Ω1) fun r12 Ω11 =>
  bk r12 7 fun j13 =>
  ci (fn_X3_isBy_7 N j13 x1 Ω11) fun r15 Ω14 =>
  if r15 = 0 then (
    fn_X1_binds_155 N K3 K60 x1 x2 x3 x4 x5 Ω14
    ) else
  cr (fn_J2_get N 5 x5 Ω14) fun r18 Ω17 =>
  bk r18 7 fun j19 =>
  cr (fn_J2_get N 5 x5 Ω17) fun r21 Ω20 =>
  bk r21 7 fun j22 =>
  cr (fn_J2_get N 5 x5 Ω20) fun r24 Ω23 =>
  bk r24 7 fun j25 =>
  ci (fn_X1_narrows N (gI Ω17 7 j19 1) (gI Ω20 7 j22 2) (gI Ω23 7 j25 3) Ω23) fun r27 Ω26 =>
  if r27 = 0 then (
    if x4 = 0 then (
      fn_X1_binds_153 N K3 K60 x1 x2 x3 x5 0 Ω26
      ) else
    fn_X1_binds_148 N K3 K60 x1 x2 x3 x5 Ω26
    ) else
  fn_X1_binds_148 N K3 K60 x1 x2 x3 x5 Ω26
theorem cb_X1_binds_60 {Y : zo_Y} (hY : zo_Gd Y cX1_binds 6 RX1 3) (hJ : zo_JC (zo_J Y)) (hCon : ∀ Ω, zo_J Y Ω → zo_Con Ω) (hr : zo_rt Y (Option.some Jvm.ClassFile.FieldType.boolean)) (N : Nat) (K3 : Int32 → Int32 → Int32 → Int32 → zo_O → Option zo_R) (K60 : Int32 → Int32 → Int32 → Int32 → Int32 → zo_O → Option zo_R) (hK3 : ∀ (x1 : Int32) (x2 : Int32) (x3 : Int32) (x4 : Int32) (Ω : zo_O) (res : zo_R), K3 x1 x2 x3 x4 Ω = some res → TW Y res Ω 3 [(0, vr 0 0), (1, vi x1), (2, vi x2), (3, vi x3), (4, vi x4)] []) (hK60 : ∀ (x1 : Int32) (x2 : Int32) (x3 : Int32) (x4 : Int32) (x5 : Int32) (Ω : zo_O) (res : zo_R), K60 x1 x2 x3 x4 x5 Ω = some res → TW Y res Ω 60 [(0, vr 0 0), (1, vi x1), (2, vi x2), (3, vi x3), (4, vi x4), (5, vi x5)] []) (x1 : Int32) (x2 : Int32) (x3 : Int32) (x4 : Int32) (x5 : Int32) (Ω : zo_O) (res : zo_R) (h : bd_X1_binds_60 N K3 K60 x1 x2 x3 x4 x5 Ω = some res) : TW Y res Ω 60 [(0, vr 0 0), (1, vi x1), (2, vi x2), (3, vi x3), (4, vi x4), (5, vi x5)] [] := by
  unfold bd_X1_binds_60 at h
  refine zo_iload hY dX1_binds_60 5 rfl ?_
  refine zo_aload_n hY dX1_binds_62 rfl 0 rfl ?_
  refine zo_getC hY LX1_32_0 rfl (fun Ω q => (hCon Ω q).1 5 _ rfl) dX1_binds_63 ?_
  refine zo_callV hY (fun q hq => mt_J2_size hJ hCon N 5 Ω q hq) (by decide) (by decide) (by decide) ⟨rfl, cn_J2_size⟩ rfl q245 q246 q247 q81 q248 (Nat.le_of_ble_eq_true rfl) dX1_binds_66 rfl h (ci_k (fun r2 Ω1 res h => ?_))
  refine zo_icmp_ge hY 161 dX1_binds_69 (by decide) h (fun c3 h => ?_) (fun c3 h => ?_)
  · refine zo_iload_n hY dX1_binds_161 rfl 2 rfl ?_
    refine zo_iconst hY (-1) (by decide) dX1_binds_162 ?_
    refine zo_icmp_eq hY 3 dX1_binds_163 (by decide) h (fun c4 h => ?_) (fun c4 h => ?_)
    · refine zo_sub [0, 1, 2, 3, 4] rfl ?_
      exact hK3 x1 x2 x3 x4 Ω1 _ h
    · refine zo_aload_n hY dX1_binds_166 rfl 0 rfl ?_
      refine zo_iload_n hY dX1_binds_167 rfl 2 rfl ?_
      refine zo_iload_n hY dX1_binds_168 rfl 3 rfl ?_
      refine zo_iconst hY 0 (by decide) dX1_binds_169 ?_
      refine zo_callV hY (fun q hq => mt_X1_narrows hJ hCon N x2 x3 0 Ω1 q hq) (by decide) (by decide) (by decide) ⟨rfl, cn_X1_narrows⟩ rfl q1141 q1143 qs36 q78 q1144 (Nat.le_of_ble_eq_true rfl) dX1_binds_170 rfl h (ci_k (fun r6 Ω5 res h => ?_))
      refine zo_aload_n hY dX1_binds_173 rfl 0 rfl ?_
      refine zo_iload_n hY dX1_binds_174 rfl 3 rfl ?_
      refine zo_iload_n hY dX1_binds_175 rfl 2 rfl ?_
      refine zo_iconst hY 0 (by decide) dX1_binds_176 ?_
      refine zo_callV hY (fun q hq => mt_X1_narrows hJ hCon N x3 x2 0 Ω5 q hq) (by decide) (by decide) (by decide) ⟨rfl, cn_X1_narrows⟩ rfl q1141 q1143 qs36 q78 q1144 (Nat.le_of_ble_eq_true rfl) dX1_binds_177 rfl h (ci_k (fun r8 Ω7 res h => ?_))
      refine zo_ior hY dX1_binds_180 ?_
      refine zo_if_ne hY 189 dX1_binds_181 (by decide) h (fun c9 h => ?_) (fun c9 h => ?_)
      · refine zo_iload hY dX1_binds_184 4 rfl ?_
        refine zo_if_eq hY 193 dX1_binds_186 (by decide) h (fun c10 h => ?_) (fun c10 h => ?_)
        · refine zo_iconst hY 0 (by decide) dX1_binds_193 ?_
          refine zo_sub [0, 1, 2, 3] rfl ?_
          exact ct_X1_binds_194 hY hJ hCon hr N K3 hK3 x1 x2 x3 0 Ω7 _ h
        · refine zo_sub [0, 1, 2, 3] rfl ?_
          exact ct_X1_binds_189 hY hJ hCon hr N K3 hK3 x1 x2 x3 Ω7 _ h
      · refine zo_sub [0, 1, 2, 3] rfl ?_
        exact ct_X1_binds_189 hY hJ hCon hr N K3 hK3 x1 x2 x3 Ω7 _ h
  · refine zo_aload_n hY dX1_binds_72 rfl 0 rfl ?_
    refine zo_getC hY LX1_32_0 rfl (fun Ω q => (hCon Ω q).1 5 _ rfl) dX1_binds_73 ?_
    refine zo_iload hY dX1_binds_76 5 rfl ?_
    refine zo_callV hY (fun q hq => mt_J2_get hJ hCon N 5 x5 Ω1 q hq) (by decide) (by decide) (by decide) ⟨rfl, cn_J2_get⟩ rfl q368 q369 q370 q81 q371 (Nat.le_of_ble_eq_true rfl) dX1_binds_78 rfl h (cr_k (fun r12 Ω11 res h => ?_))
    refine zo_castK hY (by decide) q492 (Or.inl rfl) dX1_binds_81 h (fun j13 h => ?_)
    refine zo_iload_n hY dX1_binds_84 rfl 1 rfl ?_
    refine zo_callU hY (fun q hq => mt_X3_isBy_7 hJ hCon N j13 x1 Ω11 q hq) (by decide) (by decide) (by decide) cn_X3_isBy rfl rfl q1138 q1139 q1140 q829 q83 q830 (Nat.le_of_ble_eq_true rfl) dX1_binds_85 rfl h (ci_k (fun r15 Ω14 res h => ?_))
    refine zo_if_eq hY 155 dX1_binds_88 (by decide) h (fun c16 h => ?_) (fun c16 h => ?_)
    · exact ct_X1_binds_155 hY hJ hCon hr N K3 K60 hK3 hK60 x1 x2 x3 x4 x5 Ω14 _ h
    · refine zo_aload_n hY dX1_binds_91 rfl 0 rfl ?_
      refine zo_aload_n hY dX1_binds_92 rfl 0 rfl ?_
      refine zo_getC hY LX1_32_0 rfl (fun Ω q => (hCon Ω q).1 5 _ rfl) dX1_binds_93 ?_
      refine zo_iload hY dX1_binds_96 5 rfl ?_
      refine zo_callV hY (fun q hq => mt_J2_get hJ hCon N 5 x5 Ω14 q hq) (by decide) (by decide) (by decide) ⟨rfl, cn_J2_get⟩ rfl q368 q369 q370 q81 q371 (Nat.le_of_ble_eq_true rfl) dX1_binds_98 rfl h (cr_k (fun r18 Ω17 res h => ?_))
      refine zo_castK hY (by decide) q492 (Or.inl rfl) dX1_binds_101 h (fun j19 h => ?_)
      refine zo_getI hY LX1_364_7 rfl dX1_binds_104 ?_
      refine zo_aload_n hY dX1_binds_107 rfl 0 rfl ?_
      refine zo_getC hY LX1_32_0 rfl (fun Ω q => (hCon Ω q).1 5 _ rfl) dX1_binds_108 ?_
      refine zo_iload hY dX1_binds_111 5 rfl ?_
      refine zo_callV hY (fun q hq => mt_J2_get hJ hCon N 5 x5 Ω17 q hq) (by decide) (by decide) (by decide) ⟨rfl, cn_J2_get⟩ rfl q368 q369 q370 q81 q371 (Nat.le_of_ble_eq_true rfl) dX1_binds_113 rfl h (cr_k (fun r21 Ω20 res h => ?_))
      refine zo_castK hY (by decide) q492 (Or.inl rfl) dX1_binds_116 h (fun j22 h => ?_)
      refine zo_getI hY LX1_365_7 rfl dX1_binds_119 ?_
      refine zo_aload_n hY dX1_binds_122 rfl 0 rfl ?_
      refine zo_getC hY LX1_32_0 rfl (fun Ω q => (hCon Ω q).1 5 _ rfl) dX1_binds_123 ?_
      refine zo_iload hY dX1_binds_126 5 rfl ?_
      refine zo_callV hY (fun q hq => mt_J2_get hJ hCon N 5 x5 Ω20 q hq) (by decide) (by decide) (by decide) ⟨rfl, cn_J2_get⟩ rfl q368 q369 q370 q81 q371 (Nat.le_of_ble_eq_true rfl) dX1_binds_128 rfl h (cr_k (fun r24 Ω23 res h => ?_))
      refine zo_castK hY (by decide) q492 (Or.inl rfl) dX1_binds_131 h (fun j25 h => ?_)
      refine zo_getI hY LX1_366_7 rfl dX1_binds_134 ?_
      refine zo_callV hY (fun q hq => mt_X1_narrows hJ hCon N (gI Ω17 7 j19 1) (gI Ω20 7 j22 2) (gI Ω23 7 j25 3) Ω23 q hq) (by decide) (by decide) (by decide) ⟨rfl, cn_X1_narrows⟩ rfl q1141 q1143 qs36 q78 q1144 (Nat.le_of_ble_eq_true rfl) dX1_binds_137 rfl h (ci_k (fun r27 Ω26 res h => ?_))
      refine zo_if_ne hY 148 dX1_binds_140 (by decide) h (fun c28 h => ?_) (fun c28 h => ?_)
      · refine zo_iload hY dX1_binds_143 4 rfl ?_
        refine zo_if_eq hY 152 dX1_binds_145 (by decide) h (fun c29 h => ?_) (fun c29 h => ?_)
        · refine zo_iconst hY 0 (by decide) dX1_binds_152 ?_
          refine zo_sub [0, 1, 2, 3, 5] rfl ?_
          exact ct_X1_binds_153 hY hJ hCon hr N K3 K60 hK3 hK60 x1 x2 x3 x5 0 Ω26 _ h
        · refine zo_sub [0, 1, 2, 3, 5] rfl ?_
          exact ct_X1_binds_148 hY hJ hCon hr N K3 K60 hK3 hK60 x1 x2 x3 x5 Ω26 _ h
      · refine zo_sub [0, 1, 2, 3, 5] rfl ?_
        exact ct_X1_binds_148 hY hJ hCon hr N K3 K60 hK3 hK60 x1 x2 x3 x5 Ω26 _ h
def fn_X1_binds_60 (N : Nat) (K3 : Int32 → Int32 → Int32 → Int32 → zo_O → Option zo_R) : Nat → Int32 → Int32 → Int32 → Int32 → Int32 → zo_O → Option zo_R
  | 0, _, _, _, _, _, _ => none
  | n + 1, x1, x2, x3, x4, x5, Ω => bd_X1_binds_60 N K3 (fn_X1_binds_60 N K3 n) x1 x2 x3 x4 x5 Ω
theorem ct_X1_binds_60 {Y : zo_Y} (hY : zo_Gd Y cX1_binds 6 RX1 3) (hJ : zo_JC (zo_J Y)) (hCon : ∀ Ω, zo_J Y Ω → zo_Con Ω) (hr : zo_rt Y (Option.some Jvm.ClassFile.FieldType.boolean)) (N : Nat) (K3 : Int32 → Int32 → Int32 → Int32 → zo_O → Option zo_R) (hK3 : ∀ (x1 : Int32) (x2 : Int32) (x3 : Int32) (x4 : Int32) (Ω : zo_O) (res : zo_R), K3 x1 x2 x3 x4 Ω = some res → TW Y res Ω 3 [(0, vr 0 0), (1, vi x1), (2, vi x2), (3, vi x3), (4, vi x4)] []) : ∀ (n : Nat) (x1 : Int32) (x2 : Int32) (x3 : Int32) (x4 : Int32) (x5 : Int32) (Ω : zo_O) (res : zo_R), fn_X1_binds_60 N K3 n x1 x2 x3 x4 x5 Ω = some res → TW Y res Ω 60 [(0, vr 0 0), (1, vi x1), (2, vi x2), (3, vi x3), (4, vi x4), (5, vi x5)] [] := by
  intro n
  induction n with
  | zero => intro x1 x2 x3 x4 x5 Ω res h; exact nomatch (show (none : Option zo_R) = some res from h)
  | succ n ih => intro x1 x2 x3 x4 x5 Ω res h; exact cb_X1_binds_60 hY hJ hCon hr N K3 (fn_X1_binds_60 N K3 n) hK3 ih x1 x2 x3 x4 x5 Ω res h
def bd_X1_binds_14 (N : Nat) (K3 : Int32 → Int32 → Int32 → Int32 → zo_O → Option zo_R) (K14 : Int32 → Int32 → Int32 → Int32 → Int32 → zo_O → Option zo_R) (x1 : Int32) (x2 : Int32) (x3 : Int32) (x4 : Int32) (x5 : Int32) (Ω : zo_O) : Option zo_R :=
  ci (fn_J2_size N 0 Ω) fun r2 Ω1 =>
  if r2 ≤ x5 then (
    fn_X1_binds_60 N K3 N x1 x2 x3 x4 0 Ω1
    ) else
  ix x5 14 fun j4 =>
  cn (gR Ω1 41 0 j4) 18 (
    fn_X1_binds_51 N K3 K14 x1 x2 x3 x4 x5 Ω1
    ) fun n5 =>
  ix x5 14 fun j6 =>
  bk (gR Ω1 41 0 j6) 18 fun n7 =>
  ci (fn_X22_isNone N n7 Ω1) fun r10 Ω9 =>
  if r10 = 0 then (
    fn_X1_binds_51 N K3 K14 x1 x2 x3 x4 x5 Ω9
    ) else
  rZ 0 Ω9
theorem cb_X1_binds_14 {Y : zo_Y} (hY : zo_Gd Y cX1_binds 6 RX1 3) (hJ : zo_JC (zo_J Y)) (hCon : ∀ Ω, zo_J Y Ω → zo_Con Ω) (hr : zo_rt Y (Option.some Jvm.ClassFile.FieldType.boolean)) (N : Nat) (K3 : Int32 → Int32 → Int32 → Int32 → zo_O → Option zo_R) (K14 : Int32 → Int32 → Int32 → Int32 → Int32 → zo_O → Option zo_R) (hK3 : ∀ (x1 : Int32) (x2 : Int32) (x3 : Int32) (x4 : Int32) (Ω : zo_O) (res : zo_R), K3 x1 x2 x3 x4 Ω = some res → TW Y res Ω 3 [(0, vr 0 0), (1, vi x1), (2, vi x2), (3, vi x3), (4, vi x4)] []) (hK14 : ∀ (x1 : Int32) (x2 : Int32) (x3 : Int32) (x4 : Int32) (x5 : Int32) (Ω : zo_O) (res : zo_R), K14 x1 x2 x3 x4 x5 Ω = some res → TW Y res Ω 14 [(0, vr 0 0), (1, vi x1), (2, vi x2), (3, vi x3), (4, vi x4), (5, vi x5)] []) (x1 : Int32) (x2 : Int32) (x3 : Int32) (x4 : Int32) (x5 : Int32) (Ω : zo_O) (res : zo_R) (h : bd_X1_binds_14 N K3 K14 x1 x2 x3 x4 x5 Ω = some res) : TW Y res Ω 14 [(0, vr 0 0), (1, vi x1), (2, vi x2), (3, vi x3), (4, vi x4), (5, vi x5)] [] := by
  unfold bd_X1_binds_14 at h
  refine zo_iload hY dX1_binds_14 5 rfl ?_
  refine zo_aload_n hY dX1_binds_16 rfl 0 rfl ?_
  refine zo_getC hY LX1_16_0 rfl (fun Ω q => (hCon Ω q).1 0 _ rfl) dX1_binds_17 ?_
  refine zo_callV hY (fun q hq => mt_J2_size hJ hCon N 0 Ω q hq) (by decide) (by decide) (by decide) ⟨rfl, cn_J2_size⟩ rfl q245 q246 q247 q81 q248 (Nat.le_of_ble_eq_true rfl) dX1_binds_20 rfl h (ci_k (fun r2 Ω1 res h => ?_))
  refine zo_icmp_ge hY 57 dX1_binds_23 (by decide) h (fun c3 h => ?_) (fun c3 h => ?_)
  · refine zo_iconst hY 0 (by decide) dX1_binds_57 ?_
    refine zo_istore hY dX1_binds_58 (by decide) rfl (ls' := [(5, vi 0), (0, vr 0 0), (1, vi x1), (2, vi x2), (3, vi x3), (4, vi x4)]) rfl ?_
    refine zo_sub [1, 2, 3, 4, 5, 0] rfl ?_
    exact ct_X1_binds_60 hY hJ hCon hr N K3 hK3 N x1 x2 x3 x4 0 Ω1 _ h
  · refine zo_aload_n hY dX1_binds_26 rfl 0 rfl ?_
    refine zo_getC hY LX1_78_0 rfl (fun Ω q => (hCon Ω q).1 20 _ rfl) dX1_binds_27 ?_
    refine zo_iload hY dX1_binds_30 5 rfl ?_
    refine zo_aldR hY (by decide) (by decide) rfl dX1_binds_32 (fun q => (hCon _ q).2.2.2 41 0 14 rfl) h (fun j4 h => ?_)
    refine zo_ifnull hY (K := 18) 51 dX1_binds_33 (by decide) h (fun e12 h => ?_) (fun n5 e12 h => ?_)
    · exact ct_X1_binds_51 hY hJ hCon hr N K3 K14 hK3 hK14 x1 x2 x3 x4 x5 Ω1 _ h
    · skip
      refine zo_aload_n hY dX1_binds_36 rfl 0 rfl ?_
      refine zo_getC hY LX1_78_0 rfl (fun Ω q => (hCon Ω q).1 20 _ rfl) dX1_binds_37 ?_
      refine zo_iload hY dX1_binds_40 5 rfl ?_
      refine zo_aldR hY (by decide) (by decide) rfl dX1_binds_42 (fun q => (hCon _ q).2.2.2 41 0 14 rfl) h (fun j6 h => ?_)
      obtain ⟨n7, e8, h⟩ := bk_e h
      rw [e8]
      refine zo_callV hY (fun q hq => mt_X22_isNone hJ hCon N n7 Ω1 q hq) (by decide) (by decide) (by decide) ⟨rfl, cn_X22_isNone⟩ rfl q1122 q1123 q1124 q116 q1125 (Nat.le_of_ble_eq_true rfl) dX1_binds_43 rfl h (ci_k (fun r10 Ω9 res h => ?_))
      refine zo_if_eq hY 51 dX1_binds_46 (by decide) h (fun c11 h => ?_) (fun c11 h => ?_)
      · exact ct_X1_binds_51 hY hJ hCon hr N K3 K14 hK3 hK14 x1 x2 x3 x4 x5 Ω9 _ h
      · refine zo_iconst hY 0 (by decide) dX1_binds_49 ?_
        exact zo_zret hY hr dX1_binds_50 h
def fn_X1_binds_14 (N : Nat) (K3 : Int32 → Int32 → Int32 → Int32 → zo_O → Option zo_R) : Nat → Int32 → Int32 → Int32 → Int32 → Int32 → zo_O → Option zo_R
  | 0, _, _, _, _, _, _ => none
  | n + 1, x1, x2, x3, x4, x5, Ω => bd_X1_binds_14 N K3 (fn_X1_binds_14 N K3 n) x1 x2 x3 x4 x5 Ω
theorem ct_X1_binds_14 {Y : zo_Y} (hY : zo_Gd Y cX1_binds 6 RX1 3) (hJ : zo_JC (zo_J Y)) (hCon : ∀ Ω, zo_J Y Ω → zo_Con Ω) (hr : zo_rt Y (Option.some Jvm.ClassFile.FieldType.boolean)) (N : Nat) (K3 : Int32 → Int32 → Int32 → Int32 → zo_O → Option zo_R) (hK3 : ∀ (x1 : Int32) (x2 : Int32) (x3 : Int32) (x4 : Int32) (Ω : zo_O) (res : zo_R), K3 x1 x2 x3 x4 Ω = some res → TW Y res Ω 3 [(0, vr 0 0), (1, vi x1), (2, vi x2), (3, vi x3), (4, vi x4)] []) : ∀ (n : Nat) (x1 : Int32) (x2 : Int32) (x3 : Int32) (x4 : Int32) (x5 : Int32) (Ω : zo_O) (res : zo_R), fn_X1_binds_14 N K3 n x1 x2 x3 x4 x5 Ω = some res → TW Y res Ω 14 [(0, vr 0 0), (1, vi x1), (2, vi x2), (3, vi x3), (4, vi x4), (5, vi x5)] [] := by
  intro n
  induction n with
  | zero => intro x1 x2 x3 x4 x5 Ω res h; exact nomatch (show (none : Option zo_R) = some res from h)
  | succ n ih => intro x1 x2 x3 x4 x5 Ω res h; exact cb_X1_binds_14 hY hJ hCon hr N K3 (fn_X1_binds_14 N K3 n) hK3 ih x1 x2 x3 x4 x5 Ω res h
def bd_X1_binds_3 (N : Nat)  (K3 : Int32 → Int32 → Int32 → Int32 → zo_O → Option zo_R) (x1 : Int32) (x2 : Int32) (x3 : Int32) (x4 : Int32) (Ω : zo_O) : Option zo_R :=
  if x4 = 0 then (
    rZ 1 Ω
    ) else
  fn_X1_binds_14 N K3 N x1 x2 x3 0 0 Ω
theorem cb_X1_binds_3 {Y : zo_Y} (hY : zo_Gd Y cX1_binds 6 RX1 3) (hJ : zo_JC (zo_J Y)) (hCon : ∀ Ω, zo_J Y Ω → zo_Con Ω) (hr : zo_rt Y (Option.some Jvm.ClassFile.FieldType.boolean)) (N : Nat)  (K3 : Int32 → Int32 → Int32 → Int32 → zo_O → Option zo_R)  (hK3 : ∀ (x1 : Int32) (x2 : Int32) (x3 : Int32) (x4 : Int32) (Ω : zo_O) (res : zo_R), K3 x1 x2 x3 x4 Ω = some res → TW Y res Ω 3 [(0, vr 0 0), (1, vi x1), (2, vi x2), (3, vi x3), (4, vi x4)] []) (x1 : Int32) (x2 : Int32) (x3 : Int32) (x4 : Int32) (Ω : zo_O) (res : zo_R) (h : bd_X1_binds_3 N  K3 x1 x2 x3 x4 Ω = some res) : TW Y res Ω 3 [(0, vr 0 0), (1, vi x1), (2, vi x2), (3, vi x3), (4, vi x4)] [] := by
  unfold bd_X1_binds_3 at h
  refine zo_iload hY dX1_binds_3 4 rfl ?_
  refine zo_if_eq hY 199 dX1_binds_5 (by decide) h (fun c1 h => ?_) (fun c1 h => ?_)
  · refine zo_iconst hY 1 (by decide) dX1_binds_199 ?_
    exact zo_zret hY hr dX1_binds_200 h
  · refine zo_iconst hY 0 (by decide) dX1_binds_8 ?_
    refine zo_istore hY dX1_binds_9 (by decide) rfl (ls' := [(4, vi 0), (0, vr 0 0), (1, vi x1), (2, vi x2), (3, vi x3)]) rfl ?_
    refine zo_iconst hY 0 (by decide) dX1_binds_11 ?_
    refine zo_istore hY dX1_binds_12 (by decide) rfl (ls' := [(5, vi 0), (4, vi 0), (0, vr 0 0), (1, vi x1), (2, vi x2), (3, vi x3)]) rfl ?_
    refine zo_sub [2, 3, 4, 5, 1, 0] rfl ?_
    exact ct_X1_binds_14 hY hJ hCon hr N K3 hK3 N x1 x2 x3 0 0 Ω _ h
def fn_X1_binds_3 (N : Nat)  : Nat → Int32 → Int32 → Int32 → Int32 → zo_O → Option zo_R
  | 0, _, _, _, _, _ => none
  | n + 1, x1, x2, x3, x4, Ω => bd_X1_binds_3 N  (fn_X1_binds_3 N  n) x1 x2 x3 x4 Ω
theorem ct_X1_binds_3 {Y : zo_Y} (hY : zo_Gd Y cX1_binds 6 RX1 3) (hJ : zo_JC (zo_J Y)) (hCon : ∀ Ω, zo_J Y Ω → zo_Con Ω) (hr : zo_rt Y (Option.some Jvm.ClassFile.FieldType.boolean)) (N : Nat)   : ∀ (n : Nat) (x1 : Int32) (x2 : Int32) (x3 : Int32) (x4 : Int32) (Ω : zo_O) (res : zo_R), fn_X1_binds_3 N  n x1 x2 x3 x4 Ω = some res → TW Y res Ω 3 [(0, vr 0 0), (1, vi x1), (2, vi x2), (3, vi x3), (4, vi x4)] [] := by
  intro n
  induction n with
  | zero => intro x1 x2 x3 x4 Ω res h; exact nomatch (show (none : Option zo_R) = some res from h)
  | succ n ih => intro x1 x2 x3 x4 Ω res h; exact cb_X1_binds_3 hY hJ hCon hr N  (fn_X1_binds_3 N  n)  ih x1 x2 x3 x4 Ω res h
def fn_X1_binds (N : Nat) (x1 : Int32) (x2 : Int32) (x3 : Int32) (Ω : zo_O) : Option zo_R :=
  fn_X1_binds_3 N N x1 x2 x3 1 Ω
theorem mt_X1_binds {G : zo_G} {J : zo_O → Prop} (hJ : zo_JC J) (hCon : ∀ Ω, J Ω → zo_Con Ω) (N : Nat) (x1 : Int32) (x2 : Int32) (x3 : Int32) (Ω : zo_O) (res : zo_R) (h : fn_X1_binds N x1 x2 x3 Ω = some res) : zo_MT G J yX1_binds cX1_binds 6 (Option.some Jvm.ClassFile.FieldType.boolean) 3 [vr 0 0, vi x1, vi x2, vi x3] Ω res := by
  refine zo_enter (by decide) rfl (Nat.le_of_ble_eq_true rfl) (fun Y hY eJ hr hmn => ?_)
  subst eJ
  show TW Y res Ω 0 [(0, vr 0 0), (1, vi x1), (2, vi x2), (3, vi x3)] []
  unfold fn_X1_binds at h
  refine zo_iconst hY 1 (by decide) dX1_binds_0 ?_
  refine zo_istore hY dX1_binds_1 (by decide) rfl (ls' := [(4, vi 1), (0, vr 0 0), (1, vi x1), (2, vi x2), (3, vi x3)]) rfl ?_
  refine zo_sub [1, 2, 3, 4, 0] rfl ?_
  exact ct_X1_binds_3 hY hJ hCon hr N N x1 x2 x3 1 Ω _ h
theorem dX1_bound_0 : decode cX1_bound 0 = .ok (.aload_n 0, 1) := by decide +kernel
theorem dX1_bound_1 : decode cX1_bound 1 = .ok (.iload_n 1, 1) := by decide +kernel
theorem dX1_bound_2 : decode cX1_bound 2 = .ok (.iload_n 2, 1) := by decide +kernel
theorem dX1_bound_3 : decode cX1_bound 3 = .ok (.invokevirtual 352, 3) := by decide +kernel
theorem dX1_bound_6 : decode cX1_bound 6 = .ok (.ifCond .eq 12, 3) := by decide +kernel
theorem dX1_bound_9 : decode cX1_bound 9 = .ok (.iload_n 3, 1) := by decide +kernel
theorem dX1_bound_10 : decode cX1_bound 10 = .ok (.iconst 0, 1) := by decide +kernel
theorem dX1_bound_11 : decode cX1_bound 11 = .ok (.iconst 1, 1) := by decide +kernel
theorem dX1_bound_12 : decode cX1_bound 12 = .ok (.invokestatic 3, 3) := by decide +kernel
theorem dX1_bound_15 : decode cX1_bound 15 = .ok (.ifCond .ne 5, 3) := by decide +kernel
theorem dX1_bound_18 : decode cX1_bound 18 = .ok (.iconst (-1), 1) := by decide +kernel
theorem dX1_bound_19 : decode cX1_bound 19 = .ok (.ireturn, 1) := by decide +kernel
theorem dX1_bound_20 : decode cX1_bound 20 = .ok (.aload_n 0, 1) := by decide +kernel
theorem dX1_bound_21 : decode cX1_bound 21 = .ok (.iload_n 2, 1) := by decide +kernel
theorem dX1_bound_22 : decode cX1_bound 22 = .ok (.invokevirtual 370, 3) := by decide +kernel
theorem dX1_bound_25 : decode cX1_bound 25 = .ok (.aload_n 0, 1) := by decide +kernel
theorem dX1_bound_26 : decode cX1_bound 26 = .ok (.iload_n 2, 1) := by decide +kernel
theorem dX1_bound_27 : decode cX1_bound 27 = .ok (.iconst (-1), 1) := by decide +kernel
theorem dX1_bound_28 : decode cX1_bound 28 = .ok (.iconst (-1), 1) := by decide +kernel
theorem dX1_bound_29 : decode cX1_bound 29 = .ok (.invokevirtual 373, 3) := by decide +kernel
theorem dX1_bound_32 : decode cX1_bound 32 = .ok (.ifCond .ne 8, 3) := by decide +kernel
theorem dX1_bound_35 : decode cX1_bound 35 = .ok (.bipush (-2), 2) := by decide +kernel
theorem dX1_bound_37 : decode cX1_bound 37 = .ok (.goto 28, 3) := by decide +kernel
theorem dX1_bound_40 : decode cX1_bound 40 = .ok (.iload_n 3, 1) := by decide +kernel
theorem dX1_bound_41 : decode cX1_bound 41 = .ok (.ifCond .ne 15, 3) := by decide +kernel
theorem dX1_bound_44 : decode cX1_bound 44 = .ok (.aload_n 0, 1) := by decide +kernel
theorem dX1_bound_45 : decode cX1_bound 45 = .ok (.getfield 78, 3) := by decide +kernel
theorem dX1_bound_48 : decode cX1_bound 48 = .ok (.iload_n 1, 1) := by decide +kernel
theorem dX1_bound_49 : decode cX1_bound 49 = .ok (.aaload, 1) := by decide +kernel
theorem dX1_bound_50 : decode cX1_bound 50 = .ok (.getfield 361, 3) := by decide +kernel
theorem dX1_bound_53 : decode cX1_bound 53 = .ok (.goto 12, 3) := by decide +kernel
theorem dX1_bound_56 : decode cX1_bound 56 = .ok (.aload_n 0, 1) := by decide +kernel
theorem dX1_bound_57 : decode cX1_bound 57 = .ok (.getfield 78, 3) := by decide +kernel
theorem dX1_bound_60 : decode cX1_bound 60 = .ok (.iload_n 1, 1) := by decide +kernel
theorem dX1_bound_61 : decode cX1_bound 61 = .ok (.aaload, 1) := by decide +kernel
theorem dX1_bound_62 : decode cX1_bound 62 = .ok (.getfield 362, 3) := by decide +kernel
theorem dX1_bound_65 : decode cX1_bound 65 = .ok (.ireturn, 1) := by decide +kernel
def fn_X1_bound_18 (N : Nat)   (Ω : zo_O) : Option zo_R :=
  rI ((-1)) Ω
theorem ct_X1_bound_18 {Y : zo_Y} (hY : zo_Gd Y cX1_bound 4 RX1 12) (hJ : zo_JC (zo_J Y)) (hCon : ∀ Ω, zo_J Y Ω → zo_Con Ω) (hr : zo_rt Y (Option.some Jvm.ClassFile.FieldType.int)) (N : Nat)    (Ω : zo_O) (res : zo_R) (h : fn_X1_bound_18 N   Ω = some res) : TW Y res Ω 18 [] [] := by
  unfold fn_X1_bound_18 at h
  refine zo_iconst hY (-1) (by decide) dX1_bound_18 ?_
  exact zo_iret hY hr dX1_bound_19 h
def fn_X1_bound_65 (N : Nat)  (s0 : Int32) (Ω : zo_O) : Option zo_R :=
  rI s0 Ω
theorem ct_X1_bound_65 {Y : zo_Y} (hY : zo_Gd Y cX1_bound 4 RX1 12) (hJ : zo_JC (zo_J Y)) (hCon : ∀ Ω, zo_J Y Ω → zo_Con Ω) (hr : zo_rt Y (Option.some Jvm.ClassFile.FieldType.int)) (N : Nat)   (s0 : Int32) (Ω : zo_O) (res : zo_R) (h : fn_X1_bound_65 N  s0 Ω = some res) : TW Y res Ω 65 [] [vi s0] := by
  unfold fn_X1_bound_65 at h
  exact zo_iret hY hr dX1_bound_65 h
def fn_X1_bound (N : Nat) (x1 : Int32) (x2 : Int32) (x3 : Int32) (Ω : zo_O) : Option zo_R :=
  ci (fn_X1_isThere N x1 x2 Ω) fun r2 Ω1 =>
  if r2 = 0 then (
    fn_X1_bound_18 N Ω1
    ) else
  ci (fn_X1_in N x3 0 1 Ω1) fun r5 Ω4 =>
  if r5 = 0 then (
    fn_X1_bound_18 N Ω4
    ) else
  cv (fn_X1_findSpans N x2 Ω4) fun Ω7 =>
  ci (fn_X1_binds N x2 ((-1)) ((-1)) Ω7) fun r9 Ω8 =>
  if r9 = 0 then (
    fn_X1_bound_65 N ((-2)) Ω8
    ) else
  if x3 = 0 then (
    ix x1 14 fun j12 =>
    bk (gR Ω8 41 0 j12) 18 fun n13 =>
    fn_X1_bound_65 N (gI Ω8 18 n13 0) Ω8
    ) else
  ix x1 14 fun j15 =>
  bk (gR Ω8 41 0 j15) 18 fun n16 =>
  fn_X1_bound_65 N (gI Ω8 18 n16 1) Ω8
theorem mt_X1_bound {G : zo_G} {J : zo_O → Prop} (hJ : zo_JC J) (hCon : ∀ Ω, J Ω → zo_Con Ω) (N : Nat) (x1 : Int32) (x2 : Int32) (x3 : Int32) (Ω : zo_O) (res : zo_R) (h : fn_X1_bound N x1 x2 x3 Ω = some res) : zo_MT G J yX1_bound cX1_bound 4 (Option.some Jvm.ClassFile.FieldType.int) 12 [vr 0 0, vi x1, vi x2, vi x3] Ω res := by
  refine zo_enter (by decide) rfl (Nat.le_of_ble_eq_true rfl) (fun Y hY eJ hr hmn => ?_)
  subst eJ
  show TW Y res Ω 0 [(0, vr 0 0), (1, vi x1), (2, vi x2), (3, vi x3)] []
  unfold fn_X1_bound at h
  refine zo_aload_n hY dX1_bound_0 rfl 0 rfl ?_
  refine zo_iload_n hY dX1_bound_1 rfl 1 rfl ?_
  refine zo_iload_n hY dX1_bound_2 rfl 2 rfl ?_
  refine zo_callV hY (fun q hq => mt_X1_isThere hJ hCon N x1 x2 Ω q hq) (by decide) (by decide) (by decide) ⟨rfl, cn_X1_isThere⟩ rfl q1076 q1078 qs31 q78 q1079 (Nat.le_of_ble_eq_true rfl) dX1_bound_3 rfl h (ci_k (fun r2 Ω1 res h => ?_))
  refine zo_if_eq hY 18 dX1_bound_6 (by decide) h (fun c3 h => ?_) (fun c3 h => ?_)
  · refine zo_sub [] rfl ?_
    exact ct_X1_bound_18 hY hJ hCon hr N Ω1 _ h
  · refine zo_iload_n hY dX1_bound_9 rfl 3 rfl ?_
    refine zo_iconst hY 0 (by decide) dX1_bound_10 ?_
    refine zo_iconst hY 1 (by decide) dX1_bound_11 ?_
    refine zo_callS hY (fun q hq => mt_X1_in hJ hCon N x3 0 1 Ω1 q hq) (by decide) (by decide) cn_X1_in rfl q239 q240 q78 q241 (Nat.le_of_ble_eq_true rfl) dX1_bound_12 rfl h (ci_k (fun r5 Ω4 res h => ?_))
    refine zo_if_ne hY 20 dX1_bound_15 (by decide) h (fun c6 h => ?_) (fun c6 h => ?_)
    · refine zo_sub [] rfl ?_
      exact ct_X1_bound_18 hY hJ hCon hr N Ω4 _ h
    · refine zo_aload_n hY dX1_bound_20 rfl 0 rfl ?_
      refine zo_iload_n hY dX1_bound_21 rfl 2 rfl ?_
      refine zo_callV hY (fun q hq => mt_X1_findSpans hJ hCon N x2 Ω4 q hq) (by decide) (by decide) (by decide) ⟨rfl, cn_X1_findSpans⟩ rfl q1130 q1132 qs34 q78 q1133 (Nat.le_of_ble_eq_true rfl) dX1_bound_22 rfl h (cv_k (fun Ω7 res h => ?_))
      refine zo_aload_n hY dX1_bound_25 rfl 0 rfl ?_
      refine zo_iload_n hY dX1_bound_26 rfl 2 rfl ?_
      refine zo_iconst hY (-1) (by decide) dX1_bound_27 ?_
      refine zo_iconst hY (-1) (by decide) dX1_bound_28 ?_
      refine zo_callV hY (fun q hq => mt_X1_binds hJ hCon N x2 ((-1)) ((-1)) Ω7 q hq) (by decide) (by decide) (by decide) ⟨rfl, cn_X1_binds⟩ rfl q1134 q1136 qs35 q78 q1137 (Nat.le_of_ble_eq_true rfl) dX1_bound_29 rfl h (ci_k (fun r9 Ω8 res h => ?_))
      refine zo_if_ne hY 40 dX1_bound_32 (by decide) h (fun c10 h => ?_) (fun c10 h => ?_)
      · refine zo_bipush hY (-2) (by decide) dX1_bound_35 ?_
        refine zo_goto hY 65 dX1_bound_37 (by decide) ?_
        refine zo_sub [] rfl ?_
        exact ct_X1_bound_65 hY hJ hCon hr N ((-2)) Ω8 _ h
      · refine zo_iload_n hY dX1_bound_40 rfl 3 rfl ?_
        refine zo_if_ne hY 56 dX1_bound_41 (by decide) h (fun c11 h => ?_) (fun c11 h => ?_)
        · refine zo_aload_n hY dX1_bound_44 rfl 0 rfl ?_
          refine zo_getC hY LX1_78_0 rfl (fun Ω q => (hCon Ω q).1 20 _ rfl) dX1_bound_45 ?_
          refine zo_iload_n hY dX1_bound_48 rfl 1 rfl ?_
          refine zo_aldR hY (by decide) (by decide) rfl dX1_bound_49 (fun q => (hCon _ q).2.2.2 41 0 14 rfl) h (fun j12 h => ?_)
          obtain ⟨n13, e14, h⟩ := bk_e h
          rw [e14]
          refine zo_getI hY LX1_361_18 rfl dX1_bound_50 ?_
          refine zo_goto hY 65 dX1_bound_53 (by decide) ?_
          refine zo_sub [] rfl ?_
          exact ct_X1_bound_65 hY hJ hCon hr N (gI Ω8 18 n13 0) Ω8 _ h
        · refine zo_aload_n hY dX1_bound_56 rfl 0 rfl ?_
          refine zo_getC hY LX1_78_0 rfl (fun Ω q => (hCon Ω q).1 20 _ rfl) dX1_bound_57 ?_
          refine zo_iload_n hY dX1_bound_60 rfl 1 rfl ?_
          refine zo_aldR hY (by decide) (by decide) rfl dX1_bound_61 (fun q => (hCon _ q).2.2.2 41 0 14 rfl) h (fun j15 h => ?_)
          obtain ⟨n16, e17, h⟩ := bk_e h
          rw [e17]
          refine zo_getI hY LX1_362_18 rfl dX1_bound_62 ?_
          refine zo_sub [] rfl ?_
          exact ct_X1_bound_65 hY hJ hCon hr N (gI Ω8 18 n16 1) Ω8 _ h
theorem dX1_same_0 : decode cX1_same 0 = .ok (.aload_n 0, 1) := by decide +kernel
theorem dX1_same_1 : decode cX1_same 1 = .ok (.iload_n 1, 1) := by decide +kernel
theorem dX1_same_2 : decode cX1_same 2 = .ok (.iload_n 3, 1) := by decide +kernel
theorem dX1_same_3 : decode cX1_same 3 = .ok (.invokevirtual 352, 3) := by decide +kernel
theorem dX1_same_6 : decode cX1_same 6 = .ok (.ifCond .eq 17, 3) := by decide +kernel
theorem dX1_same_9 : decode cX1_same 9 = .ok (.aload_n 0, 1) := by decide +kernel
theorem dX1_same_10 : decode cX1_same 10 = .ok (.iload_n 2, 1) := by decide +kernel
theorem dX1_same_11 : decode cX1_same 11 = .ok (.iload_n 3, 1) := by decide +kernel
theorem dX1_same_12 : decode cX1_same 12 = .ok (.invokevirtual 352, 3) := by decide +kernel
theorem dX1_same_15 : decode cX1_same 15 = .ok (.ifCond .eq 8, 3) := by decide +kernel
theorem dX1_same_18 : decode cX1_same 18 = .ok (.iload_n 1, 1) := by decide +kernel
theorem dX1_same_19 : decode cX1_same 19 = .ok (.iload_n 2, 1) := by decide +kernel
theorem dX1_same_20 : decode cX1_same 20 = .ok (.if_icmp .ne 5, 3) := by decide +kernel
theorem dX1_same_23 : decode cX1_same 23 = .ok (.iconst (-1), 1) := by decide +kernel
theorem dX1_same_24 : decode cX1_same 24 = .ok (.ireturn, 1) := by decide +kernel
theorem dX1_same_25 : decode cX1_same 25 = .ok (.aload_n 0, 1) := by decide +kernel
theorem dX1_same_26 : decode cX1_same 26 = .ok (.iload_n 3, 1) := by decide +kernel
theorem dX1_same_27 : decode cX1_same 27 = .ok (.invokevirtual 370, 3) := by decide +kernel
theorem dX1_same_30 : decode cX1_same 30 = .ok (.aload_n 0, 1) := by decide +kernel
theorem dX1_same_31 : decode cX1_same 31 = .ok (.iload_n 3, 1) := by decide +kernel
theorem dX1_same_32 : decode cX1_same 32 = .ok (.iconst (-1), 1) := by decide +kernel
theorem dX1_same_33 : decode cX1_same 33 = .ok (.iconst (-1), 1) := by decide +kernel
theorem dX1_same_34 : decode cX1_same 34 = .ok (.invokevirtual 373, 3) := by decide +kernel
theorem dX1_same_37 : decode cX1_same 37 = .ok (.ifCond .ne 6, 3) := by decide +kernel
theorem dX1_same_40 : decode cX1_same 40 = .ok (.bipush (-2), 2) := by decide +kernel
theorem dX1_same_42 : decode cX1_same 42 = .ok (.ireturn, 1) := by decide +kernel
theorem dX1_same_43 : decode cX1_same 43 = .ok (.aload_n 0, 1) := by decide +kernel
theorem dX1_same_44 : decode cX1_same 44 = .ok (.iload_n 3, 1) := by decide +kernel
theorem dX1_same_45 : decode cX1_same 45 = .ok (.iload_n 1, 1) := by decide +kernel
theorem dX1_same_46 : decode cX1_same 46 = .ok (.iload_n 2, 1) := by decide +kernel
theorem dX1_same_47 : decode cX1_same 47 = .ok (.invokevirtual 373, 3) := by decide +kernel
theorem dX1_same_50 : decode cX1_same 50 = .ok (.ifCond .eq 7, 3) := by decide +kernel
theorem dX1_same_53 : decode cX1_same 53 = .ok (.iconst 1, 1) := by decide +kernel
theorem dX1_same_54 : decode cX1_same 54 = .ok (.goto 4, 3) := by decide +kernel
theorem dX1_same_57 : decode cX1_same 57 = .ok (.iconst 0, 1) := by decide +kernel
theorem dX1_same_58 : decode cX1_same 58 = .ok (.ireturn, 1) := by decide +kernel
def fn_X1_same_23 (N : Nat)   (Ω : zo_O) : Option zo_R :=
  rI ((-1)) Ω
theorem ct_X1_same_23 {Y : zo_Y} (hY : zo_Gd Y cX1_same 4 RX1 12) (hJ : zo_JC (zo_J Y)) (hCon : ∀ Ω, zo_J Y Ω → zo_Con Ω) (hr : zo_rt Y (Option.some Jvm.ClassFile.FieldType.int)) (N : Nat)    (Ω : zo_O) (res : zo_R) (h : fn_X1_same_23 N   Ω = some res) : TW Y res Ω 23 [] [] := by
  unfold fn_X1_same_23 at h
  refine zo_iconst hY (-1) (by decide) dX1_same_23 ?_
  exact zo_iret hY hr dX1_same_24 h
def fn_X1_same_58 (N : Nat)  (s0 : Int32) (Ω : zo_O) : Option zo_R :=
  rI s0 Ω
theorem ct_X1_same_58 {Y : zo_Y} (hY : zo_Gd Y cX1_same 4 RX1 12) (hJ : zo_JC (zo_J Y)) (hCon : ∀ Ω, zo_J Y Ω → zo_Con Ω) (hr : zo_rt Y (Option.some Jvm.ClassFile.FieldType.int)) (N : Nat)   (s0 : Int32) (Ω : zo_O) (res : zo_R) (h : fn_X1_same_58 N  s0 Ω = some res) : TW Y res Ω 58 [] [vi s0] := by
  unfold fn_X1_same_58 at h
  exact zo_iret hY hr dX1_same_58 h
def fn_X1_same (N : Nat) (x1 : Int32) (x2 : Int32) (x3 : Int32) (Ω : zo_O) : Option zo_R :=
  ci (fn_X1_isThere N x1 x3 Ω) fun r2 Ω1 =>
  if r2 = 0 then (
    fn_X1_same_23 N Ω1
    ) else
  ci (fn_X1_isThere N x2 x3 Ω1) fun r5 Ω4 =>
  if r5 = 0 then (
    fn_X1_same_23 N Ω4
    ) else
  if x1 = x2 then (
    fn_X1_same_23 N Ω4
    ) else
  cv (fn_X1_findSpans N x3 Ω4) fun Ω8 =>
  ci (fn_X1_binds N x3 ((-1)) ((-1)) Ω8) fun r10 Ω9 =>
  if r10 = 0 then (
    rI ((-2)) Ω9
    ) else
  ci (fn_X1_binds N x3 x1 x2 Ω9) fun r13 Ω12 =>
  if r13 = 0 then (
    fn_X1_same_58 N 0 Ω12
    ) else
  fn_X1_same_58 N 1 Ω12
theorem mt_X1_same {G : zo_G} {J : zo_O → Prop} (hJ : zo_JC J) (hCon : ∀ Ω, J Ω → zo_Con Ω) (N : Nat) (x1 : Int32) (x2 : Int32) (x3 : Int32) (Ω : zo_O) (res : zo_R) (h : fn_X1_same N x1 x2 x3 Ω = some res) : zo_MT G J yX1_same cX1_same 4 (Option.some Jvm.ClassFile.FieldType.int) 12 [vr 0 0, vi x1, vi x2, vi x3] Ω res := by
  refine zo_enter (by decide) rfl (Nat.le_of_ble_eq_true rfl) (fun Y hY eJ hr hmn => ?_)
  subst eJ
  show TW Y res Ω 0 [(0, vr 0 0), (1, vi x1), (2, vi x2), (3, vi x3)] []
  unfold fn_X1_same at h
  refine zo_aload_n hY dX1_same_0 rfl 0 rfl ?_
  refine zo_iload_n hY dX1_same_1 rfl 1 rfl ?_
  refine zo_iload_n hY dX1_same_2 rfl 3 rfl ?_
  refine zo_callV hY (fun q hq => mt_X1_isThere hJ hCon N x1 x3 Ω q hq) (by decide) (by decide) (by decide) ⟨rfl, cn_X1_isThere⟩ rfl q1076 q1078 qs31 q78 q1079 (Nat.le_of_ble_eq_true rfl) dX1_same_3 rfl h (ci_k (fun r2 Ω1 res h => ?_))
  refine zo_if_eq hY 23 dX1_same_6 (by decide) h (fun c3 h => ?_) (fun c3 h => ?_)
  · refine zo_sub [] rfl ?_
    exact ct_X1_same_23 hY hJ hCon hr N Ω1 _ h
  · refine zo_aload_n hY dX1_same_9 rfl 0 rfl ?_
    refine zo_iload_n hY dX1_same_10 rfl 2 rfl ?_
    refine zo_iload_n hY dX1_same_11 rfl 3 rfl ?_
    refine zo_callV hY (fun q hq => mt_X1_isThere hJ hCon N x2 x3 Ω1 q hq) (by decide) (by decide) (by decide) ⟨rfl, cn_X1_isThere⟩ rfl q1076 q1078 qs31 q78 q1079 (Nat.le_of_ble_eq_true rfl) dX1_same_12 rfl h (ci_k (fun r5 Ω4 res h => ?_))
    refine zo_if_eq hY 23 dX1_same_15 (by decide) h (fun c6 h => ?_) (fun c6 h => ?_)
    · refine zo_sub [] rfl ?_
      exact ct_X1_same_23 hY hJ hCon hr N Ω4 _ h
    · refine zo_iload_n hY dX1_same_18 rfl 1 rfl ?_
      refine zo_iload_n hY dX1_same_19 rfl 2 rfl ?_
      refine zo_icmp_ne hY 25 dX1_same_20 (by decide) h (fun c7 h => ?_) (fun c7 h => ?_)
      · refine zo_sub [] rfl ?_
        exact ct_X1_same_23 hY hJ hCon hr N Ω4 _ h
      · refine zo_aload_n hY dX1_same_25 rfl 0 rfl ?_
        refine zo_iload_n hY dX1_same_26 rfl 3 rfl ?_
        refine zo_callV hY (fun q hq => mt_X1_findSpans hJ hCon N x3 Ω4 q hq) (by decide) (by decide) (by decide) ⟨rfl, cn_X1_findSpans⟩ rfl q1130 q1132 qs34 q78 q1133 (Nat.le_of_ble_eq_true rfl) dX1_same_27 rfl h (cv_k (fun Ω8 res h => ?_))
        refine zo_aload_n hY dX1_same_30 rfl 0 rfl ?_
        refine zo_iload_n hY dX1_same_31 rfl 3 rfl ?_
        refine zo_iconst hY (-1) (by decide) dX1_same_32 ?_
        refine zo_iconst hY (-1) (by decide) dX1_same_33 ?_
        refine zo_callV hY (fun q hq => mt_X1_binds hJ hCon N x3 ((-1)) ((-1)) Ω8 q hq) (by decide) (by decide) (by decide) ⟨rfl, cn_X1_binds⟩ rfl q1134 q1136 qs35 q78 q1137 (Nat.le_of_ble_eq_true rfl) dX1_same_34 rfl h (ci_k (fun r10 Ω9 res h => ?_))
        refine zo_if_ne hY 43 dX1_same_37 (by decide) h (fun c11 h => ?_) (fun c11 h => ?_)
        · refine zo_bipush hY (-2) (by decide) dX1_same_40 ?_
          exact zo_iret hY hr dX1_same_42 h
        · refine zo_aload_n hY dX1_same_43 rfl 0 rfl ?_
          refine zo_iload_n hY dX1_same_44 rfl 3 rfl ?_
          refine zo_iload_n hY dX1_same_45 rfl 1 rfl ?_
          refine zo_iload_n hY dX1_same_46 rfl 2 rfl ?_
          refine zo_callV hY (fun q hq => mt_X1_binds hJ hCon N x3 x1 x2 Ω9 q hq) (by decide) (by decide) (by decide) ⟨rfl, cn_X1_binds⟩ rfl q1134 q1136 qs35 q78 q1137 (Nat.le_of_ble_eq_true rfl) dX1_same_47 rfl h (ci_k (fun r13 Ω12 res h => ?_))
          refine zo_if_eq hY 57 dX1_same_50 (by decide) h (fun c14 h => ?_) (fun c14 h => ?_)
          · refine zo_iconst hY 0 (by decide) dX1_same_57 ?_
            refine zo_sub [] rfl ?_
            exact ct_X1_same_58 hY hJ hCon hr N 0 Ω12 _ h
          · refine zo_iconst hY 1 (by decide) dX1_same_53 ?_
            refine zo_goto hY 58 dX1_same_54 (by decide) ?_
            refine zo_sub [] rfl ?_
            exact ct_X1_same_58 hY hJ hCon hr N 1 Ω12 _ h
theorem dX1_claim_0 : decode cX1_claim 0 = .ok (.aload_n 0, 1) := by decide +kernel
theorem dX1_claim_1 : decode cX1_claim 1 = .ok (.iload_n 1, 1) := by decide +kernel
theorem dX1_claim_2 : decode cX1_claim 2 = .ok (.iload_n 3, 1) := by decide +kernel
theorem dX1_claim_3 : decode cX1_claim 3 = .ok (.invokevirtual 352, 3) := by decide +kernel
theorem dX1_claim_6 : decode cX1_claim 6 = .ok (.ifCond .eq 10, 3) := by decide +kernel
theorem dX1_claim_9 : decode cX1_claim 9 = .ok (.iload_n 2, 1) := by decide +kernel
theorem dX1_claim_10 : decode cX1_claim 10 = .ok (.invokestatic 89, 3) := by decide +kernel
theorem dX1_claim_13 : decode cX1_claim 13 = .ok (.ifCond .ne 5, 3) := by decide +kernel
theorem dX1_claim_16 : decode cX1_claim 16 = .ok (.iconst (-1), 1) := by decide +kernel
theorem dX1_claim_17 : decode cX1_claim 17 = .ok (.ireturn, 1) := by decide +kernel
theorem dX1_claim_18 : decode cX1_claim 18 = .ok (.aload_n 0, 1) := by decide +kernel
theorem dX1_claim_19 : decode cX1_claim 19 = .ok (.iload_n 3, 1) := by decide +kernel
theorem dX1_claim_20 : decode cX1_claim 20 = .ok (.invokevirtual 370, 3) := by decide +kernel
theorem dX1_claim_23 : decode cX1_claim 23 = .ok (.aload_n 0, 1) := by decide +kernel
theorem dX1_claim_24 : decode cX1_claim 24 = .ok (.iload_n 3, 1) := by decide +kernel
theorem dX1_claim_25 : decode cX1_claim 25 = .ok (.iconst (-1), 1) := by decide +kernel
theorem dX1_claim_26 : decode cX1_claim 26 = .ok (.iconst (-1), 1) := by decide +kernel
theorem dX1_claim_27 : decode cX1_claim 27 = .ok (.invokevirtual 373, 3) := by decide +kernel
theorem dX1_claim_30 : decode cX1_claim 30 = .ok (.ifCond .ne 6, 3) := by decide +kernel
theorem dX1_claim_33 : decode cX1_claim 33 = .ok (.bipush (-2), 2) := by decide +kernel
theorem dX1_claim_35 : decode cX1_claim 35 = .ok (.ireturn, 1) := by decide +kernel
theorem dX1_claim_36 : decode cX1_claim 36 = .ok (.aload_n 0, 1) := by decide +kernel
theorem dX1_claim_37 : decode cX1_claim 37 = .ok (.getfield 78, 3) := by decide +kernel
theorem dX1_claim_40 : decode cX1_claim 40 = .ok (.iload_n 1, 1) := by decide +kernel
theorem dX1_claim_41 : decode cX1_claim 41 = .ok (.aaload, 1) := by decide +kernel
theorem dX1_claim_42 : decode cX1_claim 42 = .ok (.iload_n 2, 1) := by decide +kernel
theorem dX1_claim_43 : decode cX1_claim 43 = .ok (.iload_n 2, 1) := by decide +kernel
theorem dX1_claim_44 : decode cX1_claim 44 = .ok (.invokevirtual 327, 3) := by decide +kernel
theorem dX1_claim_47 : decode cX1_claim 47 = .ok (.aload_n 0, 1) := by decide +kernel
theorem dX1_claim_48 : decode cX1_claim 48 = .ok (.iload_n 3, 1) := by decide +kernel
theorem dX1_claim_49 : decode cX1_claim 49 = .ok (.iconst (-1), 1) := by decide +kernel
theorem dX1_claim_50 : decode cX1_claim 50 = .ok (.iconst (-1), 1) := by decide +kernel
theorem dX1_claim_51 : decode cX1_claim 51 = .ok (.invokevirtual 373, 3) := by decide +kernel
theorem dX1_claim_54 : decode cX1_claim 54 = .ok (.ifCond .eq 7, 3) := by decide +kernel
theorem dX1_claim_57 : decode cX1_claim 57 = .ok (.iconst 1, 1) := by decide +kernel
theorem dX1_claim_58 : decode cX1_claim 58 = .ok (.goto 4, 3) := by decide +kernel
theorem dX1_claim_61 : decode cX1_claim 61 = .ok (.iconst 0, 1) := by decide +kernel
theorem dX1_claim_62 : decode cX1_claim 62 = .ok (.ireturn, 1) := by decide +kernel
def fn_X1_claim_16 (N : Nat)   (Ω : zo_O) : Option zo_R :=
  rI ((-1)) Ω
theorem ct_X1_claim_16 {Y : zo_Y} (hY : zo_Gd Y cX1_claim 4 RX1 12) (hJ : zo_JC (zo_J Y)) (hCon : ∀ Ω, zo_J Y Ω → zo_Con Ω) (hr : zo_rt Y (Option.some Jvm.ClassFile.FieldType.int)) (N : Nat)    (Ω : zo_O) (res : zo_R) (h : fn_X1_claim_16 N   Ω = some res) : TW Y res Ω 16 [] [] := by
  unfold fn_X1_claim_16 at h
  refine zo_iconst hY (-1) (by decide) dX1_claim_16 ?_
  exact zo_iret hY hr dX1_claim_17 h
def fn_X1_claim_62 (N : Nat)  (s0 : Int32) (Ω : zo_O) : Option zo_R :=
  rI s0 Ω
theorem ct_X1_claim_62 {Y : zo_Y} (hY : zo_Gd Y cX1_claim 4 RX1 12) (hJ : zo_JC (zo_J Y)) (hCon : ∀ Ω, zo_J Y Ω → zo_Con Ω) (hr : zo_rt Y (Option.some Jvm.ClassFile.FieldType.int)) (N : Nat)   (s0 : Int32) (Ω : zo_O) (res : zo_R) (h : fn_X1_claim_62 N  s0 Ω = some res) : TW Y res Ω 62 [] [vi s0] := by
  unfold fn_X1_claim_62 at h
  exact zo_iret hY hr dX1_claim_62 h
def fn_X1_claim (N : Nat) (x1 : Int32) (x2 : Int32) (x3 : Int32) (Ω : zo_O) : Option zo_R :=
  ci (fn_X1_isThere N x1 x3 Ω) fun r2 Ω1 =>
  if r2 = 0 then (
    fn_X1_claim_16 N Ω1
    ) else
  ci (fn_X1_isYear N x2 Ω1) fun r5 Ω4 =>
  if r5 = 0 then (
    fn_X1_claim_16 N Ω4
    ) else
  cv (fn_X1_findSpans N x3 Ω4) fun Ω7 =>
  ci (fn_X1_binds N x3 ((-1)) ((-1)) Ω7) fun r9 Ω8 =>
  if r9 = 0 then (
    rI ((-2)) Ω8
    ) else
  ix x1 14 fun j11 =>
  bk (gR Ω8 41 0 j11) 18 fun n12 =>
  cv (fn_X22_within N n12 x2 x2 Ω8) fun Ω14 =>
  ci (fn_X1_binds N x3 ((-1)) ((-1)) Ω14) fun r16 Ω15 =>
  if r16 = 0 then (
    fn_X1_claim_62 N 0 Ω15
    ) else
  fn_X1_claim_62 N 1 Ω15
theorem mt_X1_claim {G : zo_G} {J : zo_O → Prop} (hJ : zo_JC J) (hCon : ∀ Ω, J Ω → zo_Con Ω) (N : Nat) (x1 : Int32) (x2 : Int32) (x3 : Int32) (Ω : zo_O) (res : zo_R) (h : fn_X1_claim N x1 x2 x3 Ω = some res) : zo_MT G J yX1_claim cX1_claim 4 (Option.some Jvm.ClassFile.FieldType.int) 12 [vr 0 0, vi x1, vi x2, vi x3] Ω res := by
  refine zo_enter (by decide) rfl (Nat.le_of_ble_eq_true rfl) (fun Y hY eJ hr hmn => ?_)
  subst eJ
  show TW Y res Ω 0 [(0, vr 0 0), (1, vi x1), (2, vi x2), (3, vi x3)] []
  unfold fn_X1_claim at h
  refine zo_aload_n hY dX1_claim_0 rfl 0 rfl ?_
  refine zo_iload_n hY dX1_claim_1 rfl 1 rfl ?_
  refine zo_iload_n hY dX1_claim_2 rfl 3 rfl ?_
  refine zo_callV hY (fun q hq => mt_X1_isThere hJ hCon N x1 x3 Ω q hq) (by decide) (by decide) (by decide) ⟨rfl, cn_X1_isThere⟩ rfl q1076 q1078 qs31 q78 q1079 (Nat.le_of_ble_eq_true rfl) dX1_claim_3 rfl h (ci_k (fun r2 Ω1 res h => ?_))
  refine zo_if_eq hY 16 dX1_claim_6 (by decide) h (fun c3 h => ?_) (fun c3 h => ?_)
  · refine zo_sub [] rfl ?_
    exact ct_X1_claim_16 hY hJ hCon hr N Ω1 _ h
  · refine zo_iload_n hY dX1_claim_9 rfl 2 rfl ?_
    refine zo_callS hY (fun q hq => mt_X1_isYear hJ hCon N x2 Ω1 q hq) (by decide) (by decide) cn_X1_isYear rfl q242 q243 q78 q244 (Nat.le_of_ble_eq_true rfl) dX1_claim_10 rfl h (ci_k (fun r5 Ω4 res h => ?_))
    refine zo_if_ne hY 18 dX1_claim_13 (by decide) h (fun c6 h => ?_) (fun c6 h => ?_)
    · refine zo_sub [] rfl ?_
      exact ct_X1_claim_16 hY hJ hCon hr N Ω4 _ h
    · refine zo_aload_n hY dX1_claim_18 rfl 0 rfl ?_
      refine zo_iload_n hY dX1_claim_19 rfl 3 rfl ?_
      refine zo_callV hY (fun q hq => mt_X1_findSpans hJ hCon N x3 Ω4 q hq) (by decide) (by decide) (by decide) ⟨rfl, cn_X1_findSpans⟩ rfl q1130 q1132 qs34 q78 q1133 (Nat.le_of_ble_eq_true rfl) dX1_claim_20 rfl h (cv_k (fun Ω7 res h => ?_))
      refine zo_aload_n hY dX1_claim_23 rfl 0 rfl ?_
      refine zo_iload_n hY dX1_claim_24 rfl 3 rfl ?_
      refine zo_iconst hY (-1) (by decide) dX1_claim_25 ?_
      refine zo_iconst hY (-1) (by decide) dX1_claim_26 ?_
      refine zo_callV hY (fun q hq => mt_X1_binds hJ hCon N x3 ((-1)) ((-1)) Ω7 q hq) (by decide) (by decide) (by decide) ⟨rfl, cn_X1_binds⟩ rfl q1134 q1136 qs35 q78 q1137 (Nat.le_of_ble_eq_true rfl) dX1_claim_27 rfl h (ci_k (fun r9 Ω8 res h => ?_))
      refine zo_if_ne hY 36 dX1_claim_30 (by decide) h (fun c10 h => ?_) (fun c10 h => ?_)
      · refine zo_bipush hY (-2) (by decide) dX1_claim_33 ?_
        exact zo_iret hY hr dX1_claim_35 h
      · refine zo_aload_n hY dX1_claim_36 rfl 0 rfl ?_
        refine zo_getC hY LX1_78_0 rfl (fun Ω q => (hCon Ω q).1 20 _ rfl) dX1_claim_37 ?_
        refine zo_iload_n hY dX1_claim_40 rfl 1 rfl ?_
        refine zo_aldR hY (by decide) (by decide) rfl dX1_claim_41 (fun q => (hCon _ q).2.2.2 41 0 14 rfl) h (fun j11 h => ?_)
        refine zo_iload_n hY dX1_claim_42 rfl 2 rfl ?_
        refine zo_iload_n hY dX1_claim_43 rfl 2 rfl ?_
        obtain ⟨n12, e13, h⟩ := bk_e h
        rw [e13]
        refine zo_callV hY (fun q hq => mt_X22_within hJ hCon N n12 x2 x2 Ω8 q hq) (by decide) (by decide) (by decide) ⟨rfl, cn_X22_within⟩ rfl q1107 q1108 q1109 q116 q1110 (Nat.le_of_ble_eq_true rfl) dX1_claim_44 rfl h (cv_k (fun Ω14 res h => ?_))
        refine zo_aload_n hY dX1_claim_47 rfl 0 rfl ?_
        refine zo_iload_n hY dX1_claim_48 rfl 3 rfl ?_
        refine zo_iconst hY (-1) (by decide) dX1_claim_49 ?_
        refine zo_iconst hY (-1) (by decide) dX1_claim_50 ?_
        refine zo_callV hY (fun q hq => mt_X1_binds hJ hCon N x3 ((-1)) ((-1)) Ω14 q hq) (by decide) (by decide) (by decide) ⟨rfl, cn_X1_binds⟩ rfl q1134 q1136 qs35 q78 q1137 (Nat.le_of_ble_eq_true rfl) dX1_claim_51 rfl h (ci_k (fun r16 Ω15 res h => ?_))
        refine zo_if_eq hY 61 dX1_claim_54 (by decide) h (fun c17 h => ?_) (fun c17 h => ?_)
        · refine zo_iconst hY 0 (by decide) dX1_claim_61 ?_
          refine zo_sub [] rfl ?_
          exact ct_X1_claim_62 hY hJ hCon hr N 0 Ω15 _ h
        · refine zo_iconst hY 1 (by decide) dX1_claim_57 ?_
          refine zo_goto hY 62 dX1_claim_58 (by decide) ?_
          refine zo_sub [] rfl ?_
          exact ct_X1_claim_62 hY hJ hCon hr N 1 Ω15 _ h
theorem dX1_front_0 : decode cX1_front 0 = .ok (.iload_n 1, 1) := by decide +kernel
theorem dX1_front_1 : decode cX1_front 1 = .ok (.invokestatic 89, 3) := by decide +kernel
theorem dX1_front_4 : decode cX1_front 4 = .ok (.ifCond .eq 20, 3) := by decide +kernel
theorem dX1_front_7 : decode cX1_front 7 = .ok (.aload_n 0, 1) := by decide +kernel
theorem dX1_front_8 : decode cX1_front 8 = .ok (.iload_n 2, 1) := by decide +kernel
theorem dX1_front_9 : decode cX1_front 9 = .ok (.invokevirtual 153, 3) := by decide +kernel
theorem dX1_front_12 : decode cX1_front 12 = .ok (.ifCond .eq 12, 3) := by decide +kernel
theorem dX1_front_15 : decode cX1_front 15 = .ok (.iload_n 3, 1) := by decide +kernel
theorem dX1_front_16 : decode cX1_front 16 = .ok (.iconst 0, 1) := by decide +kernel
theorem dX1_front_17 : decode cX1_front 17 = .ok (.iconst 1, 1) := by decide +kernel
theorem dX1_front_18 : decode cX1_front 18 = .ok (.invokestatic 3, 3) := by decide +kernel
theorem dX1_front_21 : decode cX1_front 21 = .ok (.ifCond .ne 5, 3) := by decide +kernel
theorem dX1_front_24 : decode cX1_front 24 = .ok (.iconst (-1), 1) := by decide +kernel
theorem dX1_front_25 : decode cX1_front 25 = .ok (.ireturn, 1) := by decide +kernel
theorem dX1_front_26 : decode cX1_front 26 = .ok (.aload_n 0, 1) := by decide +kernel
theorem dX1_front_27 : decode cX1_front 27 = .ok (.iload_n 2, 1) := by decide +kernel
theorem dX1_front_28 : decode cX1_front 28 = .ok (.invokevirtual 370, 3) := by decide +kernel
theorem dX1_front_31 : decode cX1_front 31 = .ok (.aload_n 0, 1) := by decide +kernel
theorem dX1_front_32 : decode cX1_front 32 = .ok (.iload_n 2, 1) := by decide +kernel
theorem dX1_front_33 : decode cX1_front 33 = .ok (.iconst (-1), 1) := by decide +kernel
theorem dX1_front_34 : decode cX1_front 34 = .ok (.iconst (-1), 1) := by decide +kernel
theorem dX1_front_35 : decode cX1_front 35 = .ok (.invokevirtual 373, 3) := by decide +kernel
theorem dX1_front_38 : decode cX1_front 38 = .ok (.ifCond .ne 6, 3) := by decide +kernel
theorem dX1_front_41 : decode cX1_front 41 = .ok (.bipush (-2), 2) := by decide +kernel
theorem dX1_front_43 : decode cX1_front 43 = .ok (.ireturn, 1) := by decide +kernel
theorem dX1_front_44 : decode cX1_front 44 = .ok (.iconst (-1), 1) := by decide +kernel
theorem dX1_front_45 : decode cX1_front 45 = .ok (.istore 4, 2) := by decide +kernel
theorem dX1_front_47 : decode cX1_front 47 = .ok (.iconst 0, 1) := by decide +kernel
theorem dX1_front_48 : decode cX1_front 48 = .ok (.istore 5, 2) := by decide +kernel
theorem dX1_front_50 : decode cX1_front 50 = .ok (.iload 5, 2) := by decide +kernel
theorem dX1_front_52 : decode cX1_front 52 = .ok (.aload_n 0, 1) := by decide +kernel
theorem dX1_front_53 : decode cX1_front 53 = .ok (.getfield 16, 3) := by decide +kernel
theorem dX1_front_56 : decode cX1_front 56 = .ok (.invokevirtual 85, 3) := by decide +kernel
theorem dX1_front_59 : decode cX1_front 59 = .ok (.if_icmp .ge 102, 3) := by decide +kernel
theorem dX1_front_62 : decode cX1_front 62 = .ok (.aload_n 0, 1) := by decide +kernel
theorem dX1_front_63 : decode cX1_front 63 = .ok (.getfield 78, 3) := by decide +kernel
theorem dX1_front_66 : decode cX1_front 66 = .ok (.iload 5, 2) := by decide +kernel
theorem dX1_front_68 : decode cX1_front 68 = .ok (.aaload, 1) := by decide +kernel
theorem dX1_front_69 : decode cX1_front 69 = .ok (.ifnonnull 6, 3) := by decide +kernel
theorem dX1_front_72 : decode cX1_front 72 = .ok (.goto 83, 3) := by decide +kernel
theorem dX1_front_75 : decode cX1_front 75 = .ok (.aload_n 0, 1) := by decide +kernel
theorem dX1_front_76 : decode cX1_front 76 = .ok (.getfield 16, 3) := by decide +kernel
theorem dX1_front_79 : decode cX1_front 79 = .ok (.iload 5, 2) := by decide +kernel
theorem dX1_front_81 : decode cX1_front 81 = .ok (.invokevirtual 116, 3) := by decide +kernel
theorem dX1_front_84 : decode cX1_front 84 = .ok (.checkcast 93, 3) := by decide +kernel
theorem dX1_front_87 : decode cX1_front 87 = .ok (.getfield 401, 3) := by decide +kernel
theorem dX1_front_90 : decode cX1_front 90 = .ok (.istore 6, 2) := by decide +kernel
theorem dX1_front_92 : decode cX1_front 92 = .ok (.iload_n 3, 1) := by decide +kernel
theorem dX1_front_93 : decode cX1_front 93 = .ok (.ifCond .ne 26, 3) := by decide +kernel
theorem dX1_front_96 : decode cX1_front 96 = .ok (.aload_n 0, 1) := by decide +kernel
theorem dX1_front_97 : decode cX1_front 97 = .ok (.getfield 78, 3) := by decide +kernel
theorem dX1_front_100 : decode cX1_front 100 = .ok (.iload 5, 2) := by decide +kernel
theorem dX1_front_102 : decode cX1_front 102 = .ok (.aaload, 1) := by decide +kernel
theorem dX1_front_103 : decode cX1_front 103 = .ok (.getfield 362, 3) := by decide +kernel
theorem dX1_front_106 : decode cX1_front 106 = .ok (.iload_n 1, 1) := by decide +kernel
theorem dX1_front_107 : decode cX1_front 107 = .ok (.if_icmp .gt 12, 3) := by decide +kernel
theorem dX1_front_110 : decode cX1_front 110 = .ok (.iload 4, 2) := by decide +kernel
theorem dX1_front_112 : decode cX1_front 112 = .ok (.iload 6, 2) := by decide +kernel
theorem dX1_front_114 : decode cX1_front 114 = .ok (.invokestatic 247, 3) := by decide +kernel
theorem dX1_front_117 : decode cX1_front 117 = .ok (.istore 4, 2) := by decide +kernel
theorem dX1_front_119 : decode cX1_front 119 = .ok (.iload_n 3, 1) := by decide +kernel
theorem dX1_front_120 : decode cX1_front 120 = .ok (.iconst 1, 1) := by decide +kernel
theorem dX1_front_121 : decode cX1_front 121 = .ok (.if_icmp .ne 34, 3) := by decide +kernel
theorem dX1_front_124 : decode cX1_front 124 = .ok (.aload_n 0, 1) := by decide +kernel
theorem dX1_front_125 : decode cX1_front 125 = .ok (.getfield 78, 3) := by decide +kernel
theorem dX1_front_128 : decode cX1_front 128 = .ok (.iload 5, 2) := by decide +kernel
theorem dX1_front_130 : decode cX1_front 130 = .ok (.aaload, 1) := by decide +kernel
theorem dX1_front_131 : decode cX1_front 131 = .ok (.getfield 361, 3) := by decide +kernel
theorem dX1_front_134 : decode cX1_front 134 = .ok (.iload_n 1, 1) := by decide +kernel
theorem dX1_front_135 : decode cX1_front 135 = .ok (.if_icmp .le 20, 3) := by decide +kernel
theorem dX1_front_138 : decode cX1_front 138 = .ok (.iload 4, 2) := by decide +kernel
theorem dX1_front_140 : decode cX1_front 140 = .ok (.iconst (-1), 1) := by decide +kernel
theorem dX1_front_141 : decode cX1_front 141 = .ok (.if_icmp .eq 10, 3) := by decide +kernel
theorem dX1_front_144 : decode cX1_front 144 = .ok (.iload 6, 2) := by decide +kernel
theorem dX1_front_146 : decode cX1_front 146 = .ok (.iload 4, 2) := by decide +kernel
theorem dX1_front_148 : decode cX1_front 148 = .ok (.if_icmp .ge 7, 3) := by decide +kernel
theorem dX1_front_151 : decode cX1_front 151 = .ok (.iload 6, 2) := by decide +kernel
theorem dX1_front_153 : decode cX1_front 153 = .ok (.istore 4, 2) := by decide +kernel
theorem dX1_front_155 : decode cX1_front 155 = .ok (.iinc 5 1, 3) := by decide +kernel
theorem dX1_front_158 : decode cX1_front 158 = .ok (.goto (-108), 3) := by decide +kernel
theorem dX1_front_161 : decode cX1_front 161 = .ok (.iload 4, 2) := by decide +kernel
theorem dX1_front_163 : decode cX1_front 163 = .ok (.ireturn, 1) := by decide +kernel
def fn_X1_front_24 (N : Nat)   (Ω : zo_O) : Option zo_R :=
  rI ((-1)) Ω
theorem ct_X1_front_24 {Y : zo_Y} (hY : zo_Gd Y cX1_front 7 RX1 12) (hJ : zo_JC (zo_J Y)) (hCon : ∀ Ω, zo_J Y Ω → zo_Con Ω) (hr : zo_rt Y (Option.some Jvm.ClassFile.FieldType.int)) (N : Nat)    (Ω : zo_O) (res : zo_R) (h : fn_X1_front_24 N   Ω = some res) : TW Y res Ω 24 [] [] := by
  unfold fn_X1_front_24 at h
  refine zo_iconst hY (-1) (by decide) dX1_front_24 ?_
  exact zo_iret hY hr dX1_front_25 h
def fn_X1_front_155 (N : Nat) (K50 : Int32 → Int32 → Int32 → Int32 → zo_O → Option zo_R) (x1 : Int32) (x3 : Int32) (x4 : Int32) (x5 : Int32) (Ω : zo_O) : Option zo_R :=
  K50 x1 x3 x4 (x5 + 1) Ω
theorem ct_X1_front_155 {Y : zo_Y} (hY : zo_Gd Y cX1_front 7 RX1 12) (hJ : zo_JC (zo_J Y)) (hCon : ∀ Ω, zo_J Y Ω → zo_Con Ω) (hr : zo_rt Y (Option.some Jvm.ClassFile.FieldType.int)) (N : Nat) (K50 : Int32 → Int32 → Int32 → Int32 → zo_O → Option zo_R) (hK50 : ∀ (x1 : Int32) (x3 : Int32) (x4 : Int32) (x5 : Int32) (Ω : zo_O) (res : zo_R), K50 x1 x3 x4 x5 Ω = some res → TW Y res Ω 50 [(0, vr 0 0), (1, vi x1), (3, vi x3), (4, vi x4), (5, vi x5)] []) (x1 : Int32) (x3 : Int32) (x4 : Int32) (x5 : Int32) (Ω : zo_O) (res : zo_R) (h : fn_X1_front_155 N K50 x1 x3 x4 x5 Ω = some res) : TW Y res Ω 155 [(0, vr 0 0), (1, vi x1), (3, vi x3), (4, vi x4), (5, vi x5)] [] := by
  unfold fn_X1_front_155 at h
  refine zo_iinc hY 1 dX1_front_155 (by decide) (by decide) 4 rfl rfl (ls' := [(5, vi (x5 + 1)), (0, vr 0 0), (1, vi x1), (3, vi x3), (4, vi x4)]) rfl ?_
  refine zo_goto hY 50 dX1_front_158 (by decide) ?_
  refine zo_sub [1, 2, 3, 4, 0] rfl ?_
  exact hK50 x1 x3 x4 (x5 + 1) Ω _ h
def fn_X1_front_151 (N : Nat) (K50 : Int32 → Int32 → Int32 → Int32 → zo_O → Option zo_R) (x1 : Int32) (x3 : Int32) (x5 : Int32) (x6 : Int32) (Ω : zo_O) : Option zo_R :=
  fn_X1_front_155 N K50 x1 x3 x6 x5 Ω
theorem ct_X1_front_151 {Y : zo_Y} (hY : zo_Gd Y cX1_front 7 RX1 12) (hJ : zo_JC (zo_J Y)) (hCon : ∀ Ω, zo_J Y Ω → zo_Con Ω) (hr : zo_rt Y (Option.some Jvm.ClassFile.FieldType.int)) (N : Nat) (K50 : Int32 → Int32 → Int32 → Int32 → zo_O → Option zo_R) (hK50 : ∀ (x1 : Int32) (x3 : Int32) (x4 : Int32) (x5 : Int32) (Ω : zo_O) (res : zo_R), K50 x1 x3 x4 x5 Ω = some res → TW Y res Ω 50 [(0, vr 0 0), (1, vi x1), (3, vi x3), (4, vi x4), (5, vi x5)] []) (x1 : Int32) (x3 : Int32) (x5 : Int32) (x6 : Int32) (Ω : zo_O) (res : zo_R) (h : fn_X1_front_151 N K50 x1 x3 x5 x6 Ω = some res) : TW Y res Ω 151 [(0, vr 0 0), (1, vi x1), (3, vi x3), (5, vi x5), (6, vi x6)] [] := by
  unfold fn_X1_front_151 at h
  refine zo_iload hY dX1_front_151 4 rfl ?_
  refine zo_istore hY dX1_front_153 (by decide) rfl (ls' := [(4, vi x6), (0, vr 0 0), (1, vi x1), (3, vi x3), (5, vi x5), (6, vi x6)]) rfl ?_
  refine zo_sub [1, 2, 3, 0, 4] rfl ?_
  exact ct_X1_front_155 hY hJ hCon hr N K50 hK50 x1 x3 x6 x5 Ω _ h
def fn_X1_front_119 (N : Nat) (K50 : Int32 → Int32 → Int32 → Int32 → zo_O → Option zo_R) (x1 : Int32) (x3 : Int32) (x4 : Int32) (x5 : Int32) (x6 : Int32) (Ω : zo_O) : Option zo_R :=
  if x3 = 1 then (
    ix x5 14 fun j2 =>
    bk (gR Ω 41 0 j2) 18 fun n3 =>
    if gI Ω 18 n3 0 ≤ x1 then (
      fn_X1_front_155 N K50 x1 x3 x4 x5 Ω
      ) else
    if x4 = (-1) then (
      fn_X1_front_151 N K50 x1 x3 x5 x6 Ω
      ) else
    if x4 ≤ x6 then (
      fn_X1_front_155 N K50 x1 x3 x4 x5 Ω
      ) else
    fn_X1_front_151 N K50 x1 x3 x5 x6 Ω
    ) else
  fn_X1_front_155 N K50 x1 x3 x4 x5 Ω
theorem ct_X1_front_119 {Y : zo_Y} (hY : zo_Gd Y cX1_front 7 RX1 12) (hJ : zo_JC (zo_J Y)) (hCon : ∀ Ω, zo_J Y Ω → zo_Con Ω) (hr : zo_rt Y (Option.some Jvm.ClassFile.FieldType.int)) (N : Nat) (K50 : Int32 → Int32 → Int32 → Int32 → zo_O → Option zo_R) (hK50 : ∀ (x1 : Int32) (x3 : Int32) (x4 : Int32) (x5 : Int32) (Ω : zo_O) (res : zo_R), K50 x1 x3 x4 x5 Ω = some res → TW Y res Ω 50 [(0, vr 0 0), (1, vi x1), (3, vi x3), (4, vi x4), (5, vi x5)] []) (x1 : Int32) (x3 : Int32) (x4 : Int32) (x5 : Int32) (x6 : Int32) (Ω : zo_O) (res : zo_R) (h : fn_X1_front_119 N K50 x1 x3 x4 x5 x6 Ω = some res) : TW Y res Ω 119 [(0, vr 0 0), (1, vi x1), (3, vi x3), (4, vi x4), (5, vi x5), (6, vi x6)] [] := by
  unfold fn_X1_front_119 at h
  refine zo_iload_n hY dX1_front_119 rfl 2 rfl ?_
  refine zo_iconst hY 1 (by decide) dX1_front_120 ?_
  refine zo_icmp_ne hY 155 dX1_front_121 (by decide) h (fun c1 h => ?_) (fun c1 h => ?_)
  · refine zo_aload_n hY dX1_front_124 rfl 0 rfl ?_
    refine zo_getC hY LX1_78_0 rfl (fun Ω q => (hCon Ω q).1 20 _ rfl) dX1_front_125 ?_
    refine zo_iload hY dX1_front_128 4 rfl ?_
    refine zo_aldR hY (by decide) (by decide) rfl dX1_front_130 (fun q => (hCon _ q).2.2.2 41 0 14 rfl) h (fun j2 h => ?_)
    obtain ⟨n3, e4, h⟩ := bk_e h
    rw [e4]
    refine zo_getI hY LX1_361_18 rfl dX1_front_131 ?_
    refine zo_iload_n hY dX1_front_134 rfl 1 rfl ?_
    refine zo_icmp_le hY 155 dX1_front_135 (by decide) h (fun c5 h => ?_) (fun c5 h => ?_)
    · refine zo_sub [0, 1, 2, 3, 4] rfl ?_
      exact ct_X1_front_155 hY hJ hCon hr N K50 hK50 x1 x3 x4 x5 Ω _ h
    · refine zo_iload hY dX1_front_138 3 rfl ?_
      refine zo_iconst hY (-1) (by decide) dX1_front_140 ?_
      refine zo_icmp_eq hY 151 dX1_front_141 (by decide) h (fun c6 h => ?_) (fun c6 h => ?_)
      · refine zo_sub [0, 1, 2, 4, 5] rfl ?_
        exact ct_X1_front_151 hY hJ hCon hr N K50 hK50 x1 x3 x5 x6 Ω _ h
      · refine zo_iload hY dX1_front_144 5 rfl ?_
        refine zo_iload hY dX1_front_146 3 rfl ?_
        refine zo_icmp_ge hY 155 dX1_front_148 (by decide) h (fun c7 h => ?_) (fun c7 h => ?_)
        · refine zo_sub [0, 1, 2, 3, 4] rfl ?_
          exact ct_X1_front_155 hY hJ hCon hr N K50 hK50 x1 x3 x4 x5 Ω _ h
        · refine zo_sub [0, 1, 2, 4, 5] rfl ?_
          exact ct_X1_front_151 hY hJ hCon hr N K50 hK50 x1 x3 x5 x6 Ω _ h
  · refine zo_sub [0, 1, 2, 3, 4] rfl ?_
    exact ct_X1_front_155 hY hJ hCon hr N K50 hK50 x1 x3 x4 x5 Ω _ h
def bd_X1_front_50 (N : Nat)  (K50 : Int32 → Int32 → Int32 → Int32 → zo_O → Option zo_R) (x1 : Int32) (x3 : Int32) (x4 : Int32) (x5 : Int32) (Ω : zo_O) : Option zo_R :=
  ci (fn_J2_size N 0 Ω) fun r2 Ω1 =>
  if r2 ≤ x5 then (
    rI x4 Ω1
    ) else
  ix x5 14 fun j4 =>
  cn (gR Ω1 41 0 j4) 18 (
    fn_X1_front_155 N K50 x1 x3 x4 x5 Ω1
    ) fun n5 =>
  cr (fn_J2_get N 0 x5 Ω1) fun r7 Ω6 =>
  bk r7 2 fun j8 =>
  li (gI Ω6 2 j8 4) fun y9 =>
  if x3 = 0 then (
    ix x5 14 fun j11 =>
    bk (gR Ω6 41 0 j11) 18 fun n12 =>
    if x1 < gI Ω6 18 n12 1 then (
      fn_X1_front_119 N K50 x1 x3 x4 x5 y9 Ω6
      ) else
    li (mx x4 y9) fun y15 =>
    fn_X1_front_119 N K50 x1 x3 y15 x5 y9 Ω6
    ) else
  fn_X1_front_119 N K50 x1 x3 x4 x5 y9 Ω6
theorem cb_X1_front_50 {Y : zo_Y} (hY : zo_Gd Y cX1_front 7 RX1 12) (hJ : zo_JC (zo_J Y)) (hCon : ∀ Ω, zo_J Y Ω → zo_Con Ω) (hr : zo_rt Y (Option.some Jvm.ClassFile.FieldType.int)) (N : Nat)  (K50 : Int32 → Int32 → Int32 → Int32 → zo_O → Option zo_R)  (hK50 : ∀ (x1 : Int32) (x3 : Int32) (x4 : Int32) (x5 : Int32) (Ω : zo_O) (res : zo_R), K50 x1 x3 x4 x5 Ω = some res → TW Y res Ω 50 [(0, vr 0 0), (1, vi x1), (3, vi x3), (4, vi x4), (5, vi x5)] []) (x1 : Int32) (x3 : Int32) (x4 : Int32) (x5 : Int32) (Ω : zo_O) (res : zo_R) (h : bd_X1_front_50 N  K50 x1 x3 x4 x5 Ω = some res) : TW Y res Ω 50 [(0, vr 0 0), (1, vi x1), (3, vi x3), (4, vi x4), (5, vi x5)] [] := by
  unfold bd_X1_front_50 at h
  refine zo_iload hY dX1_front_50 4 rfl ?_
  refine zo_aload_n hY dX1_front_52 rfl 0 rfl ?_
  refine zo_getC hY LX1_16_0 rfl (fun Ω q => (hCon Ω q).1 0 _ rfl) dX1_front_53 ?_
  refine zo_callV hY (fun q hq => mt_J2_size hJ hCon N 0 Ω q hq) (by decide) (by decide) (by decide) ⟨rfl, cn_J2_size⟩ rfl q245 q246 q247 q81 q248 (Nat.le_of_ble_eq_true rfl) dX1_front_56 rfl h (ci_k (fun r2 Ω1 res h => ?_))
  refine zo_icmp_ge hY 161 dX1_front_59 (by decide) h (fun c3 h => ?_) (fun c3 h => ?_)
  · refine zo_iload hY dX1_front_161 3 rfl ?_
    exact zo_iret hY hr dX1_front_163 h
  · refine zo_aload_n hY dX1_front_62 rfl 0 rfl ?_
    refine zo_getC hY LX1_78_0 rfl (fun Ω q => (hCon Ω q).1 20 _ rfl) dX1_front_63 ?_
    refine zo_iload hY dX1_front_66 4 rfl ?_
    refine zo_aldR hY (by decide) (by decide) rfl dX1_front_68 (fun q => (hCon _ q).2.2.2 41 0 14 rfl) h (fun j4 h => ?_)
    refine zo_ifnonnull hY (K := 18) 75 dX1_front_69 (by decide) h (fun e16 h => ?_) (fun n5 e16 h => ?_)
    · refine zo_goto hY 155 dX1_front_72 (by decide) ?_
      exact ct_X1_front_155 hY hJ hCon hr N K50 hK50 x1 x3 x4 x5 Ω1 _ h
    · skip
      refine zo_aload_n hY dX1_front_75 rfl 0 rfl ?_
      refine zo_getC hY LX1_16_0 rfl (fun Ω q => (hCon Ω q).1 0 _ rfl) dX1_front_76 ?_
      refine zo_iload hY dX1_front_79 4 rfl ?_
      refine zo_callV hY (fun q hq => mt_J2_get hJ hCon N 0 x5 Ω1 q hq) (by decide) (by decide) (by decide) ⟨rfl, cn_J2_get⟩ rfl q368 q369 q370 q81 q371 (Nat.le_of_ble_eq_true rfl) dX1_front_81 rfl h (cr_k (fun r7 Ω6 res h => ?_))
      refine zo_castK hY (by decide) q249 (Or.inl rfl) dX1_front_84 h (fun j8 h => ?_)
      refine zo_getI hY LX1_401_2 rfl dX1_front_87 ?_
      refine zo_nmi h (fun y9 h => ?_)
      refine zo_istore hY dX1_front_90 (by decide) rfl (ls' := [(6, vi y9), (0, vr 0 0), (1, vi x1), (3, vi x3), (4, vi x4), (5, vi x5)]) rfl ?_
      refine zo_iload_n hY dX1_front_92 rfl 3 rfl ?_
      refine zo_if_ne hY 119 dX1_front_93 (by decide) h (fun c10 h => ?_) (fun c10 h => ?_)
      · refine zo_aload_n hY dX1_front_96 rfl 1 rfl ?_
        refine zo_getC hY LX1_78_0 rfl (fun Ω q => (hCon Ω q).1 20 _ rfl) dX1_front_97 ?_
        refine zo_iload hY dX1_front_100 5 rfl ?_
        refine zo_aldR hY (by decide) (by decide) rfl dX1_front_102 (fun q => (hCon _ q).2.2.2 41 0 14 rfl) h (fun j11 h => ?_)
        obtain ⟨n12, e13, h⟩ := bk_e h
        rw [e13]
        refine zo_getI hY LX1_362_18 rfl dX1_front_103 ?_
        refine zo_iload_n hY dX1_front_106 rfl 2 rfl ?_
        refine zo_icmp_gt hY 119 dX1_front_107 (by decide) h (fun c14 h => ?_) (fun c14 h => ?_)
        · refine zo_sub [1, 2, 3, 4, 5, 0] rfl ?_
          exact ct_X1_front_119 hY hJ hCon hr N K50 hK50 x1 x3 x4 x5 y9 Ω6 _ h
        · refine zo_iload hY dX1_front_110 4 rfl ?_
          refine zo_iload hY dX1_front_112 0 rfl ?_
          refine zo_mmax hY (by decide) q881 (Nat.le_of_ble_eq_true rfl) dX1_front_114 ?_
          refine zo_nmi h (fun y15 h => ?_)
          refine zo_istore hY dX1_front_117 (by decide) rfl (ls' := [(4, vi y15), (6, vi y9), (0, vr 0 0), (1, vi x1), (3, vi x3), (5, vi x5)]) rfl ?_
          refine zo_sub [2, 3, 4, 0, 5, 1] rfl ?_
          exact ct_X1_front_119 hY hJ hCon hr N K50 hK50 x1 x3 y15 x5 y9 Ω6 _ h
      · refine zo_sub [1, 2, 3, 4, 5, 0] rfl ?_
        exact ct_X1_front_119 hY hJ hCon hr N K50 hK50 x1 x3 x4 x5 y9 Ω6 _ h
def fn_X1_front_50 (N : Nat)  : Nat → Int32 → Int32 → Int32 → Int32 → zo_O → Option zo_R
  | 0, _, _, _, _, _ => none
  | n + 1, x1, x3, x4, x5, Ω => bd_X1_front_50 N  (fn_X1_front_50 N  n) x1 x3 x4 x5 Ω
theorem ct_X1_front_50 {Y : zo_Y} (hY : zo_Gd Y cX1_front 7 RX1 12) (hJ : zo_JC (zo_J Y)) (hCon : ∀ Ω, zo_J Y Ω → zo_Con Ω) (hr : zo_rt Y (Option.some Jvm.ClassFile.FieldType.int)) (N : Nat)   : ∀ (n : Nat) (x1 : Int32) (x3 : Int32) (x4 : Int32) (x5 : Int32) (Ω : zo_O) (res : zo_R), fn_X1_front_50 N  n x1 x3 x4 x5 Ω = some res → TW Y res Ω 50 [(0, vr 0 0), (1, vi x1), (3, vi x3), (4, vi x4), (5, vi x5)] [] := by
  intro n
  induction n with
  | zero => intro x1 x3 x4 x5 Ω res h; exact nomatch (show (none : Option zo_R) = some res from h)
  | succ n ih => intro x1 x3 x4 x5 Ω res h; exact cb_X1_front_50 hY hJ hCon hr N  (fn_X1_front_50 N  n)  ih x1 x3 x4 x5 Ω res h
def fn_X1_front (N : Nat) (x1 : Int32) (x2 : Int32) (x3 : Int32) (Ω : zo_O) : Option zo_R :=
  ci (fn_X1_isYear N x1 Ω) fun r2 Ω1 =>
  if r2 = 0 then (
    fn_X1_front_24 N Ω1
    ) else
  ci (fn_X1_isKnown N x2 Ω1) fun r5 Ω4 =>
  if r5 = 0 then (
    fn_X1_front_24 N Ω4
    ) else
  ci (fn_X1_in N x3 0 1 Ω4) fun r8 Ω7 =>
  if r8 = 0 then (
    fn_X1_front_24 N Ω7
    ) else
  cv (fn_X1_findSpans N x2 Ω7) fun Ω10 =>
  ci (fn_X1_binds N x2 ((-1)) ((-1)) Ω10) fun r12 Ω11 =>
  if r12 = 0 then (
    rI ((-2)) Ω11
    ) else
  fn_X1_front_50 N N x1 x3 ((-1)) 0 Ω11
theorem mt_X1_front {G : zo_G} {J : zo_O → Prop} (hJ : zo_JC J) (hCon : ∀ Ω, J Ω → zo_Con Ω) (N : Nat) (x1 : Int32) (x2 : Int32) (x3 : Int32) (Ω : zo_O) (res : zo_R) (h : fn_X1_front N x1 x2 x3 Ω = some res) : zo_MT G J yX1_front cX1_front 7 (Option.some Jvm.ClassFile.FieldType.int) 12 [vr 0 0, vi x1, vi x2, vi x3] Ω res := by
  refine zo_enter (by decide) rfl (Nat.le_of_ble_eq_true rfl) (fun Y hY eJ hr hmn => ?_)
  subst eJ
  show TW Y res Ω 0 [(0, vr 0 0), (1, vi x1), (2, vi x2), (3, vi x3)] []
  unfold fn_X1_front at h
  refine zo_iload_n hY dX1_front_0 rfl 1 rfl ?_
  refine zo_callS hY (fun q hq => mt_X1_isYear hJ hCon N x1 Ω q hq) (by decide) (by decide) cn_X1_isYear rfl q242 q243 q78 q244 (Nat.le_of_ble_eq_true rfl) dX1_front_1 rfl h (ci_k (fun r2 Ω1 res h => ?_))
  refine zo_if_eq hY 24 dX1_front_4 (by decide) h (fun c3 h => ?_) (fun c3 h => ?_)
  · refine zo_sub [] rfl ?_
    exact ct_X1_front_24 hY hJ hCon hr N Ω1 _ h
  · refine zo_aload_n hY dX1_front_7 rfl 0 rfl ?_
    refine zo_iload_n hY dX1_front_8 rfl 2 rfl ?_
    refine zo_callV hY (fun q hq => mt_X1_isKnown hJ hCon N x2 Ω1 q hq) (by decide) (by decide) (by decide) ⟨rfl, cn_X1_isKnown⟩ rfl q816 q818 qs17 q78 q819 (Nat.le_of_ble_eq_true rfl) dX1_front_9 rfl h (ci_k (fun r5 Ω4 res h => ?_))
    refine zo_if_eq hY 24 dX1_front_12 (by decide) h (fun c6 h => ?_) (fun c6 h => ?_)
    · refine zo_sub [] rfl ?_
      exact ct_X1_front_24 hY hJ hCon hr N Ω4 _ h
    · refine zo_iload_n hY dX1_front_15 rfl 3 rfl ?_
      refine zo_iconst hY 0 (by decide) dX1_front_16 ?_
      refine zo_iconst hY 1 (by decide) dX1_front_17 ?_
      refine zo_callS hY (fun q hq => mt_X1_in hJ hCon N x3 0 1 Ω4 q hq) (by decide) (by decide) cn_X1_in rfl q239 q240 q78 q241 (Nat.le_of_ble_eq_true rfl) dX1_front_18 rfl h (ci_k (fun r8 Ω7 res h => ?_))
      refine zo_if_ne hY 26 dX1_front_21 (by decide) h (fun c9 h => ?_) (fun c9 h => ?_)
      · refine zo_sub [] rfl ?_
        exact ct_X1_front_24 hY hJ hCon hr N Ω7 _ h
      · refine zo_aload_n hY dX1_front_26 rfl 0 rfl ?_
        refine zo_iload_n hY dX1_front_27 rfl 2 rfl ?_
        refine zo_callV hY (fun q hq => mt_X1_findSpans hJ hCon N x2 Ω7 q hq) (by decide) (by decide) (by decide) ⟨rfl, cn_X1_findSpans⟩ rfl q1130 q1132 qs34 q78 q1133 (Nat.le_of_ble_eq_true rfl) dX1_front_28 rfl h (cv_k (fun Ω10 res h => ?_))
        refine zo_aload_n hY dX1_front_31 rfl 0 rfl ?_
        refine zo_iload_n hY dX1_front_32 rfl 2 rfl ?_
        refine zo_iconst hY (-1) (by decide) dX1_front_33 ?_
        refine zo_iconst hY (-1) (by decide) dX1_front_34 ?_
        refine zo_callV hY (fun q hq => mt_X1_binds hJ hCon N x2 ((-1)) ((-1)) Ω10 q hq) (by decide) (by decide) (by decide) ⟨rfl, cn_X1_binds⟩ rfl q1134 q1136 qs35 q78 q1137 (Nat.le_of_ble_eq_true rfl) dX1_front_35 rfl h (ci_k (fun r12 Ω11 res h => ?_))
        refine zo_if_ne hY 44 dX1_front_38 (by decide) h (fun c13 h => ?_) (fun c13 h => ?_)
        · refine zo_bipush hY (-2) (by decide) dX1_front_41 ?_
          exact zo_iret hY hr dX1_front_43 h
        · refine zo_iconst hY (-1) (by decide) dX1_front_44 ?_
          refine zo_istore hY dX1_front_45 (by decide) rfl (ls' := [(4, vi ((-1))), (0, vr 0 0), (1, vi x1), (2, vi x2), (3, vi x3)]) rfl ?_
          refine zo_iconst hY 0 (by decide) dX1_front_47 ?_
          refine zo_istore hY dX1_front_48 (by decide) rfl (ls' := [(5, vi 0), (4, vi ((-1))), (0, vr 0 0), (1, vi x1), (2, vi x2), (3, vi x3)]) rfl ?_
          refine zo_sub [2, 3, 5, 1, 0] rfl ?_
          exact ct_X1_front_50 hY hJ hCon hr N N x1 x3 ((-1)) 0 Ω11 _ h
theorem dX22_has_0 : decode cX22_has 0 = .ok (.iload_n 1, 1) := by decide +kernel
theorem dX22_has_1 : decode cX22_has 1 = .ok (.aload_n 0, 1) := by decide +kernel
theorem dX22_has_2 : decode cX22_has 2 = .ok (.getfield 9, 3) := by decide +kernel
theorem dX22_has_5 : decode cX22_has 5 = .ok (.if_icmp .lt 15, 3) := by decide +kernel
theorem dX22_has_8 : decode cX22_has 8 = .ok (.iload_n 1, 1) := by decide +kernel
theorem dX22_has_9 : decode cX22_has 9 = .ok (.aload_n 0, 1) := by decide +kernel
theorem dX22_has_10 : decode cX22_has 10 = .ok (.getfield 15, 3) := by decide +kernel
theorem dX22_has_13 : decode cX22_has 13 = .ok (.if_icmp .gt 7, 3) := by decide +kernel
theorem dX22_has_16 : decode cX22_has 16 = .ok (.iconst 1, 1) := by decide +kernel
theorem dX22_has_17 : decode cX22_has 17 = .ok (.goto 4, 3) := by decide +kernel
theorem dX22_has_20 : decode cX22_has 20 = .ok (.iconst 0, 1) := by decide +kernel
theorem dX22_has_21 : decode cX22_has 21 = .ok (.ireturn, 1) := by decide +kernel
def fn_X22_has_21 (N : Nat)  (s0 : Int32) (Ω : zo_O) : Option zo_R :=
  rZ s0 Ω
theorem ct_X22_has_21 {Y : zo_Y} (hY : zo_Gd Y cX22_has 2 RX22 0) (hJ : zo_JC (zo_J Y)) (hCon : ∀ Ω, zo_J Y Ω → zo_Con Ω) (hr : zo_rt Y (Option.some Jvm.ClassFile.FieldType.boolean)) (N : Nat)   (s0 : Int32) (Ω : zo_O) (res : zo_R) (h : fn_X22_has_21 N  s0 Ω = some res) : TW Y res Ω 21 [] [vi s0] := by
  unfold fn_X22_has_21 at h
  exact zo_zret hY hr dX22_has_21 h
def fn_X22_has_20 (N : Nat)   (Ω : zo_O) : Option zo_R :=
  fn_X22_has_21 N 0 Ω
theorem ct_X22_has_20 {Y : zo_Y} (hY : zo_Gd Y cX22_has 2 RX22 0) (hJ : zo_JC (zo_J Y)) (hCon : ∀ Ω, zo_J Y Ω → zo_Con Ω) (hr : zo_rt Y (Option.some Jvm.ClassFile.FieldType.boolean)) (N : Nat)    (Ω : zo_O) (res : zo_R) (h : fn_X22_has_20 N   Ω = some res) : TW Y res Ω 20 [] [] := by
  unfold fn_X22_has_20 at h
  refine zo_iconst hY 0 (by decide) dX22_has_20 ?_
  exact ct_X22_has_21 hY hJ hCon hr N 0 Ω _ h
def fn_X22_has (N : Nat) (x0 : Nat) (x1 : Int32) (Ω : zo_O) : Option zo_R :=
  if x1 < gI Ω 18 x0 0 then (
    fn_X22_has_20 N Ω
    ) else
  if gI Ω 18 x0 1 < x1 then (
    fn_X22_has_20 N Ω
    ) else
  fn_X22_has_21 N 1 Ω
theorem mt_X22_has {G : zo_G} {J : zo_O → Prop} (hJ : zo_JC J) (hCon : ∀ Ω, J Ω → zo_Con Ω) (N : Nat) (x0 : Nat) (x1 : Int32) (Ω : zo_O) (res : zo_R) (h : fn_X22_has N x0 x1 Ω = some res) : zo_MT G J yX22_has cX22_has 2 (Option.some Jvm.ClassFile.FieldType.boolean) 0 [vr 18 x0, vi x1] Ω res := by
  refine zo_enter (by decide) rfl (Nat.le_of_ble_eq_true rfl) (fun Y hY eJ hr hmn => ?_)
  subst eJ
  show TW Y res Ω 0 [(0, vr 18 x0), (1, vi x1)] []
  unfold fn_X22_has at h
  refine zo_iload_n hY dX22_has_0 rfl 1 rfl ?_
  refine zo_aload_n hY dX22_has_1 rfl 0 rfl ?_
  refine zo_getI hY LX22_9_18 rfl dX22_has_2 ?_
  refine zo_icmp_lt hY 20 dX22_has_5 (by decide) h (fun c1 h => ?_) (fun c1 h => ?_)
  · refine zo_sub [] rfl ?_
    exact ct_X22_has_20 hY hJ hCon hr N Ω _ h
  · refine zo_iload_n hY dX22_has_8 rfl 1 rfl ?_
    refine zo_aload_n hY dX22_has_9 rfl 0 rfl ?_
    refine zo_getI hY LX22_15_18 rfl dX22_has_10 ?_
    refine zo_icmp_gt hY 20 dX22_has_13 (by decide) h (fun c2 h => ?_) (fun c2 h => ?_)
    · refine zo_sub [] rfl ?_
      exact ct_X22_has_20 hY hJ hCon hr N Ω _ h
    · refine zo_iconst hY 1 (by decide) dX22_has_16 ?_
      refine zo_goto hY 21 dX22_has_17 (by decide) ?_
      refine zo_sub [] rfl ?_
      exact ct_X22_has_21 hY hJ hCon hr N 1 Ω _ h
theorem dX1_out_0 : decode cX1_out 0 = .ok (.aload_n 0, 1) := by decide +kernel
theorem dX1_out_1 : decode cX1_out 1 = .ok (.iload_n 1, 1) := by decide +kernel
theorem dX1_out_2 : decode cX1_out 2 = .ok (.iload_n 2, 1) := by decide +kernel
theorem dX1_out_3 : decode cX1_out 3 = .ok (.invokevirtual 352, 3) := by decide +kernel
theorem dX1_out_6 : decode cX1_out 6 = .ok (.ifCond .eq 20, 3) := by decide +kernel
theorem dX1_out_9 : decode cX1_out 9 = .ok (.aload_n 0, 1) := by decide +kernel
theorem dX1_out_10 : decode cX1_out 10 = .ok (.getfield 16, 3) := by decide +kernel
theorem dX1_out_13 : decode cX1_out 13 = .ok (.iload_n 1, 1) := by decide +kernel
theorem dX1_out_14 : decode cX1_out 14 = .ok (.invokevirtual 116, 3) := by decide +kernel
theorem dX1_out_17 : decode cX1_out 17 = .ok (.checkcast 93, 3) := by decide +kernel
theorem dX1_out_20 : decode cX1_out 20 = .ok (.invokevirtual 283, 3) := by decide +kernel
theorem dX1_out_23 : decode cX1_out 23 = .ok (.ifCond .ne 5, 3) := by decide +kernel
theorem dX1_out_26 : decode cX1_out 26 = .ok (.iconst (-1), 1) := by decide +kernel
theorem dX1_out_27 : decode cX1_out 27 = .ok (.ireturn, 1) := by decide +kernel
theorem dX1_out_28 : decode cX1_out 28 = .ok (.aload_n 0, 1) := by decide +kernel
theorem dX1_out_29 : decode cX1_out 29 = .ok (.iload_n 1, 1) := by decide +kernel
theorem dX1_out_30 : decode cX1_out 30 = .ok (.putfield 73, 3) := by decide +kernel
theorem dX1_out_33 : decode cX1_out 33 = .ok (.aload_n 0, 1) := by decide +kernel
theorem dX1_out_34 : decode cX1_out 34 = .ok (.iload_n 2, 1) := by decide +kernel
theorem dX1_out_35 : decode cX1_out 35 = .ok (.invokevirtual 305, 3) := by decide +kernel
theorem dX1_out_38 : decode cX1_out 38 = .ok (.aload_n 0, 1) := by decide +kernel
theorem dX1_out_39 : decode cX1_out 39 = .ok (.aload_n 0, 1) := by decide +kernel
theorem dX1_out_40 : decode cX1_out 40 = .ok (.getfield 16, 3) := by decide +kernel
theorem dX1_out_43 : decode cX1_out 43 = .ok (.iload_n 1, 1) := by decide +kernel
theorem dX1_out_44 : decode cX1_out 44 = .ok (.invokevirtual 116, 3) := by decide +kernel
theorem dX1_out_47 : decode cX1_out 47 = .ok (.checkcast 93, 3) := by decide +kernel
theorem dX1_out_50 : decode cX1_out 50 = .ok (.iload_n 2, 1) := by decide +kernel
theorem dX1_out_51 : decode cX1_out 51 = .ok (.invokevirtual 347, 3) := by decide +kernel
theorem dX1_out_54 : decode cX1_out 54 = .ok (.astore_n 3, 1) := by decide +kernel
theorem dX1_out_55 : decode cX1_out 55 = .ok (.aload_n 0, 1) := by decide +kernel
theorem dX1_out_56 : decode cX1_out 56 = .ok (.iconst (-1), 1) := by decide +kernel
theorem dX1_out_57 : decode cX1_out 57 = .ok (.putfield 73, 3) := by decide +kernel
theorem dX1_out_60 : decode cX1_out 60 = .ok (.aload_n 3, 1) := by decide +kernel
theorem dX1_out_61 : decode cX1_out 61 = .ok (.aload_n 0, 1) := by decide +kernel
theorem dX1_out_62 : decode cX1_out 62 = .ok (.getfield 16, 3) := by decide +kernel
theorem dX1_out_65 : decode cX1_out 65 = .ok (.iload_n 1, 1) := by decide +kernel
theorem dX1_out_66 : decode cX1_out 66 = .ok (.invokevirtual 116, 3) := by decide +kernel
theorem dX1_out_69 : decode cX1_out 69 = .ok (.checkcast 93, 3) := by decide +kernel
theorem dX1_out_72 : decode cX1_out 72 = .ok (.getfield 351, 3) := by decide +kernel
theorem dX1_out_75 : decode cX1_out 75 = .ok (.invokevirtual 402, 3) := by decide +kernel
theorem dX1_out_78 : decode cX1_out 78 = .ok (.ifCond .eq 7, 3) := by decide +kernel
theorem dX1_out_81 : decode cX1_out 81 = .ok (.iconst 1, 1) := by decide +kernel
theorem dX1_out_82 : decode cX1_out 82 = .ok (.goto 4, 3) := by decide +kernel
theorem dX1_out_85 : decode cX1_out 85 = .ok (.iconst 0, 1) := by decide +kernel
theorem dX1_out_86 : decode cX1_out 86 = .ok (.ireturn, 1) := by decide +kernel
def fn_X1_out_26 (N : Nat)   (Ω : zo_O) : Option zo_R :=
  rI ((-1)) Ω
theorem ct_X1_out_26 {Y : zo_Y} (hY : zo_Gd Y cX1_out 4 RX1 10) (hJ : zo_JC (zo_J Y)) (hCon : ∀ Ω, zo_J Y Ω → zo_Con Ω) (hr : zo_rt Y (Option.some Jvm.ClassFile.FieldType.int)) (N : Nat)    (Ω : zo_O) (res : zo_R) (h : fn_X1_out_26 N   Ω = some res) : TW Y res Ω 26 [] [] := by
  unfold fn_X1_out_26 at h
  refine zo_iconst hY (-1) (by decide) dX1_out_26 ?_
  exact zo_iret hY hr dX1_out_27 h
def fn_X1_out_86 (N : Nat)  (s0 : Int32) (Ω : zo_O) : Option zo_R :=
  rI s0 Ω
theorem ct_X1_out_86 {Y : zo_Y} (hY : zo_Gd Y cX1_out 4 RX1 10) (hJ : zo_JC (zo_J Y)) (hCon : ∀ Ω, zo_J Y Ω → zo_Con Ω) (hr : zo_rt Y (Option.some Jvm.ClassFile.FieldType.int)) (N : Nat)   (s0 : Int32) (Ω : zo_O) (res : zo_R) (h : fn_X1_out_86 N  s0 Ω = some res) : TW Y res Ω 86 [] [vi s0] := by
  unfold fn_X1_out_86 at h
  exact zo_iret hY hr dX1_out_86 h
def fn_X1_out (N : Nat) (x1 : Int32) (x2 : Int32) (Ω : zo_O) : Option zo_R :=
  ci (fn_X1_isThere N x1 x2 Ω) fun r2 Ω1 =>
  if r2 = 0 then (
    fn_X1_out_26 N Ω1
    ) else
  cr (fn_J2_get N 0 x1 Ω1) fun r5 Ω4 =>
  bk r5 2 fun j6 =>
  ci (fn_X4_isDated N j6 Ω4) fun r8 Ω7 =>
  if r8 = 0 then (
    fn_X1_out_26 N Ω7
    ) else
  lt (sI Ω7 0 0 19 x1) fun Ω10 =>
  cv (fn_X1_begins N x2 Ω10) fun Ω11 =>
  cr (fn_J2_get N 0 x1 Ω11) fun r13 Ω12 =>
  bk r13 2 fun j14 =>
  ck (fn_X1_spanBy N j14 x2 Ω12) 18 fun r16 Ω15 =>
  lt (sI Ω15 0 0 19 ((-1))) fun Ω17 =>
  cr (fn_J2_get N 0 x1 Ω17) fun r19 Ω18 =>
  bk r19 2 fun j20 =>
  ci (fn_X22_has N r16 (gI Ω18 2 j20 5) Ω18) fun r22 Ω21 =>
  if r22 = 0 then (
    fn_X1_out_86 N 0 Ω21
    ) else
  fn_X1_out_86 N 1 Ω21
theorem mt_X1_out {G : zo_G} {J : zo_O → Prop} (hJ : zo_JC J) (hCon : ∀ Ω, J Ω → zo_Con Ω) (N : Nat) (x1 : Int32) (x2 : Int32) (Ω : zo_O) (res : zo_R) (h : fn_X1_out N x1 x2 Ω = some res) : zo_MT G J yX1_out cX1_out 4 (Option.some Jvm.ClassFile.FieldType.int) 10 [vr 0 0, vi x1, vi x2] Ω res := by
  refine zo_enter (by decide) rfl (Nat.le_of_ble_eq_true rfl) (fun Y hY eJ hr hmn => ?_)
  subst eJ
  show TW Y res Ω 0 [(0, vr 0 0), (1, vi x1), (2, vi x2)] []
  unfold fn_X1_out at h
  refine zo_aload_n hY dX1_out_0 rfl 0 rfl ?_
  refine zo_iload_n hY dX1_out_1 rfl 1 rfl ?_
  refine zo_iload_n hY dX1_out_2 rfl 2 rfl ?_
  refine zo_callV hY (fun q hq => mt_X1_isThere hJ hCon N x1 x2 Ω q hq) (by decide) (by decide) (by decide) ⟨rfl, cn_X1_isThere⟩ rfl q1076 q1078 qs31 q78 q1079 (Nat.le_of_ble_eq_true rfl) dX1_out_3 rfl h (ci_k (fun r2 Ω1 res h => ?_))
  refine zo_if_eq hY 26 dX1_out_6 (by decide) h (fun c3 h => ?_) (fun c3 h => ?_)
  · refine zo_sub [] rfl ?_
    exact ct_X1_out_26 hY hJ hCon hr N Ω1 _ h
  · refine zo_aload_n hY dX1_out_9 rfl 0 rfl ?_
    refine zo_getC hY LX1_16_0 rfl (fun Ω q => (hCon Ω q).1 0 _ rfl) dX1_out_10 ?_
    refine zo_iload_n hY dX1_out_13 rfl 1 rfl ?_
    refine zo_callV hY (fun q hq => mt_J2_get hJ hCon N 0 x1 Ω1 q hq) (by decide) (by decide) (by decide) ⟨rfl, cn_J2_get⟩ rfl q368 q369 q370 q81 q371 (Nat.le_of_ble_eq_true rfl) dX1_out_14 rfl h (cr_k (fun r5 Ω4 res h => ?_))
    refine zo_castK hY (by decide) q249 (Or.inl rfl) dX1_out_17 h (fun j6 h => ?_)
    refine zo_callV hY (fun q hq => mt_X4_isDated hJ hCon N j6 Ω4 q hq) (by decide) (by decide) (by decide) ⟨rfl, cn_X4_isDated⟩ rfl q923 q924 q925 q84 q926 (Nat.le_of_ble_eq_true rfl) dX1_out_20 rfl h (ci_k (fun r8 Ω7 res h => ?_))
    refine zo_if_ne hY 28 dX1_out_23 (by decide) h (fun c9 h => ?_) (fun c9 h => ?_)
    · refine zo_sub [] rfl ?_
      exact ct_X1_out_26 hY hJ hCon hr N Ω7 _ h
    · refine zo_aload_n hY dX1_out_28 rfl 0 rfl ?_
      refine zo_iload_n hY dX1_out_29 rfl 1 rfl ?_
      refine zo_putI hY hJ LX1_73_0 rfl (Or.inl rfl) dX1_out_30 h (fun Ω10 h => ?_)
      refine zo_aload_n hY dX1_out_33 rfl 0 rfl ?_
      refine zo_iload_n hY dX1_out_34 rfl 2 rfl ?_
      refine zo_callV hY (fun q hq => mt_X1_begins hJ hCon N x2 Ω10 q hq) (by decide) (by decide) (by decide) ⟨rfl, cn_X1_begins⟩ rfl q894 q896 qs24 q78 q897 (Nat.le_of_ble_eq_true rfl) dX1_out_35 rfl h (cv_k (fun Ω11 res h => ?_))
      refine zo_aload_n hY dX1_out_38 rfl 0 rfl ?_
      refine zo_aload_n hY dX1_out_39 rfl 0 rfl ?_
      refine zo_getC hY LX1_16_0 rfl (fun Ω q => (hCon Ω q).1 0 _ rfl) dX1_out_40 ?_
      refine zo_iload_n hY dX1_out_43 rfl 1 rfl ?_
      refine zo_callV hY (fun q hq => mt_J2_get hJ hCon N 0 x1 Ω11 q hq) (by decide) (by decide) (by decide) ⟨rfl, cn_J2_get⟩ rfl q368 q369 q370 q81 q371 (Nat.le_of_ble_eq_true rfl) dX1_out_44 rfl h (cr_k (fun r13 Ω12 res h => ?_))
      refine zo_castK hY (by decide) q249 (Or.inl rfl) dX1_out_47 h (fun j14 h => ?_)
      refine zo_iload_n hY dX1_out_50 rfl 2 rfl ?_
      refine zo_callV hY (fun q hq => mt_X1_spanBy hJ hCon N j14 x2 Ω12 q hq) (by decide) (by decide) (by decide) ⟨rfl, cn_X1_spanBy⟩ rfl q1084 q1086 qs33 q78 q1087 (Nat.le_of_ble_eq_true rfl) dX1_out_51 rfl h (ck_k (fun r16 Ω15 res h => ?_))
      refine zo_astore_n hY dX1_out_54 rfl (by decide) rfl (ls' := [(3, vr 18 r16), (0, vr 0 0), (1, vi x1), (2, vi x2)]) rfl ?_
      refine zo_aload_n hY dX1_out_55 rfl 1 rfl ?_
      refine zo_iconst hY (-1) (by decide) dX1_out_56 ?_
      refine zo_putI hY hJ LX1_73_0 rfl (Or.inl rfl) dX1_out_57 h (fun Ω17 h => ?_)
      refine zo_aload_n hY dX1_out_60 rfl 0 rfl ?_
      refine zo_aload_n hY dX1_out_61 rfl 1 rfl ?_
      refine zo_getC hY LX1_16_0 rfl (fun Ω q => (hCon Ω q).1 0 _ rfl) dX1_out_62 ?_
      refine zo_iload_n hY dX1_out_65 rfl 2 rfl ?_
      refine zo_callV hY (fun q hq => mt_J2_get hJ hCon N 0 x1 Ω17 q hq) (by decide) (by decide) (by decide) ⟨rfl, cn_J2_get⟩ rfl q368 q369 q370 q81 q371 (Nat.le_of_ble_eq_true rfl) dX1_out_66 rfl h (cr_k (fun r19 Ω18 res h => ?_))
      refine zo_castK hY (by decide) q249 (Or.inl rfl) dX1_out_69 h (fun j20 h => ?_)
      refine zo_getI hY LX1_351_2 rfl dX1_out_72 ?_
      refine zo_callV hY (fun q hq => mt_X22_has hJ hCon N r16 (gI Ω18 2 j20 5) Ω18 q hq) (by decide) (by decide) (by decide) ⟨rfl, cn_X22_has⟩ rfl q1226 q1227 q1228 q116 q1229 (Nat.le_of_ble_eq_true rfl) dX1_out_75 rfl h (ci_k (fun r22 Ω21 res h => ?_))
      refine zo_if_eq hY 85 dX1_out_78 (by decide) h (fun c23 h => ?_) (fun c23 h => ?_)
      · refine zo_iconst hY 0 (by decide) dX1_out_85 ?_
        refine zo_sub [] rfl ?_
        exact ct_X1_out_86 hY hJ hCon hr N 0 Ω21 _ h
      · refine zo_iconst hY 1 (by decide) dX1_out_81 ?_
        refine zo_goto hY 86 dX1_out_82 (by decide) ?_
        refine zo_sub [] rfl ?_
        exact ct_X1_out_86 hY hJ hCon hr N 1 Ω21 _ h
def fn_X3_isBy_8_13 (N : Nat)  (s0 : Int32) (Ω : zo_O) : Option zo_R :=
  rZ s0 Ω
theorem ct_X3_isBy_8_13 {Y : zo_Y} (hY : zo_Gd Y cX3_isBy 2 RX3 0) (hJ : zo_JC (zo_J Y)) (hCon : ∀ Ω, zo_J Y Ω → zo_Con Ω) (hr : zo_rt Y (Option.some Jvm.ClassFile.FieldType.boolean)) (N : Nat)   (s0 : Int32) (Ω : zo_O) (res : zo_R) (h : fn_X3_isBy_8_13 N  s0 Ω = some res) : TW Y res Ω 13 [] [vi s0] := by
  unfold fn_X3_isBy_8_13 at h
  exact zo_zret hY hr dX3_isBy_13 h
def fn_X3_isBy_8 (N : Nat) (x0 : Nat) (x1 : Int32) (Ω : zo_O) : Option zo_R :=
  if x1 < gI Ω 8 x0 0 then (
    fn_X3_isBy_8_13 N 0 Ω
    ) else
  fn_X3_isBy_8_13 N 1 Ω
theorem mt_X3_isBy_8 {G : zo_G} {J : zo_O → Prop} (hJ : zo_JC J) (hCon : ∀ Ω, J Ω → zo_Con Ω) (N : Nat) (x0 : Nat) (x1 : Int32) (Ω : zo_O) (res : zo_R) (h : fn_X3_isBy_8 N x0 x1 Ω = some res) : zo_MT G J yX3_isBy cX3_isBy 2 (Option.some Jvm.ClassFile.FieldType.boolean) 0 [vr 8 x0, vi x1] Ω res := by
  refine zo_enter (by decide) rfl (Nat.le_of_ble_eq_true rfl) (fun Y hY eJ hr hmn => ?_)
  subst eJ
  show TW Y res Ω 0 [(0, vr 8 x0), (1, vi x1)] []
  unfold fn_X3_isBy_8 at h
  refine zo_aload_n hY dX3_isBy_0 rfl 0 rfl ?_
  refine zo_getI hY LX3_7_8 rfl dX3_isBy_1 ?_
  refine zo_iload_n hY dX3_isBy_4 rfl 1 rfl ?_
  refine zo_icmp_gt hY 12 dX3_isBy_5 (by decide) h (fun c1 h => ?_) (fun c1 h => ?_)
  · refine zo_iconst hY 0 (by decide) dX3_isBy_12 ?_
    refine zo_sub [] rfl ?_
    exact ct_X3_isBy_8_13 hY hJ hCon hr N 0 Ω _ h
  · refine zo_iconst hY 1 (by decide) dX3_isBy_8 ?_
    refine zo_goto hY 13 dX3_isBy_9 (by decide) ?_
    refine zo_sub [] rfl ?_
    exact ct_X3_isBy_8_13 hY hJ hCon hr N 1 Ω _ h
theorem dX1_grown_0 : decode cX1_grown 0 = .ok (.iload_n 1, 1) := by decide +kernel
theorem dX1_grown_1 : decode cX1_grown 1 = .ok (.iconst 0, 1) := by decide +kernel
theorem dX1_grown_2 : decode cX1_grown 2 = .ok (.aload_n 0, 1) := by decide +kernel
theorem dX1_grown_3 : decode cX1_grown 3 = .ok (.getfield 35, 3) := by decide +kernel
theorem dX1_grown_6 : decode cX1_grown 6 = .ok (.invokevirtual 85, 3) := by decide +kernel
theorem dX1_grown_9 : decode cX1_grown 9 = .ok (.iconst 1, 1) := by decide +kernel
theorem dX1_grown_10 : decode cX1_grown 10 = .ok (.isub, 1) := by decide +kernel
theorem dX1_grown_11 : decode cX1_grown 11 = .ok (.invokestatic 3, 3) := by decide +kernel
theorem dX1_grown_14 : decode cX1_grown 14 = .ok (.ifCond .eq 29, 3) := by decide +kernel
theorem dX1_grown_17 : decode cX1_grown 17 = .ok (.aload_n 0, 1) := by decide +kernel
theorem dX1_grown_18 : decode cX1_grown 18 = .ok (.iload_n 2, 1) := by decide +kernel
theorem dX1_grown_19 : decode cX1_grown 19 = .ok (.invokevirtual 153, 3) := by decide +kernel
theorem dX1_grown_22 : decode cX1_grown 22 = .ok (.ifCond .eq 21, 3) := by decide +kernel
theorem dX1_grown_25 : decode cX1_grown 25 = .ok (.aload_n 0, 1) := by decide +kernel
theorem dX1_grown_26 : decode cX1_grown 26 = .ok (.getfield 35, 3) := by decide +kernel
theorem dX1_grown_29 : decode cX1_grown 29 = .ok (.iload_n 1, 1) := by decide +kernel
theorem dX1_grown_30 : decode cX1_grown 30 = .ok (.invokevirtual 116, 3) := by decide +kernel
theorem dX1_grown_33 : decode cX1_grown 33 = .ok (.checkcast 147, 3) := by decide +kernel
theorem dX1_grown_36 : decode cX1_grown 36 = .ok (.iload_n 2, 1) := by decide +kernel
theorem dX1_grown_37 : decode cX1_grown 37 = .ok (.invokevirtual 398, 3) := by decide +kernel
theorem dX1_grown_40 : decode cX1_grown 40 = .ok (.ifCond .ne 5, 3) := by decide +kernel
theorem dX1_grown_43 : decode cX1_grown 43 = .ok (.iconst (-1), 1) := by decide +kernel
theorem dX1_grown_44 : decode cX1_grown 44 = .ok (.ireturn, 1) := by decide +kernel
theorem dX1_grown_45 : decode cX1_grown 45 = .ok (.aload_n 0, 1) := by decide +kernel
theorem dX1_grown_46 : decode cX1_grown 46 = .ok (.getfield 20, 3) := by decide +kernel
theorem dX1_grown_49 : decode cX1_grown 49 = .ok (.aload_n 0, 1) := by decide +kernel
theorem dX1_grown_50 : decode cX1_grown 50 = .ok (.getfield 35, 3) := by decide +kernel
theorem dX1_grown_53 : decode cX1_grown 53 = .ok (.iload_n 1, 1) := by decide +kernel
theorem dX1_grown_54 : decode cX1_grown 54 = .ok (.invokevirtual 116, 3) := by decide +kernel
theorem dX1_grown_57 : decode cX1_grown 57 = .ok (.checkcast 147, 3) := by decide +kernel
theorem dX1_grown_60 : decode cX1_grown 60 = .ok (.getfield 399, 3) := by decide +kernel
theorem dX1_grown_63 : decode cX1_grown 63 = .ok (.invokevirtual 116, 3) := by decide +kernel
theorem dX1_grown_66 : decode cX1_grown 66 = .ok (.checkcast 114, 3) := by decide +kernel
theorem dX1_grown_69 : decode cX1_grown 69 = .ok (.astore_n 3, 1) := by decide +kernel
theorem dX1_grown_70 : decode cX1_grown 70 = .ok (.aload_n 0, 1) := by decide +kernel
theorem dX1_grown_71 : decode cX1_grown 71 = .ok (.getfield 20, 3) := by decide +kernel
theorem dX1_grown_74 : decode cX1_grown 74 = .ok (.aload_n 0, 1) := by decide +kernel
theorem dX1_grown_75 : decode cX1_grown 75 = .ok (.getfield 35, 3) := by decide +kernel
theorem dX1_grown_78 : decode cX1_grown 78 = .ok (.iload_n 1, 1) := by decide +kernel
theorem dX1_grown_79 : decode cX1_grown 79 = .ok (.invokevirtual 116, 3) := by decide +kernel
theorem dX1_grown_82 : decode cX1_grown 82 = .ok (.checkcast 147, 3) := by decide +kernel
theorem dX1_grown_85 : decode cX1_grown 85 = .ok (.getfield 400, 3) := by decide +kernel
theorem dX1_grown_88 : decode cX1_grown 88 = .ok (.invokevirtual 116, 3) := by decide +kernel
theorem dX1_grown_91 : decode cX1_grown 91 = .ok (.checkcast 114, 3) := by decide +kernel
theorem dX1_grown_94 : decode cX1_grown 94 = .ok (.astore 4, 2) := by decide +kernel
theorem dX1_grown_96 : decode cX1_grown 96 = .ok (.aload_n 0, 1) := by decide +kernel
theorem dX1_grown_97 : decode cX1_grown 97 = .ok (.iload_n 2, 1) := by decide +kernel
theorem dX1_grown_98 : decode cX1_grown 98 = .ok (.invokevirtual 230, 3) := by decide +kernel
theorem dX1_grown_101 : decode cX1_grown 101 = .ok (.aload_n 0, 1) := by decide +kernel
theorem dX1_grown_102 : decode cX1_grown 102 = .ok (.aload_n 3, 1) := by decide +kernel
theorem dX1_grown_103 : decode cX1_grown 103 = .ok (.iload_n 2, 1) := by decide +kernel
theorem dX1_grown_104 : decode cX1_grown 104 = .ok (.invokevirtual 254, 3) := by decide +kernel
theorem dX1_grown_107 : decode cX1_grown 107 = .ok (.ifCond .eq 13, 3) := by decide +kernel
theorem dX1_grown_110 : decode cX1_grown 110 = .ok (.aload_n 0, 1) := by decide +kernel
theorem dX1_grown_111 : decode cX1_grown 111 = .ok (.aload 4, 2) := by decide +kernel
theorem dX1_grown_113 : decode cX1_grown 113 = .ok (.iload_n 2, 1) := by decide +kernel
theorem dX1_grown_114 : decode cX1_grown 114 = .ok (.invokevirtual 254, 3) := by decide +kernel
theorem dX1_grown_117 : decode cX1_grown 117 = .ok (.ifCond .ne 5, 3) := by decide +kernel
theorem dX1_grown_120 : decode cX1_grown 120 = .ok (.iconst (-1), 1) := by decide +kernel
theorem dX1_grown_121 : decode cX1_grown 121 = .ok (.ireturn, 1) := by decide +kernel
theorem dX1_grown_122 : decode cX1_grown 122 = .ok (.aload_n 0, 1) := by decide +kernel
theorem dX1_grown_123 : decode cX1_grown 123 = .ok (.aload 4, 2) := by decide +kernel
theorem dX1_grown_125 : decode cX1_grown 125 = .ok (.invokevirtual 262, 3) := by decide +kernel
theorem dX1_grown_128 : decode cX1_grown 128 = .ok (.aload_n 0, 1) := by decide +kernel
theorem dX1_grown_129 : decode cX1_grown 129 = .ok (.aload_n 3, 1) := by decide +kernel
theorem dX1_grown_130 : decode cX1_grown 130 = .ok (.invokevirtual 258, 3) := by decide +kernel
theorem dX1_grown_133 : decode cX1_grown 133 = .ok (.if_icmp .lt 37, 3) := by decide +kernel
theorem dX1_grown_136 : decode cX1_grown 136 = .ok (.aload_n 0, 1) := by decide +kernel
theorem dX1_grown_137 : decode cX1_grown 137 = .ok (.aload 4, 2) := by decide +kernel
theorem dX1_grown_139 : decode cX1_grown 139 = .ok (.invokevirtual 258, 3) := by decide +kernel
theorem dX1_grown_142 : decode cX1_grown 142 = .ok (.aload_n 0, 1) := by decide +kernel
theorem dX1_grown_143 : decode cX1_grown 143 = .ok (.aload_n 3, 1) := by decide +kernel
theorem dX1_grown_144 : decode cX1_grown 144 = .ok (.invokevirtual 262, 3) := by decide +kernel
theorem dX1_grown_147 : decode cX1_grown 147 = .ok (.isub, 1) := by decide +kernel
theorem dX1_grown_148 : decode cX1_grown 148 = .ok (.aload_n 0, 1) := by decide +kernel
theorem dX1_grown_149 : decode cX1_grown 149 = .ok (.getfield 46, 3) := by decide +kernel
theorem dX1_grown_152 : decode cX1_grown 152 = .ok (.aload 4, 2) := by decide +kernel
theorem dX1_grown_154 : decode cX1_grown 154 = .ok (.getfield 144, 3) := by decide +kernel
theorem dX1_grown_157 : decode cX1_grown 157 = .ok (.aload_n 3, 1) := by decide +kernel
theorem dX1_grown_158 : decode cX1_grown 158 = .ok (.getfield 144, 3) := by decide +kernel
theorem dX1_grown_161 : decode cX1_grown 161 = .ok (.isub, 1) := by decide +kernel
theorem dX1_grown_162 : decode cX1_grown 162 = .ok (.imul, 1) := by decide +kernel
theorem dX1_grown_163 : decode cX1_grown 163 = .ok (.if_icmp .gt 7, 3) := by decide +kernel
theorem dX1_grown_166 : decode cX1_grown 166 = .ok (.iconst 1, 1) := by decide +kernel
theorem dX1_grown_167 : decode cX1_grown 167 = .ok (.goto 4, 3) := by decide +kernel
theorem dX1_grown_170 : decode cX1_grown 170 = .ok (.iconst 0, 1) := by decide +kernel
theorem dX1_grown_171 : decode cX1_grown 171 = .ok (.ireturn, 1) := by decide +kernel
def fn_X1_grown_43 (N : Nat)   (Ω : zo_O) : Option zo_R :=
  rI ((-1)) Ω
theorem ct_X1_grown_43 {Y : zo_Y} (hY : zo_Gd Y cX1_grown 5 RX1 5) (hJ : zo_JC (zo_J Y)) (hCon : ∀ Ω, zo_J Y Ω → zo_Con Ω) (hr : zo_rt Y (Option.some Jvm.ClassFile.FieldType.int)) (N : Nat)    (Ω : zo_O) (res : zo_R) (h : fn_X1_grown_43 N   Ω = some res) : TW Y res Ω 43 [] [] := by
  unfold fn_X1_grown_43 at h
  refine zo_iconst hY (-1) (by decide) dX1_grown_43 ?_
  exact zo_iret hY hr dX1_grown_44 h
def fn_X1_grown_120 (N : Nat)   (Ω : zo_O) : Option zo_R :=
  rI ((-1)) Ω
theorem ct_X1_grown_120 {Y : zo_Y} (hY : zo_Gd Y cX1_grown 5 RX1 5) (hJ : zo_JC (zo_J Y)) (hCon : ∀ Ω, zo_J Y Ω → zo_Con Ω) (hr : zo_rt Y (Option.some Jvm.ClassFile.FieldType.int)) (N : Nat)    (Ω : zo_O) (res : zo_R) (h : fn_X1_grown_120 N   Ω = some res) : TW Y res Ω 120 [] [] := by
  unfold fn_X1_grown_120 at h
  refine zo_iconst hY (-1) (by decide) dX1_grown_120 ?_
  exact zo_iret hY hr dX1_grown_121 h
def fn_X1_grown_171 (N : Nat)  (s0 : Int32) (Ω : zo_O) : Option zo_R :=
  rI s0 Ω
theorem ct_X1_grown_171 {Y : zo_Y} (hY : zo_Gd Y cX1_grown 5 RX1 5) (hJ : zo_JC (zo_J Y)) (hCon : ∀ Ω, zo_J Y Ω → zo_Con Ω) (hr : zo_rt Y (Option.some Jvm.ClassFile.FieldType.int)) (N : Nat)   (s0 : Int32) (Ω : zo_O) (res : zo_R) (h : fn_X1_grown_171 N  s0 Ω = some res) : TW Y res Ω 171 [] [vi s0] := by
  unfold fn_X1_grown_171 at h
  exact zo_iret hY hr dX1_grown_171 h
def fn_X1_grown_170 (N : Nat)   (Ω : zo_O) : Option zo_R :=
  fn_X1_grown_171 N 0 Ω
theorem ct_X1_grown_170 {Y : zo_Y} (hY : zo_Gd Y cX1_grown 5 RX1 5) (hJ : zo_JC (zo_J Y)) (hCon : ∀ Ω, zo_J Y Ω → zo_Con Ω) (hr : zo_rt Y (Option.some Jvm.ClassFile.FieldType.int)) (N : Nat)    (Ω : zo_O) (res : zo_R) (h : fn_X1_grown_170 N   Ω = some res) : TW Y res Ω 170 [] [] := by
  unfold fn_X1_grown_170 at h
  refine zo_iconst hY 0 (by decide) dX1_grown_170 ?_
  exact ct_X1_grown_171 hY hJ hCon hr N 0 Ω _ h
def fn_X1_grown (N : Nat) (x1 : Int32) (x2 : Int32) (Ω : zo_O) : Option zo_R :=
  ci (fn_J2_size N 6 Ω) fun r2 Ω1 =>
  ci (fn_X1_in N x1 0 (r2 - 1) Ω1) fun r4 Ω3 =>
  if r4 = 0 then (
    fn_X1_grown_43 N Ω3
    ) else
  ci (fn_X1_isKnown N x2 Ω3) fun r7 Ω6 =>
  if r7 = 0 then (
    fn_X1_grown_43 N Ω6
    ) else
  cr (fn_J2_get N 6 x1 Ω6) fun r10 Ω9 =>
  bk r10 8 fun j11 =>
  ci (fn_X3_isBy_8 N j11 x2 Ω9) fun r13 Ω12 =>
  if r13 = 0 then (
    fn_X1_grown_43 N Ω12
    ) else
  cr (fn_J2_get N 6 x1 Ω12) fun r16 Ω15 =>
  bk r16 8 fun j17 =>
  cr (fn_J2_get N 1 (gI Ω15 8 j17 1) Ω15) fun r19 Ω18 =>
  bk r19 3 fun j20 =>
  cr (fn_J2_get N 6 x1 Ω18) fun r22 Ω21 =>
  bk r22 8 fun j23 =>
  cr (fn_J2_get N 1 (gI Ω21 8 j23 2) Ω21) fun r25 Ω24 =>
  bk r25 3 fun j26 =>
  cv (fn_X1_findHabits N x2 Ω24) fun Ω27 =>
  ci (fn_X1_isUsed N j20 x2 Ω27) fun r29 Ω28 =>
  if r29 = 0 then (
    fn_X1_grown_120 N Ω28
    ) else
  ci (fn_X1_isUsed N j26 x2 Ω28) fun r32 Ω31 =>
  if r32 = 0 then (
    fn_X1_grown_120 N Ω31
    ) else
  ci (fn_X1_most N j26 Ω31) fun r35 Ω34 =>
  ci (fn_X1_least N j20 Ω34) fun r37 Ω36 =>
  if r35 < r37 then (
    fn_X1_grown_170 N Ω36
    ) else
  ci (fn_X1_least N j26 Ω36) fun r40 Ω39 =>
  ci (fn_X1_most N j20 Ω39) fun r42 Ω41 =>
  if (gI Ω41 0 0 10) * ((gI Ω41 3 j26 5) - (gI Ω41 3 j20 5)) < r40 - r42 then (
    fn_X1_grown_170 N Ω41
    ) else
  fn_X1_grown_171 N 1 Ω41
theorem mt_X1_grown {G : zo_G} {J : zo_O → Prop} (hJ : zo_JC J) (hCon : ∀ Ω, J Ω → zo_Con Ω) (N : Nat) (x1 : Int32) (x2 : Int32) (Ω : zo_O) (res : zo_R) (h : fn_X1_grown N x1 x2 Ω = some res) : zo_MT G J yX1_grown cX1_grown 5 (Option.some Jvm.ClassFile.FieldType.int) 5 [vr 0 0, vi x1, vi x2] Ω res := by
  refine zo_enter (by decide) rfl (Nat.le_of_ble_eq_true rfl) (fun Y hY eJ hr hmn => ?_)
  subst eJ
  show TW Y res Ω 0 [(0, vr 0 0), (1, vi x1), (2, vi x2)] []
  unfold fn_X1_grown at h
  refine zo_iload_n hY dX1_grown_0 rfl 1 rfl ?_
  refine zo_iconst hY 0 (by decide) dX1_grown_1 ?_
  refine zo_aload_n hY dX1_grown_2 rfl 0 rfl ?_
  refine zo_getC hY LX1_35_0 rfl (fun Ω q => (hCon Ω q).1 6 _ rfl) dX1_grown_3 ?_
  refine zo_callV hY (fun q hq => mt_J2_size hJ hCon N 6 Ω q hq) (by decide) (by decide) (by decide) ⟨rfl, cn_J2_size⟩ rfl q245 q246 q247 q81 q248 (Nat.le_of_ble_eq_true rfl) dX1_grown_6 rfl h (ci_k (fun r2 Ω1 res h => ?_))
  refine zo_iconst hY 1 (by decide) dX1_grown_9 ?_
  refine zo_isub hY dX1_grown_10 ?_
  refine zo_callS hY (fun q hq => mt_X1_in hJ hCon N x1 0 (r2 - 1) Ω1 q hq) (by decide) (by decide) cn_X1_in rfl q239 q240 q78 q241 (Nat.le_of_ble_eq_true rfl) dX1_grown_11 rfl h (ci_k (fun r4 Ω3 res h => ?_))
  refine zo_if_eq hY 43 dX1_grown_14 (by decide) h (fun c5 h => ?_) (fun c5 h => ?_)
  · refine zo_sub [] rfl ?_
    exact ct_X1_grown_43 hY hJ hCon hr N Ω3 _ h
  · refine zo_aload_n hY dX1_grown_17 rfl 0 rfl ?_
    refine zo_iload_n hY dX1_grown_18 rfl 2 rfl ?_
    refine zo_callV hY (fun q hq => mt_X1_isKnown hJ hCon N x2 Ω3 q hq) (by decide) (by decide) (by decide) ⟨rfl, cn_X1_isKnown⟩ rfl q816 q818 qs17 q78 q819 (Nat.le_of_ble_eq_true rfl) dX1_grown_19 rfl h (ci_k (fun r7 Ω6 res h => ?_))
    refine zo_if_eq hY 43 dX1_grown_22 (by decide) h (fun c8 h => ?_) (fun c8 h => ?_)
    · refine zo_sub [] rfl ?_
      exact ct_X1_grown_43 hY hJ hCon hr N Ω6 _ h
    · refine zo_aload_n hY dX1_grown_25 rfl 0 rfl ?_
      refine zo_getC hY LX1_35_0 rfl (fun Ω q => (hCon Ω q).1 6 _ rfl) dX1_grown_26 ?_
      refine zo_iload_n hY dX1_grown_29 rfl 1 rfl ?_
      refine zo_callV hY (fun q hq => mt_J2_get hJ hCon N 6 x1 Ω6 q hq) (by decide) (by decide) (by decide) ⟨rfl, cn_J2_get⟩ rfl q368 q369 q370 q81 q371 (Nat.le_of_ble_eq_true rfl) dX1_grown_30 rfl h (cr_k (fun r10 Ω9 res h => ?_))
      refine zo_castK hY (by decide) q516 (Or.inl rfl) dX1_grown_33 h (fun j11 h => ?_)
      refine zo_iload_n hY dX1_grown_36 rfl 2 rfl ?_
      refine zo_callU hY (fun q hq => mt_X3_isBy_8 hJ hCon N j11 x2 Ω9 q hq) (by decide) (by decide) (by decide) cn_X3_isBy rfl rfl q1215 q1216 q1217 q829 q83 q830 (Nat.le_of_ble_eq_true rfl) dX1_grown_37 rfl h (ci_k (fun r13 Ω12 res h => ?_))
      refine zo_if_ne hY 45 dX1_grown_40 (by decide) h (fun c14 h => ?_) (fun c14 h => ?_)
      · refine zo_sub [] rfl ?_
        exact ct_X1_grown_43 hY hJ hCon hr N Ω12 _ h
      · refine zo_aload_n hY dX1_grown_45 rfl 0 rfl ?_
        refine zo_getC hY LX1_20_0 rfl (fun Ω q => (hCon Ω q).1 1 _ rfl) dX1_grown_46 ?_
        refine zo_aload_n hY dX1_grown_49 rfl 0 rfl ?_
        refine zo_getC hY LX1_35_0 rfl (fun Ω q => (hCon Ω q).1 6 _ rfl) dX1_grown_50 ?_
        refine zo_iload_n hY dX1_grown_53 rfl 1 rfl ?_
        refine zo_callV hY (fun q hq => mt_J2_get hJ hCon N 6 x1 Ω12 q hq) (by decide) (by decide) (by decide) ⟨rfl, cn_J2_get⟩ rfl q368 q369 q370 q81 q371 (Nat.le_of_ble_eq_true rfl) dX1_grown_54 rfl h (cr_k (fun r16 Ω15 res h => ?_))
        refine zo_castK hY (by decide) q516 (Or.inl rfl) dX1_grown_57 h (fun j17 h => ?_)
        refine zo_getI hY LX1_399_8 rfl dX1_grown_60 ?_
        refine zo_callV hY (fun q hq => mt_J2_get hJ hCon N 1 (gI Ω15 8 j17 1) Ω15 q hq) (by decide) (by decide) (by decide) ⟨rfl, cn_J2_get⟩ rfl q368 q369 q370 q81 q371 (Nat.le_of_ble_eq_true rfl) dX1_grown_63 rfl h (cr_k (fun r19 Ω18 res h => ?_))
        refine zo_castK hY (by decide) q366 (Or.inl rfl) dX1_grown_66 h (fun j20 h => ?_)
        refine zo_astore_n hY dX1_grown_69 rfl (by decide) rfl (ls' := [(3, vr 3 j20), (0, vr 0 0), (1, vi x1), (2, vi x2)]) rfl ?_
        refine zo_aload_n hY dX1_grown_70 rfl 1 rfl ?_
        refine zo_getC hY LX1_20_0 rfl (fun Ω q => (hCon Ω q).1 1 _ rfl) dX1_grown_71 ?_
        refine zo_aload_n hY dX1_grown_74 rfl 1 rfl ?_
        refine zo_getC hY LX1_35_0 rfl (fun Ω q => (hCon Ω q).1 6 _ rfl) dX1_grown_75 ?_
        refine zo_iload_n hY dX1_grown_78 rfl 2 rfl ?_
        refine zo_callV hY (fun q hq => mt_J2_get hJ hCon N 6 x1 Ω18 q hq) (by decide) (by decide) (by decide) ⟨rfl, cn_J2_get⟩ rfl q368 q369 q370 q81 q371 (Nat.le_of_ble_eq_true rfl) dX1_grown_79 rfl h (cr_k (fun r22 Ω21 res h => ?_))
        refine zo_castK hY (by decide) q516 (Or.inl rfl) dX1_grown_82 h (fun j23 h => ?_)
        refine zo_getI hY LX1_400_8 rfl dX1_grown_85 ?_
        refine zo_callV hY (fun q hq => mt_J2_get hJ hCon N 1 (gI Ω21 8 j23 2) Ω21 q hq) (by decide) (by decide) (by decide) ⟨rfl, cn_J2_get⟩ rfl q368 q369 q370 q81 q371 (Nat.le_of_ble_eq_true rfl) dX1_grown_88 rfl h (cr_k (fun r25 Ω24 res h => ?_))
        refine zo_castK hY (by decide) q366 (Or.inl rfl) dX1_grown_91 h (fun j26 h => ?_)
        refine zo_astore hY dX1_grown_94 (by decide) rfl (ls' := [(4, vr 3 j26), (3, vr 3 j20), (0, vr 0 0), (1, vi x1), (2, vi x2)]) rfl ?_
        refine zo_aload_n hY dX1_grown_96 rfl 2 rfl ?_
        refine zo_iload_n hY dX1_grown_97 rfl 4 rfl ?_
        refine zo_callV hY (fun q hq => mt_X1_findHabits hJ hCon N x2 Ω24 q hq) (by decide) (by decide) (by decide) ⟨rfl, cn_X1_findHabits⟩ rfl q820 q822 qs18 q78 q823 (Nat.le_of_ble_eq_true rfl) dX1_grown_98 rfl h (cv_k (fun Ω27 res h => ?_))
        refine zo_aload_n hY dX1_grown_101 rfl 2 rfl ?_
        refine zo_aload_n hY dX1_grown_102 rfl 1 rfl ?_
        refine zo_iload_n hY dX1_grown_103 rfl 4 rfl ?_
        refine zo_callV hY (fun q hq => mt_X1_isUsed hJ hCon N j20 x2 Ω27 q hq) (by decide) (by decide) (by decide) ⟨rfl, cn_X1_isUsed⟩ rfl q832 q834 qs19 q78 q835 (Nat.le_of_ble_eq_true rfl) dX1_grown_104 rfl h (ci_k (fun r29 Ω28 res h => ?_))
        refine zo_if_eq hY 120 dX1_grown_107 (by decide) h (fun c30 h => ?_) (fun c30 h => ?_)
        · refine zo_sub [] rfl ?_
          exact ct_X1_grown_120 hY hJ hCon hr N Ω28 _ h
        · refine zo_aload_n hY dX1_grown_110 rfl 2 rfl ?_
          refine zo_aload hY dX1_grown_111 0 rfl ?_
          refine zo_iload_n hY dX1_grown_113 rfl 4 rfl ?_
          refine zo_callV hY (fun q hq => mt_X1_isUsed hJ hCon N j26 x2 Ω28 q hq) (by decide) (by decide) (by decide) ⟨rfl, cn_X1_isUsed⟩ rfl q832 q834 qs19 q78 q835 (Nat.le_of_ble_eq_true rfl) dX1_grown_114 rfl h (ci_k (fun r32 Ω31 res h => ?_))
          refine zo_if_ne hY 122 dX1_grown_117 (by decide) h (fun c33 h => ?_) (fun c33 h => ?_)
          · refine zo_sub [] rfl ?_
            exact ct_X1_grown_120 hY hJ hCon hr N Ω31 _ h
          · refine zo_aload_n hY dX1_grown_122 rfl 2 rfl ?_
            refine zo_aload hY dX1_grown_123 0 rfl ?_
            refine zo_callV hY (fun q hq => mt_X1_most hJ hCon N j26 Ω31 q hq) (by decide) (by decide) (by decide) ⟨rfl, cn_X1_most⟩ rfl q882 q884 qs22 q78 q885 (Nat.le_of_ble_eq_true rfl) dX1_grown_125 rfl h (ci_k (fun r35 Ω34 res h => ?_))
            refine zo_aload_n hY dX1_grown_128 rfl 2 rfl ?_
            refine zo_aload_n hY dX1_grown_129 rfl 1 rfl ?_
            refine zo_callV hY (fun q hq => mt_X1_least hJ hCon N j20 Ω34 q hq) (by decide) (by decide) (by decide) ⟨rfl, cn_X1_least⟩ rfl q877 q879 qs21 q78 q880 (Nat.le_of_ble_eq_true rfl) dX1_grown_130 rfl h (ci_k (fun r37 Ω36 res h => ?_))
            refine zo_icmp_lt hY 170 dX1_grown_133 (by decide) h (fun c38 h => ?_) (fun c38 h => ?_)
            · refine zo_sub [] rfl ?_
              exact ct_X1_grown_170 hY hJ hCon hr N Ω36 _ h
            · refine zo_aload_n hY dX1_grown_136 rfl 2 rfl ?_
              refine zo_aload hY dX1_grown_137 0 rfl ?_
              refine zo_callV hY (fun q hq => mt_X1_least hJ hCon N j26 Ω36 q hq) (by decide) (by decide) (by decide) ⟨rfl, cn_X1_least⟩ rfl q877 q879 qs21 q78 q880 (Nat.le_of_ble_eq_true rfl) dX1_grown_139 rfl h (ci_k (fun r40 Ω39 res h => ?_))
              refine zo_aload_n hY dX1_grown_142 rfl 2 rfl ?_
              refine zo_aload_n hY dX1_grown_143 rfl 1 rfl ?_
              refine zo_callV hY (fun q hq => mt_X1_most hJ hCon N j20 Ω39 q hq) (by decide) (by decide) (by decide) ⟨rfl, cn_X1_most⟩ rfl q882 q884 qs22 q78 q885 (Nat.le_of_ble_eq_true rfl) dX1_grown_144 rfl h (ci_k (fun r42 Ω41 res h => ?_))
              refine zo_isub hY dX1_grown_147 ?_
              refine zo_aload_n hY dX1_grown_148 rfl 2 rfl ?_
              refine zo_getI hY LX1_46_0 rfl dX1_grown_149 ?_
              refine zo_aload hY dX1_grown_152 0 rfl ?_
              refine zo_getI hY LX1_144_3 rfl dX1_grown_154 ?_
              refine zo_aload_n hY dX1_grown_157 rfl 1 rfl ?_
              refine zo_getI hY LX1_144_3 rfl dX1_grown_158 ?_
              refine zo_isub hY dX1_grown_161 ?_
              refine zo_imul hY dX1_grown_162 ?_
              refine zo_icmp_gt hY 170 dX1_grown_163 (by decide) h (fun c43 h => ?_) (fun c43 h => ?_)
              · refine zo_sub [] rfl ?_
                exact ct_X1_grown_170 hY hJ hCon hr N Ω41 _ h
              · refine zo_iconst hY 1 (by decide) dX1_grown_166 ?_
                refine zo_goto hY 171 dX1_grown_167 (by decide) ?_
                refine zo_sub [] rfl ?_
                exact ct_X1_grown_171 hY hJ hCon hr N 1 Ω41 _ h
