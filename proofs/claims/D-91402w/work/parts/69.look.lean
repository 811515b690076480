/-! ===== looks; M's gathers and isFirst ===== -/
def EX (B : zo_O) (q : Bool) (D : Nat → Nat → Int32) (Ω : zo_O) : Prop := Wx sS0 B Ω ∧ HbX Ω q D
def EM (B : zo_O) (q : Bool) (D : Nat → Nat → Int32) (Ω : zo_O) : Prop := Wx sS0 B Ω ∧ HbM Ω q D
theorem EX.step {B Ω Ω' : zo_O} {q : Bool} {D : Nat → Nat → Int32} {L : List (Nat × Nat)} (h : EX B q D Ω) (w : Wx L Ω Ω') (h1 : ∀ x ∈ L, x ∈ sS0) (h2 : ∀ x ∈ sLx, x ∉ L) : EX B q D Ω' := by
  refine ⟨h.1.step w h1, ?_, fun hq a b ha hb => ?_⟩
  · rw [w.I (h2 _ (by decide)) (Or.inl fx_0)]; exact h.2.1
  · rw [w.I (fun m => h2 _ (List.mem_cons_of_mem _ (in36 ha)) m) (Or.inl (fx_m (by decide)))]; exact h.2.2 hq a b ha hb
theorem EM.step {B Ω Ω' : zo_O} {q : Bool} {D : Nat → Nat → Int32} {L : List (Nat × Nat)} (h : EM B q D Ω) (w : Wx L Ω Ω') (h1 : ∀ x ∈ L, x ∈ sS0) (h2 : ∀ x ∈ sLm, x ∉ L) : EM B q D Ω' := by
  refine ⟨h.1.step w h1, ?_, fun hq m hm => ?_⟩
  · rw [w.I (h2 _ (by decide)) (Or.inl fx_1)]; exact h.2.1
  · have k := h.2.2 hq m hm
    rw [w.I (k := 33) (n := 3) (h2 (33, 3) (by decide)) (Or.inl (fx_m (by decide))), w.I (k := 32) (n := 37) (h2 (32, 37) (by decide)) (Or.inl (fx_m (by decide))), w.I (k := 32) (n := 36) (h2 (32, 36) (by decide)) (Or.inl (fx_m (by decide)))]
    exact k
def lkN (B : zo_O) (s k kn : Int32) : Nat → Int32
  | 0 => 0
  | i + 1 => if gI B 32 12 i = s ∧ gI B 32 13 i = k ∧ gI B 32 15 i ≤ kn then gI B 32 14 i else lkN B s k kn i
def lk (B : zo_O) (s k kn : Int32) : Int32 := lkN B s k kn (gC B 4)
def mtc (B : zo_O) (q : Bool) (D : Nat → Nat → Int32) (kn : Int32) (s : Nat) (k y : Int32) (c : Nat) : Bool := decide (cst B c = s) && decide (gI B 32 6 c = k) && decide (gI B 32 10 c = y) && sU B q D kn c
def gLo (B : zo_O) (q : Bool) (D : Nat → Nat → Int32) (kn : Int32) (s : Nat) (k y : Int32) : Nat → Int32
  | 0 => -1
  | c + 1 => if mtc B q D kn s k y c = true then mx (gLo B q D kn s k y c) (sLo B D c) else gLo B q D kn s k y c
def gHi (B : zo_O) (q : Bool) (D : Nat → Nat → Int32) (kn : Int32) (s : Nat) (k y : Int32) : Nat → Int32
  | 0 => -1
  | c + 1 => if mtc B q D kn s k y c = true then mx (gHi B q D kn s k y c) (sHi B D c) else gHi B q D kn s k y c
def isF (B : zo_O) (c : Nat) : Bool := decide (∀ o, o < c → ¬ (gI B 32 5 o = gI B 32 5 c ∧ gI B 32 6 o = gI B 32 6 c ∧ gI B 32 10 o = gI B 32 10 c))
section U
variable {B : zo_O} (hB : Bse B) {q : Bool} {D : Nat → Nat → Int32} {kn : Int32}
include hB
theorem m_lookL {N : Nat} {Ω : zo_O} {s k : Int32} (hw : Wx sS0 B Ω) : ∀ m i n, i + m = gC B 4 → m < n → fn_X2_lookedAt_6 N n s k kn (lkN B s k kn i) (nI i) Ω = some (some (vi (lk B s k kn)), Ω, 0, 0) := by
  obtain ⟨_, h17, h100⟩ := hB.1 4 (by decide) (by decide)
  have h17 : gI B 1 0 17 = nI (gC B 4) := h17
  have h100 : gC B 4 ≤ 100 := h100
  intro m
  induction m with
  | zero =>
    intro i n hi hn
    obtain ⟨n, rfl⟩ : ∃ k, n = k + 1 := ⟨n - 1, by omega⟩
    have : i = gC B 4 := by omega
    subst this
    unfold fn_X2_lookedAt_6 bd_X2_lookedAt_6
    rw [w_m hw (by decide), h17, if_pos (by rw [nI_leI (by omega) (by omega)]; omega)]
    rfl
  | succ m ih =>
    intro i n hi hn
    obtain ⟨n, rfl⟩ : ∃ k, n = k + 1 := ⟨n - 1, by omega⟩
    have ik := ih (i + 1) n (by omega) (by omega)
    unfold fn_X2_lookedAt_6 bd_X2_lookedAt_6 fn_X2_lookedAt_57
    rw [w_m hw (by decide), h17, if_neg (by rw [nI_leI (by omega) (by omega)]; omega)]
    simp only [ix_n (show i < 100 by omega) (show 100 < 2147483648 by decide), w_c hw (show 12 ≤ 35 by decide), w_c hw (show 13 ≤ 35 by decide), w_c hw (show 14 ≤ 35 by decide), w_c hw (show 15 ≤ 35 by decide), li, nI_1]
    rw [lkN] at ik
    by_cases g1 : gI B 32 12 i = s
    · rw [if_pos g1]
      by_cases g2 : gI B 32 13 i = k
      · rw [if_pos g2]
        by_cases g3 : kn < gI B 32 15 i
        · rw [if_pos g3]
          rw [if_neg (by grind)] at ik; exact ik
        · rw [if_neg g3]
          rw [if_pos (by grind)] at ik; exact ik
      · rw [if_neg g2]
        rw [if_neg (by grind)] at ik; exact ik
    · rw [if_neg g1]
      rw [if_neg (by grind)] at ik; exact ik
theorem m_lookedAt {N : Nat} {Ω : zo_O} {s k : Int32} (hN : 101 ≤ N) (hw : Wx sS0 B Ω) : fn_X2_lookedAt N s k kn Ω = some (some (vi (lk B s k kn)), Ω, 0, 0) := by
  have h100 : gC B 4 ≤ 100 := (hB.1 4 (by decide) (by decide)).2.2
  exact m_lookL hB hw (gC B 4) 0 N (by omega) (by omega)
theorem x_lookL {N : Nat} {Ω : zo_O} {s k : Int32} (hw : Wx sS0 B Ω) : ∀ m i n, i + m = gC B 4 → m < n → fn_X1_lookedAt_6 N n s k kn (lkN B s k kn i) (nI i) Ω = some (some (vi (lk B s k kn)), Ω, 0, 0) := by
  obtain ⟨hS, _, h100⟩ := hB.1 4 (by decide) (by decide)
  have hS : gS B 2 = tks 4 (gC B 4) := hS
  have h100 : gC B 4 ≤ 100 := h100
  have h7 : 7 ≤ gC B 20 := hB.2.2.2.2.2.2.2.1
  have hSO : gS Ω 2 = tks 4 (gC B 4) := by rw [hw.S (by simp [sS0, sQ]) (by omega)]; exact hS
  intro m
  induction m with
  | zero =>
    intro i n hi hn
    obtain ⟨n, rfl⟩ : ∃ k, n = k + 1 := ⟨n - 1, by omega⟩
    have : i = gC B 4 := by omega
    subst this
    unfold fn_X1_lookedAt_6 bd_X1_lookedAt_6
    rw [x_size, ci_mk, hSO, tks_len, if_pos (by rw [nI_leI (by omega) (by omega)]; omega)]
    rfl
  | succ m ih =>
    intro i n hi hn
    obtain ⟨n, rfl⟩ : ∃ k, n = k + 1 := ⟨n - 1, by omega⟩
    have ik := ih (i + 1) n (by omega) (by omega)
    have hi' : i < gC B 4 := by omega
    have hg := x_get (N := N) (l := 2) (i := i) (Ω := Ω) (by rw [hSO, tks_len]; omega) (by rw [hSO, tks_len]; omega)
    rw [hSO, tks_get hi'] at hg
    have col : ∀ f c, (4, f, c) ∈ iv_cols → gI Ω 4 i f = gI B 32 c i := fun f c h => by
      rw [w_o hw (by decide) hi']; exact hB.2.1 _ h i hi'
    unfold fn_X1_lookedAt_6 bd_X1_lookedAt_6 fn_X1_lookedAt_92 fn_X3_isBy_4 fn_X3_isBy_4_13
    rw [x_size, ci_mk, hSO, tks_len, if_neg (by rw [nI_leI (by omega) (by omega)]; omega)]
    simp only [hg, cr_mk, bk_mk, col 0 15 (by decide), col 1 12 (by decide), col 2 13 (by decide), col 3 14 (by decide), li, nI_1, rZ_0, rZ_1]
    rw [lkN] at ik
    by_cases g1 : gI B 32 12 i = s
    · rw [if_pos g1]
      by_cases g2 : gI B 32 13 i = k
      · rw [if_pos g2]
        by_cases g3 : kn < gI B 32 15 i
        · rw [if_pos g3, ci_mk, if_pos rfl]
          rw [if_neg (by grind)] at ik; exact ik
        · rw [if_neg g3, ci_mk, if_neg (by decide), hg, cr_mk, bk_mk, col 3 14 (by decide)]
          rw [if_pos (by grind)] at ik; exact ik
      · rw [if_neg g2]
        rw [if_neg (by grind)] at ik; exact ik
    · rw [if_neg g1]
      rw [if_neg (by grind)] at ik; exact ik
theorem x_lookedAt {N : Nat} {Ω : zo_O} {s k : Int32} (hN : 101 ≤ N) (hw : Wx sS0 B Ω) : fn_X1_lookedAt N s k kn Ω = some (some (vi (lk B s k kn)), Ω, 0, 0) := by
  have h100 : gC B 4 ≤ 100 := (hB.1 4 (by decide) (by decide)).2.2
  exact x_lookL hB hw (gC B 4) 0 N (by omega) (by omega)
theorem cst_eq {c s : Nat} (hc : c < gC B 3) (hs : s < 14) : gI B 32 5 c = nI s ↔ cst B c = s := by
  have h := cir_s hB hc
  have h14 := n_2 hB
  rw [h.2.1, nI_eq (by omega) (by omega)]
theorem m_gathL {N s : Nat} {k y : Int32} (hN : 15 ≤ N) (hs : s < 14) : ∀ m c n Ω, c + m = gC B 3 → m < n → EM B q D Ω → gI Ω 1 0 66 = gLo B q D kn s k y c → gI Ω 1 0 67 = gHi B q D kn s k y c → ∃ Ω', fn_X2_gathers_13 N n (nI s) k y kn (nI c) Ω = some (some (vi (if gLo B q D kn s k y (gC B 3) = -1 then 0 else 1)), Ω', 0, 0) ∧ Wx [(1, 66), (1, 67)] Ω Ω' ∧ gI Ω' 1 0 66 = gLo B q D kn s k y (gC B 3) ∧ gI Ω' 1 0 67 = gHi B q D kn s k y (gC B 3) := by
  have h120 := n_3 hB
  have h8 := (b_c hB).2
  intro m
  induction m with
  | zero =>
    intro c n Ω hc hn hE h66 h67
    obtain ⟨n, rfl⟩ : ∃ k, n = k + 1 := ⟨n - 1, by omega⟩
    have : c = gC B 3 := by omega
    subst this
    unfold fn_X2_gathers_13 bd_X2_gathers_13 fn_X2_gathers_122
    rw [w_m hE.1 (by decide), h8, if_pos (by rw [nI_leI (by omega) (by omega)]; omega), h66, rZ_0, rZ_1]
    refine ⟨Ω, ?_, Wx.refl, h66, h67⟩
    split <;> rfl
  | succ m ih =>
    intro c n Ω hc hn hE h66 h67
    obtain ⟨n, rfl⟩ : ∃ k, n = k + 1 := ⟨n - 1, by omega⟩
    have hcl : c < gC B 3 := by omega
    have hw := hE.1
    unfold fn_X2_gathers_13 bd_X2_gathers_13 fn_X2_gathers_103
    rw [w_m hw (by decide), h8, if_neg (by rw [nI_leI (by omega) (by omega)]; omega)]
    simp only [ix_n (show c < 120 by omega) (show 120 < 2147483648 by decide), w_c hw (show 5 ≤ 35 by decide), w_c hw (show 6 ≤ 35 by decide), w_c hw (show 10 ≤ 35 by decide), cst_eq hB hcl hs, m_isUsed hB hw hN hE.2 hcl, ci_mk, if_10, nI_1]
    have no : mtc B q D kn s k y c ≠ true → ∃ Ω', fn_X2_gathers_13 N n (nI s) k y kn (nI (c + 1)) Ω = some (some (vi (if gLo B q D kn s k y (gC B 3) = -1 then 0 else 1)), Ω', 0, 0) ∧ Wx [(1, 66), (1, 67)] Ω Ω' ∧ gI Ω' 1 0 66 = gLo B q D kn s k y (gC B 3) ∧ gI Ω' 1 0 67 = gHi B q D kn s k y (gC B 3) := fun hm =>
      ih (c + 1) n Ω (by omega) (by omega) hE (by rw [gLo, if_neg hm]; exact h66) (by rw [gHi, if_neg hm]; exact h67)
    by_cases g1 : cst B c = s
    · rw [if_pos g1]
      by_cases g2 : gI B 32 6 c = k
      · rw [if_pos g2]
        by_cases g3 : gI B 32 10 c = y
        · rw [if_pos g3]
          by_cases g4 : sU B q D kn c = true
          · rw [if_pos g4, m_lowOf hB hw hE.2 (sU_q g4) hcl, ci_mk]
            unfold lt
            have hm : mtc B q D kn s k y c = true := by simp [mtc, g1, g2, g3, g4]
            have W1 : Wx [(1, 66), (1, 67)] Ω (sI Ω 1 0 66 (mx (gI Ω 1 0 66) (sLo B D c))) := Wx.refl.sI (Or.inl (by decide))
            have hE1 := hE.step W1 (by decide) (by decide)
            show ∃ Ω', ci (fn_X2_highOf N (nI c) (sI Ω 1 0 66 (mx (gI Ω 1 0 66) (sLo B D c)))) (fun r16 Ω15 => fn_X2_gathers_13 N n (nI s) k y kn (nI (c + 1)) (sI Ω15 1 0 67 (mx (gI (sI Ω 1 0 66 (mx (gI Ω 1 0 66) (sLo B D c))) 1 0 67) r16))) = _ ∧ _
            rw [m_highOf hB hE1.1 hE1.2 (sU_q g4) hcl, ci_mk]
            have W2 : Wx [(1, 66), (1, 67)] Ω (sI (sI Ω 1 0 66 (mx (gI Ω 1 0 66) (sLo B D c))) 1 0 67 (mx (gI (sI Ω 1 0 66 (mx (gI Ω 1 0 66) (sLo B D c))) 1 0 67) (sHi B D c))) := W1.sI (Or.inl (by decide))
            obtain ⟨Ω', k1, k2, k3, k4⟩ := ih (c + 1) n _ (by omega) (by omega) (hE.step W2 (by decide) (by decide)) (by rw [gLo, if_pos hm, gI_sI, if_neg (by decide), gI_sI, if_pos ⟨rfl, rfl, rfl⟩, h66]) (by rw [gHi, if_pos hm, gI_sI, if_pos ⟨rfl, rfl, rfl⟩, gI_sI, if_neg (by decide), h67])
            exact ⟨Ω', k1, W2.trans k2, k3, k4⟩
          · rw [if_neg g4]; exact no (by simp [mtc, g4])
        · rw [if_neg g3]; exact no (by simp [mtc, g3])
      · rw [if_neg g2]; exact no (by simp [mtc, g2])
    · rw [if_neg g1]; exact no (by simp [mtc, g1])
theorem m_gathers {N s : Nat} {k y : Int32} {Ω : zo_O} (hN : 130 ≤ N) (hs : s < 14) (hE : EM B q D Ω) : ∃ Ω', fn_X2_gathers N (nI s) k y kn Ω = some (some (vi (if gLo B q D kn s k y (gC B 3) = -1 then 0 else 1)), Ω', 0, 0) ∧ Wx [(1, 66), (1, 67)] Ω Ω' ∧ gI Ω' 1 0 66 = gLo B q D kn s k y (gC B 3) ∧ gI Ω' 1 0 67 = gHi B q D kn s k y (gC B 3) := by
  have h120 := n_3 hB
  have W : Wx [(1, 66), (1, 67)] Ω (sI (sI Ω 1 0 66 (-1)) 1 0 67 (-1)) := (Wx.refl.sI (Or.inl (by decide))).sI (Or.inl (by decide))
  obtain ⟨Ω', k1, k2, k3, k4⟩ := m_gathL hB (k := k) (y := y) (kn := kn) (N := N) (by omega) hs (gC B 3) 0 N _ (by omega) (by omega) (hE.step W (by decide) (by decide)) (by rw [gI_sI, if_neg (by decide), gI_sI, if_pos ⟨rfl, rfl, rfl⟩]; rfl) (by rw [gI_sI, if_pos ⟨rfl, rfl, rfl⟩]; rfl)
  exact ⟨Ω', k1, W.trans k2, k3, k4⟩
theorem m_isFirstL {N c : Nat} {Ω : zo_O} (hw : Wx sS0 B Ω) (hc : c < gC B 3) : ∀ m o n, o + m = c → m < n → (∀ o', o' < o → ¬ (gI B 32 5 o' = gI B 32 5 c ∧ gI B 32 6 o' = gI B 32 6 c ∧ gI B 32 10 o' = gI B 32 10 c)) → fn_X2_isFirst_2 N n (nI c) (nI o) Ω = some (some (vi (if isF B c = true then 1 else 0)), Ω, 0, 0) := by
  have h120 := n_3 hB
  intro m
  induction m with
  | zero =>
    intro o n ho hn hp
    obtain ⟨n, rfl⟩ : ∃ k, n = k + 1 := ⟨n - 1, by omega⟩
    have : o = c := by omega
    subst this
    unfold fn_X2_isFirst_2 bd_X2_isFirst_2
    rw [if_pos (by grind), if_pos (by unfold isF; exact decide_eq_true hp), rZ_1]
  | succ m ih =>
    intro o n ho hn hp
    obtain ⟨n, rfl⟩ : ∃ k, n = k + 1 := ⟨n - 1, by omega⟩
    unfold fn_X2_isFirst_2 bd_X2_isFirst_2 fn_X2_isFirst_54
    rw [if_neg (by rw [nI_leI (by omega) (by omega)]; omega)]
    simp only [ix_n (show c < 120 by omega) (show 120 < 2147483648 by decide), ix_n (show o < 120 by omega) (show 120 < 2147483648 by decide), w_c hw (show 5 ≤ 35 by decide), w_c hw (show 6 ≤ 35 by decide), w_c hw (show 10 ≤ 35 by decide), rZ_0, nI_1]
    have no : ¬ (gI B 32 5 o = gI B 32 5 c ∧ gI B 32 6 o = gI B 32 6 c ∧ gI B 32 10 o = gI B 32 10 c) → fn_X2_isFirst_2 N n (nI c) (nI (o + 1)) Ω = some (some (vi (if isF B c = true then 1 else 0)), Ω, 0, 0) := fun h =>
      ih (o + 1) n (by omega) (by omega) (fun o' q => by
        by_cases e : o' = o
        · subst e; exact h
        · exact hp o' (by omega))
    by_cases g1 : gI B 32 5 o = gI B 32 5 c
    · rw [if_pos g1]
      by_cases g2 : gI B 32 6 o = gI B 32 6 c
      · rw [if_pos g2]
        by_cases g3 : gI B 32 10 o = gI B 32 10 c
        · rw [if_pos g3, if_neg]
          unfold isF
          rw [decide_eq_true_eq]
          intro h
          exact h o (by omega) ⟨g1, g2, g3⟩
        · rw [if_neg g3]; exact no (fun h => g3 h.2.2)
      · rw [if_neg g2]; exact no (fun h => g2 h.2.1)
    · rw [if_neg g1]; exact no (fun h => g1 h.1)
theorem m_isFirst {N c : Nat} {Ω : zo_O} (hN : 130 ≤ N) (hw : Wx sS0 B Ω) (hc : c < gC B 3) : fn_X2_isFirst N (nI c) Ω = some (some (vi (if isF B c = true then 1 else 0)), Ω, 0, 0) := by
  have h120 := n_3 hB
  exact m_isFirstL hB hw hc c 0 N (by omega) (by omega) (fun o h => by omega)
end U
