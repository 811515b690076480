/-! ===== spans of both; questions span, out ===== -/
def aS (B : zo_O) (q : Bool) (D : Nat → Nat → Int32) (kn : Int32) (s : Nat) : Nat → Int32 → Prop := fun k' y' => k' < 3 ∧ y' ∈ gY B q D kn s (nI k') (gC B 3)
def aW (B : zo_O) (kn : Int32) (s : Nat) : Nat → Prop := fun w => w < gC B 6 ∧ gI B 32 20 w = nI s ∧ gI B 32 23 w ≤ kn
def SPX (B : zo_O) (q : Bool) (D : Nat → Nat → Int32) (kn : Int32) (s : Nat) (F T : Int32) : Prop := (gI B 32 3 s ≠ -1 → F = gI B 32 3 s ∧ T = gI B 32 3 s) ∧ (gI B 32 3 s = -1 → FT 999 B q D kn (-1) s (aS B q D kn s) (aW B kn s) F T)
def SPM (B : zo_O) (q : Bool) (D : Nat → Nat → Int32) (kn : Int32) (s : Nat) (F T : Int32) : Prop := (gI B 32 3 s ≠ -1 → F = gI B 32 3 s ∧ T = gI B 32 3 s) ∧ (gI B 32 3 s = -1 → FT 0 B q D kn (nI s) s (aS B q D kn s) (aW B kn s) F T)
def Sp (F T F' T' : Int32) : Prop := F = F' ∧ (T = T' ∨ (T.toInt < 1000 ∧ T'.toInt < 1000)) ∧ (1000 ≤ F.toInt ∧ F.toInt ≤ 2100) ∧ (0 ≤ T.toInt ∧ T.toInt ≤ 2100) ∧ (0 ≤ T'.toInt ∧ T'.toInt ≤ 2100)
section U
variable {B : zo_O} (hB : Bse B) {q : Bool} {D : Nat → Nat → Int32} (hD : q = false → DBd D) {kn : Int32} {s : Nat}
include hB
theorem but_irr (hs : s < gC B 2) (h : gI B 32 3 s = -1) {k sd bt : Int32} : ∀ n, n ≤ gC B 2 → gAll B q D kn k sd bt (-1) n = gAll B q D kn k sd bt (nI s) n
  | 0, _ => rfl
  | n + 1, hn => by
    have h14 := n_2 hB
    have e : elg B kn sd bt (-1) n = elg B kn sd bt (nI s) n := by
      unfold elg
      by_cases g : n = s
      · subst g; simp [h]
      · have h1 : nI n ≠ -1 := nI_nm1 (by omega)
        have h2 : nI n ≠ nI s := by rw [Ne, nI_eq (by omega) (by omega)]; exact g
        simp [h1, h2]
    rw [gAll, gAll, but_irr hs h n (by omega), e]
theorem but_lw (hs : s < gC B 2) (h : gI B 32 3 s = -1) {kk : Nat} {sd bt : Int32} : lws B q D kn kk sd bt (-1) = lws B q D kn kk sd bt (nI s) ∧ ups B q D kn kk sd bt (-1) = ups B q D kn kk sd bt (nI s) := by
  unfold lws ups
  rw [but_irr hB hs h (gC B 2) (Nat.le_refl _)]
  exact ⟨rfl, rfl⟩
theorem FT_but (hs : s < gC B 2) (h : gI B 32 3 s = -1) {z F T : Int32} {S : Nat → Int32 → Prop} {W : Nat → Prop} (hF : FT z B q D kn (-1) s S W F T) : FT z B q D kn (nI s) s S W F T := by
  have e1 : ∀ kk v, pfA B q D kn (-1) s kk v = pfA B q D kn (nI s) s kk v := fun kk v => by
    unfold pfA; rw [(but_lw hB hs h).1, (but_lw hB hs h).2]
  have e2 : ∀ kk v, plA B q D kn (-1) s kk v = plA B q D kn (nI s) s kk v := fun kk v => by
    unfold plA; rw [(but_lw hB hs h).1, (but_lw hB hs h).2]
  have e3 : ∀ kk y, toC z B q D kn (-1) s kk y = toC z B q D kn (nI s) s kk y := fun kk y => by unfold toC; rw [e1]
  have e4 : ∀ kk y, frC B q D kn (-1) s kk y = frC B q D kn (nI s) s kk y := fun kk y => by unfold frC; rw [e2]
  obtain ⟨a, b⟩ := hF
  refine ⟨fun X => ?_, fun X => ?_⟩
  · rw [a]
    constructor
    · rintro ⟨h1, h2, h3⟩; exact ⟨h1, fun kk y hs hl => by rw [← e4]; exact h2 kk y hs hl, h3⟩
    · rintro ⟨h1, h2, h3⟩; exact ⟨h1, fun kk y hs hl => by rw [e4]; exact h2 kk y hs hl, h3⟩
  · rw [b]
    constructor
    · rintro ⟨h1, h2, h3⟩; exact ⟨h1, fun kk y hs => by rw [← e3]; exact h2 kk y hs, h3⟩
    · rintro ⟨h1, h2, h3⟩; exact ⟨h1, fun kk y hs => by rw [e3]; exact h2 kk y hs, h3⟩
theorem gY_yr {k y : Int32} (h : y ∈ gY B q D kn s k (gC B 3)) : 1000 ≤ y.toInt ∧ y.toInt ≤ 2100 := by
  obtain ⟨c, c1, c2⟩ := (gY_mem (gC B 3)).1 h
  have := (mtc_s.1 c2).2
  rw [← this]; exact year_b hB c1
omit hB hD in
theorem plA_le {but : Int32} {kk : Nat} {v : Int32} : plA B q D kn but s kk v ≤ 800 := by
  have : ∀ (L : Nat → Int) (v : Int) i, lA L v i ≤ i := by
    intro L v i
    induction i with
    | zero => exact Nat.le_refl _
    | succ i ih => rw [lA]; split <;> omega
  unfold plA
  exact this _ _ _
theorem FT_b {z F T but : Int32} (hz : 0 ≤ z.toInt) (hF : FT z B q D kn but s (aS B q D kn s) (aW B kn s) F T) : (1000 ≤ F.toInt ∧ F.toInt ≤ 2100) ∧ (0 ≤ T.toInt ∧ T.toInt ≤ 2100) := by
  refine ⟨⟨FT_1000 hF, (hF.1 2100).2 ⟨by decide, fun kk y hs _ => ?_, fun w hw => ?_⟩⟩, ⟨(hF.2 0).2 ⟨by decide, fun kk y hs => ?_, fun w hw => ?_⟩, FT_2100 hF⟩⟩
  · have hy := gY_yr hB hs.2
    have hp := plA_le (B := B) (q := q) (D := D) (kn := kn) (but := but) (s := s) (kk := kk) (v := gHi B q D kn s (nI kk) y (gC B 3))
    have hpn : (nI (plA B q D kn but s kk (gHi B q D kn s (nI kk) y (gC B 3)))).toInt = (plA B q D kn but s kk (gHi B q D kn s (nI kk) y (gC B 3)) : Nat) := fi_n (by omega)
    have hd := (hB.2.2.2.2.2.1.2.2.2.2.2.2.2.2.2.2.2.1 kk hs.1).2
    rw [fa_le, fa_le] at hd
    have h0 : (0 : Int32).toInt = 0 := rfl
    have h60 : (60 : Int32).toInt = 60 := rfl
    unfold frC
    rw [fi_sub (by rw [fi_sub (by omega) (by omega)]; omega) (by rw [fi_sub (by omega) (by omega)]; omega), fi_sub (by omega) (by omega)]
    omega
  · have := (hB.2.2.2.2.1.2.2.1 w hw.1).1
    rw [fa_le, fa_le] at this
    exact this.2
  · have hy := gY_yr hB hs.2
    have hp := pfA_le (B := B) (q := q) (D := D) (kn := kn) (but := but) (s := s) (kk := kk) (v := gLo B q D kn s (nI kk) y (gC B 3))
    have hpn : (nI (pfA B q D kn but s kk (gLo B q D kn s (nI kk) y (gC B 3)))).toInt = (pfA B q D kn but s kk (gLo B q D kn s (nI kk) y (gC B 3)) : Nat) := fi_n (by omega)
    unfold toC
    split
    · rw [fi_sub (by omega) (by omega)]; omega
    · exact hz
  · have := (hB.2.2.2.2.1.2.2.1 w hw.1).2
    rw [fa_le, fa_le] at this
    have h0 : (1000 : Int32).toInt = 1000 := rfl
    omega
theorem SP_Sp (hs : s < gC B 2) {F T F' T' : Int32} (hX : SPX B q D kn s F T) (hM : SPM B q D kn s F' T') : Sp F T F' T' := by
  by_cases h : gI B 32 3 s = -1
  · have hx := FT_but hB hs h (hX.2 h)
    have hm := hM.2 h
    obtain ⟨e1, e2⟩ := FT_XM hx hm
    obtain ⟨b1, b2⟩ := FT_b hB (by decide) hx
    obtain ⟨_, b4⟩ := FT_b hB (by decide) hm
    exact ⟨e1, e2, b1, b2, b4⟩
  · obtain ⟨rfl, rfl⟩ := hX.1 h
    obtain ⟨rfl, rfl⟩ := hM.1 h
    have := syear_b hB hs h
    exact ⟨rfl, Or.inl rfl, this, ⟨by omega, by omega⟩, ⟨by omega, by omega⟩⟩
include hD
theorem x_spanOf {N : Nat} {Ω : zo_O} (hN : 40000 ≤ N) (hn : gC B 3 ≤ 63) (hs : s < gC B 2) (hE : EX B q D Ω) (hA : CvA B q D kn (-1) Ω) (h19 : gI Ω 0 0 19 = -1) : ∃ Ω' j cc ss, fn_X1_spanOf N s kn Ω = some (some (vr 18 j), Ω', cc, ss) ∧ EX B q D Ω' ∧ CvA B q D kn (-1) Ω' ∧ Wx [(39, 0)] Ω Ω' ∧ (gC Ω 18 ≤ j ∧ j < gC Ω' 18) ∧ SPX B q D kn s (gI Ω' 18 j 0) (gI Ω' 18 j 1) ∧ cc + 220 * cvN Ω' 18 ≤ 220 * cvN Ω 18 + 211 ∧ ss + 1300 * cvN Ω' 18 ≤ 1300 * cvN Ω 18 + 1373 := by
  have y5 : gI Ω 2 s 5 = gI B 32 3 s := (sitX hB hE.1 hs).2.2.2.2.2
  unfold fn_X1_spanOf
  rw [x_isDated, ci_mk, if_10, y5]
  by_cases h : gI B 32 3 s ≠ -1
  · rw [if_pos h]
    have hy := syear_b hB hs h
    have W0 : Wx [] Ω (sI (sI (nw Ω 18 0) 18 (gC Ω 18) 0 1000) 18 (gC Ω 18) 1 2100) := ((Wx.refl.nw (by decide)).sI (Or.inr ⟨nfx18, Nat.le_refl _⟩)).sI (Or.inr ⟨nfx18, Nat.le_refl _⟩)
    have W1 : Wx [] Ω (sI (sI (nw Ω 18 0) 18 (gC Ω 18) 0 (gI B 32 3 s)) 18 (gC Ω 18) 1 (gI B 32 3 s)) := ((Wx.refl.nw (by decide)).sI (Or.inr ⟨nfx18, Nat.le_refl _⟩)).sI (Or.inr ⟨nfx18, Nat.le_refl _⟩)
    have e5 : gI (sI (sI (nw Ω 18 0) 18 (gC Ω 18) 0 1000) 18 (gC Ω 18) 1 2100) 2 s 5 = gI B 32 3 s := (sitX hB (hE.1.step W0 (by simp)) hs).2.2.2.2.2
    have m1 : mx 1000 (gI B 32 3 s) = gI B 32 3 s := by rw [fa_eq, fi_mx]; have : (1000 : Int32).toInt = 1000 := rfl; omega
    have m2 : mn 2100 (gI B 32 3 s) = gI B 32 3 s := by rw [fa_eq, fi_mn]; have : (2100 : Int32).toInt = 2100 := rfl; omega
    have r0 : gI (sI (sI (nw Ω 18 0) 18 (gC Ω 18) 0 1000) 18 (gC Ω 18) 1 2100) 18 (gC Ω 18) 0 = 1000 := by rw [gI_sI, if_neg (by omega), gI_sI, if_pos ⟨rfl, rfl, rfl⟩]
    have r1 : gI (sI (sI (nw Ω 18 0) 18 (gC Ω 18) 0 1000) 18 (gC Ω 18) 1 2100) 18 (gC Ω 18) 1 = 2100 := by rw [gI_sI, if_pos ⟨rfl, rfl, rfl⟩]
    have hi : fn_X22_init N (gC Ω 18) (nw Ω 18 0) = some (none, sI (sI (nw Ω 18 0) 18 (gC Ω 18) 0 1000) 18 (gC Ω 18) 1 2100, 0, 0) := rfl
    simp only [lt, hi, cv_mk, x_within, e5, r0, r1, m1, m2, sI4, rR]
    have hcv := cvN_W W1 (by simp) 18
    refine ⟨sI (sI (nw Ω 18 0) 18 (gC Ω 18) 0 (gI B 32 3 s)) 18 (gC Ω 18) 1 (gI B 32 3 s), gC Ω 18, 1, 2, rfl, hE.step W1 (by simp) (by simp), CvA_W hA W1 (by simp), W1.mono (by simp), ⟨Nat.le_refl _, by rw [gC_sI, gC_sI, gC_nw, if_pos rfl]; omega⟩, ⟨fun _ => ?_, fun w => absurd w h⟩, by omega, by omega⟩
    rw [gI_sI, if_neg (by omega), gI_sI, if_pos ⟨rfl, rfl, rfl⟩, gI_sI, if_pos ⟨rfl, rfl, rfl⟩]
    exact ⟨rfl, rfl⟩
  · rw [if_neg h]
    obtain ⟨Ω', cc, ss, k1, k2, k3, k4⟩ := x_spanBy hB hD (but := -1) (N := N) hN hn hs hE hA h19
    rw [k1, ck_mk]
    refine ⟨Ω', gC Ω 18, cc, ss, ?_, k2.1, k2.2.1, k2.2.2.1, k2.2.2.2.2.1, ⟨fun w => absurd w h, fun _ => k2.2.2.2.2.2⟩, k3, k4⟩
    simp [rR, ad]
theorem m_spans {N : Nat} {Ω : zo_O} (hN : 40000 ≤ N) (hs : s < gC B 2) (hE : EM B q D Ω) : ∃ Ω', fn_X2_spans N (nI s) kn Ω = some (none, Ω', 0, 0) ∧ EM B q D Ω' ∧ Wx sLl Ω Ω' ∧ (∀ x, x ≠ s → gI Ω' 32 45 x = gI Ω 32 45 x ∧ gI Ω' 32 46 x = gI Ω 32 46 x) ∧ SPM B q D kn s (gI Ω' 32 45 s) (gI Ω' 32 46 s) := by
  have h14 := n_2 hB
  have hw := hE.1
  unfold fn_X2_spans
  rw [ix_n (show s < 14 by omega) (by decide), w_c hw (show 3 ≤ 35 by decide)]
  by_cases h : gI B 32 3 s = -1
  · rw [if_pos h]
    obtain ⟨Ω', k1, k2⟩ := m_lays hB hD (kn := kn) (N := N) hN hs hE
    rw [k1]
    exact ⟨Ω', rfl, k2.1, k2.2.1, k2.2.2.1, fun w => absurd h w, fun _ => k2.2.2.2⟩
  · rw [if_neg h]
    have W1 : Wx sLl Ω (sI Ω 32 45 s (gI B 32 3 s)) := Wx.refl.sI (Or.inl (by simp [ky, sLl]))
    have W2 : Wx sLl Ω (sI (sI Ω 32 45 s (gI B 32 3 s)) 32 46 s (gI B 32 3 s)) := W1.sI (Or.inl (by simp [ky, sLl]))
    simp only [ix_n (show s < 14 by omega) (show 14 < 2147483648 by decide), lt, rV, w_c hw (show 3 ≤ 35 by decide), w_c (hw.step W1 (by decide)) (show 3 ≤ 35 by decide)]
    refine ⟨_, rfl, hE.step W2 (by decide) (by decide), W2, fun x hx => by simp [gI_sI, hx], fun _ => ?_, fun w => absurd w h⟩
    rw [gI_sI, if_neg (by omega), gI_sI, if_pos ⟨rfl, rfl, rfl⟩, gI_sI, if_pos ⟨rfl, rfl, rfl⟩]
    exact ⟨rfl, rfl⟩
omit hD in
theorem x_isThere {N : Nat} {x : Int32} : fn_X1_isThere N x kn B = some (some (vi (if (0 ≤ x ∧ x ≤ nI (gC B 2) - 1) ∧ (0 ≤ kn ∧ kn ≤ gI B 1 0 1) ∧ gI B 32 4 x.toNatClampNeg ≤ kn then 1 else 0)), B, 0, 0) := by
  obtain ⟨h1, _⟩ := b_s hB
  have h14 := n_2 hB
  unfold fn_X1_isThere fn_X1_isThere_38 fn_X1_isThere_39
  simp only [x_isSite, x_isKnown, ci_mk, if_10, h1, tks_len, b_now hB, rZ_0, rZ_1]
  by_cases g1 : 0 ≤ x ∧ x ≤ nI (gC B 2) - 1
  · rw [if_pos g1]
    by_cases g2 : 0 ≤ kn ∧ kn ≤ gI B 1 0 1
    · rw [if_pos g2]
      obtain ⟨j, j1, rfl⟩ := nI_between (by omega) g1
      have hg := x_get (N := N) (l := 0) (i := j) (Ω := B) (by rw [h1, tks_len]; omega) (by rw [h1, tks_len]; omega)
      rw [h1, tks_get j1] at hg
      rw [hg, cr_mk, bk_mk, x_isBy2, ci_mk, if_10, (sitX hB (Wx.refl (L := sS0) (Ω := B)) j1).1, nI_clamp (by omega)]
      by_cases g3 : gI B 32 4 j ≤ kn
      · rw [if_pos g3, if_pos ⟨g1, g2, g3⟩]
      · rw [if_neg g3, if_neg (fun w => g3 w.2.2)]
    · rw [if_neg g2, if_neg (fun w => g2 w.2.1)]
  · rw [if_neg g1, if_neg (fun w => g1 w.1)]
omit hD in
theorem m_isThere {N : Nat} {Ω : zo_O} (hw : Wx sS0 B Ω) (hs : s < gC B 2) : fn_X2_isThere N (nI s) kn Ω = some (some (vi (if gI B 32 4 s ≤ kn then 1 else 0)), Ω, 0, 0) := by
  have h14 := n_2 hB
  unfold fn_X2_isThere fn_X2_isThere_15
  rw [ix_n (show s < 14 by omega) (by decide), w_c hw (show 4 ≤ 35 by decide)]
  by_cases h : kn < gI B 32 4 s
  · rw [if_pos h, if_neg (by grind)]; rfl
  · rw [if_neg h, if_pos (by grind)]; rfl
omit hB hD in
theorem x_isNone {N j : Nat} {Ω : zo_O} : fn_X22_isNone N j Ω = some (some (vi (if gI Ω 18 j 0 ≤ gI Ω 18 j 1 then 0 else 1)), Ω, 0, 0) := by
  unfold fn_X22_isNone fn_X22_isNone_16
  split <;> rfl
omit hB hD in
/-- none in both, or the same in both -/
theorem Sp_le {F T F' T' : Int32} (h : Sp F T F' T') : (F ≤ T ↔ F' ≤ T') ∧ (F ≤ T → F = F' ∧ T = T') := by
  obtain ⟨rfl, h2, h3, _⟩ := h
  rw [fa_le, fa_le]
  rcases h2 with rfl | ⟨a, b⟩
  · exact ⟨Iff.rfl, fun _ => ⟨rfl, rfl⟩⟩
  · exact ⟨⟨fun w => by omega, fun w => by omega⟩, fun w => by omega⟩
omit hD in
theorem q_span (hI : gI B 0 0 19 = -1) (hn : gC B 3 ≤ 63) {N : Nat} (hN : 40000 ≤ N) {x wh : Int32} : Qy (fn_X1_span N x kn wh) (fn_X2_span N x kn wh) B := by
  have hw0 : Wx sS0 B B := Wx.refl
  have hw1 : Wx sS0 B (sI B 1 0 0 0) := W_thrown hw0
  have h14 := n_2 hB
  obtain ⟨hS0, h2⟩ := b_s hB
  have h7 : 7 ≤ gC B 20 := hB.2.2.2.2.2.2.2.1
  by_cases g1 : 0 ≤ x ∧ x ≤ nI (gC B 2) - 1
  · obtain ⟨j, j1, rfl⟩ := nI_between (by omega) g1
    by_cases g : (0 ≤ kn ∧ kn ≤ gI B 1 0 1) ∧ gI B 32 4 j ≤ kn ∧ (0 ≤ wh ∧ wh ≤ 1)
    · obtain ⟨g2, g3, g4⟩ := g
      obtain ⟨q, D, hD, hX, hM⟩ := x_begins hB (kn := kn)
      obtain ⟨Ω1, x1, x2, x3, x4⟩ := hX N B (-1) (by omega) hw0
      have hSO : gS Ω1 0 = tks 2 (gC B 2) := by rw [x3.1.S (by simp [sS0, sQ]) (by omega)]; exact hS0
      have hg := x_get (N := N) (l := 0) (i := j) (Ω := Ω1) (by rw [hSO, tks_len]; omega) (by rw [hSO, tks_len]; omega)
      rw [hSO, tks_get j1] at hg
      obtain ⟨Ω2, jj, cc, sl, y1, y2, y3, y4, y5, y6, y7, y8⟩ := x_spanOf hB hD (kn := kn) (N := N) hN hn j1 x3 x4 (by rw [x2.I (by decide) (Or.inl fx_0)]; exact hI)
      have hw3 : Wx sS0 B (sI Ω2 1 0 0 0) := W_thrown y2.1
      obtain ⟨Ω3, m1, m2, m3⟩ := hM N (sI Ω2 1 0 0 0) (by omega) hw3
      obtain ⟨Ω4, n1, n2, n3, n4, n5⟩ := m_spans hB hD (kn := kn) (N := N) hN j1 m3
      have hSp := SP_Sp hB j1 y6 n5
      obtain ⟨e1, e2⟩ := Sp_le hSp
      have hcv := cvN_le Ω1 18
      refine Qy_mk (r := if gI Ω2 18 jj 0 ≤ gI Ω2 18 jj 1 then (if wh = 0 then gI Ω2 18 jj 0 else gI Ω2 18 jj 1) else -2) (Ω1 := Ω2) (Ω2 := Ω4) (c1 := cc) (s1 := sl) ?_ ?_ (((Q_t2 ((Wx.refl.step x2 (by decide)).step y4 (by decide))).step m2 (by decide)).step n3 (by decide)) (by omega) (by omega)
      · unfold fn_X1_span fn_X1_span_73
        rw [x_isThere hB, ci_mk, if_10, nI_clamp (by omega), if_pos ⟨g1, g2, g3⟩, x_in, ci_mk, if_10, if_pos g4, x1, cv_mk, hg, cr_mk, bk_mk, y1, ck_mk, x_isNone, ci_mk]
        by_cases e : gI Ω2 18 jj 0 ≤ gI Ω2 18 jj 1
        · rw [if_pos e, if_pos e, if_pos rfl]
          split <;> simp [rI, ad]
        · rw [if_neg e, if_neg e, if_neg (by decide)]
          simp [rI, ad]
      · unfold fn_X2_span fn_X2_span_91 lt
        simp only [m_isSite, m_isKnown, m_within, m_isThere hB hw3 j1, w_m hw3 (show (1, 1) ∉ sS0 by decide), w_m hw3 (show (1, 2) ∉ sS0 by decide), h2, ci_mk, if_10, ix_n (show j < 14 by omega) (show 14 < 2147483648 by decide)]
        rw [if_pos g1, if_pos g2, if_pos g3, if_pos g4, m1, cv_mk, n1, cv_mk]
        by_cases e : gI Ω2 18 jj 0 ≤ gI Ω2 18 jj 1
        · obtain ⟨f1, f2⟩ := e2 e
          rw [if_pos e, if_pos (e1.1 e), ← f1, ← f2]
          split <;> rfl
        · rw [if_neg e, if_neg (fun w => e (e1.2 w))]; rfl
    · refine Qy_mk (r := -1) (Ω1 := B) (Ω2 := sI B 1 0 0 0) (c1 := 0) (s1 := 0) ?_ ?_ Q_t (by decide) (by decide)
      · unfold fn_X1_span fn_X1_span_18
        simp only [x_isThere hB, x_in, ci_mk, if_10, rI, nI_clamp (show j < 2 ^ 31 by omega)]
        exact if_n2 (fun w => g ⟨w.1.2.1, w.1.2.2, w.2⟩)
      · unfold fn_X2_span fn_X2_span_39 lt
        simp only [m_isSite, m_isKnown, m_within, m_isThere hB hw1 j1, w_m hw1 (show (1, 1) ∉ sS0 by decide), w_m hw1 (show (1, 2) ∉ sS0 by decide), h2, ci_mk, if_10, rI]
        exact if_n4 (fun w => g w.2)
  · refine Qy_mk (r := -1) (Ω1 := B) (Ω2 := sI B 1 0 0 0) (c1 := 0) (s1 := 0) ?_ ?_ Q_t (by decide) (by decide)
    · unfold fn_X1_span fn_X1_span_18
      simp only [x_isThere hB, x_in, ci_mk, if_10, rI]
      exact if_n2 (fun w => g1 w.1.1)
    · unfold fn_X2_span fn_X2_span_39 lt
      simp only [m_isSite, w_m hw1 (show (1, 2) ∉ sS0 by decide), h2, ci_mk, if_10, rI]
      rw [if_neg g1]
end U
