/-! ===== X: spanBy ===== -/
theorem sI4 {Ω : zo_O} {k n : Nat} {a b c d : Int32} : sI (sI (sI (sI Ω k n 0 a) k n 1 b) k n 0 c) k n 1 d = sI (sI Ω k n 0 c) k n 1 d := by
  unfold sI
  congr 1
  funext k' n' i'
  unfold u3
  by_cases h1 : k' = k ∧ n' = n ∧ i' = 1
  · simp only [if_pos h1]
  · simp only [if_neg h1]
    by_cases h0 : k' = k ∧ n' = n ∧ i' = 0
    · simp only [if_pos h0]
    · simp only [if_neg h0]
theorem nfx18 : ¬ fx 18 := by unfold fx; omega
theorem CvA_W {B Ω Ω' : zo_O} {q : Bool} {D : Nat → Nat → Int32} {kn but : Int32} {L : List (Nat × Nat)} (h : CvA B q D kn but Ω) (w : Wx L Ω Ω') (hL : ∀ x ∈ L, x.1 ≠ 14 ∧ x.1 ≠ 16 ∧ x.1 ≠ 17 ∧ x.1 ≠ 20 ∧ x.1 ≠ 39) : CvA B q D kn but Ω' := by
  intro kk s b h1 h2 h3
  rw [w.R (fun m => (hL _ m).2.2.2.2 rfl) (Or.inl (fx_m (by decide)))]
  rcases h kk s b h1 h2 h3 with g | ⟨j, g, g'⟩
  · exact Or.inl g
  · exact Or.inr ⟨j, g, CvK_W g' w (fun x m => ⟨(hL x m).1, (hL x m).2.1, (hL x m).2.2.1, (hL x m).2.2.2.1⟩)⟩
theorem cvN_W {Ω Ω' : zo_O} {L : List (Nat × Nat)} (w : Wx L Ω Ω') (hL : ∀ x ∈ L, x.1 ≠ 39) (n : Nat) : cvN Ω' n = cvN Ω n :=
  cvN_same (fun i => w.R (fun m => (hL _ m) rfl) (Or.inl (fx_m (by decide)))) n
theorem GS_W {B Ω Ω' : zo_O} {q : Bool} {D : Nat → Nat → Int32} {kn : Int32} {s : Nat} {k : Int32} {c g0 : Nat} {L : List (Nat × Nat)} (h : GS B q D kn s k c g0 Ω) (w : Wx L Ω Ω') (hL : ∀ x ∈ L, x.1 ≠ 15) (hc : g0 + (gY B q D kn s k c).length ≤ gC Ω 15) : GS B q D kn s k c g0 Ω' := by
  intro p y ht
  have hp : p < (gY B q D kn s k c).length := by rw [List.getElem?_eq_some_iff] at ht; exact ht.1
  have n15 : ∀ n f, ky 15 n f ∉ L := fun n f m => (hL _ m) rfl
  rw [w.R (n15 _ _) (Or.inr (by omega)), w.I (n15 _ _) (Or.inr (by omega)), w.I (n15 _ _) (Or.inr (by omega)), w.I (n15 _ _) (Or.inr (by omega))]
  exact h p y ht
theorem ad_ad {a b c d : Nat} {X : Option zo_R} : ad a b (ad c d X) = ad (c + a) (d + b) X := by
  cases X with
  | none => rfl
  | some r => simp [ad, Nat.add_assoc]
section U
variable {B : zo_O} (hB : Bse B) {q : Bool} {D : Nat → Nat → Int32} (hD : q = false → DBd D) {kn but : Int32} {Ω0 : zo_O} {s kk x3 l g0 : Nat}
include hB
theorem sd_n (hs : s < gC B 2) : ∃ a b, a < 2 ∧ b < 3 ∧ gI B 32 0 s = nI a ∧ gI B 32 1 s = nI b := by
  obtain ⟨_, h1, h2, _⟩ := hB.2.2.1 s hs
  obtain ⟨a, a1, a2⟩ := nI_between (n := 2) (by decide) (show 0 ≤ gI B 32 0 s ∧ gI B 32 0 s ≤ nI 2 - 1 from h1)
  obtain ⟨b, b1, b2⟩ := nI_between (n := 3) (by decide) (show 0 ≤ gI B 32 1 s ∧ gI B 32 1 s ≤ nI 3 - 1 from h2)
  exact ⟨a, b, a1, b1, a2, b2⟩
include hD
theorem lws_R {sd bt : Int32} : ∃ R, isR B (lws B q D kn kk sd bt but) (ups B q D kn kk sd bt but) R := R_ex hB (fun t ht => (lws_ok hB hD ht).1)
/-- the two searches in a curve of X -/
theorem x_ages {N j : Nat} {Ω : zo_O} {sd bt : Int32} (hN : 40000 ≤ N) (hw : Wx sS0 B Ω) (hK : CvK B q D kn kk sd bt but Ω j) (v : Int32) : fn_X17_firstAge N j v Ω = some (some (vi (nI (fA (fun x => (gsV (gI B 1 0 42) (Rf B (lws B q D kn kk sd bt but) (ups B q D kn kk sd bt but)) (ups B q D kn kk sd bt but) (nI x)).toInt) v.toInt))), Ω, 0, 0) ∧ (0 ≤ v.toInt → fn_X17_lastAge N j v Ω = some (some (vi (nI (lA (fun x => (lsV (gI B 1 0 42) (Rf B (lws B q D kn kk sd bt but) (ups B q D kn kk sd bt but)) (lws B q D kn kk sd bt but) (nI x)).toInt) v.toInt 800))), Ω, 0, 0)) := by
  have h14 := n_2 hB
  have hpw : 2 ^ gC B 2 ≤ 2 ^ 14 := Nat.pow_le_pow_right (by decide) h14
  obtain ⟨la, lb, a0, b0, R, z1, z2, z3⟩ := hK
  have hR : Rf B (lws B q D kn kk sd bt but) (ups B q D kn kk sd bt but) = R := Rf_eq z3
  rw [hR]
  have hr : gI Ω 0 0 10 = gI B 1 0 42 := by rw [w_x hw (by decide)]; exact rate_x hB
  obtain ⟨ll1, ll2⟩ := lws_len hB (kn := kn) (q := q) (D := D) (kk := kk) (sd := sd) (bt := bt) (but := but)
  constructor
  · obtain ⟨p, p1, p2⟩ := x_firstAge (N := N) (j := j) (Ω := Ω) (v := v) (F := gsV (gI B 1 0 42) R (ups B q D kn kk sd bt but)) (by omega) (fun i _ => x_grt (N := N) z1 z2 (by have := z3.1; omega) hr (fun t ht => Nat.lt_of_lt_of_le (ups_ok hB hD ht).1 h14) (by omega) (by omega)) (fun i k h1 h2 => gsV_mono hB (fun t ht => ups_ok hB hD ht) h1 h2)
    rw [p1, fsA_one p2 fA_ok]
  · intro hv
    have h0 : (lsV (gI B 1 0 42) R (lws B q D kn kk sd bt but) (nI 0)).toInt ≤ v.toInt := Int.le_trans (lsV_0 (fun s hs => z3.2.1.2 s hs)) hv
    obtain ⟨p, p1, p2⟩ := x_lastAge (N := N) (j := j) (Ω := Ω) (v := v) (F := lsV (gI B 1 0 42) R (lws B q D kn kk sd bt but)) (by omega) (fun i _ => x_lst (N := N) z1 z2 (by have := z3.1; omega) hr (fun t ht => Nat.lt_of_lt_of_le (lws_ok hB hD ht).1 h14) (by omega) (by omega)) (fun i k h1 h2 => lsV_mono hB (fun t ht => lws_ok hB hD ht) h1 h2) h0
    rw [p1, lsA_one p2 (lA_ok h0)]
theorem x_pf {N j : Nat} {Ω : zo_O} (hN : 40000 ≤ N) (hw : Wx sS0 B Ω) (hK : CvK B q D kn kk (gI B 32 0 s) (gI B 32 1 s) but Ω j) (v : Int32) : fn_X17_firstAge N j v Ω = some (some (vi (nI (pfA B q D kn but s kk v))), Ω, 0, 0) := by
  unfold pfA
  exact (x_ages hB hD hN hw hK v).1
theorem x_pl {N j : Nat} {Ω : zo_O} (hN : 40000 ≤ N) (hw : Wx sS0 B Ω) (hK : CvK B q D kn kk (gI B 32 0 s) (gI B 32 1 s) but Ω j) {v : Int32} (hv : 0 ≤ v.toInt) : fn_X17_lastAge N j v Ω = some (some (vi (nI (plA B q D kn but s kk v))), Ω, 0, 0) := by
  unfold plA
  exact (x_ages hB hD hN hw hK v).2 hv
omit hB hD in
theorem pfA_le {v : Int32} : pfA B q D kn but s kk v ≤ 801 := by
  unfold pfA
  exact fA_ok.1
/-- a span being narrowed by X -/
def SX (B : zo_O) (q : Bool) (D : Nat → Nat → Int32) (kn but : Int32) (s x3 : Nat) (Ω0 : zo_O) (S : Nat → Int32 → Prop) (W : Nat → Prop) (Ω : zo_O) : Prop := EX B q D Ω ∧ CvA B q D kn but Ω ∧ Wx [(39, 0)] Ω0 Ω ∧ gI Ω 0 0 19 = but ∧ (gC Ω0 18 ≤ x3 ∧ x3 < gC Ω 18) ∧ FT 999 B q D kn but s S W (gI Ω 18 x3 0) (gI Ω 18 x3 1)
omit hB hD in
theorem SX_set {S S' : Nat → Int32 → Prop} {W W' : Nat → Prop} {Ω : zo_O} {F T : Int32} (h : SX B q D kn but s x3 Ω0 S W Ω) (hB0 : ∀ k, gC B k ≤ gC Ω0 k) (hF : FT 999 B q D kn but s S' W' F T) : SX B q D kn but s x3 Ω0 S' W' (sI (sI Ω 18 x3 0 F) 18 x3 1 T) ∧ Wx [(18, x3)] Ω (sI (sI Ω 18 x3 0 F) 18 x3 1 T) := by
  obtain ⟨h1, h2, h3, h4, h5, h6⟩ := h
  have hb := hB0 18
  have W1 : Wx [(18, x3)] Ω (sI (sI Ω 18 x3 0 F) 18 x3 1 T) := (Wx.refl.sI (Or.inl (by simp [ky]))).sI (Or.inl (by simp [ky]))
  refine ⟨⟨EX_of h1 ((h1.1.sI (Or.inr ⟨nfx18, by omega⟩)).sI (Or.inr ⟨nfx18, by omega⟩)) (by rw [gI_sI, if_neg (by omega), gI_sI, if_neg (by omega)]) (fun n f => by rw [gI_sI, if_neg (by omega), gI_sI, if_neg (by omega)]), CvA_W h2 W1 (by simp), (h3.sI (Or.inr ⟨nfx18, h5.1⟩)).sI (Or.inr ⟨nfx18, h5.1⟩), ?_, h5, ?_⟩, W1⟩
  · rw [gI_sI, if_neg (by omega), gI_sI, if_neg (by omega)]; exact h4
  · rw [gI_sI, if_neg (by omega), gI_sI, if_pos ⟨rfl, rfl, rfl⟩, gI_sI, if_pos ⟨rfl, rfl, rfl⟩]; exact hF
omit hB hD in
theorem x_within {N : Nat} {Ω : zo_O} {lo hi : Int32} : fn_X22_within N x3 lo hi Ω = some (none, sI (sI Ω 18 x3 0 (mx (gI Ω 18 x3 0) lo)) 18 x3 1 (mn (gI Ω 18 x3 1) hi), 0, 0) := by
  simp [fn_X22_within, lt, rV, gI_sI]
theorem x_sp39 {N : Nat} {K11 : Nat → Int32 → Nat → Int32 → zo_O → Option zo_R} {S0 : Nat → Int32 → Prop} {W : Nat → Prop} (hN : 40000 ≤ N) (hn : gC B 3 ≤ 63) (hs : s < gC B 2) (hkk : kk < 3) (hB0 : ∀ k, gC B k ≤ gC Ω0 k) : ∀ m i n Ω, i + m = (gY B q D kn s (nI kk) (gC B 3)).length → m < n → SX B q D kn but s x3 Ω0 (fun k' y' => S0 k' y' ∨ (k' = kk ∧ y' ∈ (gY B q D kn s (nI kk) (gC B 3)).take i)) W Ω → gS Ω l = tkf 15 g0 (gY B q D kn s (nI kk) (gC B 3)).length → l < gC Ω 20 → g0 + (gY B q D kn s (nI kk) (gC B 3)).length ≤ gC Ω 15 → GS B q D kn s (nI kk) (gC B 3) g0 Ω → ∃ Ω' cc ss, fn_X1_spanBy_39 N K11 n s kn x3 (nI kk) l (nI i) Ω = ad cc ss (K11 s kn x3 (nI (kk + 1)) Ω') ∧ SX B q D kn but s x3 Ω0 (fun k' y' => S0 k' y' ∨ (k' = kk ∧ y' ∈ gY B q D kn s (nI kk) (gC B 3))) W Ω' ∧ cc + 220 * cvN Ω' 18 ≤ 220 * cvN Ω 18 ∧ ss + 1300 * cvN Ω' 18 ≤ 1300 * cvN Ω 18 := by
  have h120 := n_3 hB
  obtain ⟨aa, bb, a1, b1, ea, eb⟩ := sd_n hB hs
  have hYl : (gY B q D kn s (nI kk) (gC B 3)).length ≤ gC B 3 := Nat.le_trans (gY_len (gC B 3)) (by
    have : ∀ c, cEq B s c ≤ c := by
      intro c
      induction c with
      | zero => exact Nat.le_refl _
      | succ c ih => rw [cEq]; split <;> omega
    exact this _)
  intro m
  induction m with
  | zero =>
    intro i n Ω hi hn' hX hS hl hg hG
    obtain ⟨n, rfl⟩ : ∃ k, n = k + 1 := ⟨n - 1, by omega⟩
    have : i = (gY B q D kn s (nI kk) (gC B 3)).length := by omega
    subst this
    rw [List.take_length] at hX
    unfold fn_X1_spanBy_39 bd_X1_spanBy_39
    rw [x_size, ci_mk, hS, tkf_len, if_pos (by grind), nI_1]
    exact ⟨Ω, 0, 0, (ad_0 _).symm, hX, by omega, by omega⟩
  | succ m ih =>
    intro i n Ω hi hn' hX hS hl hg hG
    obtain ⟨n, rfl⟩ : ∃ k, n = k + 1 := ⟨n - 1, by omega⟩
    have hil : i < (gY B q D kn s (nI kk) (gC B 3)).length := by omega
    have hy : (gY B q D kn s (nI kk) (gC B 3))[i]? = some (gY B q D kn s (nI kk) (gC B 3))[i] := List.getElem?_eq_getElem hil
    have hymem : (gY B q D kn s (nI kk) (gC B 3))[i] ∈ gY B q D kn s (nI kk) (gC B 3) := List.getElem_mem hil
    generalize hyy : (gY B q D kn s (nI kk) (gC B 3))[i] = y at hy hymem
    have hgt := x_get (N := N) (l := l) (i := i) (Ω := Ω) (by rw [hS, tkf_len]; omega) (by rw [hS, tkf_len]; omega)
    rw [hS, tkf_get hil] at hgt
    obtain ⟨hE, hA, hW, h19, h18, hF⟩ := hX
    have hw := hE.1
    obtain ⟨_, y1, y2, y3, _, _⟩ := sitX hB hw hs
    unfold fn_X1_spanBy_39 bd_X1_spanBy_39
    rw [x_size, ci_mk, hS, tkf_len, if_neg (by rw [nI_leI (by omega) (by omega)]; omega), hgt, cr_mk, bk_mk, y2, y3, ea, eb]
    obtain ⟨Ω1, j, c1, s1, p1, p2, p3, p4, p5, p6⟩ := x_curve hB hD (but := but) (N := N) hN hkk a1 b1 hn hE h19 hA
    rw [p1, ck_mk]
    have hE1 : EX B q D Ω1 := hE.step p2 (by decide) (by decide)
    have hw1 := hE1.1
    have G1 := GS_W hG p2 (by simp) hg
    obtain ⟨g1, g2, g3, g4⟩ := G1 i y hy
    rw [← ea, ← eb] at p4
    have hgb := gLo_b hB hD (kn := kn) (s := s) (k := nI kk) (y := y) (gC B 3) (Nat.le_refl _)
    have hge := hgb.2.2 ((gY_mem (gC B 3)).1 hymem)
    have fa1 := x_pf hB hD (N := N) hN hw1 p4 (gLo B q D kn s (nI kk) y (gC B 3))
    have hpf := pfA_le (B := B) (q := q) (D := D) (kn := kn) (but := but) (s := s) (kk := kk) (v := gLo B q D kn s (nI kk) y (gC B 3))
    rw [g3, fa1, ci_mk, g2]
    have X1 : SX B q D kn but s x3 Ω0 (fun k' y' => S0 k' y' ∨ (k' = kk ∧ y' ∈ (gY B q D kn s (nI kk) (gC B 3)).take i)) W Ω1 := by
      refine ⟨hE1, p3, hW.trans p2, by rw [p2.I (by decide) (Or.inl fx_0)]; exact h19, ⟨h18.1, Nat.lt_of_lt_of_le h18.2 (p2.C 18)⟩, ?_⟩
      rw [p2.I (by simp [ky]) (Or.inr h18.2), p2.I (by simp [ky]) (Or.inr h18.2)]
      exact hF
    have hF1 := X1.2.2.2.2.2
    have hf1000 := FT_1000 hF1
    have h2100 := FT_2100 hF1
    have eS : ∀ k' y', ((S0 k' y' ∨ (k' = kk ∧ y' ∈ (gY B q D kn s (nI kk) (gC B 3)).take i)) ∨ (k' = kk ∧ y' = y)) ↔ (S0 k' y' ∨ (k' = kk ∧ y' ∈ (gY B q D kn s (nI kk) (gC B 3)).take (i + 1))) := by
      intro k' y'
      have hty : (gY B q D kn s (nI kk) (gC B 3)).take (i + 1) = (gY B q D kn s (nI kk) (gC B 3)).take i ++ [y] := by rw [List.take_succ_eq_append_getElem hil, hyy]
      rw [hty, List.mem_append]
      simp only [List.mem_cons, List.not_mem_nil, or_false]
      constructor
      · rintro ((h | ⟨h, h2⟩) | ⟨h, h2⟩)
        · exact Or.inl h
        · exact Or.inr ⟨h, Or.inl h2⟩
        · exact Or.inr ⟨h, Or.inr h2⟩
      · rintro (h | ⟨h, h2 | h2⟩)
        · exact Or.inl (Or.inl h)
        · exact Or.inl (Or.inr ⟨h, h2⟩)
        · exact Or.inr ⟨h, h2⟩
    have go : ∀ tt : Int32, tt = toC 999 B q D kn but s kk y → ∃ Ω' cc ss, ad c1 s1 (fn_X1_spanBy_116 N K11 (fn_X1_spanBy_39 N K11 n) s kn x3 (nI kk) l (nI i) (g0 + i) j tt 1000 x3 Ω1) = ad cc ss (K11 s kn x3 (nI (kk + 1)) Ω') ∧ SX B q D kn but s x3 Ω0 (fun k' y' => S0 k' y' ∨ (k' = kk ∧ y' ∈ gY B q D kn s (nI kk) (gC B 3))) W Ω' ∧ cc + 220 * cvN Ω' 18 ≤ 220 * cvN Ω 18 ∧ ss + 1300 * cvN Ω' 18 ≤ 1300 * cvN Ω 18 := by
      intro tt htt
      have m1000 : mx (gI Ω1 18 x3 0) 1000 = gI Ω1 18 x3 0 := by
        rw [fa_eq, fi_mx]
        have : (1000 : Int32).toInt = 1000 := rfl
        omega
      unfold fn_X1_spanBy_116 fn_X1_spanBy_168
      rw [x_within, cv_mk, m1000]
      have W2 : Wx [(18, x3)] Ω1 (sI (sI Ω1 18 x3 0 (gI Ω1 18 x3 0)) 18 x3 1 (mn (gI Ω1 18 x3 1) tt)) := (Wx.refl.sI (Or.inl (by simp [ky]))).sI (Or.inl (by simp [ky]))
      have hwB2 : Wx sS0 B (sI (sI Ω1 18 x3 0 (gI Ω1 18 x3 0)) 18 x3 1 (mn (gI Ω1 18 x3 1) tt)) := (hw1.sI (Or.inr ⟨nfx18, by have := hB0 18; omega⟩)).sI (Or.inr ⟨nfx18, by have := hB0 18; omega⟩)
      have e21 : gI (sI (sI Ω1 18 x3 0 (gI Ω1 18 x3 0)) 18 x3 1 (mn (gI Ω1 18 x3 1) tt)) 2 s 1 = nI s := (sitX hB hwB2 hs).2.1
      have e11 : gI (sI (sI Ω1 18 x3 0 (gI Ω1 18 x3 0)) 18 x3 1 (mn (gI Ω1 18 x3 1) tt)) 0 0 11 = gI B 1 0 43 := by rw [w_x hwB2 (by decide)]; exact hB.2.2.2.2.2.1.2.2.2.1
      rw [e21, x_lookedAt hB (by omega) hwB2, ci_mk, e11, nI_1]
      have fin : ∀ Ω2, Wx [(18, x3)] Ω1 Ω2 → SX B q D kn but s x3 Ω0 (fun k' y' => S0 k' y' ∨ (k' = kk ∧ y' ∈ (gY B q D kn s (nI kk) (gC B 3)).take (i + 1))) W Ω2 → ∃ Ω' cc ss, ad c1 s1 (fn_X1_spanBy_39 N K11 n s kn x3 (nI kk) l (nI (i + 1)) Ω2) = ad cc ss (K11 s kn x3 (nI (kk + 1)) Ω') ∧ SX B q D kn but s x3 Ω0 (fun k' y' => S0 k' y' ∨ (k' = kk ∧ y' ∈ gY B q D kn s (nI kk) (gC B 3))) W Ω' ∧ cc + 220 * cvN Ω' 18 ≤ 220 * cvN Ω 18 ∧ ss + 1300 * cvN Ω' 18 ≤ 1300 * cvN Ω 18 := by
        intro Ω2 w2 X2
        have hl1 : l < gC Ω1 20 := Nat.lt_of_lt_of_le hl (p2.C 20)
        have hg1 : g0 + (gY B q D kn s (nI kk) (gC B 3)).length ≤ gC Ω1 15 := Nat.le_trans hg (p2.C 15)
        obtain ⟨Ω', cc, ss, k1, k2, k3, k4⟩ := ih (i + 1) n Ω2 (by omega) (by omega) X2 (by rw [w2.S (by simp) hl1, p2.S (by simp) hl]; exact hS) (Nat.lt_of_lt_of_le hl1 (w2.C 20)) (Nat.le_trans hg1 (w2.C 15)) (GS_W G1 w2 (by simp) hg1)
        have hcv := cvN_W w2 (by simp) 18
        rw [hcv] at k3 k4
        exact ⟨Ω', cc + c1, ss + s1, by rw [k1, ad_ad], k2, by omega, by omega⟩
      by_cases hlk : lk B (nI s) (nI kk) kn < gI B 1 0 43
      · rw [if_pos hlk]
        have hnl : ¬ lkd B kn s kk := by unfold lkd; grind
        have hFT := FT_cong (FT_add (kk := kk) (y := y) hF1 (F' := gI Ω1 18 x3 0) (T' := mn (gI Ω1 18 x3 1) tt) (fun _ => rfl) (fun w => absurd w hnl) (by rw [htt])) eS (fun _ => Iff.rfl)
        obtain ⟨X2, w2⟩ := SX_set X1 hB0 hFT
        exact fin _ w2 X2
      · rw [if_neg hlk]
        have hll : lkd B kn s kk := by unfold lkd; grind
        have G2 := GS_W G1 W2 (by simp) (Nat.le_trans hg (p2.C 15))
        obtain ⟨_, q2, _, q4⟩ := G2 i y hy
        have la2 := x_pl hB hD (N := N) hN hwB2 (CvK_W p4 W2 (by simp)) hge.2
        have hd : gI (sI (sI Ω1 18 x3 0 (gI Ω1 18 x3 0)) 18 x3 1 (mn (gI Ω1 18 x3 1) tt)) 43 0 kk = gI B 32 31 kk := by rw [hwB2.I (by simp [ky, sS0, sQ]) (Or.inl (fx_m (by decide)))]; exact (hB.2.2.2.2.2.1.2.2.2.2.2.2.2.2.2.2.2.1 kk hkk).1
        rw [q4, la2, ci_mk, q2, ix_n hkk (by decide), hd, x_within, cv_mk]
        have hfr : y - nI (plA B q D kn but s kk (gHi B q D kn s (nI kk) y (gC B 3))) - gI B 32 31 kk = frC B q D kn but s kk y := rfl
        rw [hfr]
        have r0 : gI (sI (sI Ω1 18 x3 0 (gI Ω1 18 x3 0)) 18 x3 1 (mn (gI Ω1 18 x3 1) tt)) 18 x3 0 = gI Ω1 18 x3 0 := by rw [gI_sI, if_neg (by omega), gI_sI, if_pos ⟨rfl, rfl, rfl⟩]
        have r1 : gI (sI (sI Ω1 18 x3 0 (gI Ω1 18 x3 0)) 18 x3 1 (mn (gI Ω1 18 x3 1) tt)) 18 x3 1 = mn (gI Ω1 18 x3 1) tt := by rw [gI_sI, if_pos ⟨rfl, rfl, rfl⟩]
        have m2100 : mn (mn (gI Ω1 18 x3 1) tt) 2100 = mn (gI Ω1 18 x3 1) tt := by
          rw [fa_eq, fi_mn, fi_mn]
          have : (2100 : Int32).toInt = 2100 := rfl
          omega
        rw [r0, r1, m2100]
        have hFT := FT_cong (FT_add (kk := kk) (y := y) hF1 (F' := mx (gI Ω1 18 x3 0) (frC B q D kn but s kk y)) (T' := mn (gI Ω1 18 x3 1) tt) (fun w => absurd hll w) (fun _ => rfl) (by rw [htt])) eS (fun _ => Iff.rfl)
        rw [sI4]
        obtain ⟨X2, w2⟩ := SX_set X1 hB0 hFT
        exact fin _ w2 X2
    by_cases hp : pfA B q D kn but s kk (gLo B q D kn s (nI kk) y (gC B 3)) ≤ 800
    · rw [if_pos (by rw [show (800 : Int32) = nI 800 from rfl, nI_leI (by omega) (by decide)]; exact hp)]
      exact go _ (by unfold toC; rw [if_pos hp])
    · rw [if_neg (by rw [show (800 : Int32) = nI 800 from rfl, nI_leI (by omega) (by decide)]; exact hp)]
      exact go _ (by unfold toC; rw [if_neg hp])
end U
section U
variable {B : zo_O} (hB : Bse B) {q : Bool} {D : Nat → Nat → Int32} (hD : q = false → DBd D) {kn but : Int32} {Ω0 : zo_O} {s x3 : Nat}
include hB
theorem x_sp183 {N : Nat} {S : Nat → Int32 → Prop} (hs : s < gC B 2) (hB0 : ∀ k, gC B k ≤ gC Ω0 k) : ∀ m i n Ω, i + m = gC B 6 → m < n → SX B q D kn but s x3 Ω0 S (fun w => w < i ∧ gI B 32 20 w = nI s ∧ gI B 32 23 w ≤ kn) Ω → ∃ Ω', fn_X1_spanBy_183 N n s kn x3 (nI i) Ω = some (some (vr 18 x3), Ω', 0, 0) ∧ SX B q D kn but s x3 Ω0 S (fun w => w < gC B 6 ∧ gI B 32 20 w = nI s ∧ gI B 32 23 w ≤ kn) Ω' ∧ cvN Ω' 18 = cvN Ω 18 := by
  obtain ⟨hS4, _, h20⟩ := hB.1 6 (by decide) (by decide)
  have hS4 : gS B 4 = tks 6 (gC B 6) := hS4
  have h20 : gC B 6 ≤ 20 := h20
  have h7 : 7 ≤ gC B 20 := hB.2.2.2.2.2.2.2.1
  intro m
  induction m with
  | zero =>
    intro i n Ω hi hn hX
    obtain ⟨n, rfl⟩ : ∃ k, n = k + 1 := ⟨n - 1, by omega⟩
    have : i = gC B 6 := by omega
    subst this
    unfold fn_X1_spanBy_183 bd_X1_spanBy_183
    rw [x_size, ci_mk, hX.1.1.S (by simp [sS0, sQ]) (by omega), hS4, tks_len, if_pos (by grind)]
    exact ⟨Ω, rfl, hX, rfl⟩
  | succ m ih =>
    intro i n Ω hi hn hX
    obtain ⟨n, rfl⟩ : ∃ k, n = k + 1 := ⟨n - 1, by omega⟩
    have hil : i < gC B 6 := by omega
    have hw := hX.1.1
    have hSO : gS Ω 4 = tks 6 (gC B 6) := by rw [hw.S (by simp [sS0, sQ]) (by omega)]; exact hS4
    have hgt := x_get (N := N) (l := 4) (i := i) (Ω := Ω) (by rw [hSO, tks_len]; omega) (by rw [hSO, tks_len]; omega)
    rw [hSO, tks_get hil] at hgt
    have col : ∀ f c, (6, f, c) ∈ iv_cols → gI Ω 6 i f = gI B 32 c i := fun f c h => by
      rw [w_o hw (by decide) hil]; exact hB.2.1 _ h i hil
    obtain ⟨_, y1, _⟩ := sitX hB hw hs
    unfold fn_X1_spanBy_183 bd_X1_spanBy_183 fn_X1_spanBy_244 fn_X3_isBy_6 fn_X3_isBy_6_13
    rw [x_size, ci_mk, hSO, tks_len, if_neg (by rw [nI_leI (by omega) (by omega)]; omega), hgt, cr_mk, bk_mk, y1, col 1 20 (by decide), col 0 23 (by decide), nI_1]
    have no : ¬ (gI B 32 20 i = nI s ∧ gI B 32 23 i ≤ kn) → ∃ Ω', fn_X1_spanBy_183 N n s kn x3 (nI (i + 1)) Ω = some (some (vr 18 x3), Ω', 0, 0) ∧ SX B q D kn but s x3 Ω0 S (fun w => w < gC B 6 ∧ gI B 32 20 w = nI s ∧ gI B 32 23 w ≤ kn) Ω' ∧ cvN Ω' 18 = cvN Ω 18 := by
      intro h
      refine ih (i + 1) n Ω (by omega) (by omega) ⟨hX.1, hX.2.1, hX.2.2.1, hX.2.2.2.1, hX.2.2.2.2.1, FT_cong hX.2.2.2.2.2 (fun _ _ => Iff.rfl) (fun w => ?_)⟩
      constructor
      · rintro ⟨a, b⟩; exact ⟨by omega, b⟩
      · rintro ⟨a, b⟩
        have : w ≠ i := by rintro rfl; exact h b
        exact ⟨by omega, b⟩
    by_cases g1 : gI B 32 20 i = nI s
    · rw [if_pos g1]
      by_cases g2 : kn < gI B 32 23 i
      · rw [if_pos g2, rZ_0, ci_mk, if_pos rfl]; exact no (by grind)
      · rw [if_neg g2, rZ_1, ci_mk, if_neg (by decide), col 2 21 (by decide), col 3 22 (by decide), x_within, cv_mk]
        have hFT := FT_cong (W' := fun w => w < i + 1 ∧ gI B 32 20 w = nI s ∧ gI B 32 23 w ≤ kn) (FT_wit (w := i) hX.2.2.2.2.2) (fun _ _ => Iff.rfl) (fun w => by
          constructor
          · rintro (⟨a, b⟩ | rfl)
            · exact ⟨by omega, b⟩
            · exact ⟨by omega, g1, by grind⟩
          · rintro ⟨a, b⟩
            by_cases e : w = i
            · exact Or.inr e
            · exact Or.inl ⟨by omega, b⟩)
        obtain ⟨X2, w2⟩ := SX_set hX hB0 hFT
        obtain ⟨Ω', k1, k2, k3⟩ := ih (i + 1) n _ (by omega) (by omega) X2
        exact ⟨Ω', k1, k2, k3.trans (cvN_W w2 (by simp) 18)⟩
    · rw [if_neg g1]; exact no (by grind)
include hD
theorem x_sp11 {N : Nat} (hN : 40000 ≤ N) (hn : gC B 3 ≤ 63) (hs : s < gC B 2) (hB0 : ∀ k, gC B k ≤ gC Ω0 k) : ∀ m kk n Ω, kk + m = 3 → m < n → SX B q D kn but s x3 Ω0 (fun k' y' => k' < kk ∧ y' ∈ gY B q D kn s (nI k') (gC B 3)) (fun _ => False) Ω → ∃ Ω' cc ss, fn_X1_spanBy_11 N n s kn x3 (nI kk) Ω = some (some (vr 18 x3), Ω', cc, ss) ∧ SX B q D kn but s x3 Ω0 (fun k' y' => k' < 3 ∧ y' ∈ gY B q D kn s (nI k') (gC B 3)) (fun w => w < gC B 6 ∧ gI B 32 20 w = nI s ∧ gI B 32 23 w ≤ kn) Ω' ∧ cc + 220 * cvN Ω' 18 ≤ 220 * cvN Ω 18 + 70 * m ∧ ss + 1300 * cvN Ω' 18 ≤ 1300 * cvN Ω 18 + 457 * m := by
  have h20 : gC B 6 ≤ 20 := (hB.1 6 (by decide) (by decide)).2.2
  intro m
  induction m with
  | zero =>
    intro kk n Ω hk hn' hX
    obtain ⟨n, rfl⟩ : ∃ k, n = k + 1 := ⟨n - 1, by omega⟩
    have : kk = 3 := by omega
    subst this
    unfold fn_X1_spanBy_11 bd_X1_spanBy_11
    rw [if_pos (by decide)]
    obtain ⟨Ω', k1, k2, k3⟩ := x_sp183 hB (N := N) hs hB0 (gC B 6) 0 N Ω (by omega) (by omega) ⟨hX.1, hX.2.1, hX.2.2.1, hX.2.2.2.1, hX.2.2.2.2.1, FT_cong hX.2.2.2.2.2 (fun _ _ => Iff.rfl) (fun w => ⟨fun h => h.elim, fun h => by omega⟩)⟩
    exact ⟨Ω', 0, 0, k1, k2, by omega, by omega⟩
  | succ m ih =>
    intro kk n Ω hk hn' hX
    obtain ⟨n, rfl⟩ : ∃ k, n = k + 1 := ⟨n - 1, by omega⟩
    unfold fn_X1_spanBy_11 bd_X1_spanBy_11
    rw [if_neg (by rw [show (3 : Int32) = nI 3 from rfl, nI_leI (by decide) (by omega)]; omega)]
    obtain ⟨hE, hA, hW, h19, h18, hF⟩ := hX
    have Wn : Wx [] Ω (nw Ω 20 0) := Wx.refl.nw (by decide)
    have hEn : EX B q D (nw Ω 20 0) := hE.step Wn (by simp) (by simp)
    have hS0 : gS (nw Ω 20 0) (gC Ω 20) = [] := by rw [gS_nw, if_pos ⟨rfl, rfl⟩]
    obtain ⟨Ω1, c1, s1, p1, p2, p3, p4, p5, p6, p7, p8, p9⟩ := x_groups hB hD (s := s) (k := nI kk) (kn := kn) (l := gC Ω 20) (N := N) (Ω := nw Ω 20 0) (by omega) hEn (hE.1.C 20) (by rw [gC_nw, if_pos rfl]; omega) (by rw [hS0]; rfl) (by rw [hS0]; decide)
    rw [hS0] at p4 p8 p9
    have c15 : gC (nw Ω 20 0) 15 = gC Ω 15 := rfl
    rw [c15] at p4 p5 p6
    have W1 : Wx [] Ω Ω1 := Wx_nil Wn p3 (Nat.le_refl _)
    have hYl : (gY B q D kn s (nI kk) (gC B 3)).length ≤ gC B 3 := Nat.le_trans (gY_len (gC B 3)) (by
      have : ∀ c, cEq B s c ≤ c := by
        intro c
        induction c with
        | zero => exact Nat.le_refl _
        | succ c ih => rw [cEq]; split <;> omega
      exact this _)
    have X1 : SX B q D kn but s x3 Ω0 (fun k' y' => (k' < kk ∧ y' ∈ gY B q D kn s (nI k') (gC B 3)) ∨ (k' = kk ∧ y' ∈ (gY B q D kn s (nI kk) (gC B 3)).take 0)) (fun _ => False) Ω1 := by
      refine ⟨p2, CvA_W hA W1 (by simp), hW.step W1 (by simp), by rw [W1.I (by simp) (Or.inl fx_0)]; exact h19, ⟨h18.1, Nat.lt_of_lt_of_le h18.2 (W1.C 18)⟩, ?_⟩
      rw [W1.I (by simp) (Or.inr h18.2), W1.I (by simp) (Or.inr h18.2)]
      refine FT_cong hF (fun k' y' => ?_) (fun _ => Iff.rfl)
      rw [List.take_zero]
      constructor
      · exact Or.inl
      · rintro (h | ⟨_, h⟩)
        · exact h
        · simp at h
    obtain ⟨Ω2, c2, s2, q1, q2, q3, q4⟩ := x_sp39 hB hD (N := N) (K11 := fn_X1_spanBy_11 N n) hN hn hs (show kk < 3 by omega) hB0 (gY B q D kn s (nI kk) (gC B 3)).length 0 N Ω1 (by omega) (by omega) X1 (by rw [p4]; rfl) (by rw [p7 20 (by decide), gC_nw, if_pos rfl]; omega) (by omega) p6
    obtain ⟨Ω3, c3, s3, r1, r2, r3, r4⟩ := ih (kk + 1) n Ω2 (by omega) (by omega) ⟨q2.1, q2.2.1, q2.2.2.1, q2.2.2.2.1, q2.2.2.2.2.1, FT_cong q2.2.2.2.2.2 (fun k' y' => by
      constructor
      · rintro (⟨a, b⟩ | ⟨rfl, b⟩)
        · exact ⟨by omega, b⟩
        · exact ⟨by omega, b⟩
      · rintro ⟨a, b⟩
        by_cases e : k' = kk
        · subst e; exact Or.inr ⟨rfl, b⟩
        · exact Or.inl ⟨by omega, b⟩) (fun _ => Iff.rfl)⟩
    refine ⟨Ω3, c3 + c2 + c1 + 1, s3 + s2 + s1 + 3, ?_, r2, ?_, ?_⟩
    · unfold lt
      show ad 1 3 (cv (fn_X1_findGroups N (gC Ω 20) s (nI kk) kn (nw Ω 20 0)) fun Ω3 => fn_X1_spanBy_39 N (fn_X1_spanBy_11 N n) N s kn x3 (nI kk) (gC Ω 20) 0 Ω3) = _
      rw [p1]
      show ad 1 3 (ad c1 s1 (fn_X1_spanBy_39 N (fn_X1_spanBy_11 N n) N s kn x3 (nI kk) (gC Ω 20) (nI 0) Ω1)) = _
      rw [q1, r1]
      rfl
    · have hcv := cvN_W W1 (by simp) 18
      have m1 := KC_mono (show 0 + (gY B q D kn s (nI kk) (gC B 3)).length ≤ 64 by omega)
      have k64 := KC_64
      have e0 : KC ([] : List zo_T).length = 0 := rfl
      have e1 : ([] : List zo_T).length = 0 := rfl
      rw [e0, e1] at p8
      omega
    · have hcv := cvN_W W1 (by simp) 18
      have m1 := KS_mono (show 0 + (gY B q D kn s (nI kk) (gC B 3)).length ≤ 64 by omega)
      have k64 := KS_64
      have e0 : KS ([] : List zo_T).length = 0 := rfl
      have e1 : ([] : List zo_T).length = 0 := rfl
      rw [e0, e1] at p9
      omega
/-- the span of a site by X -/
theorem x_spanBy {N : Nat} {Ω : zo_O} (hN : 40000 ≤ N) (hn : gC B 3 ≤ 63) (hs : s < gC B 2) (hE : EX B q D Ω) (hA : CvA B q D kn but Ω) (h19 : gI Ω 0 0 19 = but) : ∃ Ω' cc ss, fn_X1_spanBy N s kn Ω = some (some (vr 18 (gC Ω 18)), Ω', cc, ss) ∧ SX B q D kn but s (gC Ω 18) Ω (fun k' y' => k' < 3 ∧ y' ∈ gY B q D kn s (nI k') (gC B 3)) (fun w => w < gC B 6 ∧ gI B 32 20 w = nI s ∧ gI B 32 23 w ≤ kn) Ω' ∧ cc + 220 * cvN Ω' 18 ≤ 220 * cvN Ω 18 + 211 ∧ ss + 1300 * cvN Ω' 18 ≤ 1300 * cvN Ω 18 + 1373 := by
  have W0 : Wx [] Ω (sI (sI (nw Ω 18 0) 18 (gC Ω 18) 0 1000) 18 (gC Ω 18) 1 2100) := ((Wx.refl.nw (by decide)).sI (Or.inr ⟨nfx18, Nat.le_refl _⟩)).sI (Or.inr ⟨nfx18, Nat.le_refl _⟩)
  have X0 : SX B q D kn but s (gC Ω 18) Ω (fun k' y' => k' < 0 ∧ y' ∈ gY B q D kn s (nI k') (gC B 3)) (fun _ => False) (sI (sI (nw Ω 18 0) 18 (gC Ω 18) 0 1000) 18 (gC Ω 18) 1 2100) := by
    refine ⟨hE.step W0 (by simp) (by simp), CvA_W hA W0 (by simp), W0.mono (by simp), by rw [W0.I (by simp) (Or.inl fx_0)]; exact h19, ⟨Nat.le_refl _, by rw [gC_sI, gC_sI, gC_nw, if_pos rfl]; omega⟩, ?_⟩
    rw [gI_sI, if_neg (by omega), gI_sI, if_pos ⟨rfl, rfl, rfl⟩, gI_sI, if_pos ⟨rfl, rfl, rfl⟩]
    exact FT_cong FT_0 (fun k' y' => ⟨fun h => h.elim, fun h => absurd h.1 (by omega)⟩) (fun _ => Iff.rfl)
  obtain ⟨Ω', cc, ss, k1, k2, k3, k4⟩ := x_sp11 hB hD (N := N) hN hn hs (fun k => hE.1.C k) 3 0 N _ (by omega) (by omega) X0
  have hcv := cvN_W W0 (by simp) 18
  rw [hcv] at k3 k4
  refine ⟨Ω', cc + 1, ss + 2, ?_, k2, by omega, by omega⟩
  unfold fn_X1_spanBy fn_X22_init lt rV
  show ad 1 2 (fn_X1_spanBy_11 N N s kn (gC Ω 18) (nI 0) (sI (sI (nw Ω 18 0) 18 (gC Ω 18) 0 1000) 18 (gC Ω 18) 1 2100) |> ad 0 0) = _
  rw [k1]
  rfl
end U
