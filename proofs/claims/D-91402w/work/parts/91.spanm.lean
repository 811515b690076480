/-! ===== M: lays ===== -/
def sLl : List (Nat × Nat) := [(32, 45), (32, 46), (1, 66), (1, 67), (1, 68), (1, 73), (32, 39), (32, 40), (32, 41), (33, 4), (32, 42), (32, 43), (32, 44)]
/-- a span being narrowed by M -/
def LY (B : zo_O) (q : Bool) (D : Nat → Nat → Int32) (kn : Int32) (s : Nat) (Ω0 : zo_O) (S : Nat → Int32 → Prop) (W : Nat → Prop) (Ω : zo_O) : Prop := EM B q D Ω ∧ Wx sLl Ω0 Ω ∧ (∀ x, x ≠ s → gI Ω 32 45 x = gI Ω0 32 45 x ∧ gI Ω 32 46 x = gI Ω0 32 46 x) ∧ FT 0 B q D kn (nI s) s S W (gI Ω 32 45 s) (gI Ω 32 46 s)
/-- the curve of a kind is laid out -/
def MC (B : zo_O) (q : Bool) (D : Nat → Nat → Int32) (kn : Int32) (kk : Nat) (sd bt but : Int32) (Ω : zo_O) : Prop := ∀ x, x < 801 → gI Ω 32 42 x = lsV (gI B 1 0 42) (Rf B (lws B q D kn kk sd bt but) (ups B q D kn kk sd bt but)) (lws B q D kn kk sd bt but) (nI x) ∧ gI Ω 32 43 x = gsV (gI B 1 0 42) (Rf B (lws B q D kn kk sd bt but) (ups B q D kn kk sd bt but)) (ups B q D kn kk sd bt but) (nI x)
section U
variable {B : zo_O} (hB : Bse B) {q : Bool} {D : Nat → Nat → Int32} (hD : q = false → DBd D) {kn : Int32} {Ω0 : zo_O} {s kk : Nat}
omit hB hD in
theorem LY_W {S : Nat → Int32 → Prop} {W : Nat → Prop} {Ω Ω' : zo_O} {L : List (Nat × Nat)} (h : LY B q D kn s Ω0 S W Ω) (w : Wx L Ω Ω') (h1 : ∀ x ∈ L, x ∈ sLl) (h2 : (32, 45) ∉ L) (h3 : (32, 46) ∉ L) : LY B q D kn s Ω0 S W Ω' := by
  obtain ⟨a, b, c, d⟩ := h
  have e1 : ∀ x, gI Ω' 32 45 x = gI Ω 32 45 x := fun x => w.I h2 (Or.inl (fx_m (by decide)))
  have e2 : ∀ x, gI Ω' 32 46 x = gI Ω 32 46 x := fun x => w.I h3 (Or.inl (fx_m (by decide)))
  have hsub : ∀ x ∈ sLl, x ∈ sS0 := by decide
  have hdis : ∀ x ∈ sLm, x ∉ sLl := by decide
  refine ⟨a.step w (fun x m => hsub x (h1 x m)) (fun x m m' => hdis x m (h1 x m')), b.step w h1, fun x hx => ?_, ?_⟩
  · rw [e1, e2]; exact c x hx
  · rw [e1, e2]; exact d
omit hB hD in
theorem LY_to {S S' : Nat → Int32 → Prop} {W W' : Nat → Prop} {Ω : zo_O} {F T : Int32} (h : LY B q D kn s Ω0 S W Ω) (hF : FT 0 B q D kn (nI s) s S' W' F T) : LY B q D kn s Ω0 S' W' (sI (sI Ω 32 45 s F) 32 46 s T) := by
  obtain ⟨a, b, c, d⟩ := h
  have w : Wx [(32, 45), (32, 46)] Ω (sI (sI Ω 32 45 s F) 32 46 s T) := (Wx.refl.sI (Or.inl (by simp [ky]))).sI (Or.inl (by simp [ky]))
  refine ⟨a.step w (by decide) (by decide), b.step w (by decide), fun x hx => ?_, ?_⟩
  · simp [gI_sI, hx]; exact c x hx
  · simp [gI_sI]; exact hF
omit hB hD in
theorem MC_W {sd bt but : Int32} {Ω Ω' : zo_O} {L : List (Nat × Nat)} (h : MC B q D kn kk sd bt but Ω) (w : Wx L Ω Ω') (h2 : (32, 42) ∉ L) (h3 : (32, 43) ∉ L) : MC B q D kn kk sd bt but Ω' := fun x hx => by
  rw [w.I (k := 32) (n := 42) h2 (Or.inl (fx_m (by decide))), w.I (k := 32) (n := 43) h3 (Or.inl (fx_m (by decide)))]
  exact h x hx
include hB hD
theorem m_pf {N : Nat} {Ω : zo_O} {sd bt but : Int32} (hN : 40000 ≤ N) (hM : MC B q D kn kk sd bt but Ω) (v : Int32) : fn_X2_ageFrom N v Ω = some (some (vi (nI (fA (fun x => (gsV (gI B 1 0 42) (Rf B (lws B q D kn kk sd bt but) (ups B q D kn kk sd bt but)) (ups B q D kn kk sd bt but) (nI x)).toInt) v.toInt))), Ω, 0, 0) := by
  obtain ⟨p, p1, p2⟩ := m_ageFrom (N := N) (Ω := Ω) (v := v) (by omega)
  rw [p1, fsA_one (fsA_cong (fun i hi => by rw [(hM i hi).2]) p2) fA_ok]
theorem m_pl {N : Nat} {Ω : zo_O} {sd bt but : Int32} (hN : 40000 ≤ N) (hM : MC B q D kn kk sd bt but Ω) {v : Int32} (hv : 0 ≤ v.toInt) : fn_X2_ageTo N v Ω = some (some (vi (nI (lA (fun x => (lsV (gI B 1 0 42) (Rf B (lws B q D kn kk sd bt but) (ups B q D kn kk sd bt but)) (lws B q D kn kk sd bt but) (nI x)).toInt) v.toInt 800))), Ω, 0, 0) := by
  have hR := Rf_ok (lws_R hB hD (kn := kn) (but := but) (kk := kk) (sd := sd) (bt := bt))
  have h0 : (lsV (gI B 1 0 42) (Rf B (lws B q D kn kk sd bt but) (ups B q D kn kk sd bt but)) (lws B q D kn kk sd bt but) (nI 0)).toInt ≤ v.toInt := Int.le_trans (lsV_0 (fun s hs => hR.2.1.2 s hs)) hv
  obtain ⟨p, p1, p2⟩ := m_ageTo (N := N) (Ω := Ω) (v := v) (by omega) (by rw [(hM 0 (by decide)).1]; exact h0)
  rw [p1, lsA_one (lsA_cong (fun i hi => by rw [(hM i hi).1]) p2) (lA_ok h0)]
theorem m_curve2 {N : Nat} {Ω : zo_O} {sd bt but : Int32} (hN : 40000 ≤ N) (hkk : kk < 3) (hE : EM B q D Ω) : ∃ Ω', fn_X2_curve N (nI kk) sd bt kn but Ω = some (none, Ω', 0, 0) ∧ Wx sLcv Ω Ω' ∧ MC B q D kn kk sd bt but Ω' := by
  obtain ⟨Ω', R, n1, n2, n3, n4, n5, n6, n7⟩ := m_curve hB hD (kn := kn) (sd := sd) (bt := bt) (but := but) (N := N) hN hkk hE
  have hR : Rf B (lws B q D kn kk sd bt but) (ups B q D kn kk sd bt but) = R := Rf_eq ⟨n4, n5, n6⟩
  exact ⟨Ω', n1, n2, fun x hx => by rw [hR]; exact n7 x hx⟩
theorem m_ly120 {N : Nat} {K20 : Int32 → Int32 → Int32 → zo_O → Option zo_R} {S0 : Nat → Int32 → Prop} {W : Nat → Prop} (hN : 40000 ≤ N) (hs : s < gC B 2) (hkk : kk < 3) : ∀ m c n Ω, c + m = gC B 3 → m < n → LY B q D kn s Ω0 (fun k' y' => S0 k' y' ∨ (k' = kk ∧ ∃ c', c' < c ∧ cst B c' = s ∧ gI B 32 6 c' = nI kk ∧ isF B c' = true ∧ gLo B q D kn s (nI kk) (gI B 32 10 c') (gC B 3) ≠ -1 ∧ y' = gI B 32 10 c')) W Ω → MC B q D kn kk (gI B 32 0 s) (gI B 32 1 s) (nI s) Ω → ∃ Ω', fn_X2_lays_120 N K20 n (nI s) kn (nI kk) (nI c) Ω = K20 (nI s) kn (nI (kk + 1)) Ω' ∧ LY B q D kn s Ω0 (fun k' y' => S0 k' y' ∨ (k' = kk ∧ ∃ c', c' < gC B 3 ∧ cst B c' = s ∧ gI B 32 6 c' = nI kk ∧ isF B c' = true ∧ gLo B q D kn s (nI kk) (gI B 32 10 c') (gC B 3) ≠ -1 ∧ y' = gI B 32 10 c')) W Ω' := by
  have h120 := n_3 hB
  have h14 := n_2 hB
  have h8 := (b_c hB).2
  intro m
  induction m with
  | zero =>
    intro c n Ω hc hn hL hM
    obtain ⟨n, rfl⟩ : ∃ k, n = k + 1 := ⟨n - 1, by omega⟩
    have : c = gC B 3 := by omega
    subst this
    unfold fn_X2_lays_120 bd_X2_lays_120 fn_X2_lays_285
    rw [w_m hL.1.1 (by decide), h8, if_pos (by grind), nI_1]
    exact ⟨Ω, rfl, hL⟩
  | succ m ih =>
    intro c n Ω hc hn hL hM
    obtain ⟨n, rfl⟩ : ∃ k, n = k + 1 := ⟨n - 1, by omega⟩
    have hcl : c < gC B 3 := by omega
    have hE := hL.1
    have hw := hE.1
    unfold fn_X2_lays_120 bd_X2_lays_120 fn_X2_lays_279
    rw [w_m hw (by decide), h8, if_neg (by rw [nI_leI (by omega) (by omega)]; omega)]
    simp only [ix_n (show c < 120 by omega) (show 120 < 2147483648 by decide), w_c hw (show 5 ≤ 35 by decide), w_c hw (show 6 ≤ 35 by decide), w_c hw (show 10 ≤ 35 by decide), cst_eq hB hcl (show s < 14 by omega), m_isFirst hB (show 130 ≤ N by omega) hw hcl, ci_mk, if_10, nI_1]
    have no : ¬ (cst B c = s ∧ gI B 32 6 c = nI kk ∧ isF B c = true ∧ gLo B q D kn s (nI kk) (gI B 32 10 c) (gC B 3) ≠ -1) → ∀ Ω1, LY B q D kn s Ω0 (fun k' y' => S0 k' y' ∨ (k' = kk ∧ ∃ c', c' < c ∧ cst B c' = s ∧ gI B 32 6 c' = nI kk ∧ isF B c' = true ∧ gLo B q D kn s (nI kk) (gI B 32 10 c') (gC B 3) ≠ -1 ∧ y' = gI B 32 10 c')) W Ω1 → MC B q D kn kk (gI B 32 0 s) (gI B 32 1 s) (nI s) Ω1 → ∃ Ω', fn_X2_lays_120 N K20 n (nI s) kn (nI kk) (nI (c + 1)) Ω1 = K20 (nI s) kn (nI (kk + 1)) Ω' ∧ LY B q D kn s Ω0 (fun k' y' => S0 k' y' ∨ (k' = kk ∧ ∃ c', c' < gC B 3 ∧ cst B c' = s ∧ gI B 32 6 c' = nI kk ∧ isF B c' = true ∧ gLo B q D kn s (nI kk) (gI B 32 10 c') (gC B 3) ≠ -1 ∧ y' = gI B 32 10 c')) W Ω' := by
      intro h Ω1 L1 M1
      refine ih (c + 1) n Ω1 (by omega) (by omega) ⟨L1.1, L1.2.1, L1.2.2.1, FT_cong L1.2.2.2 (fun k' y' => ?_) (fun _ => Iff.rfl)⟩ M1
      constructor
      · rintro (g | ⟨g1, c', g2, g3⟩)
        · exact Or.inl g
        · exact Or.inr ⟨g1, c', by omega, g3⟩
      · rintro (g | ⟨g1, c', g2, g3, g4, g5, g6, g7⟩)
        · exact Or.inl g
        · have : c' ≠ c := by rintro rfl; exact h ⟨g3, g4, g5, g6⟩
          exact Or.inr ⟨g1, c', by omega, g3, g4, g5, g6, g7⟩
    by_cases g1 : cst B c = s
    · rw [if_pos g1]
      by_cases g2 : gI B 32 6 c = nI kk
      · rw [if_pos g2]
        by_cases g3 : isF B c = true
        · rw [if_pos g3]
          obtain ⟨Ω1, p1, p2, p3, p4⟩ := m_gathers hB (kn := kn) (k := nI kk) (y := gI B 32 10 c) (N := N) (by omega) (show s < 14 by omega) hE
          rw [p1, ci_mk]
          have L1 := LY_W hL p2 (by decide) (by decide) (by decide)
          have M1 := MC_W hM p2 (by decide) (by decide)
          by_cases g4 : gLo B q D kn s (nI kk) (gI B 32 10 c) (gC B 3) = -1
          · rw [if_pos g4, if_pos rfl]; exact no (fun w => w.2.2.2 g4) Ω1 L1 M1
          · rw [if_neg g4, if_neg (by decide)]
            have hw1 := L1.1.1
            have hymem : gI B 32 10 c ∈ gY B q D kn s (nI kk) (gC B 3) := by
              cases Classical.em (gI B 32 10 c ∈ gY B q D kn s (nI kk) (gC B 3)) with
              | inl h => exact h
              | inr h => exact absurd ((gLo_iff hB hD).2 h) g4
            have hge := (gLo_b hB hD (kn := kn) (s := s) (k := nI kk) (y := gI B 32 10 c) (gC B 3) (Nat.le_refl _)).2.2 ((gY_mem (gC B 3)).1 hymem)
            have fa := m_pf hB hD (N := N) hN M1 (gLo B q D kn s (nI kk) (gI B 32 10 c) (gC B 3))
            have fa : fn_X2_ageFrom N (gLo B q D kn s (nI kk) (gI B 32 10 c) (gC B 3)) Ω1 = some (some (vi (nI (pfA B q D kn (nI s) s kk (gLo B q D kn s (nI kk) (gI B 32 10 c) (gC B 3))))), Ω1, 0, 0) := by unfold pfA; exact fa
            have hpf := pfA_le (B := B) (q := q) (D := D) (kn := kn) (but := nI s) (s := s) (kk := kk) (v := gLo B q D kn s (nI kk) (gI B 32 10 c) (gC B 3))
            rw [p3, fa, ci_mk, ix_n (show s < 14 by omega) (by decide), w_c hw1 (show 10 ≤ 35 by decide)]
            have eS : ∀ k' y', ((S0 k' y' ∨ (k' = kk ∧ ∃ c', c' < c ∧ cst B c' = s ∧ gI B 32 6 c' = nI kk ∧ isF B c' = true ∧ gLo B q D kn s (nI kk) (gI B 32 10 c') (gC B 3) ≠ -1 ∧ y' = gI B 32 10 c')) ∨ (k' = kk ∧ y' = gI B 32 10 c)) ↔ (S0 k' y' ∨ (k' = kk ∧ ∃ c', c' < c + 1 ∧ cst B c' = s ∧ gI B 32 6 c' = nI kk ∧ isF B c' = true ∧ gLo B q D kn s (nI kk) (gI B 32 10 c') (gC B 3) ≠ -1 ∧ y' = gI B 32 10 c')) := by
              intro k' y'
              constructor
              · rintro ((g | ⟨h1, c', h2, h3⟩) | ⟨h1, h2⟩)
                · exact Or.inl g
                · exact Or.inr ⟨h1, c', by omega, h3⟩
                · exact Or.inr ⟨h1, c, by omega, g1, g2, g3, g4, h2⟩
              · rintro (g | ⟨h1, c', h2, h3⟩)
                · exact Or.inl (Or.inl g)
                · by_cases e : c' = c
                  · subst e; exact Or.inr ⟨h1, h3.2.2.2.2⟩
                  · exact Or.inl (Or.inr ⟨h1, c', by omega, h3⟩)
            have go : ∀ tt : Int32, tt = toC 0 B q D kn (nI s) s kk (gI B 32 10 c) → ∃ Ω', fn_X2_lays_223 N K20 (fn_X2_lays_120 N K20 n) (nI s) kn (nI kk) (nI c) tt (gI Ω1 32 46 s) (nI s) Ω1 = K20 (nI s) kn (nI (kk + 1)) Ω' ∧ LY B q D kn s Ω0 (fun k' y' => S0 k' y' ∨ (k' = kk ∧ ∃ c', c' < gC B 3 ∧ cst B c' = s ∧ gI B 32 6 c' = nI kk ∧ isF B c' = true ∧ gLo B q D kn s (nI kk) (gI B 32 10 c') (gC B 3) ≠ -1 ∧ y' = gI B 32 10 c')) W Ω' := by
              intro tt htt
              unfold fn_X2_lays_223 fn_X2_lays_279
              have Wt : Wx [(32, 46)] Ω1 (sI Ω1 32 46 s (mn (gI Ω1 32 46 s) tt)) := Wx.refl.sI (Or.inl (by simp [ky]))
              have hwt : Wx sS0 B (sI Ω1 32 46 s (mn (gI Ω1 32 46 s) tt)) := hw1.step Wt (by decide)
              have Mt := MC_W M1 Wt (by decide) (by decide)
              have e45 : gI (sI Ω1 32 46 s (mn (gI Ω1 32 46 s) tt)) 32 45 s = gI Ω1 32 45 s := by rw [gI_sI, if_neg (by omega)]
              have e67 : gI (sI Ω1 32 46 s (mn (gI Ω1 32 46 s) tt)) 1 0 67 = gHi B q D kn s (nI kk) (gI B 32 10 c) (gC B 3) := by rw [gI_sI, if_neg (by omega)]; exact p4
              have la := m_pl hB hD (N := N) hN Mt hge.2
              have la : fn_X2_ageTo N (gHi B q D kn s (nI kk) (gI B 32 10 c) (gC B 3)) (sI Ω1 32 46 s (mn (gI Ω1 32 46 s) tt)) = some (some (vi (nI (plA B q D kn (nI s) s kk (gHi B q D kn s (nI kk) (gI B 32 10 c) (gC B 3))))), sI Ω1 32 46 s (mn (gI Ω1 32 46 s) tt), 0, 0) := by unfold plA; exact la
              simp only [ix_n (show s < 14 by omega) (show 14 < 2147483648 by decide), lt, m_lookedAt hB (show 101 ≤ N by omega) hwt, ci_mk, w_m hwt (show (1, 43) ∉ sS0 by decide), ix_n (show c < 120 by omega) (show 120 < 2147483648 by decide), e67, la, ix_n hkk (show 3 < 2147483648 by decide), w_c hwt (show 10 ≤ 35 by decide), w_c hwt (show 31 ≤ 35 by decide), e45, nI_1]
              by_cases hlk : lk B (nI s) (nI kk) kn < gI B 1 0 43
              · rw [if_pos hlk]
                have hnl : ¬ lkd B kn s kk := by unfold lkd; grind
                have hFT := FT_cong (FT_add (kk := kk) (y := gI B 32 10 c) L1.2.2.2 (F' := gI Ω1 32 45 s) (T' := mn (gI Ω1 32 46 s) tt) (fun _ => rfl) (fun w => absurd w hnl) (by rw [htt])) eS (fun _ => Iff.rfl)
                have L2 := LY_to L1 hFT
                have ew : sI (sI Ω1 32 45 s (gI Ω1 32 45 s)) 32 46 s (mn (gI Ω1 32 46 s) tt) = sI Ω1 32 46 s (mn (gI Ω1 32 46 s) tt) := by
                  have : sI Ω1 32 45 s (gI Ω1 32 45 s) = Ω1 := by
                    unfold sI
                    refine Prod.ext ?_ rfl
                    funext k' n' i'
                    show u3 Ω1.1 32 45 s (gI Ω1 32 45 s) k' n' i' = Ω1.1 k' n' i'
                    unfold u3
                    split
                    · rename_i h; obtain ⟨rfl, rfl, rfl⟩ := h; rfl
                    · rfl
                  rw [this]
                rw [ew] at L2
                exact ih (c + 1) n _ (by omega) (by omega) L2 Mt
              · rw [if_neg hlk]
                have hll : lkd B kn s kk := by unfold lkd; grind
                have hfr : gI B 32 10 c - nI (plA B q D kn (nI s) s kk (gHi B q D kn s (nI kk) (gI B 32 10 c) (gC B 3))) - gI B 32 31 kk = frC B q D kn (nI s) s kk (gI B 32 10 c) := by unfold frC; rfl
                rw [hfr]
                have hFT := FT_cong (FT_add (kk := kk) (y := gI B 32 10 c) L1.2.2.2 (F' := mx (gI Ω1 32 45 s) (frC B q D kn (nI s) s kk (gI B 32 10 c))) (T' := mn (gI Ω1 32 46 s) tt) (fun w => absurd hll w) (fun _ => rfl) (by rw [htt])) eS (fun _ => Iff.rfl)
                have L2 := LY_to L1 hFT
                have ew : ∀ (a b : Int32), sI (sI Ω1 32 46 s a) 32 45 s b = sI (sI Ω1 32 45 s b) 32 46 s a := by
                  intro a b
                  unfold sI
                  refine Prod.ext ?_ rfl
                  funext k' n' i'
                  show u3 (u3 Ω1.1 32 46 s a) 32 45 s b k' n' i' = u3 (u3 Ω1.1 32 45 s b) 32 46 s a k' n' i'
                  unfold u3
                  by_cases h1 : k' = 32 ∧ n' = 45 ∧ i' = s
                  · rw [if_pos h1, if_neg (by omega), if_pos h1]
                  · rw [if_neg h1]
                    by_cases h2 : k' = 32 ∧ n' = 46 ∧ i' = s
                    · rw [if_pos h2, if_pos h2]
                    · rw [if_neg h2, if_neg h2, if_neg h1]
                rw [ew]
                have W2 : Wx [(32, 45), (32, 46)] Ω1 (sI (sI Ω1 32 45 s (mx (gI Ω1 32 45 s) (frC B q D kn (nI s) s kk (gI B 32 10 c)))) 32 46 s (mn (gI Ω1 32 46 s) tt)) := (Wx.refl.sI (Or.inl (by simp [ky]))).sI (Or.inl (by simp [ky]))
                exact ih (c + 1) n _ (by omega) (by omega) L2 (MC_W M1 W2 (by decide) (by decide))
            by_cases hp : pfA B q D kn (nI s) s kk (gLo B q D kn s (nI kk) (gI B 32 10 c) (gC B 3)) ≤ 800
            · rw [if_pos (by rw [show (800 : Int32) = nI 800 from rfl, nI_leI (by omega) (by decide)]; exact hp)]
              exact go _ (by unfold toC; rw [if_pos hp])
            · rw [if_neg (by rw [show (800 : Int32) = nI 800 from rfl, nI_leI (by omega) (by decide)]; exact hp)]
              exact go _ (by unfold toC; rw [if_neg hp])
        · rw [if_neg g3]; exact no (fun w => g3 w.2.2.1) Ω hL hM
      · rw [if_neg g2]; exact no (fun w => g2 w.2.1) Ω hL hM
    · rw [if_neg g1]; exact no (fun w => g1 w.1) Ω hL hM
theorem set_kk {y : Int32} : (∃ c', c' < gC B 3 ∧ cst B c' = s ∧ gI B 32 6 c' = nI kk ∧ isF B c' = true ∧ gLo B q D kn s (nI kk) (gI B 32 10 c') (gC B 3) ≠ -1 ∧ y = gI B 32 10 c') ↔ y ∈ gY B q D kn s (nI kk) (gC B 3) := by
  constructor
  · rintro ⟨c', c1, c2, c3, c4, c5, rfl⟩
    cases Classical.em (gI B 32 10 c' ∈ gY B q D kn s (nI kk) (gC B 3)) with
    | inl h => exact h
    | inr h => exact absurd ((gLo_iff hB hD).2 h) c5
  · intro hy
    obtain ⟨c', c1, c2⟩ := (gY_mem (gC B 3)).1 hy
    unfold mtc at c2
    simp only [Bool.and_eq_true, decide_eq_true_eq] at c2
    obtain ⟨⟨⟨d1, d2⟩, d3⟩, d4⟩ := c2
    obtain ⟨c, m1, ⟨m2, m3, m4⟩, m5⟩ := least_ex (P := fun c => gI B 32 5 c = gI B 32 5 c' ∧ gI B 32 6 c = gI B 32 6 c' ∧ gI B 32 10 c = gI B 32 10 c') c' ⟨rfl, rfl, rfl⟩
    have hcs : cst B c = s := by unfold cst; rw [m2]; exact d1
    have hyc : gI B 32 10 c = y := m4.trans d3
    refine ⟨c, by omega, hcs, m3.trans d2, ?_, ?_, hyc.symm⟩
    · unfold isF
      rw [decide_eq_true_eq]
      rintro o ho ⟨o1, o2, o3⟩
      exact m5 o ho ⟨o1.trans m2, o2.trans m3, o3.trans m4⟩
    · rw [hyc]; exact fun w => ((gLo_iff hB hD).1 w) hy
theorem m_ly31 {N : Nat} {K20 : Int32 → Int32 → Int32 → zo_O → Option zo_R} {S0 : Nat → Int32 → Prop} {W : Nat → Prop} (hN : 40000 ≤ N) (hs : s < gC B 2) (hkk : kk < 3) : ∀ m c n Ω (f : Int32), c + m = gC B 3 → m < n → (f = 0 ∨ f = 1) → (f = 0 → ∀ c', c' < c → mts B q D kn s (nI kk) c' ≠ true) → LY B q D kn s Ω0 S0 W Ω → ∃ Ω', fn_X2_lays_31 N K20 n (nI s) kn (nI kk) f (nI c) Ω = K20 (nI s) kn (nI (kk + 1)) Ω' ∧ LY B q D kn s Ω0 (fun k' y' => S0 k' y' ∨ (k' = kk ∧ y' ∈ gY B q D kn s (nI kk) (gC B 3))) W Ω' := by
  have h120 := n_3 hB
  have h14 := n_2 hB
  have h8 := (b_c hB).2
  intro m
  induction m with
  | zero =>
    intro c n Ω f hc hn hf hz hL
    obtain ⟨n, rfl⟩ : ∃ k, n = k + 1 := ⟨n - 1, by omega⟩
    have : c = gC B 3 := by omega
    subst this
    have hw := hL.1.1
    unfold fn_X2_lays_31 bd_X2_lays_31 fn_X2_lays_285
    rw [w_m hw (by decide), h8, if_pos (by grind)]
    rcases hf with rfl | rfl
    · rw [if_pos rfl, nI_1]
      refine ⟨Ω, rfl, hL.1, hL.2.1, hL.2.2.1, FT_cong hL.2.2.2 (fun k' y' => ?_) (fun _ => Iff.rfl)⟩
      constructor
      · exact Or.inl
      · rintro (h | ⟨rfl, h⟩)
        · exact h
        · obtain ⟨c', c1, c2⟩ := (gY_mem (gC B 3)).1 h
          exact absurd (mtc_s.1 c2).1 (hz rfl c' c1)
    · rw [if_neg (by decide), ix_n (show s < 14 by omega) (by decide), ix_n (show s < 14 by omega) (by decide), w_c hw (show 0 ≤ 35 by decide), w_c hw (show 1 ≤ 35 by decide)]
      obtain ⟨Ω1, a1, a2, a3⟩ := m_curve2 hB hD (kn := kn) (kk := kk) (sd := gI B 32 0 s) (bt := gI B 32 1 s) (but := nI s) (N := N) hN hkk hL.1
      rw [a1, cv_mk]
      have L1 := LY_W hL a2 (by decide) (by decide) (by decide)
      obtain ⟨Ω2, b1, b2⟩ := m_ly120 hB hD (N := N) (K20 := K20) (S0 := S0) (W := W) (Ω0 := Ω0) hN hs hkk (gC B 3) 0 N Ω1 (by omega) (by omega) ⟨L1.1, L1.2.1, L1.2.2.1, FT_cong L1.2.2.2 (fun k' y' => ⟨Or.inl, fun h => by
        rcases h with h | ⟨_, c', h, _⟩
        · exact h
        · omega⟩) (fun _ => Iff.rfl)⟩ a3
      refine ⟨Ω2, b1, b2.1, b2.2.1, b2.2.2.1, FT_cong b2.2.2.2 (fun k' y' => ?_) (fun _ => Iff.rfl)⟩
      rw [set_kk hB hD]
  | succ m ih =>
    intro c n Ω f hc hn hf hz hL
    obtain ⟨n, rfl⟩ : ∃ k, n = k + 1 := ⟨n - 1, by omega⟩
    have hcl : c < gC B 3 := by omega
    have hw := hL.1.1
    unfold fn_X2_lays_31 bd_X2_lays_31 fn_X2_lays_81 fn_X2_lays_77 fn_X2_lays_82
    rw [w_m hw (by decide), h8, if_neg (by rw [nI_leI (by omega) (by omega)]; omega)]
    rcases hf with rfl | rfl
    · simp only [if_pos, ix_n (show c < 120 by omega) (show 120 < 2147483648 by decide), w_c hw (show 5 ≤ 35 by decide), w_c hw (show 6 ≤ 35 by decide), cst_eq hB hcl (show s < 14 by omega), m_isUsed hB hw (show 15 ≤ N by omega) hL.1.2 hcl, ci_mk, if_10, nI_1]
      have no : mts B q D kn s (nI kk) c ≠ true → ∃ Ω', fn_X2_lays_31 N K20 n (nI s) kn (nI kk) 0 (nI (c + 1)) Ω = K20 (nI s) kn (nI (kk + 1)) Ω' ∧ LY B q D kn s Ω0 (fun k' y' => S0 k' y' ∨ (k' = kk ∧ y' ∈ gY B q D kn s (nI kk) (gC B 3))) W Ω' := fun h =>
        ih (c + 1) n Ω 0 (by omega) (by omega) (Or.inl rfl) (fun _ c' hc' => by
          by_cases e : c' = c
          · subst e; exact h
          · exact hz rfl c' (by omega)) hL
      by_cases g1 : cst B c = s
      · rw [if_pos g1]
        by_cases g2 : gI B 32 6 c = nI kk
        · rw [if_pos g2]
          by_cases g3 : sU B q D kn c = true
          · rw [if_pos g3]
            exact ih (c + 1) n Ω 1 (by omega) (by omega) (Or.inr rfl) (fun h => absurd h (by decide)) hL
          · rw [if_neg g3]; exact no (by simp [mts, g3])
        · rw [if_neg g2]; exact no (by simp [mts, g2])
      · rw [if_neg g1]; exact no (by simp [mts, g1])
    · rw [if_neg (by decide), nI_1]
      exact ih (c + 1) n Ω 1 (by omega) (by omega) (Or.inr rfl) (fun h => absurd h (by decide)) hL
omit hD in
theorem m_ly293 {N : Nat} {S : Nat → Int32 → Prop} (hs : s < gC B 2) : ∀ m i n Ω, i + m = gC B 6 → m < n → LY B q D kn s Ω0 S (fun w => w < i ∧ gI B 32 20 w = nI s ∧ gI B 32 23 w ≤ kn) Ω → ∃ Ω', fn_X2_lays_293 N n (nI s) kn (nI i) Ω = some (none, Ω', 0, 0) ∧ LY B q D kn s Ω0 S (fun w => w < gC B 6 ∧ gI B 32 20 w = nI s ∧ gI B 32 23 w ≤ kn) Ω' := by
  obtain ⟨_, h27, h20⟩ := hB.1 6 (by decide) (by decide)
  have h27 : gI B 1 0 27 = nI (gC B 6) := h27
  have h20 : gC B 6 ≤ 20 := h20
  have h14 := n_2 hB
  intro m
  induction m with
  | zero =>
    intro i n Ω hi hn hL
    obtain ⟨n, rfl⟩ : ∃ k, n = k + 1 := ⟨n - 1, by omega⟩
    have : i = gC B 6 := by omega
    subst this
    unfold fn_X2_lays_293 bd_X2_lays_293
    rw [w_m hL.1.1 (by decide), h27, if_pos (by grind)]
    exact ⟨Ω, rfl, hL⟩
  | succ m ih =>
    intro i n Ω hi hn hL
    obtain ⟨n, rfl⟩ : ∃ k, n = k + 1 := ⟨n - 1, by omega⟩
    have hw := hL.1.1
    unfold fn_X2_lays_293 bd_X2_lays_293 fn_X2_lays_366
    rw [w_m hw (by decide), h27, if_neg (by rw [nI_leI (by omega) (by omega)]; omega)]
    have W1 : Wx [(32, 45), (32, 46)] Ω (sI Ω 32 45 s (mx (gI Ω 32 45 s) (gI B 32 21 i))) := Wx.refl.sI (Or.inl (by simp [ky]))
    have e46 : gI (sI Ω 32 45 s (mx (gI Ω 32 45 s) (gI B 32 21 i))) 32 46 s = gI Ω 32 46 s := by rw [gI_sI, if_neg (by omega)]
    simp only [ix_n (show i < 20 by omega) (show 20 < 2147483648 by decide), ix_n (show s < 14 by omega) (show 14 < 2147483648 by decide), w_c hw (show 20 ≤ 35 by decide), w_c hw (show 23 ≤ 35 by decide), w_c hw (show 21 ≤ 35 by decide), lt, e46, w_c (hw.step W1 (by decide)) (show 22 ≤ 35 by decide), nI_1]
    have no : ¬ (gI B 32 20 i = nI s ∧ gI B 32 23 i ≤ kn) → ∃ Ω', fn_X2_lays_293 N n (nI s) kn (nI (i + 1)) Ω = some (none, Ω', 0, 0) ∧ LY B q D kn s Ω0 S (fun w => w < gC B 6 ∧ gI B 32 20 w = nI s ∧ gI B 32 23 w ≤ kn) Ω' := by
      intro h
      refine ih (i + 1) n Ω (by omega) (by omega) ⟨hL.1, hL.2.1, hL.2.2.1, FT_cong hL.2.2.2 (fun _ _ => Iff.rfl) (fun w => ?_)⟩
      constructor
      · rintro ⟨a, b⟩; exact ⟨by omega, b⟩
      · rintro ⟨a, b⟩
        have : w ≠ i := by rintro rfl; exact h b
        exact ⟨by omega, b⟩
    by_cases g1 : gI B 32 20 i = nI s
    · rw [if_pos g1]
      by_cases g2 : gI B 32 23 i ≤ kn
      · rw [if_pos g2]
        have hFT := FT_cong (W' := fun w => w < i + 1 ∧ gI B 32 20 w = nI s ∧ gI B 32 23 w ≤ kn) (FT_wit (w := i) hL.2.2.2) (fun _ _ => Iff.rfl) (fun w => by
          constructor
          · rintro (⟨a, b⟩ | rfl)
            · exact ⟨by omega, b⟩
            · exact ⟨by omega, g1, g2⟩
          · rintro ⟨a, b⟩
            by_cases e : w = i
            · exact Or.inr e
            · exact Or.inl ⟨by omega, b⟩)
        exact ih (i + 1) n _ (by omega) (by omega) (LY_to hL hFT)
      · rw [if_neg g2]; exact no (fun w => g2 w.2)
    · rw [if_neg g1]; exact no (fun w => g1 w.1)
theorem m_ly20 {N : Nat} (hN : 40000 ≤ N) (hs : s < gC B 2) : ∀ m kk n Ω, kk + m = 3 → m < n → LY B q D kn s Ω0 (fun k' y' => k' < kk ∧ y' ∈ gY B q D kn s (nI k') (gC B 3)) (fun _ => False) Ω → ∃ Ω', fn_X2_lays_20 N n (nI s) kn (nI kk) Ω = some (none, Ω', 0, 0) ∧ LY B q D kn s Ω0 (fun k' y' => k' < 3 ∧ y' ∈ gY B q D kn s (nI k') (gC B 3)) (fun w => w < gC B 6 ∧ gI B 32 20 w = nI s ∧ gI B 32 23 w ≤ kn) Ω' := by
  have h20 : gC B 6 ≤ 20 := (hB.1 6 (by decide) (by decide)).2.2
  have h120 := n_3 hB
  intro m
  induction m with
  | zero =>
    intro kk n Ω hk hn' hX
    obtain ⟨n, rfl⟩ : ∃ k, n = k + 1 := ⟨n - 1, by omega⟩
    have : kk = 3 := by omega
    subst this
    unfold fn_X2_lays_20 bd_X2_lays_20
    rw [if_pos (by decide)]
    exact m_ly293 hB (N := N) hs (gC B 6) 0 N Ω (by omega) (by omega) ⟨hX.1, hX.2.1, hX.2.2.1, FT_cong hX.2.2.2 (fun _ _ => Iff.rfl) (fun w => ⟨fun h => h.elim, fun h => by omega⟩)⟩
  | succ m ih =>
    intro kk n Ω hk hn' hX
    obtain ⟨n, rfl⟩ : ∃ k, n = k + 1 := ⟨n - 1, by omega⟩
    unfold fn_X2_lays_20 bd_X2_lays_20
    rw [if_neg (by rw [show (3 : Int32) = nI 3 from rfl, nI_leI (by decide) (by omega)]; omega)]
    obtain ⟨Ω1, a1, a2⟩ := m_ly31 hB hD (N := N) (K20 := fn_X2_lays_20 N n) hN hs (show kk < 3 by omega) (gC B 3) 0 N Ω 0 (by omega) (by omega) (Or.inl rfl) (fun _ c' h => by omega) hX
    obtain ⟨Ω2, b1, b2⟩ := ih (kk + 1) n Ω1 (by omega) (by omega) ⟨a2.1, a2.2.1, a2.2.2.1, FT_cong a2.2.2.2 (fun k' y' => by
      constructor
      · rintro (⟨a, b⟩ | ⟨rfl, b⟩)
        · exact ⟨by omega, b⟩
        · exact ⟨by omega, b⟩
      · rintro ⟨a, b⟩
        by_cases e : k' = kk
        · subst e; exact Or.inr ⟨rfl, b⟩
        · exact Or.inl ⟨by omega, b⟩) (fun _ => Iff.rfl)⟩
    exact ⟨Ω2, a1.trans b1, b2⟩
/-- the span of a site by M -/
theorem m_lays {N : Nat} {Ω : zo_O} (hN : 40000 ≤ N) (hs : s < gC B 2) (hE : EM B q D Ω) : ∃ Ω', fn_X2_lays N (nI s) kn Ω = some (none, Ω', 0, 0) ∧ LY B q D kn s Ω (fun k' y' => k' < 3 ∧ y' ∈ gY B q D kn s (nI k') (gC B 3)) (fun w => w < gC B 6 ∧ gI B 32 20 w = nI s ∧ gI B 32 23 w ≤ kn) Ω' := by
  have h14 := n_2 hB
  have W0 : Wx sLl Ω (sI (sI Ω 32 45 s 1000) 32 46 s 2100) := (Wx.refl.sI (Or.inl (by simp [ky, sLl]))).sI (Or.inl (by simp [ky, sLl]))
  obtain ⟨Ω', k1, k2⟩ := m_ly20 hB hD (kn := kn) (Ω0 := Ω) (N := N) hN hs 3 0 N (sI (sI Ω 32 45 s 1000) 32 46 s 2100) (by omega) (by omega) ⟨hE.step W0 (by decide) (by decide), W0, fun x hx => by simp [gI_sI, hx], by
    rw [gI_sI, if_neg (by omega), gI_sI, if_pos ⟨rfl, rfl, rfl⟩, gI_sI, if_pos ⟨rfl, rfl, rfl⟩]
    exact FT_cong FT_0 (fun k' y' => ⟨fun h => h.elim, fun h => absurd h.1 (by omega)⟩) (fun _ => Iff.rfl)⟩
  refine ⟨Ω', ?_, k2⟩
  simp only [fn_X2_lays, lt, ix_n (show s < 14 by omega) (show 14 < 2147483648 by decide)]
  exact k1
end U
