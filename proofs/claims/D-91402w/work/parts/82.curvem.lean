/-! ===== M's curve: the bounds ===== -/
abbrev mLs : Type := List (Nat × Int32 × Int32 × Bool)
def MB (Ω : zo_O) (bs : mLs) : Prop := gI Ω 1 0 68 = nI bs.length ∧ ∀ i t, bs[i]? = some t → gI Ω 32 39 i = nI t.1 ∧ gI Ω 32 40 i = t.2.1 ∧ gI Ω 32 41 i = t.2.2.1 ∧ gI Ω 33 4 i = (if t.2.2.2 = true then 1 else 0)
def sLb : List (Nat × Nat) := [(1, 68), (32, 39), (32, 40), (32, 41), (33, 4)]
theorem m_adds {N s : Nat} {a v : Int32} {u : Bool} {Ω : zo_O} {bs : mLs} (hl : bs.length < 240) (h : MB Ω bs) : ∃ Ω', fn_X2_adds N (nI s) a v (if u = true then 1 else 0) Ω = some (none, Ω', 0, 0) ∧ Wx sLb Ω Ω' ∧ MB Ω' (bs ++ (if 0 ≤ a ∧ a ≤ 800 then [(s, a, v, u)] else [])) := by
  obtain ⟨h1, h2⟩ := h
  unfold fn_X2_adds
  rw [m_within, ci_mk, if_10]
  by_cases g : 0 ≤ a ∧ a ≤ 800
  · rw [if_pos g, if_pos g]
    have hb : vp_nar .boolean (if u = true then 1 else 0) = if u = true then 1 else 0 := by cases u <;> rfl
    have e1 : ∀ (X : zo_O) (v : Int32) n i, gI (sI X 32 n i v) 1 0 68 = gI X 1 0 68 := fun X v n i => by rw [gI_sI, if_neg (by omega)]
    have e2 : ∀ (X : zo_O) (v : Int32) n i, gI (sI X 33 n i v) 1 0 68 = gI X 1 0 68 := fun X v n i => by rw [gI_sI, if_neg (by omega)]
    simp only [h1, ix_n hl (show 240 < 2147483648 by decide), lt, e1, e2, hb, rV, nI_1]
    refine ⟨_, rfl, ((((Wx.refl.sI (Or.inl (by simp [ky, sLb]))).sI (Or.inl (by simp [ky, sLb]))).sI (Or.inl (by simp [ky, sLb]))).sI (Or.inl (by simp [ky, sLb]))).sI (Or.inl (by simp [ky, sLb])), ?_, fun i t ht => ?_⟩
    · rw [gI_sI, if_pos ⟨rfl, rfl, rfl⟩, List.length_append]; rfl
    · rcases getq_app ht with ⟨q1, q2⟩ | ⟨q1, q2⟩
      · have hne : ¬ i = bs.length := by omega
        simp [gI_sI, hne]
        exact h2 i t q2
      · subst q1; subst q2
        simp [gI_sI]
  · rw [if_neg g, if_neg g, List.append_nil]
    exact ⟨Ω, rfl, Wx.refl, h1, h2⟩
def mCd (B : zo_O) (q : Bool) (D : Nat → Nat → Int32) (kn k sd bt but : Int32) (c : Nat) : Bool := decide (gI B 32 6 c = k) && decide (nI (cst B c) ≠ but) && decide (gI B 32 3 (cst B c) ≠ -1) && decide (gI B 32 0 (cst B c) = sd) && decide (gI B 32 1 (cst B c) = bt) && decide (¬ gI B 32 10 c < gI B 32 3 (cst B c)) && isF B c && decide (gLo B q D kn (cst B c) k (gI B 32 10 c) (gC B 3) ≠ -1)
def mOne (B : zo_O) (q : Bool) (D : Nat → Nat → Int32) (kn : Int32) (kk : Nat) (p : Nat × Int32) : mLs := (if 0 ≤ agO B p ∧ agO B p ≤ 800 then [(p.1, agO B p, gLo B q D kn p.1 (nI kk) p.2 (gC B 3), false)] else []) ++ (if gI B 1 0 43 ≤ lk B (nI p.1) (nI kk) kn then (if 0 ≤ agO B p - gI B 32 31 kk ∧ agO B p - gI B 32 31 kk ≤ 800 then [(p.1, agO B p - gI B 32 31 kk, gHi B q D kn p.1 (nI kk) p.2 (gC B 3), true)] else []) else [])
def bM (B : zo_O) (q : Bool) (D : Nat → Nat → Int32) (kn : Int32) (kk : Nat) (sd bt but : Int32) : Nat → mLs
  | 0 => []
  | c + 1 => bM B q D kn kk sd bt but c ++ (if mCd B q D kn (nI kk) sd bt but c = true then mOne B q D kn kk (cst B c, gI B 32 10 c) else [])
def sLc : List (Nat × Nat) := [(1, 66), (1, 67), (1, 68), (32, 39), (32, 40), (32, 41), (33, 4)]
theorem mOne_len {B : zo_O} {q : Bool} {D : Nat → Nat → Int32} {kn : Int32} {kk : Nat} {p : Nat × Int32} : (mOne B q D kn kk p).length ≤ 2 := by
  unfold mOne
  rw [List.length_append]
  split <;> split <;> (try split) <;> simp
theorem bM_len {B : zo_O} {q : Bool} {D : Nat → Nat → Int32} {kn : Int32} {kk : Nat} {sd bt but : Int32} : ∀ c, (bM B q D kn kk sd bt but c).length ≤ 2 * c
  | 0 => by simp [bM]
  | c + 1 => by
    have ih := bM_len (B := B) (q := q) (D := D) (kn := kn) (kk := kk) (sd := sd) (bt := bt) (but := but) c
    have := mOne_len (B := B) (q := q) (D := D) (kn := kn) (kk := kk) (p := (cst B c, gI B 32 10 c))
    rw [bM, List.length_append]
    split
    · omega
    · simp; omega
section U
variable {B : zo_O} (hB : Bse B) {q : Bool} {D : Nat → Nat → Int32} {kn : Int32} {kk : Nat} {sd bt but : Int32}
include hB
theorem m_cv8 {N : Nat} (hN : 130 ≤ N) (hkk : kk < 3) : ∀ m c n Ω, c + m = gC B 3 → m < n → EM B q D Ω → MB Ω (bM B q D kn kk sd bt but c) → ∃ Ω', fn_X2_curve_8 N n (nI kk) sd bt kn but (nI c) Ω = fn_X2_curve_200 N N 0 Ω' ∧ Wx sLc Ω Ω' ∧ MB Ω' (bM B q D kn kk sd bt but (gC B 3)) := by
  have h120 := n_3 hB
  have h14 := n_2 hB
  have h8 := (b_c hB).2
  intro m
  induction m with
  | zero =>
    intro c n Ω hc hn hE hM
    obtain ⟨n, rfl⟩ : ∃ k, n = k + 1 := ⟨n - 1, by omega⟩
    have : c = gC B 3 := by omega
    subst this
    unfold fn_X2_curve_8 bd_X2_curve_8
    rw [w_m hE.1 (by decide), h8, if_pos (by grind)]
    exact ⟨Ω, rfl, Wx.refl, hM⟩
  | succ m ih =>
    intro c n Ω hc hn hE hM
    obtain ⟨n, rfl⟩ : ∃ k, n = k + 1 := ⟨n - 1, by omega⟩
    have hcl : c < gC B 3 := by omega
    have hw := hE.1
    obtain ⟨s1, s2, _⟩ := cir_s hB hcl
    have hs14 : cst B c < 14 := by omega
    unfold fn_X2_curve_8 bd_X2_curve_8 fn_X2_curve_191
    rw [w_m hw (by decide), h8, if_neg (by rw [nI_leI (by omega) (by omega)]; omega)]
    simp only [ix_n (show c < 120 by omega) (show 120 < 2147483648 by decide), w_c hw (show 5 ≤ 35 by decide), w_c hw (show 6 ≤ 35 by decide), w_c hw (show 3 ≤ 35 by decide), w_c hw (show 0 ≤ 35 by decide), w_c hw (show 1 ≤ 35 by decide), w_c hw (show 10 ≤ 35 by decide), s2, li, ix_n hs14 (show 14 < 2147483648 by decide), m_isFirst hB hN hw hcl, ci_mk, if_10, nI_1]
    have no : mCd B q D kn (nI kk) sd bt but c ≠ true → ∀ Ω1, Wx sLc Ω Ω1 → MB Ω1 (bM B q D kn kk sd bt but c) → ∃ Ω', fn_X2_curve_8 N n (nI kk) sd bt kn but (nI (c + 1)) Ω1 = fn_X2_curve_200 N N 0 Ω' ∧ Wx sLc Ω Ω' ∧ MB Ω' (bM B q D kn kk sd bt but (gC B 3)) := by
      intro h Ω1 w1 m1
      have e : bM B q D kn kk sd bt but (c + 1) = bM B q D kn kk sd bt but c := by rw [bM, if_neg h, List.append_nil]
      obtain ⟨Ω', k1, k2, k3⟩ := ih (c + 1) n Ω1 (by omega) (by omega) (hE.step w1 (by decide) (by decide)) (by rw [e]; exact m1)
      exact ⟨Ω', k1, w1.trans k2, k3⟩
    by_cases g1 : gI B 32 6 c = nI kk
    · rw [if_pos g1]
      by_cases g2 : nI (cst B c) = but
      · rw [if_pos g2]; exact no (by simp [mCd, g2]) Ω Wx.refl hM
      · rw [if_neg g2]
        by_cases g3 : gI B 32 3 (cst B c) = -1
        · rw [if_pos g3]; exact no (by simp [mCd, g3]) Ω Wx.refl hM
        · rw [if_neg g3]
          by_cases g4 : gI B 32 0 (cst B c) = sd
          · rw [if_pos g4]
            by_cases g5 : gI B 32 1 (cst B c) = bt
            · rw [if_pos g5]
              by_cases g6 : gI B 32 10 c < gI B 32 3 (cst B c)
              · rw [if_pos g6]; exact no (by simp [mCd, g6]) Ω Wx.refl hM
              · rw [if_neg g6]
                by_cases g7 : isF B c = true
                · rw [if_pos g7]
                  obtain ⟨Ω1, p1, p2, p3, p4⟩ := m_gathers hB (kn := kn) (k := nI kk) (y := gI B 32 10 c) (N := N) hN hs14 hE
                  rw [p1, ci_mk]
                  have hE1 := hE.step p2 (by decide) (by decide)
                  have hM1 : MB Ω1 (bM B q D kn kk sd bt but c) := by
                    refine ⟨by rw [p2.I (by simp [ky]) (Or.inl fx_1)]; exact hM.1, fun i t ht => ?_⟩
                    rw [p2.I (by simp [ky]) (Or.inl (fx_m (by decide))), p2.I (by simp [ky]) (Or.inl (fx_m (by decide))), p2.I (by simp [ky]) (Or.inl (fx_m (by decide))), p2.I (by simp [ky]) (Or.inl (fx_m (by decide)))]
                    exact hM.2 i t ht
                  by_cases g8 : gLo B q D kn (cst B c) (nI kk) (gI B 32 10 c) (gC B 3) = -1
                  · rw [if_pos g8, if_pos rfl]; exact no (by simp [mCd, g8]) Ω1 (p2.mono (by decide)) hM1
                  · rw [if_neg g8, if_neg (by decide)]
                    have hcd : mCd B q D kn (nI kk) sd bt but c = true := by simp [mCd, g1, g2, g3, g4, g5, g6, g7, g8]
                    have hw1 := hE1.1
                    have hbl := bM_len (B := B) (q := q) (D := D) (kn := kn) (kk := kk) (sd := sd) (bt := bt) (but := but) c
                    simp only [w_c hw1 (show 10 ≤ 35 by decide), w_c hw1 (show 3 ≤ 35 by decide), p3]
                    obtain ⟨Ω2, q1, q2, q3⟩ := m_adds (N := N) (s := cst B c) (a := gI B 32 10 c - gI B 32 3 (cst B c)) (v := gLo B q D kn (cst B c) (nI kk) (gI B 32 10 c) (gC B 3)) (u := false) (by omega) hM1
                    rw [show (if false = true then (1 : Int32) else 0) = 0 from rfl] at q1
                    rw [q1, cv_mk]
                    have hE2 := hE1.step q2 (by decide) (by decide)
                    have hw2 := hE2.1
                    rw [m_lookedAt hB (by omega) hw2, ci_mk, w_m hw2 (by decide), q2.I (show ky 1 0 67 ∉ sLb by decide) (Or.inl fx_1), p4]
                    have hag : gI B 32 10 c - gI B 32 3 (cst B c) = agO B (cst B c, gI B 32 10 c) := rfl
                    rw [hag] at q3 ⊢
                    have hbM : bM B q D kn kk sd bt but (c + 1) = bM B q D kn kk sd bt but c ++ mOne B q D kn kk (cst B c, gI B 32 10 c) := by rw [bM, if_pos hcd]
                    have w12 : Wx sLc Ω Ω2 := (p2.mono (by decide)).step q2 (by decide)
                    by_cases g9 : lk B (nI (cst B c)) (nI kk) kn < gI B 1 0 43
                    · rw [if_pos g9]
                      have hOne : mOne B q D kn kk (cst B c, gI B 32 10 c) = (if 0 ≤ agO B (cst B c, gI B 32 10 c) ∧ agO B (cst B c, gI B 32 10 c) ≤ 800 then [(cst B c, agO B (cst B c, gI B 32 10 c), gLo B q D kn (cst B c) (nI kk) (gI B 32 10 c) (gC B 3), false)] else []) := by
                        unfold mOne; rw [if_neg (show ¬ gI B 1 0 43 ≤ lk B (nI (cst B c)) (nI kk) kn by grind), List.append_nil]
                      obtain ⟨Ω', k1, k2, k3⟩ := ih (c + 1) n Ω2 (by omega) (by omega) (hE.step w12 (by decide) (by decide)) (by rw [hbM, hOne]; exact q3)
                      exact ⟨Ω', k1, w12.trans k2, k3⟩
                    · rw [if_neg g9, ix_n hkk (by decide)]
                      obtain ⟨Ω3, r1, r2, r3⟩ := m_adds (N := N) (s := cst B c) (a := agO B (cst B c, gI B 32 10 c) - gI B 32 31 kk) (v := gHi B q D kn (cst B c) (nI kk) (gI B 32 10 c) (gC B 3)) (u := true) (by
                        rw [List.length_append]
                        split <;> simp <;> omega) q3
                      rw [show (if true = true then (1 : Int32) else 0) = 1 from rfl] at r1
                      rw [w_c hw2 (show 31 ≤ 35 by decide), r1, cv_mk]
                      have hOne : mOne B q D kn kk (cst B c, gI B 32 10 c) = (if 0 ≤ agO B (cst B c, gI B 32 10 c) ∧ agO B (cst B c, gI B 32 10 c) ≤ 800 then [(cst B c, agO B (cst B c, gI B 32 10 c), gLo B q D kn (cst B c) (nI kk) (gI B 32 10 c) (gC B 3), false)] else []) ++ (if 0 ≤ agO B (cst B c, gI B 32 10 c) - gI B 32 31 kk ∧ agO B (cst B c, gI B 32 10 c) - gI B 32 31 kk ≤ 800 then [(cst B c, agO B (cst B c, gI B 32 10 c) - gI B 32 31 kk, gHi B q D kn (cst B c) (nI kk) (gI B 32 10 c) (gC B 3), true)] else []) := by
                        unfold mOne; rw [if_pos (show gI B 1 0 43 ≤ lk B (nI (cst B c)) (nI kk) kn by grind)]
                      have w13 := w12.step r2 (by decide)
                      obtain ⟨Ω', k1, k2, k3⟩ := ih (c + 1) n Ω3 (by omega) (by omega) (hE.step w13 (by decide) (by decide)) (by rw [hbM, hOne, ← List.append_assoc]; exact r3)
                      exact ⟨Ω', k1, w13.trans k2, k3⟩
                · rw [if_neg g7]; exact no (by simp [mCd, g7]) Ω Wx.refl hM
            · rw [if_neg g5]; exact no (by simp [mCd, g5]) Ω Wx.refl hM
          · rw [if_neg g4]; exact no (by simp [mCd, g4]) Ω Wx.refl hM
    · rw [if_neg g1]; exact no (by simp [mCd, g1]) Ω Wx.refl hM
end U
