/-! ===== the rule asked of a circle: X and M ===== -/
def cst (B : zo_O) (c : Nat) : Nat := (gI B 32 5 c).toNatClampNeg
def sF (B : zo_O) (c : Nat) (f : Int32) : Int32 := if f = 0 then gI B 32 5 c else if f = 1 then gI B 32 6 c else if f = 2 then gI B 32 7 c else if f = 3 then gI B 32 8 c else if f = 4 then gI B 32 9 c else if f = 5 then gI B 32 10 c else if f = 6 then gI B 33 0 c else if f = 7 then 100 * gI B 32 9 c / gI B 32 8 c else if f = 8 then gI B 32 0 (cst B c) else gI B 32 1 (cst B c)
def sT (B : zo_O) (c j : Nat) : Bool := (if gI B 32 34 j = 0 then decide (sF B c (gI B 32 33 j) < gI B 32 35 j) else if gI B 32 34 j = 1 then decide (sF B c (gI B 32 33 j) = gI B 32 35 j) else decide (gI B 32 35 j < sF B c (gI B 32 33 j))) != decide (gI B 33 2 j = 1)
def sMn (B : zo_O) (c s : Nat) : Nat → Bool
  | 0 => true
  | i + 1 => sMn B c s i && sT B c (4 * s + i)
def tc (B : zo_O) (s : Nat) : Nat := (gI B 32 32 s).toNatClampNeg
def stn (B : zo_O) : Nat := (gI B 1 0 45).toNatClampNeg
def sMt (B : zo_O) (c s : Nat) : Bool := sMn B c s (tc B s)
/-- what the statements from s on leave of a -/
def ru (B : zo_O) (c : Nat) : Nat → Nat → Int32 → Int32
  | 0, _, a => a
  | n + 1, s, a => ru B c n (s + 1) (if sMt B c s = true then gI B 33 1 s else a)
def ruA (B : zo_O) (c : Nat) : Int32 := ru B c (stn B) 0 1
section U
variable {B Ω : zo_O} (hB : Bse B) (hw : Wx sS0 B Ω)
include hB hw
theorem cirX {c : Nat} (hc : c < gC B 3) : gI Ω 3 c 0 = gI B 32 11 c ∧ gI Ω 3 c 1 = gI B 32 6 c ∧ gI Ω 3 c 2 = gI B 32 7 c ∧ gI Ω 3 c 3 = gI B 32 8 c ∧ gI Ω 3 c 4 = gI B 32 9 c ∧ gI Ω 3 c 5 = gI B 32 10 c ∧ gI Ω 3 c 7 = gI B 33 0 c := by
  have hF := hB.2.1
  have k : ∀ f m, (3, f, m) ∈ iv_cols → gI Ω 3 c f = gI B 32 m c := fun f m h => by
    rw [w_o hw (by decide) hc]
    exact hF _ h c hc
  refine ⟨k 0 11 (by decide), k 1 6 (by decide), k 2 7 (by decide), k 3 8 (by decide), k 4 9 (by decide), k 5 10 (by decide), ?_⟩
  rw [w_o hw (by decide) hc]
  obtain ⟨s, _, _, _, _, _, h, _⟩ := hB.2.2.2.1 c hc
  exact h
theorem sitX {s : Nat} (hs : s < gC B 2) : gI Ω 2 s 0 = gI B 32 4 s ∧ gI Ω 2 s 1 = nI s ∧ gI Ω 2 s 2 = gI B 32 0 s ∧ gI Ω 2 s 3 = gI B 32 1 s ∧ gI Ω 2 s 4 = gI B 32 2 s ∧ gI Ω 2 s 5 = gI B 32 3 s := by
  have hF := hB.2.1
  have k : ∀ f m, (2, f, m) ∈ iv_cols → gI Ω 2 s f = gI B 32 m s := fun f m h => by
    rw [w_o hw (by decide) hs]
    exact hF _ h s hs
  refine ⟨k 0 4 (by decide), ?_, k 2 0 (by decide), k 3 1 (by decide), k 4 2 (by decide), k 5 3 (by decide)⟩
  rw [w_o hw (by decide) hs]
  exact (hB.2.2.1 s hs).1
omit hw in
theorem cir_s {c : Nat} (hc : c < gC B 3) : cst B c < gC B 2 ∧ gI B 32 5 c = nI (cst B c) ∧ gR B 3 c 6 = some (2, cst B c) := by
  obtain ⟨s, h1, h2, h3, _⟩ := hB.2.2.2.1 c hc
  have h14 : gC B 2 ≤ 14 := (hB.1 2 (by decide) (by decide)).2.2
  have e : cst B c = s := by unfold cst; rw [h2, nI_clamp (by omega)]
  rw [e]; exact ⟨h1, h2, h3⟩
omit hw in
theorem n_2 : gC B 2 ≤ 14 := (hB.1 2 (by decide) (by decide)).2.2
omit hw in
theorem n_3 : gC B 3 ≤ 120 := (hB.1 3 (by decide) (by decide)).2.2
theorem cir_R {c : Nat} (hc : c < gC B 3) : gR Ω 3 c 6 = some (2, cst B c) := by
  rw [w_r hw (by decide) hc]; exact (cir_s hB hc).2.2
theorem m_factOf {N c : Nat} {f : Int32} (hc : c < gC B 3) : fn_X2_factOf N (nI c) f Ω = some (some (vi (sF B c f)), Ω, 0, 0) := by
  have h120 := n_3 hB
  have h14 := n_2 hB
  obtain ⟨c1, c2, _⟩ := cir_s hB hc
  obtain ⟨s, _, _, _, _, _, _, hm, _, _, hl, _⟩ := hB.2.2.2.1 c hc
  have hl0 : ¬ gI B 32 8 c = 0 := by grind
  have w5 : gI Ω 32 5 c = nI (cst B c) := by rw [w_c hw (by decide)]; exact c2
  unfold fn_X2_factOf
  simp only [ix_n (show c < 120 by omega) (by decide), w5, ix_n (show cst B c < 14 by omega) (by decide), w_c hw (show 6 ≤ 35 by decide), w_c hw (show 7 ≤ 35 by decide), w_c hw (show 8 ≤ 35 by decide), w_c hw (show 9 ≤ 35 by decide), w_c hw (show 10 ≤ 35 by decide), w_c hw (show 0 ≤ 35 by decide), w_c hw (show 1 ≤ 35 by decide), w_b hw (show 0 ≤ 2 by decide), fn_X2_factOf_108, rI, gd, hl0, not_false_eq_true, if_true]
  unfold sF
  rw [c2]
  rcases hm with hm | hm
  · grind
  · grind
theorem x_value {N c : Nat} {f : Int32} (hc : c < gC B 3) : fn_X1_value N f c Ω = some (some (vi (sF B c f)), Ω, 0, 0) := by
  obtain ⟨c1, c2, _⟩ := cir_s hB hc
  obtain ⟨s, _, _, _, _, _, _, hm, _, _, hl, _⟩ := hB.2.2.2.1 c hc
  have hl0 : ¬ gI B 32 8 c = 0 := by grind
  obtain ⟨x0, x1, x2, x3, x4, x5, x7⟩ := cirX hB hw hc
  obtain ⟨y0, y1, y2, y3, y4, y5⟩ := sitX hB hw c1
  unfold fn_X1_value fn_X5_round
  simp only [cir_R hB hw hc, bk_mk, x1, x2, x3, x4, x5, x7, y1, y2, y3, rI, fn_X1_value_97, gd, hl0, not_false_eq_true, if_true, ci_mk]
  unfold sF
  rw [c2]
  rcases hm with hm | hm
  · grind
  · grind
end U
