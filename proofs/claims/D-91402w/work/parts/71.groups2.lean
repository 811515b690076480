/-! ===== X's findGroups ===== -/
theorem EX_of {B Ω Ω' : zo_O} {q : Bool} {D : Nat → Nat → Int32} (h : EX B q D Ω) (w : Wx sS0 B Ω') (e0 : gI Ω' 0 0 17 = gI Ω 0 0 17) (e : ∀ n f, gI Ω' 36 n f = gI Ω 36 n f) : EX B q D Ω' :=
  ⟨w, by rw [e0]; exact h.2.1, fun hq a b ha hb => by rw [e]; exact h.2.2 hq a b ha hb⟩
/-- groups as they stand when the circles below c are gone through -/
def GS (B : zo_O) (q : Bool) (D : Nat → Nat → Int32) (kn : Int32) (s : Nat) (k : Int32) (c g0 : Nat) (Ω : zo_O) : Prop := ∀ i y, (gY B q D kn s k c)[i]? = some y → gR Ω 15 (g0 + i) 0 = some (2, s) ∧ gI Ω 15 (g0 + i) 1 = y ∧ gI Ω 15 (g0 + i) 2 = gLo B q D kn s k y c ∧ gI Ω 15 (g0 + i) 3 = gHi B q D kn s k y c
def GI (B : zo_O) (q : Bool) (D : Nat → Nat → Int32) (kn : Int32) (s : Nat) (k : Int32) (l g0 : Nat) (L0 : List zo_T) (Ω0 : zo_O) (c : Nat) (Ω : zo_O) : Prop := EX B q D Ω ∧ Wx [(20, l)] Ω0 Ω ∧ gS Ω l = L0 ++ tkf 15 g0 (gY B q D kn s k c).length ∧ gC Ω 15 = g0 + (gY B q D kn s k c).length ∧ GS B q D kn s k c g0 Ω ∧ ∀ x, x ≠ 15 → gC Ω x = gC Ω0 x
theorem nfx15 : ¬ fx 15 := by unfold fx; omega
section U
variable {B : zo_O} (hB : Bse B) {q : Bool} {D : Nat → Nat → Int32} (hD : q = false → DBd D) {kn : Int32} {s : Nat} {k : Int32} {l g0 : Nat} {L0 : List zo_T} {Ω0 : zo_O}
include hB
theorem x_g74 {N c : Nat} {Ω : zo_O} {K9 : Nat → Nat → Int32 → Int32 → Int32 → Int32 → zo_O → Option zo_R} (hc : c < gC B 3) (hlen : L0.length + (gY B q D kn s k c).length ≤ 30000) (hG : GI B q D kn s k l g0 L0 Ω0 c Ω) : ∀ m i n, i + m = (gY B q D kn s k c).length → m < n → fn_X1_findGroups_74 N K9 n l s k kn (nI L0.length) (nI c) c (fnd (gY B q D kn s k c) (gI B 32 10 c) g0 i) (nI (L0.length + i)) Ω = cn (fnd (gY B q D kn s k c) (gI B 32 10 c) g0 (gY B q D kn s k c).length) 15 (ad 1 4 <| lt (nw Ω 15 0) fun Ω5 =>
      cv (fn_X18_init N (gC Ω 15) s (gI Ω5 3 c 5) Ω5) fun Ω6 =>
      ci (fn_J2_add N l (some (15, gC Ω 15)) Ω6) fun r8 Ω7 =>
      fn_X1_findGroups_147 N K9 l s k kn (nI L0.length) (nI c) c (gC Ω 15) Ω7) fun n4 => fn_X1_findGroups_147 N K9 l s k kn (nI L0.length) (nI c) c n4 Ω := by
  obtain ⟨hE, hW, hS, hC, hGS, _⟩ := hG
  have hlS : (gS Ω l).length = L0.length + (gY B q D kn s k c).length := by rw [hS, List.length_append, tkf_len]
  intro m
  induction m with
  | zero =>
    intro i n hi hn
    obtain ⟨n, rfl⟩ : ∃ k, n = k + 1 := ⟨n - 1, by omega⟩
    have : i = (gY B q D kn s k c).length := by omega
    subst this
    unfold fn_X1_findGroups_74 bd_X1_findGroups_74
    rw [x_size, ci_mk, hlS, if_pos (by rw [nI_leI (by omega) (by omega)]; omega)]
  | succ m ih =>
    intro i n hi hn
    obtain ⟨n, rfl⟩ : ∃ k, n = k + 1 := ⟨n - 1, by omega⟩
    have hil : i < (gY B q D kn s k c).length := by omega
    have hg := x_get (N := N) (l := l) (i := L0.length + i) (Ω := Ω) (by rw [hlS]; omega) (by rw [hlS]; omega)
    rw [hS, List.getElem?_append_right (by omega), Nat.add_sub_cancel_left, tkf_get hil] at hg
    have hy : (gY B q D kn s k c)[i]? = some (gY B q D kn s k c)[i] := List.getElem?_eq_getElem hil
    obtain ⟨_, y1, _⟩ := hGS i _ hy
    have x5 : gI Ω 3 c 5 = gI B 32 10 c := (cirX hB hE.1 hc).2.2.2.2.2.1
    unfold fn_X1_findGroups_74 bd_X1_findGroups_74 fn_X1_findGroups_114
    rw [x_size, ci_mk, hlS, if_neg (by rw [nI_leI (by omega) (by omega)]; omega)]
    simp only [hg, cr_mk, bk_mk, y1, x5, nI_1]
    have ik := ih (i + 1) n (by omega) (by omega)
    rw [fnd, hy, ← Nat.add_assoc] at ik
    by_cases e : (gY B q D kn s k c)[i] = gI B 32 10 c
    · rw [if_pos e]
      rw [if_pos (by rw [e])] at ik
      exact ik
    · rw [if_neg e]
      rw [if_neg (by simp only [Option.some.injEq]; exact e)] at ik
      exact ik
include hD
theorem x_has {N c g : Nat} {Ω : zo_O} {K9 : Nat → Nat → Int32 → Int32 → Int32 → Int32 → zo_O → Option zo_R} {fr : Int32} (hE : EX B q D Ω) (hq : q = false) (hc : c < gC B 3) : fn_X1_findGroups_147 N K9 l s k kn fr (nI c) c g Ω = K9 l s k kn fr (nI (c + 1)) (sI (sI Ω 15 g 2 (mx (gI Ω 15 g 2) (sLo B D c))) 15 g 3 (mx (gI Ω 15 g 3) (sHi B D c))) := by
  unfold fn_X1_findGroups_147 fn_X18_has fn_X1_findGroups_164
  rw [x_least hB hE.1 hE.2 hq hc, ci_mk, x_most hB hE.1 hE.2 hq hc, ci_mk]
  simp only [lt, rV, cv_mk, nI_1, gI_sI]
  rw [if_neg (by simp)]
theorem GI_has {c g p : Nat} {Ω : zo_O} (hgB : gC B 15 ≤ g0) (hl : gC B 20 ≤ l) (hC0 : gC Ω0 15 = g0) (hc : c < gC B 3) (hm : mts B q D kn s k c = true) (hg : g = g0 + p)
    (hE : EX B q D Ω) (hW : Wx [(20, l)] Ω0 Ω) (hCk : ∀ x, x ≠ 15 → gC Ω x = gC Ω0 x) (hS : gS Ω l = L0 ++ tkf 15 g0 (gY B q D kn s k (c + 1)).length) (hC : gC Ω 15 = g0 + (gY B q D kn s k (c + 1)).length)
    (hp : (gY B q D kn s k (c + 1))[p]? = some (gI B 32 10 c))
    (hGS : ∀ i y, (gY B q D kn s k (c + 1))[i]? = some y → gR Ω 15 (g0 + i) 0 = some (2, s) ∧ gI Ω 15 (g0 + i) 1 = y ∧ (i ≠ p → gI Ω 15 (g0 + i) 2 = gLo B q D kn s k y c ∧ gI Ω 15 (g0 + i) 3 = gHi B q D kn s k y c))
    (hgp : (gI Ω 15 g 2 = gLo B q D kn s k (gI B 32 10 c) c ∧ gI Ω 15 g 3 = gHi B q D kn s k (gI B 32 10 c) c) ∨ (gI Ω 15 g 2 = 0 ∧ gI Ω 15 g 3 = 0 ∧ gLo B q D kn s k (gI B 32 10 c) c = -1 ∧ gHi B q D kn s k (gI B 32 10 c) c = -1)) :
    GI B q D kn s k l g0 L0 Ω0 (c + 1) (sI (sI Ω 15 g 2 (mx (gI Ω 15 g 2) (sLo B D c))) 15 g 3 (mx (gI Ω 15 g 3) (sHi B D c))) := by
  have hu : sU B q D kn c = true := by unfold mts at hm; simp only [Bool.and_eq_true] at hm; exact hm.2
  have b1 := sLo_b hB (hD (sU_q hu)) hc
  have b2 := sHi_b hB (hD (sU_q hu)) hc
  have v1 : mx (gI Ω 15 g 2) (sLo B D c) = gLo B q D kn s k (gI B 32 10 c) (c + 1) := by
    rw [gLo, if_pos (mtc_s.2 ⟨hm, rfl⟩)]
    rcases hgp with h | h
    · rw [h.1]
    · rw [h.1, h.2.2.1, (mx_n1 b1.1).1, (mx_n1 b1.1).2]
  have v2 : mx (gI Ω 15 g 3) (sHi B D c) = gHi B q D kn s k (gI B 32 10 c) (c + 1) := by
    rw [gHi, if_pos (mtc_s.2 ⟨hm, rfl⟩)]
    rcases hgp with h | h
    · rw [h.2]
    · rw [h.2.1, h.2.2.2, (mx_n1 b2.1).1, (mx_n1 b2.1).2]
  have hge : gC B 15 ≤ g := by omega
  have hge0 : gC Ω0 15 ≤ g := by omega
  refine ⟨EX_of hE ((hE.1.sI (Or.inr ⟨nfx15, hge⟩)).sI (Or.inr ⟨nfx15, hge⟩)) ?_ (fun n f => ?_), (hW.sI (Or.inr ⟨nfx15, hge0⟩)).sI (Or.inr ⟨nfx15, hge0⟩), hS, hC, ?_, hCk⟩
  · rw [gI_sI, if_neg (by omega), gI_sI, if_neg (by omega)]
  · rw [gI_sI, if_neg (by omega), gI_sI, if_neg (by omega)]
  · intro i y hy
    obtain ⟨r1, r2, r3⟩ := hGS i y hy
    rw [gR_sI, gR_sI]
    simp only [gI_sI]
    by_cases e : i = p
    · subst e
      rw [hp] at hy
      simp only [Option.some.injEq] at hy
      subst hy
      subst hg
      simp [r1, r2, v1, v2]
    · have hne : ¬ (g0 + i = g) := by omega
      obtain ⟨r4, r5⟩ := r3 e
      have hyne : gI B 32 10 c ≠ y := by
        intro w
        have hi : i < (gY B q D kn s k (c + 1)).length := by
          rw [List.getElem?_eq_some_iff] at hy; exact hy.1
        have hpl : p < (gY B q D kn s k (c + 1)).length := by
          rw [List.getElem?_eq_some_iff] at hp; exact hp.1
        have nd := gY_nodup (B := B) (q := q) (D := D) (kn := kn) (s := s) (k := k) (c + 1)
        rw [List.getElem?_eq_getElem hi] at hy
        rw [List.getElem?_eq_getElem hpl] at hp
        simp only [Option.some.injEq] at hy hp
        have nd2 := List.pairwise_iff_getElem.1 nd
        rcases Nat.lt_or_gt_of_ne e with h | h
        · exact nd2 i p hi hpl h (hy.trans (w ▸ hp.symm))
        · exact nd2 p i hpl hi h (hp.trans (w.trans hy.symm))
      have hnm : mtc B q D kn s k y c ≠ true := fun w => hyne (mtc_s.1 w).2
      rw [gLo, gHi, if_neg hnm, if_neg hnm]
      simp [hne, r1, r2, r4, r5]
theorem x_groupsL {N : Nat} (hN : 130 ≤ N) (hlB : gC B 20 ≤ l) (hl0 : l < gC Ω0 20) (hgB : gC B 15 ≤ g0) (hC0 : gC Ω0 15 = g0) (hL0 : L0.all (fun t => decide (t.1 < 20)) = true) (hlen : L0.length ≤ 20000) : ∀ m c n Ω, c + m = gC B 3 → m < n → GI B q D kn s k l g0 L0 Ω0 c Ω → ∃ Ω' cc ss, fn_X1_findGroups_9 N n l s k kn (nI L0.length) (nI c) Ω = some (none, Ω', cc, ss) ∧ GI B q D kn s k l g0 L0 Ω0 (gC B 3) Ω' ∧ cc + (gY B q D kn s k c).length + KC (L0.length + (gY B q D kn s k c).length) = (gY B q D kn s k (gC B 3)).length + KC (L0.length + (gY B q D kn s k (gC B 3)).length) ∧ ss + 4 * (gY B q D kn s k c).length + KS (L0.length + (gY B q D kn s k c).length) = 4 * (gY B q D kn s k (gC B 3)).length + KS (L0.length + (gY B q D kn s k (gC B 3)).length) := by
  have h120 := n_3 hB
  obtain ⟨hS1, _⟩ := b_c hB
  have h7 : 7 ≤ gC B 20 := hB.2.2.2.2.2.2.2.1
  have hYl : ∀ c, (gY B q D kn s k c).length ≤ c := by
    intro c
    induction c with
    | zero => simp [gY]
    | succ c ih =>
      rw [gY]
      split
      · rw [List.length_append]; simp; omega
      · omega
  intro m
  induction m with
  | zero =>
    intro c n Ω hc hn hG
    obtain ⟨n, rfl⟩ : ∃ k, n = k + 1 := ⟨n - 1, by omega⟩
    have : c = gC B 3 := by omega
    subst this
    unfold fn_X1_findGroups_9 bd_X1_findGroups_9
    rw [x_size, ci_mk, hG.1.1.S (by simp [sS0, sQ]) (by omega), hS1, tks_len, if_pos (by grind)]
    exact ⟨Ω, 0, 0, rfl, hG, by omega, by omega⟩
  | succ m ih =>
    intro c n Ω hc hn hG
    obtain ⟨n, rfl⟩ : ∃ k, n = k + 1 := ⟨n - 1, by omega⟩
    have hcl : c < gC B 3 := by omega
    have hYc := hYl c
    have hw := hG.1.1
    have hSO : gS Ω 1 = tks 3 (gC B 3) := by rw [hw.S (by simp [sS0, sQ]) (by omega)]; exact hS1
    have hg := x_get (N := N) (l := 1) (i := c) (Ω := Ω) (by rw [hSO, tks_len]; omega) (by rw [hSO, tks_len]; omega)
    rw [hSO, tks_get hcl] at hg
    have x1 : gI Ω 3 c 1 = gI B 32 6 c := (cirX hB hw hcl).2.1
    unfold fn_X1_findGroups_9 bd_X1_findGroups_9 fn_X1_findGroups_164
    rw [x_size, ci_mk, hSO, tks_len, if_neg (by rw [nI_leI (by omega) (by omega)]; omega)]
    simp only [hg, cr_mk, bk_mk, cir_R hB hw hcl, x1, x_isUsed hB hw (show 15 ≤ N by omega) hG.1.2 hcl, ci_mk, if_10, nI_1]
    have no : mts B q D kn s k c ≠ true → ∃ Ω' cc ss, fn_X1_findGroups_9 N n l s k kn (nI L0.length) (nI (c + 1)) Ω = some (none, Ω', cc, ss) ∧ GI B q D kn s k l g0 L0 Ω0 (gC B 3) Ω' ∧ cc + (gY B q D kn s k c).length + KC (L0.length + (gY B q D kn s k c).length) = (gY B q D kn s k (gC B 3)).length + KC (L0.length + (gY B q D kn s k (gC B 3)).length) ∧ ss + 4 * (gY B q D kn s k c).length + KS (L0.length + (gY B q D kn s k c).length) = 4 * (gY B q D kn s k (gC B 3)).length + KS (L0.length + (gY B q D kn s k (gC B 3)).length) := by
      intro hm
      have hY : gY B q D kn s k (c + 1) = gY B q D kn s k c := by rw [gY, if_neg (fun w => hm w.1)]
      have hG' : GI B q D kn s k l g0 L0 Ω0 (c + 1) Ω := by
        obtain ⟨a1, a2, a3, a4, a5, a6⟩ := hG
        refine ⟨a1, a2, by rw [hY]; exact a3, by rw [hY]; exact a4, fun i y hy => ?_, a6⟩
        rw [hY] at hy
        have hn : mtc B q D kn s k y c ≠ true := fun w => hm (mtc_s.1 w).1
        rw [gLo, gHi, if_neg hn, if_neg hn]
        exact a5 i y hy
      have := ih (c + 1) n Ω (by omega) (by omega) hG'
      rw [hY] at this
      exact this
    by_cases g1 : cst B c = s
    · rw [if_pos g1]
      by_cases g2 : gI B 32 6 c = k
      · rw [if_pos g2]
        by_cases g4 : sU B q D kn c = true
        · have hm : mts B q D kn s k c = true := by simp [mts, g1, g2, g4]
          rw [if_pos g4]
          have h74 := x_g74 (N := N) (K9 := fn_X1_findGroups_9 N n) hB hcl (by omega) hG (gY B q D kn s k c).length 0 N (by omega) (by omega)
          rw [Nat.add_zero] at h74
          rw [show (none : Option zo_T) = fnd (gY B q D kn s k c) (gI B 32 10 c) g0 0 from rfl, h74]
          by_cases hin : gI B 32 10 c ∈ gY B q D kn s k c
          · have hY : gY B q D kn s k (c + 1) = gY B q D kn s k c := by rw [gY, if_neg (fun w => w.2 hin)]
            obtain ⟨i, hi, hi2⟩ := List.mem_iff_getElem.1 hin
            obtain ⟨p, p1, p2, p3⟩ := fnd_some (ys := gY B q D kn s k c) (y := gI B 32 10 c) (g := g0) (gY B q D kn s k c).length ⟨i, hi, by rw [List.getElem?_eq_getElem hi, hi2]⟩
            rw [p3, cn_mk, x_has (q := q) hB hD hG.1 (sU_q g4) hcl]
            obtain ⟨a1, a2, a3, a4, a5, a6⟩ := hG
            have ik := ih (c + 1) n _ (by omega) (by omega) (GI_has hB hD (L0 := L0) (Ω0 := Ω0) hgB hlB hC0 hcl hm rfl a1 a2 a6 (by rw [hY]; exact a3) (by rw [hY]; exact a4) (by rw [hY]; exact p2) (fun i y hy => by
              rw [hY] at hy
              obtain ⟨z1, z2, z3, z4⟩ := a5 i y hy
              exact ⟨z1, z2, fun _ => ⟨z3, z4⟩⟩) (Or.inl ((a5 p _ p2).2.2)))
            rw [hY] at ik
            exact ik
          · have hY : gY B q D kn s k (c + 1) = gY B q D kn s k c ++ [gI B 32 10 c] := by rw [gY, if_pos ⟨hm, hin⟩]
            have hYle : (gY B q D kn s k (c + 1)).length = (gY B q D kn s k c).length + 1 := by rw [hY, List.length_append]; rfl
            have hfn := fnd_none (ys := gY B q D kn s k c) (y := gI B 32 10 c) (g := g0) (gY B q D kn s k c).length (fun i _ w => hin (List.mem_of_getElem? w))
            obtain ⟨a1, a2, a3, a4, a5, a6⟩ := hG
            have hx5 : gI (nw Ω 15 0) 3 c 5 = gI B 32 10 c := by rw [gI_nw, if_neg (by omega)]; exact (cirX hB hw hcl).2.2.2.2.2.1
            rw [hfn, cnN]
            simp only [lt, fn_X18_init, rV, cv_mk, hx5]
            rw [x_add2 (L := L0 ++ tkf 15 g0 (gY B q D kn s k c).length) (by rw [gS_sI, gS_sR, gS_nw, if_neg (by omega)]; exact a3) (by rw [List.all_append, hL0, tkf_all (by decide)]; rfl) (by show 15 < 20; decide) (by rw [List.length_append, tkf_len]; omega), ci_mk2, a4]
            rw [List.append_assoc, tkf_succ, List.length_append, tkf_len]
            have hlt : gC Ω0 20 ≤ gC Ω 20 := a2.C 20
            have W1 : Wx sS0 B (sS (sI (sR (nw Ω 15 0) 15 (g0 + (gY B q D kn s k c).length) 0 (some (2, s))) 15 (g0 + (gY B q D kn s k c).length) 1 (gI B 32 10 c)) l (L0 ++ tkf 15 g0 ((gY B q D kn s k c).length + 1))) :=
              (((hw.nw (by decide)).sR (Or.inr ⟨nfx15, by omega⟩)).sI (Or.inr ⟨nfx15, by omega⟩)).sS (Or.inr hlB)
            have W2 : Wx [(20, l)] Ω0 (sS (sI (sR (nw Ω 15 0) 15 (g0 + (gY B q D kn s k c).length) 0 (some (2, s))) 15 (g0 + (gY B q D kn s k c).length) 1 (gI B 32 10 c)) l (L0 ++ tkf 15 g0 ((gY B q D kn s k c).length + 1))) :=
              (((a2.nw (by decide)).sR (Or.inr ⟨nfx15, by omega⟩)).sI (Or.inr ⟨nfx15, by omega⟩)).sS (Or.inl (by simp))
            have hE1 := EX_of a1 W1 (by rw [gI_sS, gI_sI, if_neg (by omega), gI_sR, gI_nw, if_neg (by omega)]) (fun n f => by rw [gI_sS, gI_sI, if_neg (by omega), gI_sR, gI_nw, if_neg (by omega)])
            rw [x_has (q := q) hB hD hE1 (sU_q g4) hcl]
            obtain ⟨Ω', cc, ss, k1, k2, k3, k4⟩ := ih (c + 1) n _ (by omega) (by omega) (GI_has hB hD (p := (gY B q D kn s k c).length) (L0 := L0) (Ω0 := Ω0) hgB hlB hC0 hcl hm rfl hE1 W2 (fun x hx => by rw [gC_sS, gC_sI, gC_sR, gC_nw, if_neg hx]; exact a6 x hx) (by rw [gS_sS, if_pos rfl, hYle]) (by rw [gC_sS, gC_sI, gC_sR, gC_nw, if_pos rfl, a4, hYle]; omega) (by rw [hY, List.getElem?_append_right (Nat.le_refl _), Nat.sub_self]; rfl) (fun i y hy => by
              rw [hY] at hy
              by_cases e : i < (gY B q D kn s k c).length
              · rw [List.getElem?_append_left e] at hy
                obtain ⟨z1, z2, z3, z4⟩ := a5 i y hy
                have hne : ¬ i = (gY B q D kn s k c).length := by omega
                simp [gR_sS, gR_sI, gR_sR, gR_nw, gI_sS, gI_sI, gI_sR, gI_nw, a4, hne, z1, z2, z3, z4]
              · have hie : i = (gY B q D kn s k c).length := by
                  have : i < (gY B q D kn s k c ++ [gI B 32 10 c]).length := by
                    rw [List.getElem?_eq_some_iff] at hy; exact hy.1
                  rw [List.length_append] at this
                  simp at this
                  omega
                subst hie
                rw [List.getElem?_append_right (Nat.le_refl _), Nat.sub_self] at hy
                simp only [List.getElem?_cons_zero, Option.some.injEq] at hy
                subst hy
                simp [gR_sS, gR_sI, gR_sR, gI_sS, gI_sI]) (Or.inr (by
                  have hno := gLo_none (B := B) (q := q) (D := D) (kn := kn) (s := s) (k := k) (y := gI B 32 10 c) c (fun w => hin ((gY_mem c).2 w))
                  refine ⟨?_, ?_, hno.1, hno.2⟩ <;> simp [gI_sS, gI_sI, gI_sR, gI_nw, a4])))
            refine ⟨Ω', cc + zo_kc (L0.length + (gY B q D kn s k c).length) + 1, ss + zo_ks (L0.length + (gY B q D kn s k c).length) + 4, ?_, k2, ?_, ?_⟩
            · rw [k1]; rfl
            · rw [hYle, show KC (L0.length + ((gY B q D kn s k c).length + 1)) = KC (L0.length + (gY B q D kn s k c).length) + zo_kc (L0.length + (gY B q D kn s k c).length) from rfl] at k3; omega
            · rw [hYle, show KS (L0.length + ((gY B q D kn s k c).length + 1)) = KS (L0.length + (gY B q D kn s k c).length) + zo_ks (L0.length + (gY B q D kn s k c).length) from rfl] at k4; omega
        · rw [if_neg g4]; exact no (by simp [mts, g4])
      · rw [if_neg g2]; exact no (by simp [mts, g2])
    · rw [if_neg g1]; exact no (by simp [mts, g1])
end U
section U
variable {B : zo_O} (hB : Bse B) {q : Bool} {D : Nat → Nat → Int32} (hD : q = false → DBd D) {kn : Int32} {s : Nat} {k : Int32} {l : Nat}
include hB hD
theorem x_groups {N : Nat} {Ω : zo_O} (hN : 130 ≤ N) (hE : EX B q D Ω) (hlB : gC B 20 ≤ l) (hl0 : l < gC Ω 20) (hL0 : (gS Ω l).all (fun t => decide (t.1 < 20)) = true) (hlen : (gS Ω l).length ≤ 20000) : ∃ Ω' cc ss, fn_X1_findGroups N l s k kn Ω = some (none, Ω', cc, ss) ∧ EX B q D Ω' ∧ Wx [(20, l)] Ω Ω' ∧ gS Ω' l = gS Ω l ++ tkf 15 (gC Ω 15) (gY B q D kn s k (gC B 3)).length ∧ gC Ω' 15 = gC Ω 15 + (gY B q D kn s k (gC B 3)).length ∧ GS B q D kn s k (gC B 3) (gC Ω 15) Ω' ∧ (∀ x, x ≠ 15 → gC Ω' x = gC Ω x) ∧ cc + KC (gS Ω l).length = (gY B q D kn s k (gC B 3)).length + KC ((gS Ω l).length + (gY B q D kn s k (gC B 3)).length) ∧ ss + KS (gS Ω l).length = 4 * (gY B q D kn s k (gC B 3)).length + KS ((gS Ω l).length + (gY B q D kn s k (gC B 3)).length) := by
  have h120 := n_3 hB
  obtain ⟨Ω', cc, ss, k1, ⟨k2, k3, k4, k5, k6, k9⟩, k7, k8⟩ := x_groupsL hB hD (s := s) (k := k) (kn := kn) (l := l) (g0 := gC Ω 15) (L0 := gS Ω l) (Ω0 := Ω) hN hlB hl0 (hE.1.C 15) rfl hL0 hlen (gC B 3) 0 N Ω (by omega) (by omega) ⟨hE, Wx.refl, by simp [gY, tkf], by simp [gY], fun i y hy => by simp [gY] at hy, fun _ _ => rfl⟩
  refine ⟨Ω', cc, ss, ?_, k2, k3, k4, k5, k6, k9, ?_, ?_⟩
  · unfold fn_X1_findGroups
    rw [x_size, ci_mk, show (0 : Int32) = nI 0 from rfl]
    exact k1
  · simpa [gY] using k7
  · simpa [gY] using k8
end U
