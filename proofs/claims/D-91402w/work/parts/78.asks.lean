/-! ===== X: a group asks ===== -/
def elg (B : zo_O) (kn sd bt but : Int32) (s : Nat) : Bool := decide (gI B 32 3 s ≠ -1) && decide (gI B 32 4 s ≤ kn) && decide (gI B 32 0 s = sd) && decide (gI B 32 1 s = bt) && decide (nI s ≠ but)
def gAll (B : zo_O) (q : Bool) (D : Nat → Nat → Int32) (kn k sd bt but : Int32) : Nat → List (Nat × Int32)
  | 0 => []
  | s + 1 => gAll B q D kn k sd bt but s ++ (if elg B kn sd bt but s = true then (gY B q D kn s k (gC B 3)).map (fun y => (s, y)) else [])
def agO (B : zo_O) (p : Nat × Int32) : Int32 := p.2 - gI B 32 3 p.1
def lwF (B : zo_O) (q : Bool) (D : Nat → Nat → Int32) (kn k : Int32) (p : Nat × Int32) : Option (Nat × Int32 × Int32) := if 0 ≤ agO B p ∧ agO B p ≤ 800 then some (p.1, agO B p, gLo B q D kn p.1 k p.2 (gC B 3)) else none
def upF (B : zo_O) (q : Bool) (D : Nat → Nat → Int32) (kn : Int32) (kk : Nat) (p : Nat × Int32) : Option (Nat × Int32 × Int32) := if 0 ≤ agO B p ∧ gI B 1 0 43 ≤ lk B (nI p.1) (nI kk) kn ∧ 0 ≤ agO B p - gI B 32 31 kk ∧ agO B p - gI B 32 31 kk ≤ 800 then some (p.1, agO B p - gI B 32 31 kk, gHi B q D kn p.1 (nI kk) p.2 (gC B 3)) else none
def CvG (Ω : zo_O) (j la lb a0 b0 : Nat) (lw up : bLs) : Prop := CvE Ω j la lb a0 b0 lw up ∧ gC Ω 16 = a0 + lw.length ∧ gC Ω 17 = b0 + up.length ∧ la ≠ lb
theorem nfx16 : ¬ fx 16 := by unfold fx; omega
theorem nfx17 : ¬ fx 17 := by unfold fx; omega
theorem getq_app {α : Type} {l : List α} {x y : α} {i : Nat} (h : (l ++ [x])[i]? = some y) : (i < l.length ∧ l[i]? = some y) ∨ (i = l.length ∧ y = x) := by
  by_cases e : i < l.length
  · rw [List.getElem?_append_left e] at h; exact Or.inl ⟨e, h⟩
  · have hl : i < (l ++ [x]).length := by rw [List.getElem?_eq_some_iff] at h; exact h.1
    rw [List.length_append] at hl
    simp only [List.length_cons, List.length_nil] at hl
    have : i = l.length := by omega
    subst this
    rw [List.getElem?_append_right (Nat.le_refl _), Nat.sub_self] at h
    simp at h
    exact Or.inr ⟨rfl, h.symm⟩
def addL (Ω : zo_O) (la a0 n s : Nat) (a v : Int32) : zo_O := sS (sI (sI (sI (nw Ω 16 0) 16 (a0 + n) 0 (nI s)) 16 (a0 + n) 1 a) 16 (a0 + n) 2 v) la (tkf 16 a0 (n + 1))
def addU (Ω : zo_O) (lb b0 n s : Nat) (a v : Int32) : zo_O := sS (sI (sI (sI (nw Ω 17 0) 17 (b0 + n) 0 (nI s)) 17 (b0 + n) 1 a) 17 (b0 + n) 2 v) lb (tkf 17 b0 (n + 1))
section A
variable {Ω Ω0 : zo_O} {j la lb a0 b0 s : Nat} {lw up : bLs} {a v : Int32}
theorem addL_W {L : List (Nat × Nat)} (h : Wx L Ω0 Ω) (hl : (20, la) ∈ L ∨ gC Ω0 20 ≤ la) (ha : gC Ω0 16 ≤ a0 + lw.length) : Wx L Ω0 (addL Ω la a0 lw.length s a v) :=
  ((((h.nw (by decide)).sI (Or.inr ⟨nfx16, ha⟩)).sI (Or.inr ⟨nfx16, ha⟩)).sI (Or.inr ⟨nfx16, ha⟩)).sS hl
theorem addU_W {L : List (Nat × Nat)} (h : Wx L Ω0 Ω) (hl : (20, lb) ∈ L ∨ gC Ω0 20 ≤ lb) (ha : gC Ω0 17 ≤ b0 + up.length) : Wx L Ω0 (addU Ω lb b0 up.length s a v) :=
  ((((h.nw (by decide)).sI (Or.inr ⟨nfx17, ha⟩)).sI (Or.inr ⟨nfx17, ha⟩)).sI (Or.inr ⟨nfx17, ha⟩)).sS hl
theorem addL_C (h : CvG Ω j la lb a0 b0 lw up) : CvG (addL Ω la a0 lw.length s a v) j la lb a0 b0 (lw ++ [(s, a, v)]) up := by
  obtain ⟨⟨⟨r1, r2, r3⟩, ⟨s1, s2⟩, f1, f2, c1, ⟨c2, c3⟩, ⟨c4, c5⟩⟩, g1, g2, g3⟩ := h
  have e20 : gC (addL Ω la a0 lw.length s a v) 20 = gC Ω 20 := rfl
  have e14 : gC (addL Ω la a0 lw.length s a v) 14 = gC Ω 14 := rfl
  have e17 : gC (addL Ω la a0 lw.length s a v) 17 = gC Ω 17 := rfl
  have e16 : gC (addL Ω la a0 lw.length s a v) 16 = gC Ω 16 + 1 := rfl
  have hlen : (lw ++ [(s, a, v)]).length = lw.length + 1 := by rw [List.length_append]; rfl
  refine ⟨⟨⟨r1, r2, r3⟩, ⟨?_, ?_⟩, fun i t ht => ?_, fun i t ht => ?_, by rw [e14]; exact c1, ⟨by rw [e20]; exact c2, by rw [e20]; exact c3⟩, ⟨by rw [e16, hlen]; omega, by rw [e17]; exact c5⟩⟩, by rw [e16, hlen]; omega, by rw [e17]; exact g2, g3⟩
  · unfold addL; rw [gS_sS, if_pos rfl, hlen]
  · unfold addL; rw [gS_sS, if_neg (Ne.symm g3), gS_sI, gS_sI, gS_sI, gS_nw, if_neg (by omega)]; exact s2
  · unfold addL
    rcases getq_app ht with ⟨h1, h2⟩ | ⟨h1, h2⟩
    · have hne : ¬ i = lw.length := by omega
      have hne2 : ¬ a0 + i = gC Ω 16 := by omega
      simp [gI_sS, gI_sI, gI_nw, hne, hne2]
      exact f1 i t h2
    · subst h1; subst h2
      simp [gI_sS, gI_sI]
  · have : i < up.length := by rw [List.getElem?_eq_some_iff] at ht; exact ht.1
    unfold addL
    simp [gI_sS, gI_sI, gI_nw]
    exact f2 i t ht
theorem addU_C (h : CvG Ω j la lb a0 b0 lw up) : CvG (addU Ω lb b0 up.length s a v) j la lb a0 b0 lw (up ++ [(s, a, v)]) := by
  obtain ⟨⟨⟨r1, r2, r3⟩, ⟨s1, s2⟩, f1, f2, c1, ⟨c2, c3⟩, ⟨c4, c5⟩⟩, g1, g2, g3⟩ := h
  have e20 : gC (addU Ω lb b0 up.length s a v) 20 = gC Ω 20 := rfl
  have e14 : gC (addU Ω lb b0 up.length s a v) 14 = gC Ω 14 := rfl
  have e16 : gC (addU Ω lb b0 up.length s a v) 16 = gC Ω 16 := rfl
  have e17 : gC (addU Ω lb b0 up.length s a v) 17 = gC Ω 17 + 1 := rfl
  have hlen : (up ++ [(s, a, v)]).length = up.length + 1 := by rw [List.length_append]; rfl
  refine ⟨⟨⟨r1, r2, r3⟩, ⟨?_, ?_⟩, fun i t ht => ?_, fun i t ht => ?_, by rw [e14]; exact c1, ⟨by rw [e20]; exact c2, by rw [e20]; exact c3⟩, ⟨by rw [e16]; exact c4, by rw [e17, hlen]; omega⟩⟩, by rw [e16]; exact g1, by rw [e17, hlen]; omega, g3⟩
  · unfold addU; rw [gS_sS, if_neg g3, gS_sI, gS_sI, gS_sI, gS_nw, if_neg (by omega)]; exact s1
  · unfold addU; rw [gS_sS, if_pos rfl, hlen]
  · unfold addU
    simp [gI_sS, gI_sI, gI_nw]
    exact f1 i t ht
  · unfold addU
    rcases getq_app ht with ⟨h1, h2⟩ | ⟨h1, h2⟩
    · have hne : ¬ i = up.length := by omega
      have hne2 : ¬ b0 + i = gC Ω 17 := by omega
      simp [gI_sS, gI_sI, gI_nw, hne, hne2]
      exact f2 i t h2
    · subst h1; subst h2
      simp [gI_sS, gI_sI]
end A
def optL (l : bLs) (o : Option (Nat × Int32 × Int32)) : bLs := match o with
  | none => l
  | some t => l ++ [t]
section U
variable {B : zo_O} (hB : Bse B) {q : Bool} {D : Nat → Nat → Int32} {kn : Int32} {Ω0 : zo_O} {j la lb a0 b0 kk : Nat}
include hB
theorem x_asks60 {N g s : Nat} {y : Int32} {Ω : zo_O} {lw up : bLs} (hN : 130 ≤ N) (hw : Wx sS0 B Ω0) (hW : Wx [] Ω0 Ω) (hkk : kk < 3) (hlb : gC Ω0 20 ≤ lb) (hb0 : gC Ω0 17 ≤ b0) (hC : CvG Ω j la lb a0 b0 lw up) (hlen : up.length ≤ 20000) (ha : 0 ≤ agO B (s, y)) (g3 : gI Ω 15 g 3 = gHi B q D kn s (nI kk) y (gC B 3)) :
    ∃ Ω' cc ss, fn_X17_asks_60 N j g (nI kk) kn (agO B (s, y)) (nI s) Ω = some (none, Ω', cc, ss) ∧ Wx [] Ω0 Ω' ∧ Wx [(20, lb)] Ω Ω' ∧ CvG Ω' j la lb a0 b0 lw (optL up (upF B q D kn kk (s, y))) ∧ cc + up.length + KC up.length = (optL up (upF B q D kn kk (s, y))).length + KC (optL up (upF B q D kn kk (s, y))).length ∧ ss + 3 * up.length + KS up.length = 3 * (optL up (upF B q D kn kk (s, y))).length + KS (optL up (upF B q D kn kk (s, y))).length := by
  have hwO : Wx sS0 B Ω := hw.step hW (by simp)
  have y4 : gI B 0 0 11 = gI B 1 0 43 := hB.2.2.2.2.2.1.2.2.2.1
  have yd := (hB.2.2.2.2.2.1.2.2.2.2.2.2.2.2.2.2.2.1 kk hkk).1
  have d1 : gI Ω 43 0 kk = gI B 32 31 kk := by rw [hwO.I (by simp [ky, sS0, sQ]) (Or.inl (fx_m (by decide)))]; exact yd
  have x11 : gI Ω 0 0 11 = gI B 1 0 43 := by rw [w_x hwO (by decide)]; exact y4
  have hc1 := hC.1
  unfold fn_X17_asks_60 fn_X17_asks_131
  simp only [hc1.1.2.2, gd, if_true, ix_n hkk (show 3 < 2147483648 by decide), d1, li, x_lookedAt hB (show 101 ≤ N by omega) hwO, ci_mk, x11, rV]
  have no : ¬ (gI B 1 0 43 ≤ lk B (nI s) (nI kk) kn ∧ 0 ≤ agO B (s, y) - gI B 32 31 kk ∧ agO B (s, y) - gI B 32 31 kk ≤ 800) → ∃ Ω' cc ss, (some (none, Ω, 0, 0) : Option zo_R) = some (none, Ω', cc, ss) ∧ Wx [] Ω0 Ω' ∧ Wx [(20, lb)] Ω Ω' ∧ CvG Ω' j la lb a0 b0 lw (optL up (upF B q D kn kk (s, y))) ∧ cc + up.length + KC up.length = (optL up (upF B q D kn kk (s, y))).length + KC (optL up (upF B q D kn kk (s, y))).length ∧ ss + 3 * up.length + KS up.length = 3 * (optL up (upF B q D kn kk (s, y))).length + KS (optL up (upF B q D kn kk (s, y))).length := by
    intro h
    have : upF B q D kn kk (s, y) = none := by unfold upF; rw [if_neg (fun w => h ⟨w.2.1, w.2.2⟩)]
    rw [this]
    exact ⟨Ω, 0, 0, rfl, hW, Wx.refl, hC, by simp [optL], by simp [optL]⟩
  by_cases h1 : lk B (nI s) (nI kk) kn < gI B 1 0 43
  · rw [if_pos h1]; exact no (by grind)
  · rw [if_neg h1]
    by_cases h2 : agO B (s, y) - gI B 32 31 kk < 0
    · rw [if_pos h2]; exact no (by grind)
    · rw [if_neg h2]
      by_cases h3 : 800 < agO B (s, y) - gI B 32 31 kk
      · rw [if_pos h3]; exact no (by grind)
      · rw [if_neg h3]
        have hu : upF B q D kn kk (s, y) = some (s, agO B (s, y) - gI B 32 31 kk, gHi B q D kn s (nI kk) y (gC B 3)) := by
          unfold upF; rw [if_pos ⟨ha, by grind, by grind, by grind⟩]
        rw [hu]
        have g3' : gI (nw Ω 17 0) 15 g 3 = gHi B q D kn s (nI kk) y (gC B 3) := by rw [gI_nw, if_neg (by omega)]; exact g3
        have hg2 := hC.2.2.1
        simp only [hc1.1.2.1, bk_mk, fn_X21_init, fn_X19_init_17, lt, rV, cv_mk, g3', hg2]
        rw [x_add2 (L := tkf 17 b0 up.length) (by rw [gS_sI, gS_sI, gS_sI, gS_nw, if_neg (by omega)]; exact hc1.2.1.2) (tkf_all (by decide)) (by show 17 < 20; decide) (by rw [tkf_len]; omega), ci_mk2, tkf_succ, tkf_len]
        refine ⟨addU Ω lb b0 up.length s (agO B (s, y) - gI B 32 31 kk) (gHi B q D kn s (nI kk) y (gC B 3)), _, _, rfl, addU_W hW (Or.inr hlb) (by omega), addU_W Wx.refl (Or.inl (by simp)) (by omega), addU_C hC, ?_, ?_⟩
        · show 0 + zo_kc up.length + 1 + up.length + KC up.length = (up ++ [_]).length + KC (up ++ [_]).length
          rw [List.length_append]
          show _ = up.length + 1 + (KC up.length + zo_kc up.length)
          omega
        · show 0 + zo_ks up.length + 3 + 3 * up.length + KS up.length = 3 * (up ++ [_]).length + KS (up ++ [_]).length
          rw [List.length_append]
          show _ = 3 * (up.length + 1) + (KS up.length + zo_ks up.length)
          omega
theorem x_asks {N g s : Nat} {y : Int32} {Ω : zo_O} {lw up : bLs} (hN : 130 ≤ N) (hw : Wx sS0 B Ω0) (hW : Wx [] Ω0 Ω) (hkk : kk < 3) (hs : s < gC B 2) (hla : gC Ω0 20 ≤ la) (hlb : gC Ω0 20 ≤ lb) (ha0 : gC Ω0 16 ≤ a0) (hb0 : gC Ω0 17 ≤ b0) (hC : CvG Ω j la lb a0 b0 lw up) (hlen : up.length ≤ 20000) (hlen2 : lw.length ≤ 20000) (hg : g < gC Ω 15) (g0 : gR Ω 15 g 0 = some (2, s)) (g1 : gI Ω 15 g 1 = y) (g2 : gI Ω 15 g 2 = gLo B q D kn s (nI kk) y (gC B 3)) (g3 : gI Ω 15 g 3 = gHi B q D kn s (nI kk) y (gC B 3)) :
    ∃ Ω' cc ss, fn_X17_asks N j g (nI kk) kn Ω = some (none, Ω', cc, ss) ∧ Wx [] Ω0 Ω' ∧ Wx [(20, la), (20, lb)] Ω Ω' ∧ CvG Ω' j la lb a0 b0 (optL lw (lwF B q D kn (nI kk) (s, y))) (optL up (upF B q D kn kk (s, y))) ∧ cc + (lw.length + KC lw.length) + (up.length + KC up.length) = (optL lw (lwF B q D kn (nI kk) (s, y))).length + KC (optL lw (lwF B q D kn (nI kk) (s, y))).length + ((optL up (upF B q D kn kk (s, y))).length + KC (optL up (upF B q D kn kk (s, y))).length) ∧ ss + (3 * lw.length + KS lw.length) + (3 * up.length + KS up.length) = 3 * (optL lw (lwF B q D kn (nI kk) (s, y))).length + KS (optL lw (lwF B q D kn (nI kk) (s, y))).length + (3 * (optL up (upF B q D kn kk (s, y))).length + KS (optL up (upF B q D kn kk (s, y))).length) := by
  have hwO : Wx sS0 B Ω := hw.step hW (by simp)
  obtain ⟨_, y1, _, _, _, y5⟩ := sitX hB hwO hs
  unfold fn_X17_asks
  simp only [g0, bk_mk, g1, y1, y5, li]
  have hag : y - gI B 32 3 s = agO B (s, y) := rfl
  rw [hag]
  by_cases h0 : 0 ≤ agO B (s, y)
  · rw [if_pos h0]
    by_cases h8 : 800 < agO B (s, y)
    · rw [if_pos h8]
      have hl : lwF B q D kn (nI kk) (s, y) = none := by unfold lwF; rw [if_neg (by grind)]
      obtain ⟨Ω', cc, ss, k1, k2, k3, k4, k5, k6⟩ := x_asks60 (q := q) (D := D) hB (N := N) (g := g) (y := y) (s := s) hN hw hW hkk hlb hb0 hC hlen h0 g3
      rw [hl]
      refine ⟨Ω', cc, ss, k1, k2, k3.mono (by simp), k4, ?_, ?_⟩
      · show cc + (lw.length + KC lw.length) + (up.length + KC up.length) = lw.length + KC lw.length + _
        omega
      · show ss + (3 * lw.length + KS lw.length) + (3 * up.length + KS up.length) = 3 * lw.length + KS lw.length + _
        omega
    · rw [if_neg h8]
      have hl : lwF B q D kn (nI kk) (s, y) = some (s, agO B (s, y), gLo B q D kn s (nI kk) y (gC B 3)) := by unfold lwF; rw [if_pos (by grind)]
      have hc1 := hC.1
      have g2' : gI (nw Ω 16 0) 15 g 2 = gLo B q D kn s (nI kk) y (gC B 3) := by rw [gI_nw, if_neg (by omega)]; exact g2
      have hg1 := hC.2.1
      simp only [hc1.1.1, bk_mk, fn_X20_init, fn_X19_init_16, lt, rV, cv_mk, g2', hg1]
      rw [x_add2 (L := tkf 16 a0 lw.length) (by rw [gS_sI, gS_sI, gS_sI, gS_nw, if_neg (by omega)]; exact hc1.2.1.1) (tkf_all (by decide)) (by show 16 < 20; decide) (by rw [tkf_len]; omega), ci_mk2, tkf_succ, tkf_len]
      have W1 : Wx [] Ω0 (addL Ω la a0 lw.length s (agO B (s, y)) (gLo B q D kn s (nI kk) y (gC B 3))) := addL_W hW (Or.inr hla) (by omega)
      have W2 : Wx [(20, la), (20, lb)] Ω (addL Ω la a0 lw.length s (agO B (s, y)) (gLo B q D kn s (nI kk) y (gC B 3))) := addL_W Wx.refl (Or.inl (by simp)) (by omega)
      have C1 := addL_C (s := s) (a := agO B (s, y)) (v := gLo B q D kn s (nI kk) y (gC B 3)) hC
      obtain ⟨Ω', cc, ss, k1, k2, k3, k4, k5, k6⟩ := x_asks60 (q := q) (D := D) hB (N := N) (g := g) (y := y) (s := s) hN hw W1 hkk hlb hb0 C1 hlen h0 (by rw [W2.I (by simp [ky]) (Or.inr hg)]; exact g3)
      rw [hl]
      refine ⟨Ω', cc + zo_kc lw.length + 1, ss + zo_ks lw.length + 3, ?_, k2, W2.step k3 (by simp), k4, ?_, ?_⟩
      · show ad 1 3 (ad _ _ (fn_X17_asks_60 N j g (nI kk) kn (agO B (s, y)) (nI s) (addL Ω la a0 lw.length s (agO B (s, y)) (gLo B q D kn s (nI kk) y (gC B 3))))) = _
        rw [k1]; rfl
      · show cc + zo_kc lw.length + 1 + (lw.length + KC lw.length) + (up.length + KC up.length) = (lw ++ [_]).length + KC (lw ++ [_]).length + _
        rw [List.length_append]
        show _ = lw.length + 1 + (KC lw.length + zo_kc lw.length) + _
        omega
      · show ss + zo_ks lw.length + 3 + (3 * lw.length + KS lw.length) + (3 * up.length + KS up.length) = 3 * (lw ++ [_]).length + KS (lw ++ [_]).length + _
        rw [List.length_append]
        show _ = 3 * (lw.length + 1) + (KS lw.length + zo_ks lw.length) + _
        omega
  · rw [if_neg h0]
    have hl : lwF B q D kn (nI kk) (s, y) = none := by unfold lwF; rw [if_neg (fun w => h0 w.1)]
    have hu : upF B q D kn kk (s, y) = none := by unfold upF; rw [if_neg (fun w => h0 w.1)]
    rw [hl, hu]
    exact ⟨Ω, 0, 0, rfl, hW, Wx.refl, hC, by simp [optL], by simp [optL]⟩
end U
