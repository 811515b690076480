/-! ===== X's curve: made or kept ===== -/
theorem cIx_lt {kk s b : Nat} (h1 : kk < 3) (h2 : s < 2) (h3 : b < 3) : cIx kk s b < 18 := by unfold cIx; omega
theorem cIx_inj {kk s b kk' s' b' : Nat} (h2 : s < 2) (h3 : b < 3) (h2' : s' < 2) (h3' : b' < 3) (h : cIx kk s b = cIx kk' s' b') : kk = kk' ∧ s = s' ∧ b = b' := by unfold cIx at h; omega
section U
variable {B : zo_O} (hB : Bse B) {q : Bool} {D : Nat → Nat → Int32} (hD : q = false → DBd D) {kn : Int32} {kk s b : Nat} {but : Int32}
include hB hD
theorem x_curve {N : Nat} {Ω : zo_O} (hN : 40000 ≤ N) (hkk : kk < 3) (hs : s < 2) (hb : b < 3) (hn : gC B 3 ≤ 63) (hE : EX B q D Ω) (hbut : gI Ω 0 0 19 = but) (hA : CvA B q D kn but Ω) : ∃ Ω' j cc ss, fn_X1_curve N (nI kk) (nI s) (nI b) kn Ω = some (some (vr 14 j), Ω', cc, ss) ∧ Wx [(39, 0)] Ω Ω' ∧ CvA B q D kn but Ω' ∧ CvK B q D kn kk (nI s) (nI b) but Ω' j ∧ cc + 220 * cvN Ω' 18 ≤ 220 * cvN Ω 18 ∧ ss + 1300 * cvN Ω' 18 ≤ 1300 * cvN Ω 18 := by
  have h14 := n_2 hB
  have hix := cIx_lt hkk hs hb
  have ei : (((nI kk * 2) + nI s) * 3) + nI b = nI (cIx kk s b) := by
    unfold cIx
    rw [show (2 : Int32) = nI 2 from rfl, show (3 : Int32) = nI 3 from rfl, nI_mul, nI_add, nI_mul, nI_add]
  unfold fn_X1_curve li
  show ∃ Ω' j cc ss, (ix ((((nI kk * 2) + nI s) * 3) + nI b) 18 fun j2 => cn (gR Ω 39 0 j2) 14 (ad 1 4 <| lt (nw Ω 14 0) fun Ω4 => cv (fn_X17_init N (gC Ω 14) Ω4) fun Ω5 => ad 1 3 <| lt (nw Ω5 20 0) fun Ω6 => fn_X1_curve_51 N N (nI kk) (nI s) (nI b) kn ((((nI kk * 2) + nI s) * 3) + nI b) (gC Ω 14) (gC Ω5 20) 0 Ω6) fun n3 => ix ((((nI kk * 2) + nI s) * 3) + nI b) 18 fun j7 => rR (gR Ω 39 0 j7) Ω) = _ ∧ _
  rw [ei, ix_n hix (by decide), ix_n hix (by decide)]
  rcases hA kk s b hkk hs hb with h0 | ⟨j, h0, h1⟩
  · rw [h0, cnN]
    have hi : fn_X17_init N (gC Ω 14) (nw Ω 14 0) = some (none, sR (nw (sR (nw (sR (nw Ω 14 0) 14 (gC Ω 14) 3 (some (0, 0))) 20 0) 14 (gC Ω 14) 0 (some (20, gC Ω 20))) 20 0) 14 (gC Ω 14) 1 (some (20, gC Ω 20 + 1)), 2, 6) := rfl
    unfold lt
    show ∃ Ω' j cc ss, ad 1 4 (cv (fn_X17_init N (gC Ω 14) (nw Ω 14 0)) fun Ω5 => ad 1 3 (fn_X1_curve_51 N N (nI kk) (nI s) (nI b) kn (nI (cIx kk s b)) (gC Ω 14) (gC Ω5 20) 0 (nw Ω5 20 0))) = _ ∧ _
    rw [hi]
    generalize hO5 : sR (nw (sR (nw (sR (nw Ω 14 0) 14 (gC Ω 14) 3 (some (0, 0))) 20 0) 14 (gC Ω 14) 0 (some (20, gC Ω 20))) 20 0) 14 (gC Ω 14) 1 (some (20, gC Ω 20 + 1)) = Ω5
    have c20 : gC Ω5 20 = gC Ω 20 + 2 := by rw [← hO5]; rfl
    have W5 : Wx [] Ω (nw Ω5 20 0) := by
      rw [← hO5]
      exact (((((((Wx.refl.nw (by decide)).sR (Or.inr ⟨nfx14, Nat.le_refl _⟩)).nw (by decide)).sR (Or.inr ⟨nfx14, Nat.le_refl _⟩)).nw (by decide)).sR (Or.inr ⟨nfx14, Nat.le_refl _⟩)).nw (by decide))
    have C5 : CvG (nw Ω5 20 0) (gC Ω 14) (gC Ω 20) (gC Ω 20 + 1) (gC Ω 16) (gC Ω 17) [] [] := by
      rw [← hO5]
      refine ⟨⟨⟨?_, ?_, ?_⟩, ⟨?_, ?_⟩, fun i t ht => by simp at ht, fun i t ht => by simp at ht, ?_, ⟨?_, ?_⟩, ⟨?_, ?_⟩⟩, ?_, ?_, by omega⟩
      · simp [gR_nw, gR_sR]
      · simp [gR_nw, gR_sR]
      · simp [gR_nw, gR_sR]
      · simp [gS_nw, gS_sR, gC_sR, gC_nw, tkf]
      · simp [gS_nw, gS_sR, gC_sR, gC_nw, tkf]
      · simp [gC_sR, gC_nw]
      · simp [gC_sR, gC_nw]
        omega
      · simp [gC_sR, gC_nw]
      · simp [gC_sR, gC_nw]
      · simp [gC_sR, gC_nw]
      · simp [gC_sR, gC_nw]
      · simp [gC_sR, gC_nw]
    have S5 : gS (nw Ω5 20 0) (gC Ω5 20) = tkf 15 (gC Ω 15) (gAll B q D kn (nI kk) (nI s) (nI b) but 0).length := by
      rw [gS_nw, if_pos ⟨rfl, rfl⟩]; simp [gAll, tkf]
    have C15 : gC (nw Ω5 20 0) 15 = gC Ω 15 + (gAll B q D kn (nI kk) (nI s) (nI b) but 0).length := by
      rw [← hO5]; simp [gC_sR, gC_nw, gAll]
    obtain ⟨Ω1, c1, s1, k1, k2, k2', k3, k4, k5, k6, k7, k8⟩ := x_cv51 hB hD (kn := kn) (Ω0 := Ω) (j := gC Ω 14) (la := gC Ω 20) (lb := gC Ω 20 + 1) (lg := gC Ω5 20) (a0 := gC Ω 16) (b0 := gC Ω 17) (g0 := gC Ω 15) (sd := nI s) (bt := nI b) (but := but) (x5 := nI (cIx kk s b)) (N := N) (by omega) hkk hE (by omega) rfl hbut (by omega) (by omega) (gC B 2) 0 N (nw Ω5 20 0) (by omega) (by omega) W5 (by rw [gC_nw, if_pos rfl]; omega) S5 C15 (fun p t ht => by simp [gAll] at ht) C5
    have hgl := gAll_len (B := B) (q := q) (D := D) (kn := kn) (sd := nI s) (bt := nI b) (but := but) (k := nI kk) (gC B 2)
    have hcl := cLt_le (B := B) (n := gC B 2) (gC B 3)
    obtain ⟨Ω2, R, c2, s2, p1, p2, p3, p4, p5, p6, p7, p8, p9⟩ := x_cv134 (q := q) (D := D) hB (kn := kn) (Ω0 := Ω) (j := gC Ω 14) (la := gC Ω 20) (lb := gC Ω 20 + 1) (lg := gC Ω5 20) (a0 := gC Ω 16) (b0 := gC Ω 17) (g0 := gC Ω 15) (at' := cIx kk s b) (N := N) hN hkk hE.1 (by omega) (by omega) (by omega) (by omega) (by omega) (by omega) (by omega) hix (gs := gAll B q D kn (nI kk) (nI s) (nI b) but (gC B 2)) (by omega) (fun t ht => ((gAll_mem (gC B 2)).1 (show (t.1, t.2) ∈ _ from ht)).1) (gAll B q D kn (nI kk) (nI s) (nI b) but (gC B 2)).length 0 N Ω1 [] [] (by omega) (by omega) (by simp) (by simp) (by simp) (by simp) k2 k2' k3 (by omega) k5 k6
    rw [List.drop_zero, List.nil_append, List.nil_append] at p3 p6 p7 p8 p9
    have hW : Wx [(39, 0)] Ω (sR Ω2 39 0 (cIx kk s b) (some (14, gC Ω 14))) := (p2.mono (by simp)).sR (Or.inl (by simp [ky]))
    have hWR : Wx [(39, 0)] Ω2 (sR Ω2 39 0 (cIx kk s b) (some (14, gC Ω 14))) := Wx.refl.sR (Or.inl (by simp [ky]))
    have hK : CvK B q D kn kk (nI s) (nI b) but (sR Ω2 39 0 (cIx kk s b) (some (14, gC Ω 14))) (gC Ω 14) := CvK_W ⟨_, _, _, _, R, p3, p4, p5, p6, p7⟩ hWR (by simp)
    have hR : ∀ i, i ≠ cIx kk s b → gR (sR Ω2 39 0 (cIx kk s b) (some (14, gC Ω 14))) 39 0 i = gR Ω 39 0 i := fun i h => by
      rw [gR_sR, if_neg (fun w => h w.2.2)]; exact p2.R (by simp) (Or.inl (fx_m (by decide)))
    have hR1 : gR (sR Ω2 39 0 (cIx kk s b) (some (14, gC Ω 14))) 39 0 (cIx kk s b) = some (14, gC Ω 14) := by rw [gR_sR, if_pos ⟨rfl, rfl, rfl⟩]
    have hcv := cvN_set (x := cIx kk s b) h0 (by rw [hR1]; simp) hR 18
    rw [if_pos hix] at hcv
    refine ⟨_, gC Ω 14, c2 + c1 + 3 + 2 - 1 + 0, s2 + s1 + 3 + 6 + 4, ?_, hW, ?_, hK, ?_, ?_⟩
    · show ad 1 4 (ad 2 6 (ad 1 3 (fn_X1_curve_51 N N (nI kk) (nI s) (nI b) kn (nI (cIx kk s b)) (gC Ω 14) (gC Ω5 20) 0 (nw Ω5 20 0)))) = _
      rw [show (0 : Int32) = nI 0 from rfl, k1, show (0 : Int32) = nI 0 from rfl, p1]
      simp [ad]
    · intro kk' s' b' h1 h2 h3
      by_cases e : cIx kk' s' b' = cIx kk s b
      · obtain ⟨rfl, rfl, rfl⟩ := cIx_inj h2 h3 hs hb e
        exact Or.inr ⟨_, hR1, hK⟩
      · rw [hR _ e]
        rcases hA kk' s' b' h1 h2 h3 with g | ⟨j', g, g'⟩
        · exact Or.inl g
        · exact Or.inr ⟨j', g, CvK_W g' hW (by simp)⟩
    all_goals
      have l1 : ((gAll B q D kn (nI kk) (nI s) (nI b) but (gC B 2)).filterMap (lwF B q D kn (nI kk))).length ≤ (gAll B q D kn (nI kk) (nI s) (nI b) but (gC B 2)).length := List.length_filterMap_le _ _
      have l2 : ((gAll B q D kn (nI kk) (nI s) (nI b) but (gC B 2)).filterMap (upF B q D kn kk)).length ≤ (gAll B q D kn (nI kk) (nI s) (nI b) but (gC B 2)).length := List.length_filterMap_le _ _
      have z0 : (gAll B q D kn (nI kk) (nI s) (nI b) but 0).length = 0 := rfl
      rw [z0] at k7 k8
      have zz : ([] : bLs).length = 0 := rfl
      rw [zz] at p8 p9
      have e1 : KC 0 = 0 := rfl
      have e2 : KS 0 = 0 := rfl
      have m1 := KC_mono (show (gAll B q D kn (nI kk) (nI s) (nI b) but (gC B 2)).length ≤ 64 by omega)
      have m2 := KC_mono (show ((gAll B q D kn (nI kk) (nI s) (nI b) but (gC B 2)).filterMap (lwF B q D kn (nI kk))).length ≤ 64 by omega)
      have m3 := KC_mono (show ((gAll B q D kn (nI kk) (nI s) (nI b) but (gC B 2)).filterMap (upF B q D kn kk)).length ≤ 64 by omega)
      have m4 := KS_mono (show (gAll B q D kn (nI kk) (nI s) (nI b) but (gC B 2)).length ≤ 64 by omega)
      have m5 := KS_mono (show ((gAll B q D kn (nI kk) (nI s) (nI b) but (gC B 2)).filterMap (lwF B q D kn (nI kk))).length ≤ 64 by omega)
      have m6 := KS_mono (show ((gAll B q D kn (nI kk) (nI s) (nI b) but (gC B 2)).filterMap (upF B q D kn kk)).length ≤ 64 by omega)
      have q1 := KC_64
      have q2 := KS_64
      omega
  · rw [h0, cn_mk]
    exact ⟨Ω, j, 0, 0, rfl, Wx.refl, hA, h1, by omega, by omega⟩
end U
