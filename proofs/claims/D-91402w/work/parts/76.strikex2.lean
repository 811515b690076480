/-! ===== X's strikes: the walk ===== -/
def CvE (Ω : zo_O) (j la lb a0 b0 : Nat) (lw up : bLs) : Prop := (gR Ω 14 j 0 = some (20, la) ∧ gR Ω 14 j 1 = some (20, lb) ∧ gR Ω 14 j 3 = some (0, 0)) ∧ (gS Ω la = tkf 16 a0 lw.length ∧ gS Ω lb = tkf 17 b0 up.length) ∧ (∀ i t, lw[i]? = some t → gI Ω 16 (a0 + i) 0 = nI t.1 ∧ gI Ω 16 (a0 + i) 1 = t.2.1 ∧ gI Ω 16 (a0 + i) 2 = t.2.2) ∧ (∀ i t, up[i]? = some t → gI Ω 17 (b0 + i) 0 = nI t.1 ∧ gI Ω 17 (b0 + i) 1 = t.2.1 ∧ gI Ω 17 (b0 + i) 2 = t.2.2) ∧ j < gC Ω 14 ∧ (la < gC Ω 20 ∧ lb < gC Ω 20) ∧ (a0 + lw.length ≤ gC Ω 16 ∧ b0 + up.length ≤ gC Ω 17)
theorem CvE_W {Ω Ω' : zo_O} {j la lb a0 b0 : Nat} {lw up : bLs} {L : List (Nat × Nat)} (h : CvE Ω j la lb a0 b0 lw up) (w : Wx L Ω Ω') (hL : ∀ x ∈ L, x.1 ≠ 14 ∧ x.1 ≠ 16 ∧ x.1 ≠ 17 ∧ x.1 ≠ 20) : CvE Ω' j la lb a0 b0 lw up := by
  obtain ⟨⟨r1, r2, r3⟩, ⟨s1, s2⟩, f1, f2, c1, ⟨c2, c3⟩, ⟨c4, c5⟩⟩ := h
  have n14 : ∀ n f, ky 14 n f ∉ L := fun n f m => (hL _ m).1 rfl
  have n16 : ∀ n f, ky 16 n f ∉ L := fun n f m => (hL _ m).2.1 rfl
  have n17 : ∀ n f, ky 17 n f ∉ L := fun n f m => (hL _ m).2.2.1 rfl
  have n20 : ∀ n, (20, n) ∉ L := fun n m => (hL _ m).2.2.2 rfl
  refine ⟨⟨?_, ?_, ?_⟩, ⟨?_, ?_⟩, fun i t ht => ?_, fun i t ht => ?_, Nat.lt_of_lt_of_le c1 (w.C 14), ⟨Nat.lt_of_lt_of_le c2 (w.C 20), Nat.lt_of_lt_of_le c3 (w.C 20)⟩, ⟨Nat.le_trans c4 (w.C 16), Nat.le_trans c5 (w.C 17)⟩⟩
  · rw [w.R (n14 _ _) (Or.inr c1)]; exact r1
  · rw [w.R (n14 _ _) (Or.inr c1)]; exact r2
  · rw [w.R (n14 _ _) (Or.inr c1)]; exact r3
  · rw [w.S (n20 _) c2]; exact s1
  · rw [w.S (n20 _) c3]; exact s2
  · have : i < lw.length := by rw [List.getElem?_eq_some_iff] at ht; exact ht.1
    rw [w.I (n16 _ _) (Or.inr (by omega)), w.I (n16 _ _) (Or.inr (by omega)), w.I (n16 _ _) (Or.inr (by omega))]; exact f1 i t ht
  · have : i < up.length := by rw [List.getElem?_eq_some_iff] at ht; exact ht.1
    rw [w.I (n17 _ _) (Or.inr (by omega)), w.I (n17 _ _) (Or.inr (by omega)), w.I (n17 _ _) (Or.inr (by omega))]; exact f2 i t ht
def agX (Ω : zo_O) (x : Nat) (g : Nat → Nat) : Prop := gL Ω 35 x = 14 ∧ ∀ s, s < 14 → gI Ω 35 x s = nI (g s)
def zOk (z : sSt) : Prop := z.1 < 16384 ∧ z.2.1 < 16384 ∧ ∀ s, z.2.2 s < 16384
theorem or_14 {A s : Nat} (h : A < 16384) (hs : s < 14) : A ||| 2 ^ s < 16384 := by
  have : 2 ^ s < 2 ^ 14 := Nat.pow_lt_pow_right (by decide) hs
  exact Nat.or_lt_two_pow (n := 14) h this
theorem stI_ok {r : Int32} {l u : Nat × Int32 × Int32} {z : sSt} (hl : l.1 < 14) (hu : u.1 < 14) (h : zOk z) : zOk (stI r l u z) := by
  obtain ⟨h1, h2, h3⟩ := h
  unfold stI
  split
  · refine ⟨?_, ?_, fun s => ?_⟩
    · show (if l.1 = u.1 then z.1 ||| 2 ^ l.1 else z.1) < 16384
      split
      · exact or_14 h1 hl
      · exact h1
    · show z.2.1 ||| (2 ^ l.1 ||| 2 ^ u.1) < 16384
      rw [← Nat.or_assoc]
      exact or_14 (or_14 h2 hl) hu
    · show upd (upd z.2.2 l.1 (z.2.2 l.1 ||| 2 ^ u.1)) u.1 (upd z.2.2 l.1 (z.2.2 l.1 ||| 2 ^ u.1) u.1 ||| 2 ^ l.1) s < 16384
      have k : ∀ x, upd z.2.2 l.1 (z.2.2 l.1 ||| 2 ^ u.1) x < 16384 := fun x => by
        unfold upd
        split
        · exact or_14 (h3 _) hu
        · exact h3 _
      by_cases e : s = u.1
      · rw [show upd (upd z.2.2 l.1 (z.2.2 l.1 ||| 2 ^ u.1)) u.1 (upd z.2.2 l.1 (z.2.2 l.1 ||| 2 ^ u.1) u.1 ||| 2 ^ l.1) s = upd z.2.2 l.1 (z.2.2 l.1 ||| 2 ^ u.1) u.1 ||| 2 ^ l.1 from if_pos e]
        exact or_14 (k _) hl
      · rw [show upd (upd z.2.2 l.1 (z.2.2 l.1 ||| 2 ^ u.1)) u.1 (upd z.2.2 l.1 (z.2.2 l.1 ||| 2 ^ u.1) u.1 ||| 2 ^ l.1) s = upd z.2.2 l.1 (z.2.2 l.1 ||| 2 ^ u.1) s from if_neg e]
        exact k _
  · exact ⟨h1, h2, h3⟩
theorem stK_ok {r : Int32} {l : Nat × Int32 × Int32} {z : sSt} (hl : l.1 < 14) (h : zOk z) : zOk (stK r l z) := by
  unfold stK
  split
  · exact ⟨or_14 h.1 hl, h.2⟩
  · exact h
theorem x_at {N e : Nat} {Ω : zo_O} {a v b r : Int32} (h1 : gI Ω 16 e 1 = a) (h2 : gI Ω 16 e 2 = v) : fn_X20_at N e b r Ω = some (some (vi (lowAt r a v b)), Ω, 0, 0) := by
  unfold fn_X20_at fn_X20_at_28 lowAt
  rw [h1, h2]
  split <;> rfl
theorem x_atU {N e : Nat} {Ω : zo_O} {a v b r : Int32} (h1 : gI Ω 17 e 1 = a) (h2 : gI Ω 17 e 2 = v) : fn_X21_at N e b r Ω = some (some (vi (hiAt r a v b)), Ω, 0, 0) := by
  unfold fn_X21_at fn_X21_at_28 hiAt
  rw [h1, h2]
  split <;> rfl
theorem agX_set {Ω : zo_O} {x s v : Nat} {g : Nat → Nat} (h : agX Ω x g) : agX (sI Ω 35 x s (nI v)) x (upd g s v) := by
  refine ⟨by rw [gL_sI]; exact h.1, fun y hy => ?_⟩
  rw [gI_sI]
  unfold upd
  by_cases e : y = s
  · rw [if_pos ⟨rfl, rfl, e⟩, if_pos e]
  · rw [if_neg (fun w => e w.2.2), if_neg e]; exact h.2 y hy
section S
variable {N j la lb a0 b0 x1 : Nat} {lw up : bLs} {r : Int32} (hlw : ∀ t ∈ lw, t.1 < 14) (hup : ∀ t ∈ up, t.1 < 14) (hul : up.length ≤ 30000) (hll : lw.length ≤ 30000)
include hlw hup hul hll
theorem x_st67 {K12 : Nat → Nat → Int32 → Int32 → Int32 → zo_O → Option zo_R} {x4 : Int32} {i : Nat} {l : Nat × Int32 × Int32} (hi : lw[i]? = some l) : ∀ m k n z Ω, k + m = up.length → m < n → zOk z → agX Ω x1 z.2.2 → CvE Ω j la lb a0 b0 lw up → gI Ω 0 0 10 = r → x1 < gC Ω 35 → ∃ Ω', fn_X17_strikes_67 N K12 n j x1 (nI z.1) (nI z.2.1) x4 (a0 + i) (nI k) Ω = K12 j x1 (nI (stJ r l (up.drop k) z).1) (nI (stJ r l (up.drop k) z).2.1) (x4 + 1) Ω' ∧ agX Ω' x1 (stJ r l (up.drop k) z).2.2 ∧ zOk (stJ r l (up.drop k) z) ∧ Wx [(35, x1)] Ω Ω' := by
  have hl14 : l.1 < 14 := hlw _ (List.mem_of_getElem? hi)
  intro m
  induction m with
  | zero =>
    intro k n z Ω hk hn hz hg hC hr hx
    obtain ⟨n, rfl⟩ : ∃ k, n = k + 1 := ⟨n - 1, by omega⟩
    have : k = up.length := by omega
    subst this
    unfold fn_X17_strikes_67 bd_X17_strikes_67
    rw [hC.1.2.1, bk_mk, x_size, ci_mk, hC.2.1.2, tkf_len, if_pos (by rw [nI_leI (by omega) (by omega)]; omega), List.drop_length]
    exact ⟨Ω, rfl, hg, hz, Wx.refl⟩
  | succ m ih =>
    intro k n z Ω hk hn hz hg hC hr hx
    obtain ⟨n, rfl⟩ : ∃ k, n = k + 1 := ⟨n - 1, by omega⟩
    have hkl : k < up.length := by omega
    have hd : up.drop k = up[k] :: up.drop (k + 1) := (List.drop_eq_getElem_cons hkl)
    have hu14 : up[k].1 < 14 := hup _ (List.getElem_mem hkl)
    obtain ⟨u0, u1, u2⟩ := hC.2.2.2.1 k up[k] (List.getElem?_eq_getElem hkl)
    obtain ⟨l0, l1, l2⟩ := hC.2.2.1 i l hi
    have hgt := x_get (N := N) (l := lb) (i := k) (Ω := Ω) (by rw [hC.2.1.2, tkf_len]; omega) (by rw [hC.2.1.2, tkf_len]; omega)
    rw [hC.2.1.2, tkf_get hkl] at hgt
    unfold fn_X17_strikes_67 bd_X17_strikes_67 fn_X17_strikes_196
    rw [hC.1.2.1, bk_mk, x_size, ci_mk, hC.2.1.2, tkf_len, if_neg (by rw [nI_leI (by omega) (by omega)]; omega), hC.1.2.1, bk_mk, hgt, cr_mk, bk_mk]
    simp only [hC.1.2.2, gd, if_true, u1, hr, x_at l1 l2, ci_mk, u2, l0, u0, li, nI_1, nI_eq (show l.1 < 2 ^ 31 by omega) (show up[k].1 < 2 ^ 31 by omega)]
    rw [hd]
    have hI : stJ r l (up[k] :: up.drop (k + 1)) z = stJ r l (up.drop (k + 1)) (stI r l up[k] z) := rfl
    rw [hI]
    have hzI := stI_ok (r := r) hl14 hu14 hz
    by_cases h : up[k].2.2 < lowAt r l.2.1 l.2.2 up[k].2.1
    · rw [if_pos h]
      have key : ∀ A', A' = (if l.1 = up[k].1 then z.1 ||| 2 ^ l.1 else z.1) → ∃ Ω', fn_X17_strikes_144 N K12 (fn_X17_strikes_67 N K12 n) j x1 (nI A') (nI z.2.1) x4 (a0 + i) (nI k) (b0 + k) Ω = K12 j x1 (nI (stJ r l (up.drop (k + 1)) (stI r l up[k] z)).1) (nI (stJ r l (up.drop (k + 1)) (stI r l up[k] z)).2.1) (x4 + 1) Ω' ∧ agX Ω' x1 (stJ r l (up.drop (k + 1)) (stI r l up[k] z)).2.2 ∧ zOk (stJ r l (up.drop (k + 1)) (stI r l up[k] z)) ∧ Wx [(35, x1)] Ω Ω' := by
        intro A' hA
        have hst : stI r l up[k] z = (A', z.2.1 ||| (2 ^ l.1 ||| 2 ^ up[k].1), upd (upd z.2.2 l.1 (z.2.2 l.1 ||| 2 ^ up[k].1)) up[k].1 (upd z.2.2 l.1 (z.2.2 l.1 ||| 2 ^ up[k].1) up[k].1 ||| 2 ^ l.1)) := by
          unfold stI; rw [if_pos h, hA]
        have g1 : agX (sI Ω 35 x1 l.1 (nI (z.2.2 l.1 ||| 2 ^ up[k].1))) x1 (upd z.2.2 l.1 (z.2.2 l.1 ||| 2 ^ up[k].1)) := agX_set hg
        have g2 := agX_set (s := up[k].1) (v := upd z.2.2 l.1 (z.2.2 l.1 ||| 2 ^ up[k].1) up[k].1 ||| 2 ^ l.1) g1
        have W1 : Wx [(35, x1)] Ω (sI Ω 35 x1 l.1 (nI (z.2.2 l.1 ||| 2 ^ up[k].1))) := Wx.refl.sI (Or.inl (by simp [ky]))
        have W2 : Wx [(35, x1)] Ω (sI (sI Ω 35 x1 l.1 (nI (z.2.2 l.1 ||| 2 ^ up[k].1))) 35 x1 up[k].1 (nI (upd z.2.2 l.1 (z.2.2 l.1 ||| 2 ^ up[k].1) up[k].1 ||| 2 ^ l.1))) := W1.sI (Or.inl (by simp [ky]))
        have k35 : ∀ x ∈ [(35, x1)], x.1 ≠ 14 ∧ x.1 ≠ 16 ∧ x.1 ≠ 17 ∧ x.1 ≠ 20 := by simp
        have C1 := CvE_W hC W1 k35
        have C2 := CvE_W hC W2 k35
        unfold fn_X17_strikes_144 fn_X17_strikes_196
        simp only [l0, u0, hg.1, ix_n hl14 (show 14 < 2147483648 by decide), b_shl _ (show l.1 ≤ 14 by omega), b_shl _ (show up[k].1 ≤ 14 by omega), hg.2 _ hl14, b_or, lt]
        obtain ⟨w0, _⟩ := C1.2.2.2.1 k up[k] (List.getElem?_eq_getElem hkl)
        obtain ⟨v0, _⟩ := C1.2.2.1 i l hi
        simp only [w0, v0, g1.1, ix_n hu14 (show 14 < 2147483648 by decide), b_shl _ (show l.1 ≤ 14 by omega), g1.2 _ hu14, b_or]
        obtain ⟨w0', _⟩ := C2.2.2.2.1 k up[k] (List.getElem?_eq_getElem hkl)
        obtain ⟨v0', _⟩ := C2.2.2.1 i l hi
        simp only [w0', v0', b_shl _ (show l.1 ≤ 14 by omega), b_shl _ (show up[k].1 ≤ 14 by omega), b_or, li, nI_1]
        rw [hst] at hzI ⊢
        obtain ⟨Ω', q1, q2, q3, q4⟩ := ih (k + 1) n _ _ (by omega) (by omega) hzI g2 C2 (by rw [W2.I (by simp [ky]) (Or.inl fx_0)]; exact hr) (Nat.lt_of_lt_of_le hx (W2.C 35))
        exact ⟨Ω', q1, q2, q3, W2.trans q4⟩
      by_cases e : l.1 = up[k].1
      · rw [if_pos e, b_shl _ (by omega), b_or]
        exact key _ (by rw [if_pos e])
      · rw [if_neg e]
        exact key _ (by rw [if_neg e])
    · rw [if_neg h]
      have hst : stI r l up[k] z = z := by unfold stI; rw [if_neg h]
      rw [hst]
      exact ih (k + 1) n z Ω (by omega) (by omega) hz hg hC hr hx
theorem x_st12 (hN : up.length < N) : ∀ m i n z Ω, i + m = lw.length → m < n → zOk z → agX Ω x1 z.2.2 → CvE Ω j la lb a0 b0 lw up → gI Ω 0 0 10 = r → x1 < gC Ω 35 → ∃ Ω', fn_X17_strikes_12 N n j x1 (nI z.1) (nI z.2.1) (nI i) Ω = fn_X17_strikes_218 N N j x1 (nI (stL r (lw.drop i) up z).1) (nI ((stL r (lw.drop i) up z).2.1 ||| (stL r (lw.drop i) up z).1)) (nI ((stL r (lw.drop i) up z).2.1 ||| (stL r (lw.drop i) up z).1)) (nI ((stL r (lw.drop i) up z).2.1 ||| (stL r (lw.drop i) up z).1)) Ω' ∧ agX Ω' x1 (stL r (lw.drop i) up z).2.2 ∧ zOk (stL r (lw.drop i) up z) ∧ Wx [(35, x1)] Ω Ω' := by
  intro m
  induction m with
  | zero =>
    intro i n z Ω hk hn hz hg hC hr hx
    obtain ⟨n, rfl⟩ : ∃ k, n = k + 1 := ⟨n - 1, by omega⟩
    have : i = lw.length := by omega
    subst this
    unfold fn_X17_strikes_12 bd_X17_strikes_12
    rw [hC.1.1, bk_mk, x_size, ci_mk, hC.2.1.1, tkf_len, if_pos (by rw [nI_leI (by omega) (by omega)]; omega), List.drop_length]
    simp only [li, b_or]
    exact ⟨Ω, rfl, hg, hz, Wx.refl⟩
  | succ m ih =>
    intro i n z Ω hk hn hz hg hC hr hx
    obtain ⟨n, rfl⟩ : ∃ k, n = k + 1 := ⟨n - 1, by omega⟩
    have hil : i < lw.length := by omega
    have hd : lw.drop i = lw[i] :: lw.drop (i + 1) := (List.drop_eq_getElem_cons hil)
    have hl14 : lw[i].1 < 14 := hlw _ (List.getElem_mem hil)
    have hi : lw[i]? = some lw[i] := List.getElem?_eq_getElem hil
    obtain ⟨l0, l1, l2⟩ := hC.2.2.1 i lw[i] hi
    have hgt := x_get (N := N) (l := la) (i := i) (Ω := Ω) (by rw [hC.2.1.1, tkf_len]; omega) (by rw [hC.2.1.1, tkf_len]; omega)
    rw [hC.2.1.1, tkf_get hil] at hgt
    have hI : stL r (lw[i] :: lw.drop (i + 1)) up z = stL r (lw.drop (i + 1)) up (stJ r lw[i] up (stK r lw[i] z)) := rfl
    rw [hd, hI]
    unfold fn_X17_strikes_12 bd_X17_strikes_12 fn_X17_strikes_64
    rw [hC.1.1, bk_mk, x_size, ci_mk, hC.2.1.1, tkf_len, if_neg (by rw [nI_leI (by omega) (by omega)]; omega), hC.1.1, bk_mk, hgt, cr_mk, bk_mk]
    simp only [hC.1.2.2, gd, if_true, hr, x_at l1 l2, ci_mk, l0, li, b_shl _ (show lw[i].1 ≤ 14 by omega), b_or]
    have hzK := stK_ok (r := r) (l := lw[i]) hl14 hz
    have key : ∃ Ω', fn_X17_strikes_67 N (fn_X17_strikes_12 N n) N j x1 (nI (stK r lw[i] z).1) (nI z.2.1) (nI i) (a0 + i) 0 Ω = fn_X17_strikes_218 N N j x1 (nI (stL r (lw.drop (i + 1)) up (stJ r lw[i] up (stK r lw[i] z))).1) (nI ((stL r (lw.drop (i + 1)) up (stJ r lw[i] up (stK r lw[i] z))).2.1 ||| (stL r (lw.drop (i + 1)) up (stJ r lw[i] up (stK r lw[i] z))).1)) (nI ((stL r (lw.drop (i + 1)) up (stJ r lw[i] up (stK r lw[i] z))).2.1 ||| (stL r (lw.drop (i + 1)) up (stJ r lw[i] up (stK r lw[i] z))).1)) (nI ((stL r (lw.drop (i + 1)) up (stJ r lw[i] up (stK r lw[i] z))).2.1 ||| (stL r (lw.drop (i + 1)) up (stJ r lw[i] up (stK r lw[i] z))).1)) Ω' ∧ agX Ω' x1 (stL r (lw.drop (i + 1)) up (stJ r lw[i] up (stK r lw[i] z))).2.2 ∧ zOk (stL r (lw.drop (i + 1)) up (stJ r lw[i] up (stK r lw[i] z))) ∧ Wx [(35, x1)] Ω Ω' := by
      obtain ⟨Ω1, q1, q2, q3, q4⟩ := x_st67 (N := N) (j := j) (la := la) (lb := lb) (a0 := a0) (b0 := b0) (x1 := x1) (r := r) hlw hup hul hll (K12 := fn_X17_strikes_12 N n) (x4 := nI i) hi up.length 0 N (stK r lw[i] z) Ω (by omega) hN hzK (by rw [stK_2]; exact hg) hC hr hx
      rw [List.drop_zero] at q1 q2 q3
      have k35 : ∀ x ∈ [(35, x1)], x.1 ≠ 14 ∧ x.1 ≠ 16 ∧ x.1 ≠ 17 ∧ x.1 ≠ 20 := by simp
      obtain ⟨Ω2, p1, p2, p3, p4⟩ := ih (i + 1) n _ Ω1 (by omega) (by omega) q3 q2 (CvE_W hC q4 k35) (by rw [q4.I (by simp [ky]) (Or.inl fx_0)]; exact hr) (Nat.lt_of_lt_of_le hx (q4.C 35))
      rw [stK_2] at q1
      rw [nI_1] at q1
      exact ⟨Ω2, q1.trans p1, p2, p3, q4.trans p4⟩
    by_cases h : lowAt r lw[i].2.1 lw[i].2.2 0 ≤ 0
    · rw [if_pos h]
      have hst : (stK r lw[i] z).1 = z.1 := by unfold stK; rw [if_neg (by grind)]
      rw [hst] at key
      exact key
    · rw [if_neg h]
      have hst : (stK r lw[i] z).1 = z.1 ||| 2 ^ lw[i].1 := by unfold stK; rw [if_pos (by grind)]
      rw [hst] at key
      exact key
end S
