/-! ===== X's curve: whole ===== -/
theorem optL_fm (f : Nat × Int32 → Option (Nat × Int32 × Int32)) : ∀ (gs : List (Nat × Int32)) (l : bLs), gs.foldl (fun l t => optL l (f t)) l = l ++ gs.filterMap f
  | [], l => by simp
  | t :: gs, l => by
    rw [List.foldl_cons, optL_fm f gs, List.filterMap_cons]
    cases h : f t with
    | none => simp [optL]
    | some x => simp [optL]
def lws (B : zo_O) (q : Bool) (D : Nat → Nat → Int32) (kn : Int32) (kk : Nat) (sd bt but : Int32) : bLs := (gAll B q D kn (nI kk) sd bt but (gC B 2)).filterMap (lwF B q D kn (nI kk))
def ups (B : zo_O) (q : Bool) (D : Nat → Nat → Int32) (kn : Int32) (kk : Nat) (sd bt but : Int32) : bLs := (gAll B q D kn (nI kk) sd bt but (gC B 2)).filterMap (upF B q D kn kk)
def CvK (B : zo_O) (q : Bool) (D : Nat → Nat → Int32) (kn : Int32) (kk : Nat) (sd bt but : Int32) (Ω : zo_O) (j : Nat) : Prop := ∃ la lb a0 b0 R, CvE Ω j la lb a0 b0 (lws B q D kn kk sd bt but) (ups B q D kn kk sd bt but) ∧ gI Ω 14 j 2 = nI R ∧ R < 2 ^ gC B 2 ∧ cvE (cfl (gI B 1 0 42) (lws B q D kn kk sd bt but) (ups B q D kn kk sd bt but)) (alo (gI B 1 0 42) (lws B q D kn kk sd bt but)) R ∧ ∀ S, S < 2 ^ gC B 2 → cvE (cfl (gI B 1 0 42) (lws B q D kn kk sd bt but) (ups B q D kn kk sd bt but)) (alo (gI B 1 0 42) (lws B q D kn kk sd bt but)) S → bet R S
theorem CvK_W {B Ω Ω' : zo_O} {q : Bool} {D : Nat → Nat → Int32} {kn : Int32} {kk : Nat} {sd bt but : Int32} {j : Nat} {L : List (Nat × Nat)} (h : CvK B q D kn kk sd bt but Ω j) (w : Wx L Ω Ω') (hL : ∀ x ∈ L, x.1 ≠ 14 ∧ x.1 ≠ 16 ∧ x.1 ≠ 17 ∧ x.1 ≠ 20) : CvK B q D kn kk sd bt but Ω' j := by
  obtain ⟨la, lb, a0, b0, R, h1, h2, h3⟩ := h
  refine ⟨la, lb, a0, b0, R, CvE_W h1 w hL, ?_, h3⟩
  rw [w.I (fun m => (hL _ m).1 rfl) (Or.inr h1.2.2.2.2.1)]; exact h2
theorem nfx14 : ¬ fx 14 := by unfold fx; omega
theorem CvE_s {Ω : zo_O} {j la lb a0 b0 : Nat} {lw up : bLs} {v : Int32} (h : CvE Ω j la lb a0 b0 lw up) : CvE (sI Ω 14 j 2 v) j la lb a0 b0 lw up := by
  obtain ⟨r, s, f1, f2, c⟩ := h
  refine ⟨r, s, fun i t ht => ?_, fun i t ht => ?_, c⟩
  · simp only [gI_sI]
    simpa using f1 i t ht
  · simp only [gI_sI]
    simpa using f2 i t ht
def cvN (Ω : zo_O) : Nat → Nat
  | 0 => 0
  | i + 1 => cvN Ω i + (if gR Ω 39 0 i = none then 1 else 0)
theorem cvN_set {Ω Ω' : zo_O} {x : Nat} (h0 : gR Ω 39 0 x = none) (h1 : gR Ω' 39 0 x ≠ none) (h : ∀ i, i ≠ x → gR Ω' 39 0 i = gR Ω 39 0 i) : ∀ n, cvN Ω n = cvN Ω' n + (if x < n then 1 else 0)
  | 0 => by simp [cvN]
  | n + 1 => by
    rw [cvN, cvN, cvN_set h0 h1 h n]
    by_cases e : n = x
    · subst e
      rw [if_pos h0, if_neg h1, if_neg (by omega), if_pos (by omega)]
    · rw [h n e]
      by_cases g : x < n
      · rw [if_pos g, if_pos (show x < n + 1 by omega)]; omega
      · rw [if_neg g, if_neg (show ¬ x < n + 1 by omega)]; omega
theorem cvN_same {Ω Ω' : zo_O} (h : ∀ i, gR Ω' 39 0 i = gR Ω 39 0 i) : ∀ n, cvN Ω' n = cvN Ω n
  | 0 => rfl
  | n + 1 => by rw [cvN, cvN, h n, cvN_same h n]
theorem cvN_le (Ω : zo_O) : ∀ n, cvN Ω n ≤ n
  | 0 => Nat.le_refl _
  | n + 1 => by rw [cvN]; have := cvN_le Ω n; split <;> omega
def cIx (kk s b : Nat) : Nat := (kk * 2 + s) * 3 + b
/-- the curves kept so far -/
def CvA (B : zo_O) (q : Bool) (D : Nat → Nat → Int32) (kn but : Int32) (Ω : zo_O) : Prop := ∀ kk s b, kk < 3 → s < 2 → b < 3 → gR Ω 39 0 (cIx kk s b) = none ∨ ∃ j, gR Ω 39 0 (cIx kk s b) = some (14, j) ∧ CvK B q D kn kk (nI s) (nI b) but Ω j
section U
variable {B : zo_O} (hB : Bse B) {q : Bool} {D : Nat → Nat → Int32} (hD : q = false → DBd D) {kn : Int32} {Ω0 : zo_O} {j la lb lg a0 b0 g0 kk : Nat} {sd bt but : Int32}
include hB
theorem x_cv134 {N at' : Nat} (hN : 40000 ≤ N) (hkk : kk < 3) (hw0 : Wx sS0 B Ω0) (hla0 : gC Ω0 20 ≤ la) (hlb0 : gC Ω0 20 ≤ lb) (ha0 : gC Ω0 16 ≤ a0) (hb0 : gC Ω0 17 ≤ b0) (hj0 : gC Ω0 14 ≤ j) (hla : lg ≠ la) (hlb : lg ≠ lb) (hat : at' < 18) {gs : List (Nat × Int32)} (hgs : gs.length ≤ 120) (hgS : ∀ t ∈ gs, t.1 < gC B 2) : ∀ m p n Ω lw up, p + m = gs.length → m < n → lw.length ≤ p → up.length ≤ p → (∀ t ∈ lw, t.1 < gC B 2) → (∀ t ∈ up, t.1 < gC B 2) → Wx [] Ω0 Ω → lg < gC Ω 20 → gS Ω lg = tkf 15 g0 gs.length → g0 + gs.length ≤ gC Ω 15 → GA B q D kn (nI kk) gs g0 Ω → CvG Ω j la lb a0 b0 lw up → ∃ Ω' R cc ss, fn_X1_curve_134 N n (nI kk) kn (nI at') j lg (nI p) Ω = some (some (vr 14 j), sR Ω' 39 0 at' (some (14, j)), cc, ss) ∧ Wx [] Ω0 Ω' ∧ CvE Ω' j la lb a0 b0 (lw ++ (gs.drop p).filterMap (lwF B q D kn (nI kk))) (up ++ (gs.drop p).filterMap (upF B q D kn kk)) ∧ gI Ω' 14 j 2 = nI R ∧ R < 2 ^ gC B 2 ∧ cvE (cfl (gI B 1 0 42) (lw ++ (gs.drop p).filterMap (lwF B q D kn (nI kk))) (up ++ (gs.drop p).filterMap (upF B q D kn kk))) (alo (gI B 1 0 42) (lw ++ (gs.drop p).filterMap (lwF B q D kn (nI kk)))) R ∧ (∀ S, S < 2 ^ gC B 2 → cvE (cfl (gI B 1 0 42) (lw ++ (gs.drop p).filterMap (lwF B q D kn (nI kk))) (up ++ (gs.drop p).filterMap (upF B q D kn kk))) (alo (gI B 1 0 42) (lw ++ (gs.drop p).filterMap (lwF B q D kn (nI kk)))) S → bet R S) ∧ cc + (lw.length + KC lw.length) + (up.length + KC up.length) = 1 + ((lw ++ (gs.drop p).filterMap (lwF B q D kn (nI kk))).length + KC (lw ++ (gs.drop p).filterMap (lwF B q D kn (nI kk))).length) + ((up ++ (gs.drop p).filterMap (upF B q D kn kk)).length + KC (up ++ (gs.drop p).filterMap (upF B q D kn kk)).length) ∧ ss + (3 * lw.length + KS lw.length) + (3 * up.length + KS up.length) = 14 + (3 * (lw ++ (gs.drop p).filterMap (lwF B q D kn (nI kk))).length + KS (lw ++ (gs.drop p).filterMap (lwF B q D kn (nI kk))).length) + (3 * (up ++ (gs.drop p).filterMap (upF B q D kn kk)).length + KS (up ++ (gs.drop p).filterMap (upF B q D kn kk)).length) := by
  have h14 := n_2 hB
  intro m
  induction m with
  | zero =>
    intro p n Ω lw up hp hn hl1 hl2 hs1 hs2 hW hlgc hS hC hG hCv
    obtain ⟨n, rfl⟩ : ∃ k, n = k + 1 := ⟨n - 1, by omega⟩
    have : p = gs.length := by omega
    subst this
    have hw : Wx sS0 B Ω := hw0.step hW (by simp)
    have hr : gI Ω 0 0 10 = gI B 1 0 42 := by rw [w_x hw (by decide)]; exact rate_x hB
    obtain ⟨Ω1, R, p1, p2, p4, p5, p6⟩ := x_strikes (N := N) h14 hs1 hs2 (by omega) (by omega) hN hCv.1 hr
    have W' : Wx [] Ω0 (sI Ω1 14 j 2 (nI R)) := (hW.trans p2).sI (Or.inr ⟨nfx14, hj0⟩)
    have C' : CvE (sI Ω1 14 j 2 (nI R)) j la lb a0 b0 lw up := CvE_s (CvE_W hCv.1 p2 (by simp))
    unfold fn_X1_curve_134 bd_X1_curve_134
    rw [x_size, ci_mk, hS, tkf_len, if_pos (by grind), p1]
    simp only [List.drop_length, List.filterMap_nil, List.append_nil]
    refine ⟨sI Ω1 14 j 2 (nI R), R, 1, 14, ?_, W', C', by rw [gI_sI, if_pos ⟨rfl, rfl, rfl⟩], p4, p5, p6, by omega, by omega⟩
    show ad 1 14 (ix (nI at') 18 fun j5 => lt (sR (sI Ω1 14 j 2 (nI R)) 39 0 j5 (some (14, j))) fun Ω6 => rR (some (14, j)) Ω6) = _
    rw [ix_n hat (by decide)]
    rfl
  | succ m ih =>
    intro p n Ω lw up hp hn hl1 hl2 hs1 hs2 hW hlgc hS hC hG hCv
    obtain ⟨n, rfl⟩ : ∃ k, n = k + 1 := ⟨n - 1, by omega⟩
    have hpl : p < gs.length := by omega
    have hgt := x_get (N := N) (l := lg) (i := p) (Ω := Ω) (by rw [hS, tkf_len]; omega) (by rw [hS, tkf_len]; omega)
    rw [hS, tkf_get hpl] at hgt
    obtain ⟨g1, g2, g3, g4⟩ := hG p gs[p] (List.getElem?_eq_getElem hpl)
    have hs := hgS gs[p] (List.getElem_mem hpl)
    unfold fn_X1_curve_134 bd_X1_curve_134
    rw [x_size, ci_mk, hS, tkf_len, if_neg (by rw [nI_leI (by omega) (by omega)]; omega), hgt, cr_mk, bk_mk]
    obtain ⟨Ω1, c1, s1, p1, p2, p3, p4, p5, p6⟩ := x_asks (q := q) (D := D) hB (N := N) (g := g0 + p) (s := gs[p].1) (y := gs[p].2) (Ω := Ω) (by omega) hw0 hW hkk hs hla0 hlb0 ha0 hb0 hCv (by omega) (by omega) (by omega) g1 g2 g3 g4
    rw [p1]
    have hd : gs.drop p = gs[p] :: gs.drop (p + 1) := List.drop_eq_getElem_cons hpl
    have eL : lw ++ (gs.drop p).filterMap (lwF B q D kn (nI kk)) = optL lw (lwF B q D kn (nI kk) (gs[p].1, gs[p].2)) ++ (gs.drop (p + 1)).filterMap (lwF B q D kn (nI kk)) := by
      rw [hd, List.filterMap_cons]
      show _ = optL lw (lwF B q D kn (nI kk) gs[p]) ++ _
      cases lwF B q D kn (nI kk) gs[p] <;> simp [optL]
    have eU : up ++ (gs.drop p).filterMap (upF B q D kn kk) = optL up (upF B q D kn kk (gs[p].1, gs[p].2)) ++ (gs.drop (p + 1)).filterMap (upF B q D kn kk) := by
      rw [hd, List.filterMap_cons]
      show _ = optL up (upF B q D kn kk gs[p]) ++ _
      cases upF B q D kn kk gs[p] <;> simp [optL]
    have lL : (optL lw (lwF B q D kn (nI kk) (gs[p].1, gs[p].2))).length ≤ p + 1 := by
      cases lwF B q D kn (nI kk) (gs[p].1, gs[p].2) <;> simp [optL] <;> omega
    have lU : (optL up (upF B q D kn kk (gs[p].1, gs[p].2))).length ≤ p + 1 := by
      cases upF B q D kn kk (gs[p].1, gs[p].2) <;> simp [optL] <;> omega
    have sL : ∀ t ∈ optL lw (lwF B q D kn (nI kk) (gs[p].1, gs[p].2)), t.1 < gC B 2 := by
      intro t ht
      cases hh : lwF B q D kn (nI kk) (gs[p].1, gs[p].2) with
      | none => rw [hh] at ht; exact hs1 t ht
      | some x =>
        rw [hh] at ht
        have ht : t ∈ lw ++ [x] := ht
        rw [List.mem_append] at ht
        rcases ht with ht | ht
        · exact hs1 t ht
        · simp only [List.mem_cons, List.not_mem_nil, or_false] at ht
          subst ht
          unfold lwF at hh
          split at hh
          · simp only [Option.some.injEq] at hh; rw [← hh]; exact hs
          · simp at hh
    have sU : ∀ t ∈ optL up (upF B q D kn kk (gs[p].1, gs[p].2)), t.1 < gC B 2 := by
      intro t ht
      cases hh : upF B q D kn kk (gs[p].1, gs[p].2) with
      | none => rw [hh] at ht; exact hs2 t ht
      | some x =>
        rw [hh] at ht
        have ht : t ∈ up ++ [x] := ht
        rw [List.mem_append] at ht
        rcases ht with ht | ht
        · exact hs2 t ht
        · simp only [List.mem_cons, List.not_mem_nil, or_false] at ht
          subst ht
          unfold upF at hh
          split at hh
          · simp only [Option.some.injEq] at hh; rw [← hh]; exact hs
          · simp at hh
    obtain ⟨Ω', R, cc, ss, k1, k2, k3, k4, k5, k6, k7, k8, k9⟩ := ih (p + 1) n Ω1 _ _ (by omega) (by omega) lL lU sL sU p2 (Nat.lt_of_lt_of_le hlgc (p3.C 20)) (by rw [p3.S (by simp [hla, hlb]) hlgc]; exact hS) (Nat.le_trans hC (p3.C 15)) (GA_W hG p3 (by simp) hC) p4
    rw [eL, eU]
    refine ⟨Ω', R, cc + c1, ss + s1, ?_, k2, k3, k4, k5, k6, k7, by omega, by omega⟩
    show ad c1 s1 (fn_X1_curve_134 N n (nI kk) kn (nI at') j lg (nI p + 1) Ω1) = _
    rw [nI_1, k1]
    rfl
end U
