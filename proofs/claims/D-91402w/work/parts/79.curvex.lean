/-! ===== X's curve ===== -/
theorem CvE_W2 {Ω Ω' : zo_O} {j la lb a0 b0 : Nat} {lw up : bLs} {L : List (Nat × Nat)} (h : CvE Ω j la lb a0 b0 lw up) (w : Wx L Ω Ω') (hL : ∀ x ∈ L, x.1 ≠ 14 ∧ x.1 ≠ 16 ∧ x.1 ≠ 17 ∧ x ≠ (20, la) ∧ x ≠ (20, lb)) : CvE Ω' j la lb a0 b0 lw up := by
  obtain ⟨⟨r1, r2, r3⟩, ⟨s1, s2⟩, f1, f2, c1, ⟨c2, c3⟩, ⟨c4, c5⟩⟩ := h
  have n14 : ∀ n f, ky 14 n f ∉ L := fun n f m => (hL _ m).1 rfl
  have n16 : ∀ n f, ky 16 n f ∉ L := fun n f m => (hL _ m).2.1 rfl
  have n17 : ∀ n f, ky 17 n f ∉ L := fun n f m => (hL _ m).2.2.1 rfl
  refine ⟨⟨?_, ?_, ?_⟩, ⟨?_, ?_⟩, fun i t ht => ?_, fun i t ht => ?_, Nat.lt_of_lt_of_le c1 (w.C 14), ⟨Nat.lt_of_lt_of_le c2 (w.C 20), Nat.lt_of_lt_of_le c3 (w.C 20)⟩, ⟨Nat.le_trans c4 (w.C 16), Nat.le_trans c5 (w.C 17)⟩⟩
  · rw [w.R (n14 _ _) (Or.inr c1)]; exact r1
  · rw [w.R (n14 _ _) (Or.inr c1)]; exact r2
  · rw [w.R (n14 _ _) (Or.inr c1)]; exact r3
  · rw [w.S (fun m => (hL _ m).2.2.2.1 rfl) c2]; exact s1
  · rw [w.S (fun m => (hL _ m).2.2.2.2 rfl) c3]; exact s2
  · have : i < lw.length := by rw [List.getElem?_eq_some_iff] at ht; exact ht.1
    rw [w.I (n16 _ _) (Or.inr (by omega)), w.I (n16 _ _) (Or.inr (by omega)), w.I (n16 _ _) (Or.inr (by omega))]; exact f1 i t ht
  · have : i < up.length := by rw [List.getElem?_eq_some_iff] at ht; exact ht.1
    rw [w.I (n17 _ _) (Or.inr (by omega)), w.I (n17 _ _) (Or.inr (by omega)), w.I (n17 _ _) (Or.inr (by omega))]; exact f2 i t ht
theorem x_isDated {N s : Nat} {Ω : zo_O} : fn_X4_isDated N s Ω = some (some (vi (if gI Ω 2 s 5 ≠ -1 then 1 else 0)), Ω, 0, 0) := by
  unfold fn_X4_isDated fn_X4_isDated_13
  by_cases h : gI Ω 2 s 5 = -1
  · rw [if_pos h, if_neg (by simp [h])]; rfl
  · rw [if_neg h, if_pos h]; rfl
theorem x_isBy2 {N s : Nat} {Ω : zo_O} {kn : Int32} : fn_X3_isBy_2 N s kn Ω = some (some (vi (if gI Ω 2 s 0 ≤ kn then 1 else 0)), Ω, 0, 0) := by
  unfold fn_X3_isBy_2 fn_X3_isBy_2_13
  by_cases h : kn < gI Ω 2 s 0
  · rw [if_pos h, if_neg (by grind)]; rfl
  · rw [if_neg h, if_pos (by grind)]; rfl
theorem x_isLike {N s : Nat} {Ω : zo_O} {a b : Int32} : fn_X4_isLike N s a b Ω = some (some (vi (if gI Ω 2 s 2 = a ∧ gI Ω 2 s 3 = b then 1 else 0)), Ω, 0, 0) := by
  unfold fn_X4_isLike fn_X4_isLike_20 fn_X4_isLike_21
  by_cases h : gI Ω 2 s 2 = a
  · rw [if_pos h]
    by_cases h2 : gI Ω 2 s 3 = b
    · rw [if_pos h2, if_pos ⟨h, h2⟩]; rfl
    · rw [if_neg h2, if_neg (fun w => h2 w.2)]; rfl
  · rw [if_neg h, if_neg (fun w => h w.1)]; rfl
theorem Wx_nil {l : Nat} {Ω0 Ω Ω' : zo_O} (h : Wx [] Ω0 Ω) (w : Wx [(20, l)] Ω Ω') (hl : gC Ω0 20 ≤ l) : Wx [] Ω0 Ω' := by
  obtain ⟨a1, a2, a3, a4, a5, a6, a7⟩ := h
  obtain ⟨b1, b2, b3, b4, b5, b6, b7⟩ := w
  have hk : ∀ k n, (fx k ∨ n < gC Ω0 k) → (fx k ∨ n < gC Ω k) := fun k n h => by
    rcases h with h | h
    · exact Or.inl h
    · exact Or.inr (Nat.lt_of_lt_of_le h (a4 k))
  have hm : ∀ k n f, (fx k ∨ n < gC Ω0 k) → ky k n f ∉ [(20, l)] := by
    intro k n f h m
    simp only [List.mem_cons, List.not_mem_nil, or_false] at m
    unfold ky at m
    split at m
    · simp at m; omega
    · simp at m
      obtain ⟨rfl, rfl⟩ := m
      rcases h with h | h
      · unfold fx at h; omega
      · omega
  refine ⟨fun k n f m h => (b1 k n f (hm k n f h) (hk k n h)).trans (a1 k n f m h), fun k n f m h => (b2 k n f (hm k n f h) (hk k n h)).trans (a2 k n f m h), fun n m h => (b3 n ?_ (Nat.lt_of_lt_of_le h (a4 20))).trans (a3 n m h), fun k => Nat.le_trans (a4 k) (b4 k), fun k h => (b5 k h).trans (a5 k h), fun k n h => (b6 k n (hk k n h)).trans (a6 k n h), fun m f => (b7 (by simp) f).trans (a7 m f)⟩
  simp; omega
section U
variable {B : zo_O} (hB : Bse B) {q : Bool} {D : Nat → Nat → Int32} (hD : q = false → DBd D) {kn : Int32} {Ω0 : zo_O} {j la lb lg a0 b0 g0 kk : Nat} {sd bt but : Int32}
include hB
/-- how many circles are of sites below n -/
def cLt (B : zo_O) (n : Nat) : Nat → Nat
  | 0 => 0
  | c + 1 => cLt B n c + (if cst B c < n then 1 else 0)
def cEq (B : zo_O) (n : Nat) : Nat → Nat
  | 0 => 0
  | c + 1 => cEq B n c + (if cst B c = n then 1 else 0)
omit hB in
theorem cLt_succ {n : Nat} : ∀ c, cLt B (n + 1) c = cLt B n c + cEq B n c
  | 0 => rfl
  | c + 1 => by
    rw [cLt, cLt, cEq, cLt_succ c]
    by_cases h : cst B c < n
    · rw [if_pos h, if_pos (by omega), if_neg (by omega)]; omega
    · by_cases e : cst B c = n
      · rw [if_neg h, if_pos (by omega), if_pos e]; omega
      · rw [if_neg h, if_neg (by omega), if_neg e]; omega
omit hB in
theorem cLt_le {n : Nat} : ∀ c, cLt B n c ≤ c
  | 0 => Nat.le_refl _
  | c + 1 => by rw [cLt]; have := cLt_le (n := n) c; split <;> omega
omit hB in
theorem gY_len {s : Nat} {k : Int32} : ∀ c, (gY B q D kn s k c).length ≤ cEq B s c
  | 0 => by simp [gY, cEq]
  | c + 1 => by
    have ih := gY_len (s := s) (k := k) c
    rw [gY, cEq]
    split
    · rename_i h
      have : cst B c = s := by have := h.1; unfold mts at this; simp only [Bool.and_eq_true, decide_eq_true_eq] at this; exact this.1.1
      rw [List.length_append, if_pos this]; simp; omega
    · omega
omit hB in
theorem gAll_len {k : Int32} : ∀ n, (gAll B q D kn k sd bt but n).length ≤ cLt B n (gC B 3)
  | 0 => by simp [gAll]
  | n + 1 => by
    have ih := gAll_len (k := k) n
    have := gY_len (B := B) (q := q) (D := D) (kn := kn) (s := n) (k := k) (gC B 3)
    rw [gAll, List.length_append, cLt_succ]
    split
    · rw [List.length_map]; omega
    · simp; omega
omit hB in
theorem gAll_mem {k : Int32} {s : Nat} {y : Int32} : ∀ n, (s, y) ∈ gAll B q D kn k sd bt but n ↔ s < n ∧ elg B kn sd bt but s = true ∧ y ∈ gY B q D kn s k (gC B 3)
  | 0 => by simp [gAll]
  | n + 1 => by
    have ih := gAll_mem (k := k) (s := s) (y := y) n
    rw [gAll, List.mem_append, ih]
    constructor
    · rintro (⟨h1, h2⟩ | h)
      · exact ⟨by omega, h2⟩
      · split at h
        · rename_i he
          rw [List.mem_map] at h
          obtain ⟨y', h1, h2⟩ := h
          simp only [Prod.mk.injEq] at h2
          obtain ⟨rfl, rfl⟩ := h2
          exact ⟨by omega, he, h1⟩
        · simp at h
    · rintro ⟨h1, h2, h3⟩
      by_cases e : s = n
      · subst e
        right
        rw [if_pos h2, List.mem_map]
        exact ⟨y, h3, rfl⟩
      · exact Or.inl ⟨by omega, h2, h3⟩
/-- groups of the sites gone through -/
def GA (B : zo_O) (q : Bool) (D : Nat → Nat → Int32) (kn k : Int32) (gs : List (Nat × Int32)) (g0 : Nat) (Ω : zo_O) : Prop := ∀ p t, gs[p]? = some t → gR Ω 15 (g0 + p) 0 = some (2, t.1) ∧ gI Ω 15 (g0 + p) 1 = t.2 ∧ gI Ω 15 (g0 + p) 2 = gLo B q D kn t.1 k t.2 (gC B 3) ∧ gI Ω 15 (g0 + p) 3 = gHi B q D kn t.1 k t.2 (gC B 3)
omit hB in
theorem GA_W {k : Int32} {gs : List (Nat × Int32)} {Ω Ω' : zo_O} {L : List (Nat × Nat)} (h : GA B q D kn k gs g0 Ω) (w : Wx L Ω Ω') (hL : ∀ x ∈ L, x.1 ≠ 15) (hc : g0 + gs.length ≤ gC Ω 15) : GA B q D kn k gs g0 Ω' := by
  intro p t ht
  have hp : p < gs.length := by rw [List.getElem?_eq_some_iff] at ht; exact ht.1
  have n15 : ∀ n f, ky 15 n f ∉ L := fun n f m => (hL _ m) rfl
  rw [w.R (n15 _ _) (Or.inr (by omega)), w.I (n15 _ _) (Or.inr (by omega)), w.I (n15 _ _) (Or.inr (by omega)), w.I (n15 _ _) (Or.inr (by omega))]
  exact h p t ht
include hD
theorem x_cv51 {N : Nat} (hN : 130 ≤ N) (hkk : kk < 3) (hE0 : EX B q D Ω0) (hlg : gC Ω0 20 ≤ lg) (hgl : gC Ω0 15 = g0) (hbut : gI Ω0 0 0 19 = but) (hla : lg ≠ la) (hlb : lg ≠ lb) {x5 : Int32} : ∀ m i n Ω, i + m = gC B 2 → m < n → Wx [] Ω0 Ω → lg < gC Ω 20 → gS Ω lg = tkf 15 g0 (gAll B q D kn (nI kk) sd bt but i).length → gC Ω 15 = g0 + (gAll B q D kn (nI kk) sd bt but i).length → GA B q D kn (nI kk) (gAll B q D kn (nI kk) sd bt but i) g0 Ω → CvG Ω j la lb a0 b0 [] [] → ∃ Ω' cc ss, fn_X1_curve_51 N n (nI kk) sd bt kn x5 j lg (nI i) Ω = ad cc ss (fn_X1_curve_134 N N (nI kk) kn x5 j lg 0 Ω') ∧ Wx [] Ω0 Ω' ∧ lg < gC Ω' 20 ∧ gS Ω' lg = tkf 15 g0 (gAll B q D kn (nI kk) sd bt but (gC B 2)).length ∧ gC Ω' 15 = g0 + (gAll B q D kn (nI kk) sd bt but (gC B 2)).length ∧ GA B q D kn (nI kk) (gAll B q D kn (nI kk) sd bt but (gC B 2)) g0 Ω' ∧ CvG Ω' j la lb a0 b0 [] [] ∧ cc + (gAll B q D kn (nI kk) sd bt but i).length + KC (gAll B q D kn (nI kk) sd bt but i).length = (gAll B q D kn (nI kk) sd bt but (gC B 2)).length + KC (gAll B q D kn (nI kk) sd bt but (gC B 2)).length ∧ ss + 4 * (gAll B q D kn (nI kk) sd bt but i).length + KS (gAll B q D kn (nI kk) sd bt but i).length = 4 * (gAll B q D kn (nI kk) sd bt but (gC B 2)).length + KS (gAll B q D kn (nI kk) sd bt but (gC B 2)).length := by
  have h14 := n_2 hB
  have h120 := n_3 hB
  obtain ⟨hS0, _⟩ := b_s hB
  have h7 : 7 ≤ gC B 20 := hB.2.2.2.2.2.2.2.1
  intro m
  induction m with
  | zero =>
    intro i n Ω hi hn hW hlgc hS hC hG hCv
    obtain ⟨n, rfl⟩ : ∃ k, n = k + 1 := ⟨n - 1, by omega⟩
    have : i = gC B 2 := by omega
    subst this
    have hw : Wx sS0 B Ω := hE0.1.step hW (by simp)
    unfold fn_X1_curve_51 bd_X1_curve_51
    rw [x_size, ci_mk, hw.S (by simp [sS0, sQ]) (by omega), hS0, tks_len, if_pos (by grind)]
    exact ⟨Ω, 0, 0, (ad_0 _).symm, hW, hlgc, hS, hC, hG, hCv, by omega, by omega⟩
  | succ m ih =>
    intro i n Ω hi hn hW hlgc hS hC hG hCv
    obtain ⟨n, rfl⟩ : ∃ k, n = k + 1 := ⟨n - 1, by omega⟩
    have hil : i < gC B 2 := by omega
    have hw : Wx sS0 B Ω := hE0.1.step hW (by simp)
    have hE : EX B q D Ω := hE0.step hW (by simp) (by simp)
    have hSO : gS Ω 0 = tks 2 (gC B 2) := by rw [hw.S (by simp [sS0, sQ]) (by omega)]; exact hS0
    have hgt := x_get (N := N) (l := 0) (i := i) (Ω := Ω) (by rw [hSO, tks_len]; omega) (by rw [hSO, tks_len]; omega)
    rw [hSO, tks_get hil] at hgt
    obtain ⟨y0, y1, y2, y3, y4, y5⟩ := sitX hB hw hil
    have x19 : gI Ω 0 0 19 = but := by rw [hW.I (by simp) (Or.inl fx_0)]; exact hbut
    have hgAl := gAll_len (B := B) (q := q) (D := D) (kn := kn) (sd := sd) (bt := bt) (but := but) (k := nI kk) i
    have hcl := cLt_le (B := B) (n := i) (gC B 3)
    unfold fn_X1_curve_51 bd_X1_curve_51 fn_X1_curve_125
    rw [x_size, ci_mk, hSO, tks_len, if_neg (by rw [nI_leI (by omega) (by omega)]; omega), hgt, cr_mk, bk_mk]
    have no : elg B kn sd bt but i ≠ true → ∃ Ω' cc ss, fn_X1_curve_51 N n (nI kk) sd bt kn x5 j lg (nI i + 1) Ω = ad cc ss (fn_X1_curve_134 N N (nI kk) kn x5 j lg 0 Ω') ∧ Wx [] Ω0 Ω' ∧ lg < gC Ω' 20 ∧ gS Ω' lg = tkf 15 g0 (gAll B q D kn (nI kk) sd bt but (gC B 2)).length ∧ gC Ω' 15 = g0 + (gAll B q D kn (nI kk) sd bt but (gC B 2)).length ∧ GA B q D kn (nI kk) (gAll B q D kn (nI kk) sd bt but (gC B 2)) g0 Ω' ∧ CvG Ω' j la lb a0 b0 [] [] ∧ cc + (gAll B q D kn (nI kk) sd bt but i).length + KC (gAll B q D kn (nI kk) sd bt but i).length = (gAll B q D kn (nI kk) sd bt but (gC B 2)).length + KC (gAll B q D kn (nI kk) sd bt but (gC B 2)).length ∧ ss + 4 * (gAll B q D kn (nI kk) sd bt but i).length + KS (gAll B q D kn (nI kk) sd bt but i).length = 4 * (gAll B q D kn (nI kk) sd bt but (gC B 2)).length + KS (gAll B q D kn (nI kk) sd bt but (gC B 2)).length := by
      intro h
      have e : gAll B q D kn (nI kk) sd bt but (i + 1) = gAll B q D kn (nI kk) sd bt but i := by rw [gAll, if_neg h, List.append_nil]
      have := ih (i + 1) n Ω (by omega) (by omega) hW hlgc (by rw [e]; exact hS) (by rw [e]; exact hC) (by rw [e]; exact hG) hCv
      rw [e] at this
      rw [nI_1]
      exact this
    simp only [x_isDated, x_isBy2, x_isLike, ci_mk, if_10, y0, y2, y3, y5, x19]
    by_cases h1 : gI B 32 3 i ≠ -1
    · rw [if_pos h1]
      by_cases h2 : gI B 32 4 i ≤ kn
      · rw [if_pos h2]
        by_cases h3 : gI B 32 0 i = sd ∧ gI B 32 1 i = bt
        · rw [if_pos h3]
          by_cases h4 : nI i = but
          · rw [if_pos h4]; exact no (by simp [elg, h4])
          · rw [if_neg h4]
            have he : elg B kn sd bt but i = true := by simp [elg, h1, h2, h3, h4]
            have e : gAll B q D kn (nI kk) sd bt but (i + 1) = gAll B q D kn (nI kk) sd bt but i ++ (gY B q D kn i (nI kk) (gC B 3)).map (fun y => (i, y)) := by rw [gAll, if_pos he]
            have hB20 := hE0.1.C 20
            obtain ⟨Ω1, c1, s1, p1, p2, p3, p4, p5, p6, p7, p8, p9⟩ := x_groups hB hD (s := i) (k := nI kk) (kn := kn) (l := lg) (N := N) (Ω := Ω) hN hE (by omega) hlgc (by rw [hS]; exact tkf_all (by decide)) (by rw [hS, tkf_len]; omega)
            rw [hS, tkf_len] at p8 p9
            have hl1 : (gAll B q D kn (nI kk) sd bt but (i + 1)).length = (gAll B q D kn (nI kk) sd bt but i).length + (gY B q D kn i (nI kk) (gC B 3)).length := by rw [e, List.length_append, List.length_map]
            have W1 := Wx_nil hW p3 hlg
            have tk : tkf 15 g0 (gAll B q D kn (nI kk) sd bt but i).length ++ tkf 15 (g0 + (gAll B q D kn (nI kk) sd bt but i).length) (gY B q D kn i (nI kk) (gC B 3)).length = tkf 15 g0 ((gAll B q D kn (nI kk) sd bt but i).length + (gY B q D kn i (nI kk) (gC B 3)).length) := by
              unfold tkf
              rw [List.range_add, List.map_append, List.map_map]
              congr 1
              apply List.map_congr_left
              intro a _
              simp only [Function.comp, Prod.mk.injEq, true_and]
              omega
            obtain ⟨Ω', cc, ss, k1, k2, k2', k3, k4, k5, k6, k7, k8⟩ := ih (i + 1) n Ω1 (by omega) (by omega) W1 (by rw [p7 20 (by decide)]; exact hlgc) (by rw [p4, hS, hC, tk, hl1]) (by rw [p5, hC, hl1]; omega) (fun p t ht => by
                rw [e] at ht
                by_cases hp : p < (gAll B q D kn (nI kk) sd bt but i).length
                · rw [List.getElem?_append_left hp] at ht
                  exact GA_W hG p3 (by simp) (by omega) p t ht
                · rw [List.getElem?_append_right (by omega), List.getElem?_map, Option.map_eq_some_iff] at ht
                  obtain ⟨y, hy1, hy2⟩ := ht
                  subst hy2
                  have := p6 _ y hy1
                  rw [hC, show g0 + (gAll B q D kn (nI kk) sd bt but i).length + (p - (gAll B q D kn (nI kk) sd bt but i).length) = g0 + p by omega] at this
                  exact this) ⟨CvE_W2 hCv.1 p3 (by simp [hla, hlb]), by rw [p7 16 (by decide)]; exact hCv.2.1, by rw [p7 17 (by decide)]; exact hCv.2.2.1, hCv.2.2.2⟩
            refine ⟨Ω', cc + c1, ss + s1, ?_, k2, k2', k3, k4, k5, k6, ?_, ?_⟩
            · rw [p1]
              show ad c1 s1 (fn_X1_curve_51 N n (nI kk) sd bt kn x5 j lg (nI i + 1) Ω1) = _
              rw [nI_1, k1]
              cases fn_X1_curve_134 N N (nI kk) kn x5 j lg 0 Ω' with
              | none => rfl
              | some z => simp [ad]; omega
            · rw [hl1] at k7; omega
            · rw [hl1] at k8; omega
        · rw [if_neg h3]; exact no (by simp [elg]; grind)
      · rw [if_neg h2]; exact no (by simp [elg, h2])
    · rw [if_neg h1]; exact no (by simp [elg]; grind)
end U
