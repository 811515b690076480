/-! ===== the same bounds in both ===== -/
theorem least_ex {P : Nat → Prop} : ∀ n, P n → ∃ m, m ≤ n ∧ P m ∧ ∀ o, o < m → ¬ P o := by
  intro n
  induction n using Nat.strongRecOn with
  | ind n ih =>
    intro h
    by_cases e : ∃ o, o < n ∧ P o
    · obtain ⟨o, o1, o2⟩ := e
      obtain ⟨m, m1, m2, m3⟩ := ih o o1 o2
      exact ⟨m, by omega, m2, m3⟩
    · exact ⟨n, Nat.le_refl _, h, fun o o1 o2 => e ⟨o, o1, o2⟩⟩
section U
variable {B : zo_O} (hB : Bse B) {q : Bool} {D : Nat → Nat → Int32} (hD : q = false → DBd D) {kn : Int32} {kk : Nat} {sd bt but : Int32}
include hB
theorem syear_b {s : Nat} (hs : s < gC B 2) (h : gI B 32 3 s ≠ -1) : 1000 ≤ (gI B 32 3 s).toInt ∧ (gI B 32 3 s).toInt ≤ 2100 := by
  obtain ⟨_, _, _, _, hy, _⟩ := hB.2.2.1 s hs
  rcases hy with hy | hy
  · exact absurd hy h
  · rw [fa_le, fa_le] at hy; exact hy
theorem agO_b {s c : Nat} (hs : s < gC B 2) (hc : c < gC B 3) (h : gI B 32 3 s ≠ -1) : (agO B (s, gI B 32 10 c)).toInt = (gI B 32 10 c).toInt - (gI B 32 3 s).toInt := by
  have h1 := syear_b hB hs h
  have h2 := year_b hB hc
  show (gI B 32 10 c - gI B 32 3 s).toInt = _
  exact fi_sub (by omega) (by omega)
theorem agO_nn {s c : Nat} (hs : s < gC B 2) (hc : c < gC B 3) (h : gI B 32 3 s ≠ -1) : 0 ≤ agO B (s, gI B 32 10 c) ↔ ¬ gI B 32 10 c < gI B 32 3 s := by
  rw [fa_le, fa_lt, agO_b hB hs hc h]
  have : (0 : Int32).toInt = 0 := rfl
  omega
include hD
/-- groups told by a circle that is the first of them -/
theorem mCd_all {c : Nat} (hc : c < gC B 3) (h : mCd B q D kn (nI kk) sd bt but c = true) : (cst B c, gI B 32 10 c) ∈ gAll B q D kn (nI kk) sd bt but (gC B 2) ∧ 0 ≤ agO B (cst B c, gI B 32 10 c) := by
  unfold mCd at h
  simp only [Bool.and_eq_true, decide_eq_true_eq] at h
  obtain ⟨⟨⟨⟨⟨⟨⟨h1, h2⟩, h3⟩, h4⟩, h5⟩, h6⟩, h7⟩, h8⟩ := h
  have hs := (cir_s hB hc).1
  have hy : gI B 32 10 c ∈ gY B q D kn (cst B c) (nI kk) (gC B 3) := by
    cases Classical.em (gI B 32 10 c ∈ gY B q D kn (cst B c) (nI kk) (gC B 3)) with
    | inl h => exact h
    | inr h => exact absurd ((gLo_iff hB hD).2 h) h8
  refine ⟨(gAll_mem (gC B 2)).2 ⟨hs, ?_, hy⟩, (agO_nn hB hs hc h3).2 h6⟩
  obtain ⟨c', c1, c2⟩ := (gY_mem (gC B 3)).1 hy
  unfold mtc at c2
  simp only [Bool.and_eq_true, decide_eq_true_eq] at c2
  obtain ⟨⟨⟨d1, d2⟩, d3⟩, d4⟩ := c2
  unfold sU at d4
  simp only [Bool.and_eq_true, decide_eq_true_eq] at d4
  have hk := d4.1.1.2
  obtain ⟨s, s1, s2, _, s4, _⟩ := hB.2.2.2.1 c' c1
  have e : s = cst B c := by
    have h14 := n_2 hB
    rw [← d1]; unfold cst; rw [s2, nI_clamp (by omega)]
  rw [e] at s4
  simp [elg, h2, h3, h4, h5]
  grind
theorem all_mCd {s : Nat} {y : Int32} (h : (s, y) ∈ gAll B q D kn (nI kk) sd bt but (gC B 2)) (h0 : 0 ≤ agO B (s, y)) : ∃ c, c < gC B 3 ∧ mCd B q D kn (nI kk) sd bt but c = true ∧ cst B c = s ∧ gI B 32 10 c = y := by
  obtain ⟨hs, he, hy⟩ := (gAll_mem (gC B 2)).1 h
  unfold elg at he
  simp only [Bool.and_eq_true, decide_eq_true_eq] at he
  obtain ⟨⟨⟨⟨e1, e2⟩, e3⟩, e4⟩, e5⟩ := he
  obtain ⟨c', c1, c2⟩ := (gY_mem (gC B 3)).1 hy
  unfold mtc at c2
  simp only [Bool.and_eq_true, decide_eq_true_eq] at c2
  obtain ⟨⟨⟨d1, d2⟩, d3⟩, d4⟩ := c2
  obtain ⟨c, m1, ⟨m2, m3, m4⟩, m5⟩ := least_ex (P := fun c => gI B 32 5 c = gI B 32 5 c' ∧ gI B 32 6 c = gI B 32 6 c' ∧ gI B 32 10 c = gI B 32 10 c') c' ⟨rfl, rfl, rfl⟩
  have hcs : cst B c = s := by unfold cst; rw [m2]; exact d1
  have hyc : gI B 32 10 c = y := m4.trans d3
  have hcl : c < gC B 3 := by omega
  have hF : isF B c = true := by
    unfold isF
    rw [decide_eq_true_eq]
    rintro o ho ⟨o1, o2, o3⟩
    exact m5 o ho ⟨o1.trans m2, o2.trans m3, o3.trans m4⟩
  have hg : gLo B q D kn s (nI kk) y (gC B 3) ≠ -1 := fun w => ((gLo_iff hB hD).1 w) hy
  refine ⟨c, hcl, ?_, hcs, hyc⟩
  have hn : ¬ gI B 32 10 c < gI B 32 3 s := (agO_nn hB hs hcl e1).1 (by rw [hyc]; exact h0)
  unfold mCd
  rw [hcs, hyc, hF, m3, d2, ← hyc]
  simp [e1, e3, e4, e5, hn]
  rw [hyc]; exact hg
omit hD in
theorem bM_mem {t : Nat × Int32 × Int32 × Bool} : ∀ n, t ∈ bM B q D kn kk sd bt but n ↔ ∃ c, c < n ∧ mCd B q D kn (nI kk) sd bt but c = true ∧ t ∈ mOne B q D kn kk (cst B c, gI B 32 10 c)
  | 0 => by simp [bM]
  | n + 1 => by
    have ih := bM_mem (t := t) n
    rw [bM, List.mem_append, ih]
    constructor
    · rintro (⟨c, c1, c2⟩ | h)
      · exact ⟨c, by omega, c2⟩
      · split at h
        · rename_i hc; exact ⟨n, by omega, hc, h⟩
        · simp at h
    · rintro ⟨c, c1, c2, c3⟩
      by_cases e : c = n
      · subst e; right; rw [if_pos c2]; exact c3
      · exact Or.inl ⟨c, by omega, c2, c3⟩
theorem bM_low {s : Nat} {a v : Int32} : (s, a, v, false) ∈ bM B q D kn kk sd bt but (gC B 3) ↔ (s, a, v) ∈ lws B q D kn kk sd bt but := by
  unfold lws
  rw [bM_mem hB, List.mem_filterMap]
  constructor
  · rintro ⟨c, c1, c2, c3⟩
    obtain ⟨k1, k2⟩ := mCd_all hB hD c1 c2
    refine ⟨_, k1, ?_⟩
    unfold mOne at c3
    rw [List.mem_append] at c3
    unfold lwF
    rcases c3 with h | h
    · split at h
      · rename_i hc
        simp only [List.mem_cons, List.not_mem_nil, or_false, Prod.mk.injEq, and_true] at h
        rw [if_pos hc, h.1, h.2.1, h.2.2]
      · simp at h
    · split at h
      · split at h
        · simp at h
        · simp at h
      · simp at h
  · rintro ⟨⟨s', y⟩, k1, k2⟩
    unfold lwF at k2
    split at k2
    · rename_i hc
      simp only [Option.some.injEq, Prod.mk.injEq] at k2
      obtain ⟨rfl, rfl, rfl⟩ := k2
      obtain ⟨c, c1, c2, c3, c4⟩ := all_mCd hB hD k1 hc.1
      refine ⟨c, c1, c2, ?_⟩
      rw [c3, c4]
      unfold mOne
      rw [List.mem_append, if_pos hc]
      exact Or.inl (by simp)
    · simp at k2
theorem bM_up {s : Nat} {a v : Int32} : (s, a, v, true) ∈ bM B q D kn kk sd bt but (gC B 3) ↔ (s, a, v) ∈ ups B q D kn kk sd bt but := by
  unfold ups
  rw [bM_mem hB, List.mem_filterMap]
  constructor
  · rintro ⟨c, c1, c2, c3⟩
    obtain ⟨k1, k2⟩ := mCd_all hB hD c1 c2
    refine ⟨_, k1, ?_⟩
    unfold mOne at c3
    rw [List.mem_append] at c3
    unfold upF
    rcases c3 with h | h
    · split at h
      · simp at h
      · simp at h
    · split at h
      · rename_i h1
        split at h
        · rename_i hc
          simp only [List.mem_cons, List.not_mem_nil, or_false, Prod.mk.injEq, and_true] at h
          rw [if_pos ⟨k2, h1, hc⟩, h.1, h.2.1, h.2.2]
        · simp at h
      · simp at h
  · rintro ⟨⟨s', y⟩, k1, k2⟩
    unfold upF at k2
    split at k2
    · rename_i hc
      simp only [Option.some.injEq, Prod.mk.injEq] at k2
      obtain ⟨rfl, rfl, rfl⟩ := k2
      obtain ⟨c, c1, c2, c3, c4⟩ := all_mCd hB hD k1 hc.1
      refine ⟨c, c1, c2, ?_⟩
      rw [c3, c4]
      unfold mOne
      rw [List.mem_append, if_pos hc.2.1, if_pos hc.2.2]
      exact Or.inr (by simp)
    · simp at k2
def bOk (B : zo_O) (t : Nat × Int32 × Int32) : Prop := t.1 < gC B 2 ∧ (0 ≤ t.2.1.toInt ∧ t.2.1.toInt ≤ 800) ∧ (0 ≤ t.2.2.toInt ∧ t.2.2.toInt ≤ 1002000)
theorem lws_ok {t : Nat × Int32 × Int32} (h : t ∈ lws B q D kn kk sd bt but) : bOk B t := by
  unfold lws at h
  rw [List.mem_filterMap] at h
  obtain ⟨⟨s, y⟩, k1, k2⟩ := h
  unfold lwF at k2
  split at k2
  · rename_i hc
    simp only [Option.some.injEq] at k2
    subst k2
    obtain ⟨g1, _, g3⟩ := (gAll_mem (gC B 2)).1 k1
    rw [fa_le, fa_le] at hc
    obtain ⟨b1, b2, b3⟩ := gLo_b hB hD (kn := kn) (s := s) (k := nI kk) (y := y) (gC B 3) (Nat.le_refl _)
    have b4 := (b3 ((gY_mem (gC B 3)).1 g3)).1
    refine ⟨g1, hc, b4, Int.le_trans b1.2 (by decide)⟩
  · simp at k2
theorem ups_ok {t : Nat × Int32 × Int32} (h : t ∈ ups B q D kn kk sd bt but) : bOk B t := by
  unfold ups at h
  rw [List.mem_filterMap] at h
  obtain ⟨⟨s, y⟩, k1, k2⟩ := h
  unfold upF at k2
  split at k2
  · rename_i hc
    simp only [Option.some.injEq] at k2
    subst k2
    obtain ⟨g1, _, g3⟩ := (gAll_mem (gC B 2)).1 k1
    have hc2 := hc.2.2
    rw [fa_le, fa_le] at hc2
    obtain ⟨b1, b2, b3⟩ := gLo_b hB hD (kn := kn) (s := s) (k := nI kk) (y := y) (gC B 3) (Nat.le_refl _)
    have b4 := (b3 ((gY_mem (gC B 3)).1 g3)).2
    refine ⟨g1, hc2, b4, b2.2⟩
  · simp at k2
theorem bM_ok {t : Nat × Int32 × Int32 × Bool} (h : t ∈ bM B q D kn kk sd bt but (gC B 3)) : bOk B (t.1, t.2.1, t.2.2.1) := by
  obtain ⟨s, a, v, u⟩ := t
  cases u
  · exact lws_ok hB hD ((bM_low hB hD).1 h)
  · exact ups_ok hB hD ((bM_up hB hD).1 h)
end U
