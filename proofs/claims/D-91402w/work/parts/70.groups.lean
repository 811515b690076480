/-! ===== X's groups ===== -/
def tkf (k g n : Nat) : List zo_T := (List.range n).map (fun i => (k, g + i))
theorem tkf_len {k g n : Nat} : (tkf k g n).length = n := by simp [tkf]
theorem tkf_succ {k g n : Nat} : tkf k g n ++ [(k, g + n)] = tkf k g (n + 1) := by simp [tkf, List.range_succ]
theorem tkf_get {k g n i : Nat} (h : i < n) : (tkf k g n)[i]? = some (k, g + i) := by simp [tkf, h]
theorem tkf_all {k g n : Nat} (hk : k < 20) : (tkf k g n).all (fun t => decide (t.1 < 20)) = true := by simp [tkf, hk]
theorem x_add2 {N l : Nat} {t : zo_T} {Ω : zo_O} {L : List zo_T} (h : gS Ω l = L) (hL : L.all (fun t => decide (t.1 < 20)) = true) (hk : t.1 < 20) (hn : L.length ≤ 30000) : fn_J2_add N l (some t) Ω = some (some (vi 1), sS Ω l (L ++ [t]), zo_kc L.length, zo_ks L.length) := by
  unfold fn_J2_add
  simp only [h, gd]
  rw [if_pos ⟨by rw [List.all_append, hL]; simp [hk], hn⟩]
def KC : Nat → Nat
  | 0 => 0
  | n + 1 => KC n + zo_kc n
def KS : Nat → Nat
  | 0 => 0
  | n + 1 => KS n + zo_ks n
theorem KC_mono {n m : Nat} (h : n ≤ m) : KC n ≤ KC m := by
  induction h with
  | refl => exact Nat.le_refl _
  | step _ ih => exact Nat.le_trans ih (Nat.le_add_right _ _)
theorem KS_mono {n m : Nat} (h : n ≤ m) : KS n ≤ KS m := by
  induction h with
  | refl => exact Nat.le_refl _
  | step _ ih => exact Nat.le_trans ih (Nat.le_add_right _ _)
theorem KC_64 : KC 64 ≤ 6 := by decide +kernel
theorem KS_64 : KS 64 ≤ 202 := by decide +kernel
def mts (B : zo_O) (q : Bool) (D : Nat → Nat → Int32) (kn : Int32) (s : Nat) (k : Int32) (c : Nat) : Bool := decide (cst B c = s) && decide (gI B 32 6 c = k) && sU B q D kn c
def gY (B : zo_O) (q : Bool) (D : Nat → Nat → Int32) (kn : Int32) (s : Nat) (k : Int32) : Nat → List Int32
  | 0 => []
  | c + 1 => if mts B q D kn s k c = true ∧ gI B 32 10 c ∉ gY B q D kn s k c then gY B q D kn s k c ++ [gI B 32 10 c] else gY B q D kn s k c
def fnd (ys : List Int32) (y : Int32) (g : Nat) : Nat → Option zo_T
  | 0 => none
  | i + 1 => if ys[i]? = some y then some (15, g + i) else fnd ys y g i
theorem fnd_none {ys : List Int32} {y : Int32} {g : Nat} : ∀ n, (∀ i, i < n → ys[i]? ≠ some y) → fnd ys y g n = none
  | 0, _ => rfl
  | n + 1, h => by rw [fnd, if_neg (h n (by omega))]; exact fnd_none n (fun i q => h i (by omega))
theorem fnd_some {ys : List Int32} {y : Int32} {g : Nat} : ∀ n, (∃ i, i < n ∧ ys[i]? = some y) → ∃ p, p < n ∧ ys[p]? = some y ∧ fnd ys y g n = some (15, g + p)
  | 0, h => by obtain ⟨i, h, _⟩ := h; omega
  | n + 1, h => by
    by_cases e : ys[n]? = some y
    · exact ⟨n, by omega, e, by rw [fnd, if_pos e]⟩
    · obtain ⟨i, h1, h2⟩ := h
      have : i ≠ n := by rintro rfl; exact e h2
      obtain ⟨p, p1, p2, p3⟩ := fnd_some (g := g) n ⟨i, by omega, h2⟩
      exact ⟨p, by omega, p2, by rw [fnd, if_neg e]; exact p3⟩
section G
variable {B : zo_O} {q : Bool} {D : Nat → Nat → Int32} {kn : Int32} {s : Nat} {k : Int32}
theorem mtc_s {y : Int32} {c : Nat} : mtc B q D kn s k y c = true ↔ mts B q D kn s k c = true ∧ gI B 32 10 c = y := by
  unfold mtc mts
  simp only [Bool.and_eq_true, decide_eq_true_eq]
  constructor
  · rintro ⟨⟨⟨a, b⟩, c⟩, d⟩; exact ⟨⟨⟨a, b⟩, d⟩, c⟩
  · rintro ⟨⟨⟨a, b⟩, d⟩, c⟩; exact ⟨⟨⟨a, b⟩, c⟩, d⟩
theorem gY_nodup : ∀ n, (gY B q D kn s k n).Nodup
  | 0 => by simp [gY]
  | n + 1 => by
    rw [gY]
    split
    · rename_i h
      rw [List.nodup_append]
      refine ⟨gY_nodup n, by simp, fun a ha b hb => ?_⟩
      simp only [List.mem_cons, List.not_mem_nil, or_false] at hb
      subst hb
      rintro rfl
      exact h.2 ha
    · exact gY_nodup n
theorem gY_mem {y : Int32} : ∀ n, y ∈ gY B q D kn s k n ↔ ∃ c, c < n ∧ mtc B q D kn s k y c = true
  | 0 => by simp [gY]
  | n + 1 => by
    have ih := gY_mem (y := y) n
    rw [gY]
    constructor
    · intro h
      split at h
      · rename_i g
        rw [List.mem_append] at h
        rcases h with h | h
        · obtain ⟨c, c1, c2⟩ := ih.1 h
          exact ⟨c, by omega, c2⟩
        · simp only [List.mem_cons, List.not_mem_nil, or_false] at h
          exact ⟨n, by omega, mtc_s.2 ⟨g.1, h.symm⟩⟩
      · obtain ⟨c, c1, c2⟩ := ih.1 h
        exact ⟨c, by omega, c2⟩
    · rintro ⟨c, c1, c2⟩
      by_cases e : c = n
      · subst e
        obtain ⟨m1, m2⟩ := mtc_s.1 c2
        by_cases g : gI B 32 10 c ∈ gY B q D kn s k c
        · rw [if_neg (fun w => w.2 g), ← m2]; exact g
        · rw [if_pos ⟨m1, g⟩, ← m2]; simp
      · have := ih.2 ⟨c, by omega, c2⟩
        split
        · exact List.mem_append_left _ this
        · exact this
/-- no used circle of the year: as at the start -/
theorem gLo_none {y : Int32} : ∀ n, (¬ ∃ c, c < n ∧ mtc B q D kn s k y c = true) → gLo B q D kn s k y n = -1 ∧ gHi B q D kn s k y n = -1
  | 0, _ => ⟨rfl, rfl⟩
  | n + 1, h => by
    have := gLo_none n (fun ⟨c, c1, c2⟩ => h ⟨c, by omega, c2⟩)
    rw [gLo, gHi, if_neg (fun w => h ⟨n, by omega, w⟩), if_neg (fun w => h ⟨n, by omega, w⟩)]
    exact this
end G
theorem mx_n1 {x : Int32} (h : 0 ≤ x.toInt) : mx (-1) x = x ∧ mx 0 x = x := by
  have e1 : (-1 : Int32).toInt = -1 := rfl
  have e0 : (0 : Int32).toInt = 0 := rfl
  constructor
  · rw [fa_eq, fi_mx]; omega
  · rw [fa_eq, fi_mx]; omega
section U
variable {B : zo_O} (hB : Bse B) {q : Bool} {D : Nat → Nat → Int32} (hD : q = false → DBd D) {kn : Int32} {s : Nat} {k : Int32}
include hB hD
theorem gLo_b {y : Int32} : ∀ n, n ≤ gC B 3 → (-1 ≤ (gLo B q D kn s k y n).toInt ∧ (gLo B q D kn s k y n).toInt ≤ 70000) ∧ (-1 ≤ (gHi B q D kn s k y n).toInt ∧ (gHi B q D kn s k y n).toInt ≤ 1002000) ∧ ((∃ c, c < n ∧ mtc B q D kn s k y c = true) → 0 ≤ (gLo B q D kn s k y n).toInt ∧ 0 ≤ (gHi B q D kn s k y n).toInt)
  | 0, _ => ⟨⟨by show -1 ≤ (-1 : Int32).toInt; decide, by show (-1 : Int32).toInt ≤ 70000; decide⟩, ⟨by show -1 ≤ (-1 : Int32).toInt; decide, by show (-1 : Int32).toInt ≤ 1002000; decide⟩, fun ⟨c, h, _⟩ => by omega⟩
  | n + 1, hn => by
    obtain ⟨i1, i2, i3⟩ := gLo_b (y := y) n (by omega)
    rw [gLo, gHi]
    by_cases h : mtc B q D kn s k y n = true
    · have hu : sU B q D kn n = true := by unfold mtc at h; simp only [Bool.and_eq_true] at h; exact h.2
      have b1 := sLo_b hB (hD (sU_q hu)) (show n < gC B 3 by omega)
      have b2 := sHi_b hB (hD (sU_q hu)) (show n < gC B 3 by omega)
      rw [if_pos h, if_pos h, fi_mx, fi_mx]
      refine ⟨⟨by omega, by omega⟩, ⟨by omega, by omega⟩, fun _ => ⟨by omega, by omega⟩⟩
    · rw [if_neg h, if_neg h]
      refine ⟨i1, i2, fun ⟨c, c1, c2⟩ => i3 ⟨c, ?_, c2⟩⟩
      have : c ≠ n := by rintro rfl; exact h c2
      omega
theorem gLo_iff {y : Int32} : gLo B q D kn s k y (gC B 3) = -1 ↔ y ∉ gY B q D kn s k (gC B 3) := by
  rw [gY_mem]
  constructor
  · intro h w
    have := ((gLo_b hB hD (kn := kn) (s := s) (k := k) (y := y) (gC B 3) (Nat.le_refl _)).2.2 w).1
    rw [h] at this
    exact absurd this (by decide)
  · exact fun h => (gLo_none _ h).1
end U
