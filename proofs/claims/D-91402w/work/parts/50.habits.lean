/-! ===== plain law: habits. Floyd-Warshall against relaxing all pairs over each edge ===== -/
abbrev hM : Type := Nat → Nat → Int
abbrev hE : Type := List (Nat × Nat × Int)
def hU (D : hM) (a b : Nat) (v : Int) : hM := fun x y => if x = a ∧ y = b then v else D x y
def hI : hM := fun x y => if x = y then 0 else 1000000
/-- X's matrix at the start -/
def h0 (E : hE) : hM := E.foldl (fun D e => hU D e.1 e.2.1 (min (D e.1 e.2.1) e.2.2)) hI
def hfs (D : hM) (m a b : Nat) : hM := if D a m < 1000000 ∧ D m b < 1000000 then hU D a b (min (D a b) (D a m + D m b)) else D
def hrow (D : hM) (m a : Nat) : Nat → hM
  | 0 => D
  | b + 1 => hfs (hrow D m a b) m a b
def hph (D : hM) (m : Nat) : Nat → hM
  | 0 => D
  | a + 1 => hrow (hph D m a) m a 5
def hfw (D : hM) : Nat → hM
  | 0 => D
  | m + 1 => hph (hfw D m) m 5
/-- M's -/
def hbs (D : hM) (a b : Nat) (w : Int) (f t : Nat) : hM := if D f a < 1000000 ∧ D b t < 1000000 ∧ D f a + w + D b t < D f t ∧ -1000000 ≤ D f a + w + D b t then hU D f t (D f a + w + D b t) else D
def hbr (D : hM) (a b : Nat) (w : Int) (f : Nat) : Nat → hM
  | 0 => D
  | t + 1 => hbs (hbr D a b w f t) a b w f t
def hbf (D : hM) (a b : Nat) (w : Int) : Nat → hM
  | 0 => D
  | f + 1 => hbr (hbf D a b w f) a b w f 5
/-- walks of n edges -/
def wk (E : hE) : Nat → Nat → Nat → Int → Prop
  | 0, a, b, w => a = b ∧ w = 0
  | n + 1, a, b, w => ∃ c w1 w2, wk E n a c w1 ∧ (c, b, w2) ∈ E ∧ w = w1 + w2
theorem wk_app {E : hE} : ∀ {m n a b c w1 w2}, wk E n a b w1 → wk E m b c w2 → wk E (n + m) a c (w1 + w2)
  | 0, n, a, b, c, w1, w2, h1, h2 => by
    obtain ⟨rfl, rfl⟩ := h2
    simpa using h1
  | m + 1, n, a, b, c, w1, w2, h1, h2 => by
    obtain ⟨d, u1, u2, g1, g2, rfl⟩ := h2
    exact ⟨d, w1 + u1, u2, wk_app h1 g1, g2, by omega⟩
theorem wk_mono {E E' : hE} (hs : ∀ e ∈ E, e ∈ E') : ∀ {n a b w}, wk E n a b w → wk E' n a b w
  | 0, _, _, _, h => h
  | _ + 1, _, _, _, ⟨c, w1, w2, g1, g2, g3⟩ => ⟨c, w1, w2, wk_mono hs g1, hs _ g2, g3⟩
def hOk (E : hE) : Prop := ∀ e ∈ E, e.1 < 5 ∧ e.2.1 < 5 ∧ -2029 ≤ e.2.2 ∧ e.2.2 ≤ 2029
/-- every entry is a walk's weight -/
def hS (E : hE) (D : hM) : Prop := ∀ x y, x < 5 → y < 5 → D x y < 1000000 → ∃ n, wk E n x y (D x y)
/-- at most B from 0 -/
def hBd (B : Int) (D : hM) : Prop := ∀ x y, x < 5 → y < 5 → D x y < 1000000 → -B ≤ D x y ∧ D x y ≤ B
def hC (E : hE) (D : hM) : Prop := (∀ x, x < 5 → D x x ≤ 0) ∧ (∀ e ∈ E, D e.1 e.2.1 ≤ e.2.2) ∧ ∀ x y z, x < 5 → y < 5 → z < 5 → D x y < 1000000 → D y z < 1000000 → D x z ≤ D x y + D y z
theorem wk_lt {E : hE} (hok : hOk E) : ∀ {n a b w}, wk E n a b w → a < 5 → b < 5
  | 0, a, b, w, h, ha => h.1 ▸ ha
  | n + 1, a, b, w, ⟨c, w1, w2, g1, g2, g3⟩, ha => (hok _ g2).2.1
theorem hC_wk {E : hE} {D : hM} (hok : hOk E) (hc : hC E D) (hb : hBd 400000 D) : ∀ {n a b w}, a < 5 → wk E n a b w → D a b ≤ w ∧ D a b < 1000000
  | 0, a, b, w, ha, h => by
    obtain ⟨rfl, rfl⟩ := h
    have := hc.1 a ha
    omega
  | n + 1, a, b, w, ha, ⟨c, w1, w2, g1, g2, g3⟩ => by
    have ih := hC_wk hok hc hb ha g1
    have hcl := wk_lt hok g1 ha
    obtain ⟨-, hbl, e1, e2⟩ := hok _ g2
    have h2 := hc.2.1 _ g2
    have hbl : b < 5 := hbl
    have h2 : D c b ≤ w2 := h2
    have e2 : w2 ≤ 2029 := e2
    have h3 := hc.2.2 a c b ha hcl hbl ih.2 (by omega)
    have b1 := hb a c ha hcl ih.2
    have b2 := hb c b hcl hbl (by omega)
    omega
theorem hC_eq {E : hE} {D1 D2 : hM} (hok : hOk E) (c1 : hC E D1) (s2 : hS E D2) (b1 : hBd 400000 D1) {x y : Nat} (hx : x < 5) (hy : y < 5) (h : D2 x y < 1000000) : D1 x y ≤ D2 x y ∧ D1 x y < 1000000 := by
  obtain ⟨n, hn⟩ := s2 x y hx hy h
  exact hC_wk hok c1 b1 hx hn
/-! X -/
theorem hU_le {D : hM} {a b : Nat} {v : Int} (h : v ≤ D a b) (x y : Nat) : hU D a b v x y ≤ D x y := by
  unfold hU
  split
  · rename_i q
    rw [q.1, q.2]; exact h
  · exact Int.le_refl _
theorem hfs_le (D : hM) (m a b x y : Nat) : hfs D m a b x y ≤ D x y := by
  unfold hfs
  split
  · exact hU_le (by omega) x y
  · exact Int.le_refl _
theorem hrow_le (D : hM) (m a x y : Nat) : ∀ b, hrow D m a b x y ≤ D x y
  | 0 => Int.le_refl _
  | b + 1 => Int.le_trans (hfs_le _ m a b x y) (hrow_le D m a x y b)
theorem hph_le (D : hM) (m x y : Nat) : ∀ a, hph D m a x y ≤ D x y
  | 0 => Int.le_refl _
  | a + 1 => Int.le_trans (hrow_le _ m a x y 5) (hph_le D m x y a)
theorem hfw_le (D : hM) (x y : Nat) : ∀ m k, hfw D (m + k) x y ≤ hfw D m x y
  | m, 0 => Int.le_refl _
  | m, k + 1 => Int.le_trans (hph_le _ (m + k) x y 5) (hfw_le D x y m k)
theorem hS_U {E : hE} {D : hM} {a b : Nat} {v : Int} (h : hS E D) (hv : a < 5 → b < 5 → v < 1000000 → ∃ n, wk E n a b v) : hS E (hU D a b v) := by
  intro x y hx hy hl
  unfold hU at hl ⊢
  split
  · rename_i q
    rw [if_pos q] at hl
    obtain ⟨rfl, rfl⟩ := q
    exact hv hx hy hl
  · rename_i q
    rw [if_neg q] at hl
    exact h x y hx hy hl
theorem hS_fs {E : hE} {D : hM} {m a b : Nat} (hm : m < 5) (h : hS E D) : hS E (hfs D m a b) := by
  unfold hfs
  split
  · rename_i q
    refine hS_U h (fun ha hb hl => ?_)
    by_cases hc : D a b ≤ D a m + D m b
    · rw [Int.min_eq_left hc] at hl ⊢
      exact h a b ha hb hl
    · rw [Int.min_eq_right (by omega)]
      obtain ⟨n1, g1⟩ := h a m ha hm q.1
      obtain ⟨n2, g2⟩ := h m b hm hb q.2
      exact ⟨_, wk_app g1 g2⟩
  · exact h
theorem hS_row {E : hE} {D : hM} {m a : Nat} (hm : m < 5) (h : hS E D) : ∀ b, hS E (hrow D m a b)
  | 0 => h
  | b + 1 => hS_fs hm (hS_row hm h b)
theorem hS_ph {E : hE} {D : hM} {m : Nat} (hm : m < 5) (h : hS E D) : ∀ a, hS E (hph D m a)
  | 0 => h
  | a + 1 => hS_row hm (hS_ph hm h a) 5
theorem hS_fw {E : hE} {D : hM} (h : hS E D) : ∀ m, m ≤ 5 → hS E (hfw D m)
  | 0, _ => h
  | m + 1, hm => hS_ph (by omega) (hS_fw h m (by omega)) 5
theorem hS_I (E : hE) : hS E hI := by
  intro x y _ _ h
  unfold hI at h ⊢
  by_cases q : x = y
  · rw [if_pos q]
    exact ⟨0, q, rfl⟩
  · rw [if_neg q] at h; omega
theorem hS_0 (E : hE) : hS E (h0 E) := by
  have key : ∀ (L : hE) (D : hM), (∀ e ∈ L, e ∈ E) → hS E D → hS E (L.foldl (fun D e => hU D e.1 e.2.1 (min (D e.1 e.2.1) e.2.2)) D) := by
    intro L
    induction L with
    | nil => intro D _ h; exact h
    | cons e L ih =>
      intro D hs h
      refine ih _ (fun q hq => hs q (List.mem_cons_of_mem _ hq)) (hS_U h (fun ha hb hl => ?_))
      by_cases hc : D e.1 e.2.1 ≤ e.2.2
      · rw [Int.min_eq_left hc] at hl ⊢
        exact h _ _ ha hb hl
      · rw [Int.min_eq_right (by omega)]
        exact ⟨1, e.1, 0, e.2.2, ⟨rfl, rfl⟩, hs e List.mem_cons_self, by omega⟩
  exact key E hI (fun _ h => h) (hS_I E)
/-- a phase, with nothing at m below 0 -/
def hnw (D : hM) (m x y : Nat) : Int := if D x m < 1000000 ∧ D m y < 1000000 then min (D x y) (D x m + D m y) else D x y
theorem hnw_r {D : hM} {m : Nat} (h : D m m = 0) (y : Nat) : hnw D m m y = D m y := by unfold hnw; split <;> omega
theorem hnw_c {D : hM} {m : Nat} (h : D m m = 0) (x : Nat) : hnw D m x m = D x m := by unfold hnw; split <;> omega
theorem hph_new {D : hM} {m : Nat} (hm : m < 5) (h : D m m = 0) : ∀ a, a ≤ 5 → ∀ x y, x < 5 → y < 5 → hph D m a x y = if x < a then hnw D m x y else D x y
  | 0, _, x, y, _, _ => by rw [if_neg (by omega)]; rfl
  | a + 1, ha, x, y, hx, hy => by
    have ih := hph_new hm h a (by omega)
    have hr : ∀ b, b ≤ 5 → ∀ x y, x < 5 → y < 5 → hrow (hph D m a) m a b x y = if x < a ∨ x = a ∧ y < b then hnw D m x y else D x y := by
      intro b
      induction b with
      | zero =>
        intro _ x y hx hy
        show hph D m a x y = _
        rw [ih x y hx hy]
        by_cases q : x < a
        · rw [if_pos q, if_pos (Or.inl q)]
        · rw [if_neg q, if_neg (by omega)]
      | succ b ihb =>
        intro hb x y hx hy
        have ihb := ihb (by omega)
        have e1 : hrow (hph D m a) m a b a m = D a m := by
          rw [ihb a m (by omega) hm]
          split
          · exact hnw_c h a
          · rfl
        have e2 : hrow (hph D m a) m a b m b = D m b := by
          rw [ihb m b hm (by omega)]
          split
          · exact hnw_r h b
          · rfl
        have e3 : hrow (hph D m a) m a b a b = D a b := by
          rw [ihb a b (by omega) (by omega), if_neg (by omega)]
        show hfs (hrow (hph D m a) m a b) m a b x y = _
        unfold hfs
        rw [e1, e2, e3]
        by_cases q : x = a ∧ y = b
        · obtain ⟨rfl, rfl⟩ := q
          rw [if_pos (Or.inr ⟨rfl, by omega⟩)]
          unfold hnw
          split
          · unfold hU; rw [if_pos ⟨rfl, rfl⟩]
          · exact e3
        · have e4 : (if D a m < 1000000 ∧ D m b < 1000000 then hU (hrow (hph D m a) m a b) a b (min (D a b) (D a m + D m b)) else hrow (hph D m a) m a b) x y = hrow (hph D m a) m a b x y := by
            split
            · unfold hU; rw [if_neg q]
            · rfl
          rw [e4, ihb x y hx hy]
          by_cases q2 : x < a ∨ x = a ∧ y < b
          · rw [if_pos q2, if_pos (by omega)]
          · rw [if_neg q2, if_neg (by omega)]
    show hrow (hph D m a) m a 5 x y = _
    rw [hr 5 (by omega) x y hx hy]
    by_cases q : x < a + 1
    · rw [if_pos q, if_pos (by omega)]
    · rw [if_neg q, if_neg (by omega)]
theorem hfw_ge {D : hM} (h : ∀ x, x < 5 → 0 ≤ hfw D 5 x x) (h0 : ∀ x, x < 5 → D x x ≤ 0) {m : Nat} (hm : m ≤ 5) {x : Nat} (hx : x < 5) : hfw D m x x = 0 := by
  have h1 := hfw_le D x x m (5 - m)
  rw [show m + (5 - m) = 5 by omega] at h1
  have h2 := hfw_le D x x 0 m
  rw [Nat.zero_add] at h2
  have h3 : hfw D 0 x x = D x x := rfl
  have := h x hx
  have := h0 x hx
  omega
theorem hfw_new {D : hM} (h : ∀ x, x < 5 → 0 ≤ hfw D 5 x x) (h0 : ∀ x, x < 5 → D x x ≤ 0) {m : Nat} (hm : m < 5) {x y : Nat} (hx : x < 5) (hy : y < 5) : hfw D (m + 1) x y = hnw (hfw D m) m x y := by
  show hph (hfw D m) m 5 x y = _
  rw [hph_new hm (hfw_ge h h0 (by omega) hm) 5 (by omega) x y hx hy, if_pos hx]
theorem hfw_bd {D : hM} (h : ∀ x, x < 5 → 0 ≤ hfw D 5 x x) (h0 : ∀ x, x < 5 → D x x ≤ 0) (hb : hBd 2029 D) : ∀ m, m ≤ 5 → hBd (2029 * 2 ^ m) (hfw D m) := by
  intro m
  induction m with
  | zero =>
    intro _
    rw [show (2029 : Int) * 2 ^ 0 = 2029 by decide]
    exact hb
  | succ m ih =>
    intro hm
    have ih := ih (by omega)
    intro x y hx hy hl
    rw [hfw_new h h0 (by omega) hx hy] at hl ⊢
    have e : (2029 : Int) * 2 ^ (m + 1) = 2 * (2029 * 2 ^ m) := by rw [Int.pow_succ]; omega
    rw [e]
    have hp : (0 : Int) ≤ 2029 * 2 ^ m := by
      have : (0 : Int) < 2 ^ m := Int.pow_pos (by decide)
      omega
    generalize (2029 : Int) * 2 ^ m = B at *
    unfold hnw at hl ⊢
    split
    · rename_i q
      rw [if_pos q] at hl
      have b1 := ih x m hx (by omega) q.1
      have b2 := ih m y (by omega) hy q.2
      by_cases q2 : hfw D m x y < 1000000
      · have b3 := ih x y hx hy q2
        omega
      · have : B ≤ 64928 ∨ 64928 < B := by omega
        omega
    · rename_i q
      rw [if_neg q] at hl
      have b3 := ih x y hx hy hl
      omega
theorem hfw_tri {D : hM} (h : ∀ x, x < 5 → 0 ≤ hfw D 5 x x) (h0 : ∀ x, x < 5 → D x x ≤ 0) (hb : hBd 2029 D) : ∀ m, m ≤ 5 → ∀ k, k < m → ∀ x y, x < 5 → y < 5 → hfw D m x k < 1000000 → hfw D m k y < 1000000 → hfw D m x y ≤ hfw D m x k + hfw D m k y := by
  intro m
  induction m with
  | zero => intro _ k hk; exact absurd hk (Nat.not_lt_zero _)
  | succ m ih =>
    intro hm k hk x y hx hy h1 h2
    have ih := ih (by omega)
    have hmm : hfw D m m m = 0 := hfw_ge h h0 (by omega) (by omega)
    have bd := hfw_bd h h0 hb m (by omega)
    have hk5 : k < 5 := by omega
    have hm5 : m < 5 := by omega
    have hB : (2029 : Int) * 2 ^ m ≤ 64928 := by
      have : m = 0 ∨ m = 1 ∨ m = 2 ∨ m = 3 ∨ m = 4 := by omega
      rcases this with rfl | rfl | rfl | rfl | rfl <;> decide
    generalize (2029 : Int) * 2 ^ m = B at bd hB
    rw [hfw_new h h0 hm5 hx hk5] at h1 ⊢
    rw [hfw_new h h0 hm5 hk5 hy] at h2 ⊢
    rw [hfw_new h h0 hm5 hx hy]
    generalize hF : hfw D m = F at *
    by_cases e : k = m
    · subst e
      rw [hnw_c hmm] at h1 ⊢
      rw [hnw_r hmm] at h2 ⊢
      unfold hnw
      rw [if_pos ⟨h1, h2⟩]
      omega
    · have hkm : k < m := by omega
      have t1 := ih k hkm x y hx hy
      have t2 := ih k hkm m y hm5 hy
      have t3 := ih k hkm x m hx hm5
      have t4 := ih k hkm m m hm5 hm5
      have b1 := bd x k hx hk5
      have b2 := bd k y hk5 hy
      have b3 := bd x m hx hm5
      have b4 := bd m y hm5 hy
      have b5 := bd m k hm5 hk5
      have b6 := bd k m hk5 hm5
      have b7 := bd x y hx hy
      unfold hnw at h1 h2 ⊢
      by_cases c1 : F x m < 1000000 <;> by_cases c2 : F m y < 1000000 <;> by_cases c3 : F m k < 1000000 <;> by_cases c4 : F k m < 1000000 <;> simp only [c1, c2, c3, c4, and_self, and_true, and_false, true_and, false_and, if_true, if_false] at h1 h2 ⊢ <;> omega
theorem h0_mono (L : hE) : ∀ (D : hM) (x y : Nat), (L.foldl (fun D e => hU D e.1 e.2.1 (min (D e.1 e.2.1) e.2.2)) D) x y ≤ D x y := by
  induction L with
  | nil => intro D x y; exact Int.le_refl _
  | cons e L ih => intro D x y; exact Int.le_trans (ih _ x y) (hU_le (by omega) x y)
theorem h0_edge (L : hE) : ∀ (D : hM), ∀ e ∈ L, (L.foldl (fun D e => hU D e.1 e.2.1 (min (D e.1 e.2.1) e.2.2)) D) e.1 e.2.1 ≤ e.2.2 := by
  induction L with
  | nil => intro D e he; cases he
  | cons q L ih =>
    intro D e he
    rcases List.mem_cons.mp he with rfl | he
    · refine Int.le_trans (h0_mono L _ _ _) ?_
      have e1 : hU D e.1 e.2.1 (min (D e.1 e.2.1) e.2.2) e.1 e.2.1 = min (D e.1 e.2.1) e.2.2 := if_pos ⟨rfl, rfl⟩
      show hU D e.1 e.2.1 (min (D e.1 e.2.1) e.2.2) e.1 e.2.1 ≤ e.2.2
      omega
    · exact ih _ e he
theorem h0_bd {E : hE} (hok : hOk E) : hBd 2029 (h0 E) := by
  have key : ∀ (L : hE) (D : hM), hOk L → hBd 2029 D → hBd 2029 (L.foldl (fun D e => hU D e.1 e.2.1 (min (D e.1 e.2.1) e.2.2)) D) := by
    intro L
    induction L with
    | nil => intro D _ h; exact h
    | cons e L ih =>
      intro D hs h
      refine ih _ (fun q hq => hs q (List.mem_cons_of_mem _ hq)) ?_
      obtain ⟨e1, e2, e3, e4⟩ := hs e List.mem_cons_self
      intro x y hx hy hl
      have hl : hU D e.1 e.2.1 (min (D e.1 e.2.1) e.2.2) x y < 1000000 := hl
      show -2029 ≤ hU D e.1 e.2.1 (min (D e.1 e.2.1) e.2.2) x y ∧ hU D e.1 e.2.1 (min (D e.1 e.2.1) e.2.2) x y ≤ 2029
      unfold hU at hl ⊢
      split
      · rename_i q
        by_cases c : D e.1 e.2.1 < 1000000
        · have := h _ _ e1 e2 c
          omega
        · omega
      · rename_i q
        rw [if_neg q] at hl
        exact h x y hx hy hl
  refine key E hI hok (fun x y _ _ hl => ?_)
  unfold hI at hl ⊢
  split
  · omega
  · rename_i q; rw [if_neg q] at hl; omega
/-- X that does not quarrel -/
theorem hX_ok {E : hE} (hok : hOk E) (h : ∀ x, x < 5 → 0 ≤ hfw (h0 E) 5 x x) : hC E (hfw (h0 E) 5) ∧ hBd 64928 (hfw (h0 E) 5) := by
  have hd : ∀ x, x < 5 → h0 E x x ≤ 0 := fun x _ => by
    refine Int.le_trans (h0_mono E hI x x) ?_
    unfold hI; rw [if_pos rfl]; exact Int.le_refl _
  have hb := hfw_bd h hd (h0_bd hok) 5 (by omega)
  refine ⟨⟨fun x hx => ?_, fun e he => ?_, fun x y z hx hy hz h1 h2 => ?_⟩, hb⟩
  · have := hfw_ge h hd (m := 5) (by omega) hx; omega
  · exact Int.le_trans (by have := hfw_le (h0 E) e.1 e.2.1 0 5; exact this) (h0_edge E hI e he)
  · exact hfw_tri h hd (h0_bd hok) 5 (by omega) y hy x z hx hz h1 h2
theorem hX_snd (E : hE) : hS E (hfw (h0 E) 5) := hS_fw (hS_0 E) 5 (by omega)
/-! M -/
theorem hbs_le (D : hM) (a b : Nat) (w : Int) (f t x y : Nat) : hbs D a b w f t x y ≤ D x y := by
  unfold hbs
  split
  · exact hU_le (by omega) x y
  · exact Int.le_refl _
theorem hbr_le (D : hM) (a b : Nat) (w : Int) (f x y : Nat) : ∀ t, hbr D a b w f t x y ≤ D x y
  | 0 => Int.le_refl _
  | t + 1 => Int.le_trans (hbs_le _ a b w f t x y) (hbr_le D a b w f x y t)
theorem hbf_le (D : hM) (a b : Nat) (w : Int) (x y : Nat) : ∀ f k, hbf D a b w (f + k) x y ≤ hbf D a b w f x y
  | f, 0 => Int.le_refl _
  | f, k + 1 => Int.le_trans (hbr_le _ a b w (f + k) x y 5) (hbf_le D a b w x y f k)
theorem hS_bs {E : hE} {D : hM} {a b f t : Nat} {w : Int} (he : (a, b, w) ∈ E) (ha : a < 5) (hb : b < 5) (h : hS E D) : hS E (hbs D a b w f t) := by
  unfold hbs
  split
  · rename_i q
    refine hS_U h (fun hf ht _ => ?_)
    obtain ⟨n1, g1⟩ := h f a hf ha q.1
    obtain ⟨n2, g2⟩ := h b t hb ht q.2.1
    have g3 : wk E (n1 + 1) f b (D f a + w) := ⟨a, D f a, w, g1, he, rfl⟩
    exact ⟨_, wk_app g3 g2⟩
  · exact h
theorem hS_br {E : hE} {D : hM} {a b f : Nat} {w : Int} (he : (a, b, w) ∈ E) (ha : a < 5) (hb : b < 5) (h : hS E D) : ∀ t, hS E (hbr D a b w f t)
  | 0 => h
  | t + 1 => hS_bs he ha hb (hS_br he ha hb h t)
theorem hS_bf {E : hE} {D : hM} {a b : Nat} {w : Int} (he : (a, b, w) ∈ E) (ha : a < 5) (hb : b < 5) (h : hS E D) : ∀ f, hS E (hbf D a b w f)
  | 0 => h
  | f + 1 => hS_br he ha hb (hS_bf he ha hb h f) 5
def hin (D : hM) (a b : Nat) (w : Int) (f t : Nat) : Int := if D f a < 1000000 ∧ D b t < 1000000 then min (D f t) (D f a + w + D b t) else D f t
theorem hin_c {D : hM} {a b : Nat} {w : Int} (h : D b a < 1000000 → 0 ≤ w + D b a) (f : Nat) : hin D a b w f a = D f a := by unfold hin; split <;> omega
theorem hin_r {D : hM} {a b : Nat} {w : Int} (h : D b a < 1000000 → 0 ≤ w + D b a) (t : Nat) : hin D a b w b t = D b t := by unfold hin; split <;> omega
theorem hbf_new {D : hM} {a b : Nat} {w : Int} (ha : a < 5) (hb : b < 5) (hw : -2029 ≤ w) (hB : hBd 64928 D) (h : D b a < 1000000 → 0 ≤ w + D b a) : ∀ f, f ≤ 5 → ∀ x y, x < 5 → y < 5 → hbf D a b w f x y = if x < f then hin D a b w x y else D x y
  | 0, _, x, y, _, _ => by rw [if_neg (by omega)]; rfl
  | f + 1, hf, x, y, hx, hy => by
    have ih := hbf_new ha hb hw hB h f (by omega)
    have hr : ∀ t, t ≤ 5 → ∀ x y, x < 5 → y < 5 → hbr (hbf D a b w f) a b w f t x y = if x < f ∨ x = f ∧ y < t then hin D a b w x y else D x y := by
      intro t
      induction t with
      | zero =>
        intro _ x y hx hy
        show hbf D a b w f x y = _
        rw [ih x y hx hy]
        by_cases q : x < f
        · rw [if_pos q, if_pos (Or.inl q)]
        · rw [if_neg q, if_neg (by omega)]
      | succ t iht =>
        intro ht x y hx hy
        have iht := iht (by omega)
        have e1 : hbr (hbf D a b w f) a b w f t f a = D f a := by
          rw [iht f a (by omega) ha]
          split
          · exact hin_c h f
          · rfl
        have e2 : hbr (hbf D a b w f) a b w f t b t = D b t := by
          rw [iht b t hb (by omega)]
          split
          · exact hin_r h t
          · rfl
        have e3 : hbr (hbf D a b w f) a b w f t f t = D f t := by
          rw [iht f t (by omega) (by omega), if_neg (by omega)]
        show hbs (hbr (hbf D a b w f) a b w f t) a b w f t x y = _
        unfold hbs
        rw [e1, e2, e3]
        have b1 := hB f a (by omega) ha
        have b2 := hB b t hb (by omega)
        by_cases q : x = f ∧ y = t
        · obtain ⟨rfl, rfl⟩ := q
          rw [if_pos (Or.inr ⟨rfl, by omega⟩)]
          unfold hin
          split
          · rename_i q
            unfold hU
            rw [if_pos ⟨rfl, rfl⟩, if_pos ⟨q.1, q.2.1⟩]
            omega
          · rename_i q
            rw [e3]
            split
            · rename_i q2
              have := b1 q2.1
              have := b2 q2.2
              have : ¬ (D x a + w + D b y < D x y) := fun z => q ⟨q2.1, q2.2, z, by omega⟩
              omega
            · rfl
        · have e4 : (if D f a < 1000000 ∧ D b t < 1000000 ∧ D f a + w + D b t < D f t ∧ -1000000 ≤ D f a + w + D b t then hU (hbr (hbf D a b w f) a b w f t) f t (D f a + w + D b t) else hbr (hbf D a b w f) a b w f t) x y = hbr (hbf D a b w f) a b w f t x y := by
            split
            · unfold hU; rw [if_neg q]
            · rfl
          rw [e4, iht x y hx hy]
          by_cases q2 : x < f ∨ x = f ∧ y < t
          · rw [if_pos q2, if_pos (by omega)]
          · rw [if_neg q2, if_neg (by omega)]
    show hbr (hbf D a b w f) a b w f 5 x y = _
    rw [hr 5 (by omega) x y hx hy]
    by_cases q : x < f + 1
    · rw [if_pos q, if_pos (by omega)]
    · rw [if_neg q, if_neg (by omega)]
/-- M's state: closed and right, or something at the diagonal below 0 -/
def hG (E : hE) (D : hM) : Prop := hC E D ∧ hS E D ∧ hBd 64928 D ∧ ∀ x, x < 5 → D x x = 0
def hN (D : hM) : Prop := ∃ x, x < 5 ∧ D x x < 0
theorem hBd.mono {A B : Int} {D : hM} (h : hBd A D) (hAB : A ≤ B) : hBd B D := fun x y hx hy hl => by
  have := h x y hx hy hl
  omega
theorem hG_add {E : hE} {D : hM} {a b : Nat} {w : Int} (hok : hOk (E ++ [(a, b, w)])) (hg : hG E D) (h : D b a < 1000000 → 0 ≤ w + D b a) : hG (E ++ [(a, b, w)]) (hbf D a b w 5) := by
  obtain ⟨ha, hb, hw1, hw2⟩ := hok (a, b, w) (List.mem_append_right _ List.mem_cons_self)
  have ha : a < 5 := ha
  have hb : b < 5 := hb
  have hw1 : -2029 ≤ w := hw1
  have hw2 : w ≤ 2029 := hw2
  obtain ⟨⟨c1, c2, c3⟩, s1, b1, d1⟩ := hg
  have nw := hbf_new ha hb hw1 b1 h 5 (by omega)
  have nw : ∀ x y, x < 5 → y < 5 → hbf D a b w 5 x y = hin D a b w x y := fun x y hx hy => by rw [nw x y hx hy, if_pos hx]
  have sn : hS (E ++ [(a, b, w)]) (hbf D a b w 5) := hS_bf (List.mem_append_right _ List.mem_cons_self) ha hb (fun x y hx hy hl => by
    obtain ⟨n, g⟩ := s1 x y hx hy hl
    exact ⟨n, wk_mono (fun e he => List.mem_append_left _ he) g⟩) 5
  have wb : hBd 400000 (hbf D a b w 5) := fun x y hx hy hl => by
    rw [nw x y hx hy] at hl ⊢
    have b2 := b1 x a hx ha
    have b3 := b1 b y hb hy
    have b4 := b1 x y hx hy
    unfold hin at hl ⊢
    split
    · rename_i q
      rw [if_pos q] at hl
      have := b2 q.1
      have := b3 q.2
      by_cases c : D x y < 1000000
      · have := b4 c; omega
      · omega
    · rename_i q
      rw [if_neg q] at hl
      have := b4 hl; omega
  have dg : ∀ x, x < 5 → hbf D a b w 5 x x = 0 := fun x hx => by
    rw [nw x x hx hx]
    unfold hin
    split
    · rename_i q
      have t := c3 b x a hb hx ha q.2 q.1
      have b2 := b1 x a hx ha q.1
      have b3 := b1 b x hb hx q.2
      have := h (by omega)
      have := d1 x hx
      omega
    · exact d1 x hx
  have cp : hC (E ++ [(a, b, w)]) (hbf D a b w 5) := by
    refine ⟨fun x hx => by rw [dg x hx]; exact Int.le_refl _, fun e he => ?_, fun x y z hx hy hz h1 h2 => ?_⟩
    · rcases List.mem_append.mp he with h3 | h3
      · obtain ⟨e1, e2, -, -⟩ := hok e he
        rw [nw _ _ e1 e2]
        have := c2 e h3
        unfold hin
        split <;> omega
      · rw [List.mem_singleton.mp h3]
        show hbf D a b w 5 a b ≤ w
        rw [nw a b ha hb]
        have := d1 a ha
        have := d1 b hb
        unfold hin
        rw [if_pos (by omega)]
        omega
    · rw [nw x y hx hy] at h1 ⊢
      rw [nw y z hy hz] at h2 ⊢
      rw [nw x z hx hz]
      have t1 := c3 x y z hx hy hz
      have t2 := c3 b y z hb hy hz
      have t3 := c3 x y a hx hy ha
      have t4 := c3 b y a hb hy ha
      have k1 := b1 x y hx hy
      have k2 := b1 y z hy hz
      have k3 := b1 x a hx ha
      have k4 := b1 b y hb hy
      have k5 := b1 y a hy ha
      have k6 := b1 b z hb hz
      have k7 := b1 x z hx hz
      have k8 := b1 b a hb ha
      unfold hin at h1 h2 ⊢
      by_cases q1 : D x a < 1000000 <;> by_cases q2 : D b y < 1000000 <;> by_cases q3 : D y a < 1000000 <;> by_cases q4 : D b z < 1000000 <;> simp only [q1, q2, q3, q4, and_self, and_true, and_false, true_and, false_and, if_true, if_false] at h1 h2 ⊢ <;> omega
  have xg : ∀ x, x < 5 → 0 ≤ hfw (h0 (E ++ [(a, b, w)])) 5 x x := fun x hx => by
    by_cases q : 0 ≤ hfw (h0 (E ++ [(a, b, w)])) 5 x x
    · exact q
    · have := (hC_eq hok cp (hX_snd _) wb hx hx (by omega)).1
      rw [dg x hx] at this
      omega
  obtain ⟨xc, xb⟩ := hX_ok hok xg
  refine ⟨cp, sn, fun x y hx hy hl => ?_, dg⟩
  have e1 := hC_eq hok xc sn (xb.mono (by decide)) hx hy hl
  have e2 := hC_eq hok cp (hX_snd _) wb hx hy e1.2
  have := xb x y hx hy e1.2
  omega
theorem hG_neg {E : hE} {D : hM} {a b : Nat} {w : Int} (ha : a < 5) (hb : b < 5) (hw1 : -2029 ≤ w) (hg : hG E D) (h1 : D b a < 1000000) (h2 : w + D b a < 0) : hN (hbf D a b w 5) := by
  obtain ⟨-, -, b1, d1⟩ := hg
  have hrow : ∀ f, f ≤ b → ∀ y, hbf D a b w f b y = D b y := by
    intro f
    induction f with
    | zero => intro _ y; rfl
    | succ f ih =>
      intro hf y
      have key : ∀ t, hbr (hbf D a b w f) a b w f t b y = hbf D a b w f b y := by
        intro t
        induction t with
        | zero => rfl
        | succ t iht =>
          show hbs (hbr (hbf D a b w f) a b w f t) a b w f t b y = _
          unfold hbs
          split
          · unfold hU; rw [if_neg (by omega)]; exact iht
          · exact iht
      show hbr (hbf D a b w f) a b w f 5 b y = _
      rw [key 5, ih (by omega)]
  have hr : ∀ t, t ≤ b → (∀ y, t ≤ y → hbr (hbf D a b w b) a b w b t b y = D b y) ∧ (hbr (hbf D a b w b) a b w b t b a = D b a ∨ hbr (hbf D a b w b) a b w b t b a = D b a + w + D b a) := by
    intro t
    induction t with
    | zero => intro _; exact ⟨fun y _ => hrow b (Nat.le_refl _) y, Or.inl (hrow b (Nat.le_refl _) a)⟩
    | succ t iht =>
      intro ht
      obtain ⟨i1, i2⟩ := iht (by omega)
      generalize hX : hbr (hbf D a b w b) a b w b t = X at *
      have e : hbr (hbf D a b w b) a b w b (t + 1) = hbs X a b w b t := by show hbs (hbr (hbf D a b w b) a b w b t) a b w b t = _; rw [hX]
      rw [e]
      unfold hbs
      split
      · refine ⟨fun y hy => ?_, ?_⟩
        · unfold hU; rw [if_neg (by omega)]; exact i1 y (by omega)
        · unfold hU
          by_cases q : a = t
          · rw [if_pos ⟨rfl, q⟩]
            have e1 := i1 a (by omega)
            have e2 := i1 t (by omega)
            rw [e1, e2, q]
            exact Or.inr rfl
          · rw [if_neg (fun z => q z.2)]; exact i2
      · exact ⟨fun y hy => i1 y (by omega), i2⟩
  obtain ⟨i1, i2⟩ := hr b (Nat.le_refl _)
  have b2 := b1 b a hb ha h1
  have db := d1 b hb
  have hbb : hbr (hbf D a b w b) a b w b (b + 1) b b < 0 := by
    show hbs (hbr (hbf D a b w b) a b w b b) a b w b b b b < 0
    have e1 := i1 b (Nat.le_refl _)
    unfold hbs
    rw [e1]
    split
    · unfold hU; rw [if_pos ⟨rfl, rfl⟩]; omega
    · rename_i q
      rw [e1]
      exfalso
      apply q
      refine ⟨by omega, by omega, by omega, by omega⟩
  have hmono : ∀ k, hbr (hbf D a b w b) a b w b (b + 1 + k) b b < 0 := by
    intro k
    induction k with
    | zero => exact hbb
    | succ k ih => exact Int.lt_of_le_of_lt (hbs_le _ a b w b (b + 1 + k) b b) ih
  have h5 := hmono (5 - (b + 1))
  rw [show b + 1 + (5 - (b + 1)) = 5 by omega] at h5
  refine ⟨b, hb, ?_⟩
  have := hbf_le D a b w b b (b + 1) (5 - (b + 1))
  rw [show b + 1 + (5 - (b + 1)) = 5 by omega] at this
  exact Int.lt_of_le_of_lt this h5
theorem hG_step {E : hE} {D : hM} {a b : Nat} {w : Int} (hok : hOk (E ++ [(a, b, w)])) (hg : hG E D ∨ hN D) : hG (E ++ [(a, b, w)]) (hbf D a b w 5) ∨ hN (hbf D a b w 5) := by
  obtain ⟨ha, hb, hw1, hw2⟩ := hok (a, b, w) (List.mem_append_right _ List.mem_cons_self)
  rcases hg with hg | ⟨x, hx, hn⟩
  · by_cases h : D b a < 1000000 → 0 ≤ w + D b a
    · exact Or.inl (hG_add hok hg h)
    · exact Or.inr (hG_neg ha hb hw1 hg (by omega) (by omega))
  · refine Or.inr ⟨x, hx, ?_⟩
    have := hbf_le D a b w x x 0 5
    rw [Nat.zero_add] at this
    exact Int.lt_of_le_of_lt this hn
/-- a second time: nothing changes -/
theorem hG_still {E : hE} {D : hM} {a b : Nat} {w : Int} (hok : hOk E) (he : (a, b, w) ∈ E) (hg : hG E D) {f t : Nat} (hf : f < 5) (ht : t < 5) (h1 : D f a < 1000000) (h2 : D b t < 1000000) : D f t ≤ D f a + w + D b t := by
  obtain ⟨⟨c1, c2, c3⟩, -, b1, -⟩ := hg
  obtain ⟨ha, hb, hw1, hw2⟩ := hok _ he
  have ha : a < 5 := ha
  have hb : b < 5 := hb
  have hw2 : w ≤ 2029 := hw2
  have e1 := c2 _ he
  have e1 : D a b ≤ w := e1
  have e2 := c3 f a b hf ha hb h1 (by omega)
  have k1 := b1 f a hf ha h1
  have k2 := b1 a b ha hb (by omega)
  have e3 := c3 f b t hf hb ht (by omega) h2
  omega
theorem hG_nil : hG [] hI := by
  refine ⟨⟨fun x _ => (by unfold hI; rw [if_pos rfl]; exact Int.le_refl _), fun e he => (by cases he), fun x y z hx hy hz h1 h2 => ?_⟩, hS_I [], fun x y hx hy hl => ?_, fun x _ => (by unfold hI; rw [if_pos rfl])⟩
  · unfold hI at *
    split at h1
    · split at h2
      · subst_vars; simp
      · omega
    · omega
  · have e : hI x y = 0 := by
      unfold hI at hl ⊢
      split
      · rfl
      · rename_i q; rw [if_neg q] at hl; omega
    omega
/-- the law of habits -/
theorem h_law {E : hE} {D : hM} (hok : hOk E) : (hG E D → (∀ x, x < 5 → 0 ≤ hfw (h0 E) 5 x x) ∧ ∀ x y, x < 5 → y < 5 → (hfw (h0 E) 5 x y < 1000000 ↔ D x y < 1000000) ∧ (D x y < 1000000 → hfw (h0 E) 5 x y = D x y)) ∧ (hS E D → hN D → ∃ x, x < 5 ∧ hfw (h0 E) 5 x x < 0) := by
  refine ⟨fun hg => ?_, fun hs ⟨x, hx, hn⟩ => ?_⟩
  · obtain ⟨cp, sn, bd, dg⟩ := hg
    have xg : ∀ x, x < 5 → 0 ≤ hfw (h0 E) 5 x x := fun x hx => by
      by_cases q : 0 ≤ hfw (h0 E) 5 x x
      · exact q
      · have := (hC_eq hok cp (hX_snd _) (bd.mono (by decide)) hx hx (by omega)).1
        rw [dg x hx] at this
        omega
    obtain ⟨xc, xb⟩ := hX_ok hok xg
    refine ⟨xg, fun x y hx hy => ⟨⟨fun h => (hC_eq hok cp (hX_snd _) (bd.mono (by decide)) hx hy h).2, fun h => (hC_eq hok xc sn (xb.mono (by decide)) hx hy h).2⟩, fun h => ?_⟩⟩
    have e1 := hC_eq hok xc sn (xb.mono (by decide)) hx hy h
    have e2 := hC_eq hok cp (hX_snd _) (bd.mono (by decide)) hx hy e1.2
    omega
  · by_cases q : ∀ x, x < 5 → 0 ≤ hfw (h0 E) 5 x x
    · obtain ⟨xc, xb⟩ := hX_ok hok q
      have := (hC_eq hok xc hs (xb.mono (by decide)) hx hx (by omega)).1
      have := q x hx
      omega
    · by_cases z0 : hfw (h0 E) 5 0 0 < 0
      · exact ⟨0, by omega, z0⟩
      by_cases z1 : hfw (h0 E) 5 1 1 < 0
      · exact ⟨1, by omega, z1⟩
      by_cases z2 : hfw (h0 E) 5 2 2 < 0
      · exact ⟨2, by omega, z2⟩
      by_cases z3 : hfw (h0 E) 5 3 3 < 0
      · exact ⟨3, by omega, z3⟩
      by_cases z4 : hfw (h0 E) 5 4 4 < 0
      · exact ⟨4, by omega, z4⟩
      exfalso
      apply q
      intro x hx
      have : x = 0 ∨ x = 1 ∨ x = 2 ∨ x = 3 ∨ x = 4 := by omega
      rcases this with rfl | rfl | rfl | rfl | rfl <;> omega
