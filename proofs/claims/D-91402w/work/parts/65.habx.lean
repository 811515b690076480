/-! ===== X's habits ===== -/
def sL36 : List (Nat × Nat) := [(36, 0), (36, 1), (36, 2), (36, 3), (36, 4)]
def sLx : List (Nat × Nat) := (0, 17) :: sL36
def mtX (Ω : zo_O) (D : hM) : Prop := ∀ x y, x < 5 → y < 5 → (gI Ω 36 x y).toInt = D x y
theorem in36 {x f : Nat} (h : x < 5) : ky 36 x f ∈ sL36 := by
  rw [show ky 36 x f = (36, x) from if_neg (by decide)]
  have : x = 0 ∨ x = 1 ∨ x = 2 ∨ x = 3 ∨ x = 4 := by omega
  rcases this with rfl | rfl | rfl | rfl | rfl <;> decide
theorem mtX_U {Ω : zo_O} {D : hM} {a b : Nat} {v : Int32} {z : Int} (h : mtX Ω D) (e : v.toInt = z) : mtX (sI Ω 36 a b v) (hU D a b z) := fun x y hx hy => by
  rw [gI_sI]
  unfold hU
  by_cases q : x = a ∧ y = b
  · rw [if_pos ⟨rfl, q⟩, if_pos q]; exact e
  · rw [if_neg (fun w => q w.2), if_neg q]; exact h x y hx hy
/-! how low the entries can get -/
def muS (M : List Nat) (m a b : Nat) : List Nat := M.set (5 * a + b) (max (M.getD (5 * a + b) 0) (M.getD (5 * a + m) 0 + M.getD (5 * m + b) 0))
def muR (M : List Nat) (m a : Nat) : Nat → List Nat
  | 0 => M
  | b + 1 => muS (muR M m a b) m a b
def muP (M : List Nat) (m : Nat) : Nat → List Nat
  | 0 => M
  | a + 1 => muR (muP M m a) m a 5
def muF (M : List Nat) : Nat → List Nat
  | 0 => M
  | m + 1 => muP (muF M m) m 5
def mu0 : List Nat := List.replicate 25 1
theorem mu_all : ∀ m, m < 5 → ∀ a, a < 5 → ∀ b, b < 6 → ((muR (muP (muF mu0 m) m a) m a b).all (fun x => decide (x ≤ 7776))) = true := by decide +kernel
def LB (D : hM) (M : List Nat) : Prop := M.length = 25 ∧ ∀ x y, x < 5 → y < 5 → -(2029 * (M.getD (5 * x + y) 0 : Int)) ≤ D x y
theorem LB_fs {D : hM} {M : List Nat} {m a b : Nat} (hm : m < 5) (ha : a < 5) (hb : b < 5) (h : LB D M) : LB (hfs D m a b) (muS M m a b) := by
  obtain ⟨h1, h2⟩ := h
  refine ⟨by simp [muS, h1], fun x y hx hy => ?_⟩
  have e : (muS M m a b).getD (5 * x + y) 0 = if 5 * a + b = 5 * x + y then max (M.getD (5 * a + b) 0) (M.getD (5 * a + m) 0 + M.getD (5 * m + b) 0) else M.getD (5 * x + y) 0 := by
    unfold muS
    rw [List.getD_eq_getElem?_getD, List.getElem?_set]
    split
    · rw [if_pos (by omega)]; rfl
    · rw [← List.getD_eq_getElem?_getD]
  rw [e]
  have q1 := h2 a m ha hm
  have q2 := h2 m b hm hb
  have q3 := h2 a b ha hb
  have q4 := h2 x y hx hy
  unfold hfs
  by_cases g : x = a ∧ y = b
  · obtain ⟨rfl, rfl⟩ := g
    rw [if_pos rfl]
    split
    · unfold hU
      rw [if_pos ⟨rfl, rfl⟩]
      omega
    · omega
  · rw [if_neg (by omega)]
    split
    · unfold hU
      rw [if_neg g]
      exact q4
    · exact q4
theorem LB_row {D : hM} {M : List Nat} {m a : Nat} (hm : m < 5) (ha : a < 5) (h : LB D M) : ∀ b, b ≤ 5 → LB (hrow D m a b) (muR M m a b)
  | 0, _ => h
  | b + 1, hb => LB_fs hm ha (by omega) (LB_row hm ha h b (by omega))
theorem LB_ph {D : hM} {M : List Nat} {m : Nat} (hm : m < 5) (h : LB D M) : ∀ a, a ≤ 5 → LB (hph D m a) (muP M m a)
  | 0, _ => h
  | a + 1, ha => LB_row hm (by omega) (LB_ph hm h a (by omega)) 5 (by omega)
theorem LB_fw {D : hM} {M : List Nat} (h : LB D M) : ∀ m, m ≤ 5 → LB (hfw D m) (muF M m)
  | 0, _ => h
  | m + 1, hm => LB_ph (by omega) (LB_fw h m (by omega)) 5 (by omega)
theorem fw_low {D : hM} (h : LB D mu0) {m a b : Nat} (hm : m < 5) (ha : a < 5) (hb : b ≤ 5) {x y : Nat} (hx : x < 5) (hy : y < 5) : -20000000 ≤ hrow (hph (hfw D m) m a) m a b x y := by
  have q := LB_row hm ha (LB_ph hm (LB_fw h m (by omega)) a (by omega)) b hb
  have k := mu_all m hm a ha b (by omega)
  rw [List.all_eq_true] at k
  obtain ⟨q1, q2⟩ := q
  have q3 := q2 x y hx hy
  have : (muR (muP (muF mu0 m) m a) m a b).getD (5 * x + y) 0 ≤ 7776 := by
    have hl : 5 * x + y < (muR (muP (muF mu0 m) m a) m a b).length := by omega
    rw [List.getD_eq_getElem?_getD, List.getElem?_eq_getElem hl]
    simpa using k _ (List.getElem_mem hl)
  omega
def rgU (D : hM) : Prop := ∀ x y, x < 5 → y < 5 → D x y ≤ 1000000
theorem x_fs {N m a b : Nat} {Ω : zo_O} {D : hM} {K169 : Int32 → zo_O → Option zo_R} {K176 : Int32 → Int32 → zo_O → Option zo_R} {K184 : Int32 → Int32 → Int32 → zo_O → Option zo_R} (hm : m < 5) (ha : a < 5) (hb : b < 5) (h5 : ∀ j, j < 5 → gL Ω 36 j = 5) (hx : mtX Ω D) (hu : rgU D) (hl : ∀ x y, x < 5 → y < 5 → -20000000 ≤ D x y) :
    ∃ Ω', bd_X1_findHabits_184 N K169 K176 K184 (nI m) (nI a) (nI b) Ω = K184 (nI m) (nI a) (nI (b + 1)) Ω' ∧ Wx sL36 Ω Ω' ∧ mtX Ω' (hfs D m a b) := by
  have l5 : ¬ (5 : Int32) ≤ nI b := by rw [show (5 : Int32) = nI 5 from rfl, nI_leI (by decide) (by omega)]; omega
  have e1 := hx a m ha hm
  have e2 := hx m b hm hb
  have e3 := hx a b ha hb
  have u1 := hu a m ha hm
  have u2 := hu m b hm hb
  have d1 := hl a m ha hm
  have d2 := hl m b hm hb
  have c1 : (1000000 : Int32) ≤ gI Ω 36 a m ↔ 1000000 ≤ D a m := by rw [fa_le, e1]; exact Iff.rfl
  have c2 : (1000000 : Int32) ≤ gI Ω 36 m b ↔ 1000000 ≤ D m b := by rw [fa_le, e2]; exact Iff.rfl
  have s1 : (mn (gI Ω 36 a b) (gI Ω 36 a m + gI Ω 36 m b)).toInt = min (D a b) (D a m + D m b) := by rw [fi_mn, fi_add (by omega) (by omega), e1, e2, e3]
  unfold bd_X1_findHabits_184 fn_X1_findHabits_256
  simp only [if_neg l5, ix_n ha (show 5 < 2147483648 by decide), ix_n hm (show 5 < 2147483648 by decide), ix_n hb (show 5 < 2147483648 by decide), h5 a ha, h5 m hm, c1, c2, lt, nI_1]
  unfold hfs
  by_cases h1 : 1000000 ≤ D a m
  · rw [if_pos h1, if_neg (by omega)]
    exact ⟨Ω, rfl, Wx.refl, hx⟩
  · rw [if_neg h1]
    by_cases h2 : 1000000 ≤ D m b
    · rw [if_pos h2, if_neg (by omega)]
      exact ⟨Ω, rfl, Wx.refl, hx⟩
    · rw [if_neg h2, if_pos (by omega)]
      exact ⟨_, rfl, Wx.refl.sI (Or.inl (in36 ha)), mtX_U hx s1⟩
theorem rgU_fs {D : hM} {m a b : Nat} (h : rgU D) : rgU (hfs D m a b) := fun x y hx hy => Int.le_trans (hfs_le D m a b x y) (h x y hx hy)
theorem L36_W {Ω Ω' : zo_O} {L : List (Nat × Nat)} (h5 : ∀ j, j < 5 → gL Ω 36 j = 5) (hw : Wx L Ω Ω') : ∀ j, j < 5 → gL Ω' 36 j = 5 := fun j hj => by
  rw [hw.L (Or.inl (fx_m (by decide)))]; exact h5 j hj
section F
variable {N : Nat} {D0 : hM} (hlb : LB D0 mu0) (hu0 : rgU D0)
include hlb hu0
theorem fw_up {m a b : Nat} : rgU (hrow (hph (hfw D0 m) m a) m a b) := fun x y hx hy =>
  Int.le_trans (hrow_le _ _ _ _ _ _) (Int.le_trans (hph_le _ _ _ _ _) (Int.le_trans (by have := hfw_le D0 x y 0 m; rw [Nat.zero_add] at this; exact this) (hu0 x y hx hy)))
theorem x_fwR {m a : Nat} {K169 : Int32 → zo_O → Option zo_R} {K176 : Int32 → Int32 → zo_O → Option zo_R} (hm : m < 5) (ha : a < 5) : ∀ k b n Ω, b + k = 5 → k < n → (∀ j, j < 5 → gL Ω 36 j = 5) → mtX Ω (hrow (hph (hfw D0 m) m a) m a b) → ∃ Ω', fn_X1_findHabits_184 N K169 K176 n (nI m) (nI a) (nI b) Ω = K176 (nI m) (nI (a + 1)) Ω' ∧ Wx sL36 Ω Ω' ∧ mtX Ω' (hph (hfw D0 m) m (a + 1)) := by
  intro k
  induction k with
  | zero =>
    intro b n Ω hb hn h5 hx
    obtain ⟨n, rfl⟩ : ∃ k, n = k + 1 := ⟨n - 1, by omega⟩
    have : b = 5 := by omega
    subst this
    unfold fn_X1_findHabits_184 bd_X1_findHabits_184
    rw [if_pos (by decide), nI_1]
    exact ⟨Ω, rfl, Wx.refl, hx⟩
  | succ k ih =>
    intro b n Ω hb hn h5 hx
    obtain ⟨n, rfl⟩ : ∃ k, n = k + 1 := ⟨n - 1, by omega⟩
    unfold fn_X1_findHabits_184
    obtain ⟨Ω1, e1, w1, m1⟩ := x_fs (N := N) (K169 := K169) (K176 := K176) (K184 := fn_X1_findHabits_184 N K169 K176 n) hm ha (show b < 5 by omega) h5 hx (fw_up hlb hu0) (fun x y hx hy => fw_low hlb hm ha (by omega) hx hy)
    obtain ⟨Ω2, e2, w2, m2⟩ := ih (b + 1) n Ω1 (by omega) (by omega) (L36_W h5 w1) m1
    exact ⟨Ω2, e1.trans e2, w1.trans w2, m2⟩
theorem x_fwP {m : Nat} {K169 : Int32 → zo_O → Option zo_R} (hN : 6 ≤ N) (hm : m < 5) : ∀ k a n Ω, a + k = 5 → k < n → (∀ j, j < 5 → gL Ω 36 j = 5) → mtX Ω (hph (hfw D0 m) m a) → ∃ Ω', fn_X1_findHabits_176 N K169 n (nI m) (nI a) Ω = K169 (nI (m + 1)) Ω' ∧ Wx sL36 Ω Ω' ∧ mtX Ω' (hfw D0 (m + 1)) := by
  intro k
  induction k with
  | zero =>
    intro b n Ω hb hn h5 hx
    obtain ⟨n, rfl⟩ : ∃ k, n = k + 1 := ⟨n - 1, by omega⟩
    have : b = 5 := by omega
    subst this
    unfold fn_X1_findHabits_176 bd_X1_findHabits_176
    rw [if_pos (by decide), nI_1]
    exact ⟨Ω, rfl, Wx.refl, hx⟩
  | succ k ih =>
    intro a n Ω hb hn h5 hx
    obtain ⟨n, rfl⟩ : ∃ k, n = k + 1 := ⟨n - 1, by omega⟩
    unfold fn_X1_findHabits_176 bd_X1_findHabits_176
    rw [if_neg (by rw [show (5 : Int32) = nI 5 from rfl, nI_leI (by decide) (by omega)]; omega)]
    obtain ⟨Ω1, e1, w1, m1⟩ := x_fwR (N := N) (K169 := K169) (K176 := fn_X1_findHabits_176 N K169 n) hlb hu0 hm (show a < 5 by omega) 5 0 N Ω (by omega) (by omega) h5 hx
    obtain ⟨Ω2, e2, w2, m2⟩ := ih (a + 1) n Ω1 (by omega) (by omega) (L36_W h5 w1) m1
    exact ⟨Ω2, e1.trans e2, w1.trans w2, m2⟩
theorem x_fwF (hN : 6 ≤ N) : ∀ k m n Ω, m + k = 5 → k < n → (∀ j, j < 5 → gL Ω 36 j = 5) → mtX Ω (hfw D0 m) → ∃ Ω', fn_X1_findHabits_169 N n (nI m) Ω = fn_X1_findHabits_281 N N 0 (sI Ω' 0 0 17 0) ∧ Wx sL36 Ω Ω' ∧ mtX Ω' (hfw D0 5) := by
  intro k
  induction k with
  | zero =>
    intro b n Ω hb hn h5 hx
    obtain ⟨n, rfl⟩ : ∃ k, n = k + 1 := ⟨n - 1, by omega⟩
    have : b = 5 := by omega
    subst this
    unfold fn_X1_findHabits_169 bd_X1_findHabits_169
    rw [if_pos (by decide)]
    exact ⟨Ω, rfl, Wx.refl, hx⟩
  | succ k ih =>
    intro m n Ω hb hn h5 hx
    obtain ⟨n, rfl⟩ : ∃ k, n = k + 1 := ⟨n - 1, by omega⟩
    unfold fn_X1_findHabits_169 bd_X1_findHabits_169
    rw [if_neg (by rw [show (5 : Int32) = nI 5 from rfl, nI_leI (by decide) (by omega)]; omega)]
    obtain ⟨Ω1, e1, w1, m1⟩ := x_fwP (N := N) (K169 := fn_X1_findHabits_169 N n) hlb hu0 hN (show m < 5 by omega) 5 0 N Ω (by omega) (by omega) h5 hx
    obtain ⟨Ω2, e2, w2, m2⟩ := ih (m + 1) n Ω1 (by omega) (by omega) (L36_W h5 w1) m1
    exact ⟨Ω2, e1.trans e2, w1.trans w2, m2⟩
end F
theorem x_hq {N : Nat} {D : hM} : ∀ m i n Ω (fl : Int32), i + m = 5 → m < n → (fl = 0 ∨ fl = 1) → gI Ω 0 0 17 = fl → mtX Ω D → (∀ j, j < 5 → gL Ω 36 j = 5) → ∃ Ω' fl', fn_X1_findHabits_281 N n (nI i) Ω = some (none, Ω', 0, 0) ∧ Wx [(0, 17)] Ω Ω' ∧ gI Ω' 0 0 17 = fl' ∧ (fl' = 0 ∨ fl' = 1) ∧ (fl' = 1 ↔ (fl = 1 ∨ ∃ x, i ≤ x ∧ x < 5 ∧ D x x < 0)) := by
  intro m
  induction m with
  | zero =>
    intro i n Ω fl hi hn hl h65 hm h5
    obtain ⟨n, rfl⟩ : ∃ k, n = k + 1 := ⟨n - 1, by omega⟩
    have : i = 5 := by omega
    subst this
    unfold fn_X1_findHabits_281 bd_X1_findHabits_281
    rw [if_pos (by decide)]
    refine ⟨Ω, fl, rfl, Wx.refl, h65, hl, ?_⟩
    constructor
    · exact Or.inl
    · rintro (h | ⟨x, h1, h2, _⟩)
      · exact h
      · omega
  | succ m ih =>
    intro i n Ω fl hi hn hl h65 hm h5
    obtain ⟨n, rfl⟩ : ∃ k, n = k + 1 := ⟨n - 1, by omega⟩
    have l5 : ¬ (5 : Int32) ≤ nI i := by rw [show (5 : Int32) = nI 5 from rfl, nI_leI (by decide) (by omega)]; omega
    have hd := hm i i (by omega) (by omega)
    have c1 : (0 : Int32) ≤ gI Ω 36 i i ↔ 0 ≤ D i i := by rw [fa_le, hd]; exact Iff.rfl
    have key : ∀ v : Int32, (v = 0 ∨ v = 1) → (v = 1 ↔ (fl = 1 ∨ D i i < 0)) → ∃ Ω' fl', fn_X1_findHabits_281 N n (nI (i + 1)) (sI Ω 0 0 17 v) = some (none, Ω', 0, 0) ∧ Wx [(0, 17)] Ω Ω' ∧ gI Ω' 0 0 17 = fl' ∧ (fl' = 0 ∨ fl' = 1) ∧ (fl' = 1 ↔ (fl = 1 ∨ ∃ x, i ≤ x ∧ x < 5 ∧ D x x < 0)) := by
      intro v hv hv2
      have hW : Wx [(0, 17)] Ω (sI Ω 0 0 17 v) := Wx.refl.sI (Or.inl (by simp [ky]))
      obtain ⟨Ω', fl', k1, k2, k3, k4, k5⟩ := ih (i + 1) n (sI Ω 0 0 17 v) v (by omega) (by omega) hv (by rw [gI_sI, if_pos ⟨rfl, rfl, rfl⟩]) (fun x y hx hy => by rw [gI_sI, if_neg (by omega)]; exact hm x y hx hy) (L36_W h5 hW)
      refine ⟨Ω', fl', k1, hW.trans k2, k3, k4, k5.trans ?_⟩
      rw [hv2]
      constructor
      · rintro ((h | h) | ⟨x, h1, h2, h3⟩)
        · exact Or.inl h
        · exact Or.inr ⟨i, by omega, by omega, h⟩
        · exact Or.inr ⟨x, by omega, h2, h3⟩
      · rintro (h | ⟨x, h1, h2, h3⟩)
        · exact Or.inl (Or.inl h)
        · by_cases e : x = i
          · subst e; exact Or.inl (Or.inr h3)
          · exact Or.inr ⟨x, by omega, h2, h3⟩
    unfold fn_X1_findHabits_281 bd_X1_findHabits_281 fn_X1_findHabits_305 fn_X1_findHabits_310
    simp only [if_neg l5, h65, ix_n (show i < 5 by omega) (show 5 < 2147483648 by decide), h5 i (by omega), c1, gd, lt, nI_1]
    rcases hl with rfl | rfl
    · rw [if_pos rfl]
      by_cases h : 0 ≤ D i i
      · rw [if_pos h, if_pos (by decide)]
        exact key 0 (Or.inl rfl) ⟨fun q => absurd q (by decide), fun q => by rcases q with q | q; exact q; omega⟩
      · rw [if_neg h, if_pos (by decide)]
        exact key 1 (Or.inr rfl) ⟨fun q => Or.inr (by omega), fun q => rfl⟩
    · rw [if_neg (by decide), if_pos (by decide)]
      exact key 1 (Or.inr rfl) ⟨fun q => Or.inl rfl, fun q => rfl⟩
