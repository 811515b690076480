/-! ===== the base of a call: what no question changes ===== -/
theorem gJ_nw (Ω : zo_O) (k len k' n' f' : Nat) : gJ (nw Ω k len) k' n' f' = if k' = k ∧ n' = gC Ω k then 0 else gJ Ω k' n' f' := rfl
def ky (k n f : Nat) : Nat × Nat := if k ≤ 1 then (k, f) else (k, n)
def fx (k : Nat) : Prop := k ≤ 1 ∨ (32 ≤ k ∧ k ≠ 35 ∧ k ≠ 40)
/-- Ω' is Ω but for the cells of L and what is new -/
def Wx (L : List (Nat × Nat)) (Ω Ω' : zo_O) : Prop :=
  (∀ k n f, ky k n f ∉ L → (fx k ∨ n < gC Ω k) → gI Ω' k n f = gI Ω k n f) ∧
  (∀ k n f, ky k n f ∉ L → (fx k ∨ n < gC Ω k) → gR Ω' k n f = gR Ω k n f) ∧
  (∀ n, (20, n) ∉ L → n < gC Ω 20 → gS Ω' n = gS Ω n) ∧ (∀ k, gC Ω k ≤ gC Ω' k) ∧ (∀ k, k ≤ 8 → gC Ω' k = gC Ω k) ∧ (∀ k n, (fx k ∨ n < gC Ω k) → gL Ω' k n = gL Ω k n) ∧ ((42, 0) ∉ L → ∀ f, gJ Ω' 42 0 f = gJ Ω 42 0 f)
theorem Wx.refl {L : List (Nat × Nat)} {Ω : zo_O} : Wx L Ω Ω := ⟨fun _ _ _ _ _ => rfl, fun _ _ _ _ _ => rfl, fun _ _ _ => rfl, fun _ => Nat.le_refl _, fun _ _ => rfl, fun _ _ _ => rfl, fun _ _ => rfl⟩
theorem Wx.trans {L : List (Nat × Nat)} {A B C : zo_O} (h1 : Wx L A B) (h2 : Wx L B C) : Wx L A C := by
  obtain ⟨a1, a2, a3, a4, a5, a6, a7⟩ := h1
  obtain ⟨b1, b2, b3, b4, b5, b6, b7⟩ := h2
  have hk : ∀ k n, (fx k ∨ n < gC A k) → (fx k ∨ n < gC B k) := fun k n h => by
    rcases h with h | h
    · exact Or.inl h
    · exact Or.inr (Nat.lt_of_lt_of_le h (a4 k))
  exact ⟨fun k n f m h => (b1 k n f m (hk k n h)).trans (a1 k n f m h), fun k n f m h => (b2 k n f m (hk k n h)).trans (a2 k n f m h),
    fun n m h => (b3 n m (Nat.lt_of_lt_of_le h (a4 20))).trans (a3 n m h), fun k => Nat.le_trans (a4 k) (b4 k), fun k h => (b5 k h).trans (a5 k h), fun k n h => (b6 k n (hk k n h)).trans (a6 k n h), fun m f => (b7 m f).trans (a7 m f)⟩
theorem Wx.mono {L L' : List (Nat × Nat)} {A B : zo_O} (h : Wx L A B) (hs : ∀ x ∈ L, x ∈ L') : Wx L' A B :=
  ⟨fun k n f m q => h.1 k n f (fun x => m (hs _ x)) q, fun k n f m q => h.2.1 k n f (fun x => m (hs _ x)) q, fun n m => h.2.2.1 n (fun x => m (hs _ x)), h.2.2.2.1, h.2.2.2.2.1, h.2.2.2.2.2.1, fun m => h.2.2.2.2.2.2 (fun x => m (hs _ x))⟩
theorem Wx.step {L L' : List (Nat × Nat)} {A B C : zo_O} (h1 : Wx L' A B) (h2 : Wx L B C) (hs : ∀ x ∈ L, x ∈ L') : Wx L' A C := h1.trans (h2.mono hs)
theorem Wx.I {L : List (Nat × Nat)} {A B : zo_O} (h : Wx L A B) {k n f : Nat} (m : ky k n f ∉ L) (q : fx k ∨ n < gC A k) : gI B k n f = gI A k n f := h.1 k n f m q
theorem Wx.R {L : List (Nat × Nat)} {A B : zo_O} (h : Wx L A B) {k n f : Nat} (m : ky k n f ∉ L) (q : fx k ∨ n < gC A k) : gR B k n f = gR A k n f := h.2.1 k n f m q
theorem Wx.S {L : List (Nat × Nat)} {A B : zo_O} (h : Wx L A B) {n : Nat} (m : (20, n) ∉ L) (q : n < gC A 20) : gS B n = gS A n := h.2.2.1 n m q
theorem Wx.C {L : List (Nat × Nat)} {A B : zo_O} (h : Wx L A B) (k : Nat) : gC A k ≤ gC B k := h.2.2.2.1 k
theorem Wx.C8 {L : List (Nat × Nat)} {A B : zo_O} (h : Wx L A B) {k : Nat} (q : k ≤ 8) : gC B k = gC A k := h.2.2.2.2.1 k q
theorem Wx.L {L : List (Nat × Nat)} {A B : zo_O} (h : Wx L A B) {k n : Nat} (q : fx k ∨ n < gC A k) : gL B k n = gL A k n := h.2.2.2.2.2.1 k n q
theorem Wx.J {L : List (Nat × Nat)} {A B : zo_O} (h : Wx L A B) (m : (42, 0) ∉ L) (f : Nat) : gJ B 42 0 f = gJ A 42 0 f := h.2.2.2.2.2.2 m f
/-- one int written in a cell of L -/
theorem Wx.sI {L : List (Nat × Nat)} {A B : zo_O} {k n f : Nat} {v : Int32} (h : Wx L A B) (m : ky k n f ∈ L ∨ (¬ fx k ∧ gC A k ≤ n)) : Wx L A (sI B k n f v) := by
  refine ⟨fun k' n' f' m' q => ?_, fun k' n' f' m' q => ?_, fun n mm q => ?_, fun k => ?_, fun k q => ?_, fun k n q => ?_, fun m f => ?_⟩
  · rw [gI_sI]
    by_cases e : k' = k ∧ n' = n ∧ f' = f
    · obtain ⟨rfl, rfl, rfl⟩ := e
      rcases m with m | m
      · exact absurd m m'
      · rcases q with q | q
        · exact absurd q m.1
        · omega
    · rw [if_neg e]; exact h.1 k' n' f' m' q
  · rw [gR_sI]; exact h.2.1 k' n' f' m' q
  · rw [gS_sI]; exact h.S mm q
  · rw [gC_sI]; exact h.C k
  · rw [gC_sI]; exact h.C8 q
  · rw [gL_sI]; exact h.L q
  · exact h.J m f
theorem Wx.sR {L : List (Nat × Nat)} {A B : zo_O} {k n f : Nat} {v : Option zo_T} (h : Wx L A B) (m : ky k n f ∈ L ∨ (¬ fx k ∧ gC A k ≤ n)) : Wx L A (sR B k n f v) := by
  refine ⟨fun k' n' f' m' q => ?_, fun k' n' f' m' q => ?_, fun n mm q => ?_, fun k => ?_, fun k q => ?_, fun k n q => ?_, fun m f => ?_⟩
  · rw [gI_sR]; exact h.1 k' n' f' m' q
  · rw [gR_sR]
    by_cases e : k' = k ∧ n' = n ∧ f' = f
    · obtain ⟨rfl, rfl, rfl⟩ := e
      rcases m with m | m
      · exact absurd m m'
      · rcases q with q | q
        · exact absurd q m.1
        · omega
    · rw [if_neg e]; exact h.2.1 k' n' f' m' q
  · rw [gS_sR]; exact h.S mm q
  · rw [gC_sR]; exact h.C k
  · rw [gC_sR]; exact h.C8 q
  · rw [gL_sR]; exact h.L q
  · exact h.J m f
theorem Wx.sS {L : List (Nat × Nat)} {A B : zo_O} {n : Nat} {l : List zo_T} (h : Wx L A B) (m : (20, n) ∈ L ∨ gC A 20 ≤ n) : Wx L A (sS B n l) := by
  refine ⟨fun k' n' f' m' q => ?_, fun k' n' f' m' q => ?_, fun n' mm q => ?_, fun k => ?_, fun k q => ?_, fun k n q => ?_, fun m f => ?_⟩
  · rw [gI_sS]; exact h.1 k' n' f' m' q
  · rw [gR_sS]; exact h.2.1 k' n' f' m' q
  · rw [gS_sS, if_neg (by rintro rfl; rcases m with m | m; exact mm m; omega)]; exact h.S mm q
  · rw [gC_sS]; exact h.C k
  · rw [gC_sS]; exact h.C8 q
  · rw [gL_sS]; exact h.L q
  · exact h.J m f
theorem Wx.nw {L : List (Nat × Nat)} {A B : zo_O} {k l : Nat} (h : Wx L A B) (m : 8 < k ∧ (k < 32 ∨ k = 35)) : Wx L A (nw B k l) := by
  have hc := h.C
  refine ⟨fun k' n' f' m' q => ?_, fun k' n' f' m' q => ?_, fun n' mm q => ?_, fun k' => ?_, fun k' q => ?_, fun k' n' q => ?_, fun m f => ?_⟩
  · rw [gI_nw, if_neg]
    · exact h.1 k' n' f' m' q
    · rintro ⟨rfl, rfl⟩
      rcases q with q | q
      · unfold fx at q; omega
      · have := hc k'; omega
  · rw [gR_nw, if_neg]
    · exact h.2.1 k' n' f' m' q
    · rintro ⟨rfl, rfl⟩
      rcases q with q | q
      · unfold fx at q; omega
      · have := hc k'; omega
  · rw [gS_nw, if_neg]
    · exact h.S mm q
    · rintro ⟨rfl, rfl⟩
      have := hc 20; omega
  · rw [gC_nw]; have := hc k'; split
    · rename_i e; subst e; omega
    · exact this
  · rw [gC_nw, if_neg (by omega)]; exact h.C8 q
  · rw [gL_nw, if_neg]
    · exact h.L q
    · rintro ⟨rfl, rfl⟩
      rcases q with q | q
      · unfold fx at q; omega
      · have := hc k'; omega
  · rw [gJ_nw, if_neg (by omega)]; exact h.J m f
theorem Wx.sJ {L : List (Nat × Nat)} {A B : zo_O} {f : Nat} {v : Int64} (h : Wx L A B) (m : (42, 0) ∈ L) : Wx L A (sJ B 42 0 f v) :=
  ⟨h.1, h.2.1, h.2.2.1, h.2.2.2.1, h.2.2.2.2.1, h.2.2.2.2.2.1, fun q => absurd m q⟩
theorem fx_0 : fx 0 := Or.inl (by decide)
theorem fx_1 : fx 1 := Or.inl (by decide)
theorem fx_m {k : Nat} (h : 32 ≤ k ∧ k ≠ 35 ∧ k ≠ 40) : fx k := Or.inr h
/-- all that a question may write: X's habits, curves, spans, sizes; M's scratch -/
def sQ : List (Nat × Nat) := [(42, 0), (0, 17), (0, 21), (0, 22), (36, 0), (36, 1), (36, 2), (36, 3), (36, 4), (39, 0), (41, 0), (1, 0), (1, 65), (1, 66), (1, 67), (1, 68), (1, 73), (32, 36), (32, 37), (32, 38), (32, 39), (32, 40), (32, 41), (32, 42), (32, 43), (32, 44), (32, 45), (32, 46), (32, 47), (33, 3), (33, 4)]
/-- and, within a call, the site left out -/
def sS0 : List (Nat × Nat) := (0, 19) :: sQ
/-- single ints, delays, tape; all but the site left out -/
def IvY (Ω : zo_O) : Prop := gI Ω 0 0 8 = gI Ω 1 0 1 ∧ gI Ω 0 0 9 = gI Ω 1 0 41 ∧ gI Ω 0 0 10 = gI Ω 1 0 42 ∧ gI Ω 0 0 11 = gI Ω 1 0 43 ∧ gI Ω 0 0 13 = gI Ω 1 0 54 ∧ gI Ω 0 0 14 = gI Ω 1 0 56 ∧ (0 ≤ gI Ω 1 0 1 ∧ gI Ω 1 0 1 ≤ 100000) ∧ (0 ≤ gI Ω 1 0 41 ∧ gI Ω 1 0 41 ≤ 30) ∧ (1 ≤ gI Ω 1 0 42 ∧ gI Ω 1 0 42 ≤ 40) ∧ (1 ≤ gI Ω 1 0 43 ∧ gI Ω 1 0 43 ≤ 999) ∧ (0 ≤ gI Ω 1 0 54 ∧ gI Ω 1 0 54 ≤ 300) ∧
  (∀ i, i < 3 → gI Ω 43 0 i = gI Ω 32 31 i ∧ 0 ≤ gI Ω 32 31 i ∧ gI Ω 32 31 i ≤ 60) ∧ ∀ i, i < 300 → gI Ω 38 0 i = gI Ω 34 0 i
theorem IvY_Z {Ω : zo_O} (h : IvZ Ω) : IvY Ω := by
  obtain ⟨a, b, c, d, e, f, _, r⟩ := h
  exact ⟨a, b, c, d, e, f, r⟩
/-- one term: X's object e against M's columns -/
def rlT (Ω : zo_O) (j e : Nat) : Prop := e < gC Ω 13 ∧ gI Ω 13 e 0 = gI Ω 32 33 j ∧ (0 ≤ gI Ω 32 33 j ∧ gI Ω 32 33 j ≤ 9) ∧
  ((gI Ω 32 34 j = 0 ∧ gI Ω 13 e 1 = 60) ∨ (gI Ω 32 34 j = 1 ∧ gI Ω 13 e 1 = 61) ∨ (gI Ω 32 34 j = 2 ∧ gI Ω 13 e 1 = 62)) ∧
  gI Ω 13 e 2 = gI Ω 32 35 j ∧ gI Ω 13 e 3 = gI Ω 33 2 j ∧ (gI Ω 33 2 j = 0 ∨ gI Ω 33 2 j = 1)
/-- one statement -/
def rlS (Ω : zo_O) (s : Nat) (t : zo_T) : Prop := ((t.1 = 11 ∧ gI Ω 33 1 s = 1) ∨ (t.1 = 12 ∧ gI Ω 33 1 s = 0)) ∧ t.2 < gC Ω t.1 ∧
  ∃ q, gR Ω t.1 t.2 0 = some (20, q) ∧ 7 ≤ q ∧ q < gC Ω 20 ∧ gI Ω 32 32 s = nI (gS Ω q).length ∧ (gS Ω q).length ≤ 4 ∧
    ∀ i, i < (gS Ω q).length → ∃ e, (gS Ω q)[i]? = some (13, e) ∧ rlT Ω (4 * s + i) e
/-- the rule -/
def IvR (Ω : zo_O) : Prop := ∃ r, gR Ω 0 0 15 = some (20, r) ∧ 7 ≤ r ∧ r < gC Ω 20 ∧ (gS Ω r).length ≤ 12 ∧ gI Ω 1 0 45 = nI (gS Ω r).length ∧
  ∀ s, s < (gS Ω r).length → ∃ t, (gS Ω r)[s]? = some t ∧ rlS Ω s t
def Bse (B : zo_O) : Prop := IvL B ∧ IvF B ∧ IvS B ∧ IvC B ∧ IvO B ∧ IvY B ∧ IvR B ∧ 7 ≤ gC B 20 ∧ ∀ j, j < 5 → gL B 36 j = 5
def Iv (Ω : zo_O) : Prop := Bse Ω ∧ gI Ω 0 0 19 = -1 ∧ gL Ω 42 0 = 1
theorem rlT_W {A B : zo_O} {L : List (Nat × Nat)} (h : Wx L A B) (hL : ∀ x ∈ L, x ∈ sS0) {j e : Nat} (q : rlT A j e) : rlT B j e := by
  have h := h.mono hL
  obtain ⟨a, b, c, d, e1, f, g⟩ := q
  have h1 : ∀ f, gI B 13 e f = gI A 13 e f := fun f => h.I (by simp [ky, sS0, sQ]) (Or.inr a)
  have h2 : gI B 32 33 j = gI A 32 33 j := h.I (by simp [ky, sS0, sQ]) (Or.inl (fx_m (by decide)))
  have h3 : gI B 32 34 j = gI A 32 34 j := h.I (by simp [ky, sS0, sQ]) (Or.inl (fx_m (by decide)))
  have h4 : gI B 32 35 j = gI A 32 35 j := h.I (by simp [ky, sS0, sQ]) (Or.inl (fx_m (by decide)))
  have h5 : gI B 33 2 j = gI A 33 2 j := h.I (by simp [ky, sS0, sQ]) (Or.inl (fx_m (by decide)))
  unfold rlT
  rw [h1, h1, h1, h1, h2, h3, h4, h5]
  exact ⟨Nat.lt_of_lt_of_le a (h.C 13), b, c, d, e1, f, g⟩
theorem rlS_W {A B : zo_O} {L : List (Nat × Nat)} (h : Wx L A B) (hL : ∀ x ∈ L, x ∈ sS0) {s : Nat} {t : zo_T} (q : rlS A s t) : rlS B s t := by
  have hh := h.mono hL
  obtain ⟨a, b, r, c, d7, d, e, f, g⟩ := q
  have h1 : gI B 33 1 s = gI A 33 1 s := hh.I (by simp [ky, sS0, sQ]) (Or.inl (fx_m (by decide)))
  have h2 : gI B 32 32 s = gI A 32 32 s := hh.I (by simp [ky, sS0, sQ]) (Or.inl (fx_m (by decide)))
  have h3 : gR B t.1 t.2 0 = gR A t.1 t.2 0 := hh.R (by rcases a with a | a <;> simp [ky, sS0, sQ, a.1]) (Or.inr b)
  have h4 : gS B r = gS A r := hh.S (by simp [sS0, sQ]) d
  refine ⟨by rw [h1]; exact a, Nat.lt_of_lt_of_le b (hh.C _), r, by rw [h3]; exact c, d7, Nat.lt_of_lt_of_le d (hh.C _), by rw [h2, h4]; exact e, by rw [h4]; exact f, ?_⟩
  rw [h4]
  intro i hi
  obtain ⟨e, e1, e2⟩ := g i hi
  exact ⟨e, e1, rlT_W h hL e2⟩
theorem IvR_W {A B : zo_O} {L : List (Nat × Nat)} (h : Wx L A B) (hL : ∀ x ∈ L, x ∈ sS0) (q : IvR A) : IvR B := by
  have hh := h.mono hL
  obtain ⟨r, a, b, c, d, e, f⟩ := q
  have h4 : gS B r = gS A r := hh.S (by simp [sS0, sQ]) c
  refine ⟨r, ?_, b, Nat.lt_of_lt_of_le c (hh.C _), by rw [h4]; exact d, ?_, ?_⟩
  · rw [hh.R (by simp [ky, sS0, sQ]) (Or.inl fx_0)]; exact a
  · rw [h4, hh.I (by simp [ky, sS0, sQ]) (Or.inl fx_1)]; exact e
  · rw [h4]
    intro s hs
    obtain ⟨t, t1, t2⟩ := f s hs
    exact ⟨t, t1, rlS_W h hL t2⟩
section W
variable {A B : zo_O} (h : Wx sS0 A B)
include h
theorem w_c {n : Nat} (hn : n ≤ 35) (i : Nat) : gI B 32 n i = gI A 32 n i := h.I (by simp [ky, sS0, sQ]; omega) (Or.inl (fx_m (by decide)))
theorem w_b {n : Nat} (hn : n ≤ 2) (i : Nat) : gI B 33 n i = gI A 33 n i := h.I (by simp [ky, sS0, sQ]; omega) (Or.inl (fx_m (by decide)))
theorem w_m {f : Nat} (hf : (1, f) ∉ sS0) : gI B 1 0 f = gI A 1 0 f := h.I hf (Or.inl fx_1)
theorem w_x {f : Nat} (hf : (0, f) ∉ sS0) : gI B 0 0 f = gI A 0 0 f := h.I hf (Or.inl fx_0)
theorem w_o {k n : Nat} (hk : 2 ≤ k ∧ k ≤ 31) (hn : n < gC A k) (f : Nat) : gI B k n f = gI A k n f := h.I (by rw [show ky k n f = (k, n) from if_neg (by omega)]; simp [sS0, sQ]; omega) (Or.inr hn)
theorem w_r {k n : Nat} (hk : 2 ≤ k ∧ k ≤ 31) (hn : n < gC A k) (f : Nat) : gR B k n f = gR A k n f := h.R (by rw [show ky k n f = (k, n) from if_neg (by omega)]; simp [sS0, sQ]; omega) (Or.inr hn)
theorem IvL_W (q : IvL A) (q7 : 7 ≤ gC A 20) : IvL B := by
  intro k h2 h8
  obtain ⟨a, b, c⟩ := q k h2 h8
  rw [h.S (by simp [sS0, sQ]) (by omega), h.C8 h8, w_m h]
  · exact ⟨a, b, c⟩
  · have : k = 2 ∨ k = 3 ∨ k = 4 ∨ k = 5 ∨ k = 6 ∨ k = 7 ∨ k = 8 := by omega
    rcases this with rfl | rfl | rfl | rfl | rfl | rfl | rfl <;> decide
theorem IvF_W (q : IvF A) : IvF B := by
  intro p hp i hi
  have hq : (2 ≤ p.1 ∧ p.1 ≤ 8) ∧ p.2.2 ≤ 35 := by
    have : ∀ p ∈ iv_cols, (2 ≤ p.1 ∧ p.1 ≤ 8) ∧ p.2.2 ≤ 35 := by decide
    exact this p hp
  rw [h.C8 hq.1.2] at hi
  rw [w_c h hq.2, w_o h (by omega) hi]
  exact q p hp i hi
theorem IvS_W (q : IvS A) : IvS B := by
  intro i hi
  rw [h.C8 (by decide)] at hi
  rw [w_o h (by decide) hi, w_c h (by decide), w_c h (by decide), w_c h (by decide), w_c h (by decide), w_c h (by decide), w_m h (by decide)]
  exact q i hi
theorem IvC_W (q : IvC A) : IvC B := by
  intro i hi
  rw [h.C8 (by decide)] at hi
  obtain ⟨s, s1, s2⟩ := q i hi
  refine ⟨s, by rw [h.C8 (by decide)]; exact s1, ?_⟩
  rw [w_c h (by decide), w_r h (by decide) hi, w_c h (by decide), w_c h (by decide), w_m h (by decide), w_o h (by decide) hi, w_b h (by decide), w_c h (by decide), w_c h (by decide), w_c h (by decide), w_c h (by decide), w_c h (by decide)]
  exact s2
theorem IvO_W (q : IvO A) : IvO B := by
  obtain ⟨a, b, c, d, e⟩ := q
  refine ⟨fun i hi => ?_, fun i hi => ?_, fun i hi => ?_, fun i hi => ?_, fun i hi => ?_⟩
  · rw [h.C8 (by decide)] at hi; rw [w_c h (by decide)]; exact a i hi
  · rw [h.C8 (by decide)] at hi; rw [w_c h (by decide), w_c h (by decide), w_c h (by decide)]; exact b i hi
  · rw [h.C8 (by decide)] at hi; rw [w_c h (by decide), w_c h (by decide)]; exact c i hi
  · rw [h.C8 (by decide)] at hi
    obtain ⟨x, y, r⟩ := d i hi
    refine ⟨x, y, ?_⟩
    rw [h.C8 (by decide), w_c h (by decide), w_c h (by decide), w_c h (by decide), w_c h (by decide), w_c h (by decide), w_c h (by decide)]; exact r
  · rw [h.C8 (by decide)] at hi
    obtain ⟨x, y, r⟩ := e i hi
    refine ⟨x, y, ?_⟩
    rw [h.C8 (by decide), w_c h (by decide), w_c h (by decide)]; exact r
theorem IvY_W (q : IvY A) : IvY B := by
  obtain ⟨q1, q2, q3, q4, q5, q6, q7, q8, q9, q10, q11, q12, q13⟩ := q
  have d1 : ∀ i, gI B 43 0 i = gI A 43 0 i := fun i => h.I (by simp [ky, sS0, sQ]) (Or.inl (fx_m (by decide)))
  have d2 : ∀ i, gI B 38 0 i = gI A 38 0 i := fun i => h.I (by simp [ky, sS0, sQ]) (Or.inl (fx_m (by decide)))
  have d3 : ∀ i, gI B 34 0 i = gI A 34 0 i := fun i => h.I (by simp [ky, sS0, sQ]) (Or.inl (fx_m (by decide)))
  unfold IvY
  rw [w_x h (by decide), w_x h (by decide), w_x h (by decide), w_x h (by decide), w_x h (by decide), w_x h (by decide), w_m h (by decide), w_m h (by decide), w_m h (by decide), w_m h (by decide), w_m h (by decide), w_m h (by decide)]
  refine ⟨q1, q2, q3, q4, q5, q6, q7, q8, q9, q10, q11, fun i hi => ?_, fun i hi => ?_⟩
  · rw [d1, w_c h (by decide)]; exact q12 i hi
  · rw [d2, d3]; exact q13 i hi
theorem Bse_W (q : Bse A) : Bse B := by
  obtain ⟨a, b, c, d, e, f, g, i, j⟩ := q
  exact ⟨IvL_W h a i, IvF_W h b, IvS_W h c, IvC_W h d, IvO_W h e, IvY_W h f, IvR_W h (fun _ x => x) g, Nat.le_trans i (h.C 20), fun x hx => by rw [h.L (Or.inl (fx_m (by decide)))]; exact j x hx⟩
end W
theorem Iv_W {A B : zo_O} (h : Wx sQ A B) (q : Iv A) : Iv B := by
  have h0 : Wx sS0 A B := h.mono (by decide)
  exact ⟨Bse_W h0 q.1, by rw [h.I (show ky 0 0 19 ∉ sQ by decide) (Or.inl fx_0)]; exact q.2.1, by rw [h.L (Or.inl (fx_m (by decide)))]; exact q.2.2⟩
