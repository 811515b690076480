/-! ===== sizes of all ages ===== -/
def lsV (r : Int32) (R : Nat) (lw : bLs) (age : Int32) : Int32 := lw.foldl (fun m t => if R.testBit t.1 = true then m else mx m (lowAt r t.2.1 t.2.2 age)) 0
def gsV (r : Int32) (R : Nat) (up : bLs) (age : Int32) : Int32 := up.foldl (fun m t => if R.testBit t.1 = true then m else mn m (hiAt r t.2.1 t.2.2 age)) (r * age)
def lsM (r : Int32) (R : Nat) (age : Int32) (bs : mLs) (m : Int32) : Int32 := bs.foldl (fun m t => if R.testBit t.1 = true ∨ t.2.2.2 = true then m else mx m (lowAt r t.2.1 t.2.2.1 age)) m
def gsM (r : Int32) (R : Nat) (age : Int32) (bs : mLs) (m : Int32) : Int32 := bs.foldl (fun m t => if R.testBit t.1 = true ∨ t.2.2.2 = false then m else mn m (hiAt r t.2.1 t.2.2.1 age)) m
theorem mxF {α : Type} (c : α → Prop) [DecidablePred c] (f : α → Int32) : ∀ (l : List α) (m : Int32) (X : Int), (l.foldl (fun m t => if c t then m else mx m (f t)) m).toInt ≤ X ↔ m.toInt ≤ X ∧ ∀ t ∈ l, ¬ c t → (f t).toInt ≤ X
  | [], m, X => by simp
  | t :: l, m, X => by
    rw [List.foldl_cons, mxF c f l]
    by_cases h : c t
    · rw [if_pos h]
      constructor
      · rintro ⟨h1, h2⟩
        refine ⟨h1, fun x hx hc => ?_⟩
        rw [List.mem_cons] at hx
        rcases hx with rfl | hx
        · exact absurd h hc
        · exact h2 x hx hc
      · rintro ⟨h1, h2⟩
        exact ⟨h1, fun x hx => h2 x (List.mem_cons_of_mem _ hx)⟩
    · rw [if_neg h, fi_mx]
      constructor
      · rintro ⟨h1, h2⟩
        refine ⟨by omega, fun x hx hc => ?_⟩
        rw [List.mem_cons] at hx
        rcases hx with rfl | hx
        · omega
        · exact h2 x hx hc
      · rintro ⟨h1, h2⟩
        have := h2 t (List.mem_cons_self ..) h
        exact ⟨by omega, fun x hx => h2 x (List.mem_cons_of_mem _ hx)⟩
theorem mnF {α : Type} (c : α → Prop) [DecidablePred c] (f : α → Int32) : ∀ (l : List α) (m : Int32) (X : Int), X ≤ (l.foldl (fun m t => if c t then m else mn m (f t)) m).toInt ↔ X ≤ m.toInt ∧ ∀ t ∈ l, ¬ c t → X ≤ (f t).toInt
  | [], m, X => by simp
  | t :: l, m, X => by
    rw [List.foldl_cons, mnF c f l]
    by_cases h : c t
    · rw [if_pos h]
      constructor
      · rintro ⟨h1, h2⟩
        refine ⟨h1, fun x hx hc => ?_⟩
        rw [List.mem_cons] at hx
        rcases hx with rfl | hx
        · exact absurd h hc
        · exact h2 x hx hc
      · rintro ⟨h1, h2⟩
        exact ⟨h1, fun x hx => h2 x (List.mem_cons_of_mem _ hx)⟩
    · rw [if_neg h, fi_mn]
      constructor
      · rintro ⟨h1, h2⟩
        refine ⟨by omega, fun x hx hc => ?_⟩
        rw [List.mem_cons] at hx
        rcases hx with rfl | hx
        · omega
        · exact h2 x hx hc
      · rintro ⟨h1, h2⟩
        have := h2 t (List.mem_cons_self ..) h
        exact ⟨by omega, fun x hx => h2 x (List.mem_cons_of_mem _ hx)⟩
theorem eq_le {a b : Int32} (h : ∀ X : Int, a.toInt ≤ X ↔ b.toInt ≤ X) : a = b := by
  rw [fa_eq]
  have h1 := (h b.toInt).2 (Int.le_refl _)
  have h2 := (h a.toInt).1 (Int.le_refl _)
  omega
theorem eq_ge {a b : Int32} (h : ∀ X : Int, X ≤ a.toInt ↔ X ≤ b.toInt) : a = b := by
  rw [fa_eq]
  have h1 := (h b.toInt).2 (Int.le_refl _)
  have h2 := (h a.toInt).1 (Int.le_refl _)
  omega
theorem lsM_V {r : Int32} {R : Nat} {age : Int32} {bs : mLs} {lw : bLs} (h : ∀ s a v, (s, a, v, false) ∈ bs ↔ (s, a, v) ∈ lw) : lsM r R age bs 0 = lsV r R lw age := by
  apply eq_le
  intro X
  unfold lsM lsV
  rw [mxF (fun t : Nat × Int32 × Int32 × Bool => R.testBit t.1 = true ∨ t.2.2.2 = true), mxF (fun t : Nat × Int32 × Int32 => R.testBit t.1 = true)]
  constructor
  · rintro ⟨h1, h2⟩
    refine ⟨h1, fun t ht hc => ?_⟩
    exact h2 (t.1, t.2.1, t.2.2, false) ((h _ _ _).2 ht) (by simp at hc ⊢; exact hc)
  · rintro ⟨h1, h2⟩
    refine ⟨h1, fun ⟨s, a, v, u⟩ ht hc => ?_⟩
    simp only [not_or] at hc
    have hu : u = false := by cases u <;> simp_all
    subst hu
    exact h2 (s, a, v) ((h _ _ _).1 ht) hc.1
theorem gsM_V {r : Int32} {R : Nat} {age : Int32} {bs : mLs} {up : bLs} (h : ∀ s a v, (s, a, v, true) ∈ bs ↔ (s, a, v) ∈ up) : gsM r R age bs (r * age) = gsV r R up age := by
  apply eq_ge
  intro X
  unfold gsM gsV
  rw [mnF (fun t : Nat × Int32 × Int32 × Bool => R.testBit t.1 = true ∨ t.2.2.2 = false), mnF (fun t : Nat × Int32 × Int32 => R.testBit t.1 = true)]
  constructor
  · rintro ⟨h1, h2⟩
    refine ⟨h1, fun t ht hc => ?_⟩
    exact h2 (t.1, t.2.1, t.2.2, true) ((h _ _ _).2 ht) (by simp at hc ⊢; exact hc)
  · rintro ⟨h1, h2⟩
    refine ⟨h1, fun ⟨s, a, v, u⟩ ht hc => ?_⟩
    simp only [not_or] at hc
    have hu : u = true := by cases u <;> simp_all
    subst hu
    exact h2 (s, a, v) ((h _ _ _).1 ht) hc.1
section S
variable {B : zo_O} (hB : Bse B) {N : Nat} {bs : mLs} (hok : ∀ t ∈ bs, bOk B (t.1, t.2.1, t.2.2.1)) (hlen : bs.length ≤ 240) {R : Nat} (hR : R < 16384)
include hB hok hlen
theorem m_sz66 {K36 : Int32 → zo_O → Option zo_R} {i : Nat} {t : Nat × Int32 × Int32 × Bool} (hi : bs[i]? = some t) : ∀ m k n Ω, k + m = 801 → m < n → Wx sS0 B Ω → MB Ω bs → ∃ Ω', fn_X2_sizes_66 N K36 n (nI i) (nI k) Ω = K36 (nI (i + 1)) Ω' ∧ Wx [(32, 42), (32, 43)] Ω Ω' ∧ (∀ x, x < k → gI Ω' 32 42 x = gI Ω 32 42 x ∧ gI Ω' 32 43 x = gI Ω 32 43 x) ∧ ∀ x, k ≤ x → x < 801 → gI Ω' 32 42 x = (if t.2.2.2 = true then gI Ω 32 42 x else mx (gI Ω 32 42 x) (lowAt (gI B 1 0 42) t.2.1 t.2.2.1 (nI x))) ∧ gI Ω' 32 43 x = (if t.2.2.2 = true then mn (gI Ω 32 43 x) (hiAt (gI B 1 0 42) t.2.1 t.2.2.1 (nI x)) else gI Ω 32 43 x) := by
  have hil : i < bs.length := by rw [List.getElem?_eq_some_iff] at hi; exact hi.1
  obtain ⟨_, ht2, _⟩ := hok t (List.mem_of_getElem? hi)
  have ht2 : 0 ≤ t.2.1.toInt ∧ t.2.1.toInt ≤ 800 := ht2
  intro m
  induction m with
  | zero =>
    intro k n Ω hk hn hw hM
    obtain ⟨n, rfl⟩ : ∃ k, n = k + 1 := ⟨n - 1, by omega⟩
    have : k = 801 := by omega
    subst this
    unfold fn_X2_sizes_66 bd_X2_sizes_66 fn_X2_sizes_172
    rw [if_pos (by decide), nI_1]
    exact ⟨Ω, rfl, Wx.refl, fun _ _ => ⟨rfl, rfl⟩, fun x h1 h2 => by omega⟩
  | succ m ih =>
    intro k n Ω hk hn hw hM
    obtain ⟨n, rfl⟩ : ∃ k, n = k + 1 := ⟨n - 1, by omega⟩
    obtain ⟨v1, v2, v3, v4⟩ := hM.2 i t hi
    have hkI : (nI k).toInt = k := fi_n (by omega)
    have hs : (nI k - t.2.1).toInt = k - t.2.1.toInt := by rw [fi_sub (by omega) (by omega), hkI]
    have h0 : (0 : Int32).toInt = 0 := rfl
    have c1 : (0 ≤ nI k - t.2.1) ↔ ¬ nI k < t.2.1 := by rw [fa_le, fa_lt, hs, hkI, h0]; omega
    have c2 : (nI k - t.2.1 ≤ 0) ↔ ¬ t.2.1 < nI k := by rw [fa_le, fa_lt, hs, hkI, h0]; omega
    unfold fn_X2_sizes_66 bd_X2_sizes_66 fn_X2_sizes_161 fn_X2_sizes_122 fn_X2_sizes_166
    rw [if_neg (by rw [show (800 : Int32) = nI 800 from rfl, nI_ltI (by decide) (by omega)]; omega)]
    simp only [ix_n (show i < 240 by omega) (show 240 < 2147483648 by decide), ix_n (show k < 801 by omega) (show 801 < 2147483648 by decide), v2, v3, v4, li, if_10, w_m hw (show (1, 42) ∉ sS0 by decide), lt, nI_1]
    cases hu : t.2.2.2 with
    | true =>
      rw [if_pos rfl]
      have key : ∃ Ω', fn_X2_sizes_66 N K36 n (nI i) (nI (k + 1)) (sI Ω 32 43 k (mn (gI Ω 32 43 k) (hiAt (gI B 1 0 42) t.2.1 t.2.2.1 (nI k)))) = K36 (nI (i + 1)) Ω' ∧ Wx [(32, 42), (32, 43)] Ω Ω' ∧ (∀ x, x < k → gI Ω' 32 42 x = gI Ω 32 42 x ∧ gI Ω' 32 43 x = gI Ω 32 43 x) ∧ ∀ x, k ≤ x → x < 801 → gI Ω' 32 42 x = (if true = true then gI Ω 32 42 x else mx (gI Ω 32 42 x) (lowAt (gI B 1 0 42) t.2.1 t.2.2.1 (nI x))) ∧ gI Ω' 32 43 x = (if true = true then mn (gI Ω 32 43 x) (hiAt (gI B 1 0 42) t.2.1 t.2.2.1 (nI x)) else gI Ω 32 43 x) := by
        have W1 : Wx [(32, 42), (32, 43)] Ω (sI Ω 32 43 k (mn (gI Ω 32 43 k) (hiAt (gI B 1 0 42) t.2.1 t.2.2.1 (nI k)))) := Wx.refl.sI (Or.inl (by simp [ky]))
        obtain ⟨Ω', q1, q2, q3, q4⟩ := ih (k + 1) n _ (by omega) (by omega) (hw.step W1 (by decide)) (MB_W hM W1 (by decide))
        refine ⟨Ω', q1, W1.trans q2, fun x hx => ?_, fun x h1 h2 => ?_⟩
        · obtain ⟨p1, p2⟩ := q3 x (by omega)
          have : ¬ x = k := by omega
          rw [p1, p2]
          simp [gI_sI, this]
        · by_cases e : x = k
          · subst e
            obtain ⟨p1, p2⟩ := q3 x (by omega)
            rw [p1, p2]
            simp [gI_sI]
          · obtain ⟨p1, p2⟩ := q4 x (by omega) h2
            rw [p1, p2, hu]
            simp [gI_sI, e]
      by_cases h : nI k - t.2.1 ≤ 0
      · rw [if_pos h]
        have : hiAt (gI B 1 0 42) t.2.1 t.2.2.1 (nI k) = t.2.2.1 + 0 := by unfold hiAt; rw [if_neg (c2.1 h)]; grind
        rw [this] at key
        exact key
      · rw [if_neg h]
        have : hiAt (gI B 1 0 42) t.2.1 t.2.2.1 (nI k) = t.2.2.1 + gI B 1 0 42 * (nI k - t.2.1) := by
          unfold hiAt
          rw [if_pos]
          cases Classical.em (t.2.1 < nI k) with
          | inl w => exact w
          | inr w => exact absurd (c2.2 w) h
        rw [this] at key
        exact key
    | false =>
      rw [if_neg Bool.false_ne_true]
      have key : ∃ Ω', fn_X2_sizes_66 N K36 n (nI i) (nI (k + 1)) (sI Ω 32 42 k (mx (gI Ω 32 42 k) (lowAt (gI B 1 0 42) t.2.1 t.2.2.1 (nI k)))) = K36 (nI (i + 1)) Ω' ∧ Wx [(32, 42), (32, 43)] Ω Ω' ∧ (∀ x, x < k → gI Ω' 32 42 x = gI Ω 32 42 x ∧ gI Ω' 32 43 x = gI Ω 32 43 x) ∧ ∀ x, k ≤ x → x < 801 → gI Ω' 32 42 x = (if false = true then gI Ω 32 42 x else mx (gI Ω 32 42 x) (lowAt (gI B 1 0 42) t.2.1 t.2.2.1 (nI x))) ∧ gI Ω' 32 43 x = (if false = true then mn (gI Ω 32 43 x) (hiAt (gI B 1 0 42) t.2.1 t.2.2.1 (nI x)) else gI Ω 32 43 x) := by
        have W1 : Wx [(32, 42), (32, 43)] Ω (sI Ω 32 42 k (mx (gI Ω 32 42 k) (lowAt (gI B 1 0 42) t.2.1 t.2.2.1 (nI k)))) := Wx.refl.sI (Or.inl (by simp [ky]))
        obtain ⟨Ω', q1, q2, q3, q4⟩ := ih (k + 1) n _ (by omega) (by omega) (hw.step W1 (by decide)) (MB_W hM W1 (by decide))
        refine ⟨Ω', q1, W1.trans q2, fun x hx => ?_, fun x h1 h2 => ?_⟩
        · obtain ⟨p1, p2⟩ := q3 x (by omega)
          have : ¬ x = k := by omega
          rw [p1, p2]
          simp [gI_sI, this]
        · by_cases e : x = k
          · subst e
            obtain ⟨p1, p2⟩ := q3 x (by omega)
            rw [p1, p2]
            simp [gI_sI]
          · obtain ⟨p1, p2⟩ := q4 x (by omega) h2
            rw [p1, p2, hu]
            simp [gI_sI, e]
      by_cases h : 0 ≤ nI k - t.2.1
      · rw [if_pos h]
        have : lowAt (gI B 1 0 42) t.2.1 t.2.2.1 (nI k) = t.2.2.1 + 0 := by unfold lowAt; rw [if_neg (c1.1 h)]; grind
        rw [this] at key
        exact key
      · rw [if_neg h]
        have : lowAt (gI B 1 0 42) t.2.1 t.2.2.1 (nI k) = t.2.2.1 + gI B 1 0 42 * (nI k - t.2.1) := by
          unfold lowAt
          rw [if_pos]
          · grind
          · cases Classical.em (nI k < t.2.1) with
            | inl w => exact w
            | inr w => exact absurd (c1.2 w) h
        rw [this] at key
        exact key
include hR
theorem m_sz36 (hN : 850 ≤ N) : ∀ m i n Ω, i + m = bs.length → m < n → Wx sS0 B Ω → MB Ω bs → gI Ω 1 0 73 = nI R → ∃ Ω', fn_X2_sizes_36 N n (nI i) Ω = some (none, Ω', 0, 0) ∧ Wx [(32, 42), (32, 43)] Ω Ω' ∧ ∀ x, x < 801 → gI Ω' 32 42 x = lsM (gI B 1 0 42) R (nI x) (bs.drop i) (gI Ω 32 42 x) ∧ gI Ω' 32 43 x = gsM (gI B 1 0 42) R (nI x) (bs.drop i) (gI Ω 32 43 x) := by
  have h14 := n_2 hB
  intro m
  induction m with
  | zero =>
    intro i n Ω hk hn hw hM h73
    obtain ⟨n, rfl⟩ : ∃ k, n = k + 1 := ⟨n - 1, by omega⟩
    have : i = bs.length := by omega
    subst this
    unfold fn_X2_sizes_36 bd_X2_sizes_36
    rw [hM.1, if_pos (by grind), List.drop_length]
    exact ⟨Ω, rfl, Wx.refl, fun _ _ => ⟨rfl, rfl⟩⟩
  | succ m ih =>
    intro i n Ω hk hn hw hM h73
    obtain ⟨n, rfl⟩ : ∃ k, n = k + 1 := ⟨n - 1, by omega⟩
    have hil : i < bs.length := by omega
    have hi : bs[i]? = some bs[i] := List.getElem?_eq_getElem hil
    have hd : bs.drop i = bs[i] :: bs.drop (i + 1) := List.drop_eq_getElem_cons hil
    have hI1 : ∀ x m, lsM (gI B 1 0 42) R x (bs[i] :: bs.drop (i + 1)) m = lsM (gI B 1 0 42) R x (bs.drop (i + 1)) (if R.testBit bs[i].1 = true ∨ bs[i].2.2.2 = true then m else mx m (lowAt (gI B 1 0 42) bs[i].2.1 bs[i].2.2.1 x)) := fun x m => rfl
    have hI2 : ∀ x m, gsM (gI B 1 0 42) R x (bs[i] :: bs.drop (i + 1)) m = gsM (gI B 1 0 42) R x (bs.drop (i + 1)) (if R.testBit bs[i].1 = true ∨ bs[i].2.2.2 = false then m else mn m (hiAt (gI B 1 0 42) bs[i].2.1 bs[i].2.2.1 x)) := fun x m => rfl
    obtain ⟨v1, v2, v3, v4⟩ := hM.2 i bs[i] hi
    obtain ⟨hl1, _⟩ := hok bs[i] (List.getElem_mem hil)
    have hl1 : bs[i].1 < gC B 2 := hl1
    unfold fn_X2_sizes_36 bd_X2_sizes_36 fn_X2_sizes_172
    rw [hM.1, if_neg (by rw [nI_leI (by omega) (by omega)]; omega), ix_n (show i < 240 by omega) (by decide), h73, v1, b_tst (by omega) (by omega), nI_1]
    by_cases hr : R.testBit bs[i].1 = true
    · rw [if_pos hr, if_pos rfl]
      obtain ⟨Ω', q1, q2, q3⟩ := ih (i + 1) n Ω (by omega) (by omega) hw hM h73
      refine ⟨Ω', q1, q2, fun x hx => ?_⟩
      rw [hd, hI1, hI2, if_pos (Or.inl hr), if_pos (Or.inl hr)]
      exact q3 x hx
    · rw [if_neg hr, if_neg (by decide)]
      obtain ⟨Ω1, p1, p2, _, p4⟩ := m_sz66 hB (N := N) hok hlen (K36 := fn_X2_sizes_36 N n) hi 801 0 N Ω (by omega) (by omega) hw hM
      obtain ⟨Ω', q1, q2, q3⟩ := ih (i + 1) n Ω1 (by omega) (by omega) (hw.step p2 (by decide)) (MB_W hM p2 (by decide)) (by rw [p2.I (by simp [ky]) (Or.inl fx_1)]; exact h73)
      refine ⟨Ω', ?_, p2.trans q2, fun x hx => ?_⟩
      · rw [← q1]; exact p1
      · obtain ⟨a1, a2⟩ := q3 x hx
        obtain ⟨b1, b2⟩ := p4 x (by omega) hx
        rw [a1, a2, b1, b2, hd, hI1, hI2]
        cases hu : bs[i].2.2.2 <;> simp [hr]
theorem m_szI (hN : 850 ≤ N) : ∀ m i n Ω, i + m = 801 → m < n → Wx sS0 B Ω → MB Ω bs → gI Ω 1 0 73 = nI R → (∀ x, x < i → gI Ω 32 42 x = 0 ∧ gI Ω 32 43 x = gI B 1 0 42 * nI x) → ∃ Ω', fn_X2_sizes_2 N n (nI i) Ω = some (none, Ω', 0, 0) ∧ Wx [(32, 42), (32, 43)] Ω Ω' ∧ ∀ x, x < 801 → gI Ω' 32 42 x = lsM (gI B 1 0 42) R (nI x) bs 0 ∧ gI Ω' 32 43 x = gsM (gI B 1 0 42) R (nI x) bs (gI B 1 0 42 * nI x) := by
  intro m
  induction m with
  | zero =>
    intro i n Ω hk hn hw hM h73 hz
    obtain ⟨n, rfl⟩ : ∃ k, n = k + 1 := ⟨n - 1, by omega⟩
    have : i = 801 := by omega
    subst this
    unfold fn_X2_sizes_2 bd_X2_sizes_2
    rw [if_pos (by decide)]
    obtain ⟨Ω', q1, q2, q3⟩ := m_sz36 hB (N := N) hok hlen hR hN bs.length 0 N Ω (by omega) (by omega) hw hM h73
    refine ⟨Ω', q1, q2, fun x hx => ?_⟩
    obtain ⟨a, b⟩ := q3 x hx
    rw [a, b, (hz x hx).1, (hz x hx).2, List.drop_zero]
    exact ⟨rfl, rfl⟩
  | succ m ih =>
    intro i n Ω hk hn hw hM h73 hz
    obtain ⟨n, rfl⟩ : ∃ k, n = k + 1 := ⟨n - 1, by omega⟩
    unfold fn_X2_sizes_2 bd_X2_sizes_2
    rw [if_neg (by rw [show (800 : Int32) = nI 800 from rfl, nI_ltI (by decide) (by omega)]; omega)]
    have W0 : Wx [(32, 42), (32, 43)] Ω (sI Ω 32 42 i 0) := Wx.refl.sI (Or.inl (by simp [ky]))
    have e42 : gI (sI Ω 32 42 i 0) 1 0 42 = gI B 1 0 42 := w_m (hw.step W0 (by decide)) (by decide)
    simp only [ix_n (show i < 801 by omega) (show 801 < 2147483648 by decide), lt, nI_1, e42]
    have W1 : Wx [(32, 42), (32, 43)] Ω (sI (sI Ω 32 42 i 0) 32 43 i (gI B 1 0 42 * nI i)) := W0.sI (Or.inl (by simp [ky]))
    obtain ⟨Ω', q1, q2, q3⟩ := ih (i + 1) n _ (by omega) (by omega) (hw.step W1 (by decide)) (MB_W hM W1 (by decide)) (by rw [W1.I (by simp [ky]) (Or.inl fx_1)]; exact h73) (fun x hx => by
      by_cases e : x = i
      · subst e; simp [gI_sI]
      · simp [gI_sI, e]; exact hz x (by omega))
    exact ⟨Ω', q1, W1.trans q2, q3⟩
end S
section U
variable {B : zo_O} (hB : Bse B) {q : Bool} {D : Nat → Nat → Int32} (hD : q = false → DBd D) {kn : Int32} {kk : Nat} {sd bt but : Int32}
include hB hD
def sLcv : List (Nat × Nat) := [(1, 66), (1, 67), (1, 68), (1, 73), (32, 39), (32, 40), (32, 41), (33, 4), (32, 42), (32, 43), (32, 44)]
theorem m_curve {N : Nat} {Ω : zo_O} (hN : 40000 ≤ N) (hkk : kk < 3) (hE : EM B q D Ω) : ∃ Ω' R, fn_X2_curve N (nI kk) sd bt kn but Ω = some (none, Ω', 0, 0) ∧ Wx sLcv Ω Ω' ∧ gI Ω' 1 0 73 = nI R ∧ R < 2 ^ gC B 2 ∧ cvE (cfl (gI B 1 0 42) (lws B q D kn kk sd bt but) (ups B q D kn kk sd bt but)) (alo (gI B 1 0 42) (lws B q D kn kk sd bt but)) R ∧ (∀ S, S < 2 ^ gC B 2 → cvE (cfl (gI B 1 0 42) (lws B q D kn kk sd bt but) (ups B q D kn kk sd bt but)) (alo (gI B 1 0 42) (lws B q D kn kk sd bt but)) S → bet R S) ∧ ∀ x, x < 801 → gI Ω' 32 42 x = lsV (gI B 1 0 42) R (lws B q D kn kk sd bt but) (nI x) ∧ gI Ω' 32 43 x = gsV (gI B 1 0 42) R (ups B q D kn kk sd bt but) (nI x) := by
  have h14 := n_2 hB
  have h120 := n_3 hB
  have hpw : 2 ^ gC B 2 ≤ 2 ^ 14 := Nat.pow_le_pow_right (by decide) h14
  have W0 : Wx sLcv Ω (sI Ω 1 0 68 0) := Wx.refl.sI (Or.inl (by decide))
  obtain ⟨Ω1, a1, a2, a3⟩ := m_cv8 hB (kn := kn) (sd := sd) (bt := bt) (but := but) (N := N) (by omega) hkk (gC B 3) 0 N (sI Ω 1 0 68 0) (by omega) (by omega) (hE.step W0 (by decide) (by decide)) ⟨by rw [gI_sI, if_pos ⟨rfl, rfl, rfl⟩]; rfl, fun i t ht => by simp [bM] at ht⟩
  have w1 : Wx sLcv Ω Ω1 := W0.step a2 (by decide)
  have hbl := bM_len (B := B) (q := q) (D := D) (kn := kn) (kk := kk) (sd := sd) (bt := bt) (but := but) (gC B 3)
  have hok : ∀ t ∈ bM B q D kn kk sd bt but (gC B 3), bOk B (t.1, t.2.1, t.2.2.1) := fun t ht => bM_ok hB hD ht
  obtain ⟨Ω2, b1, b2, b3⟩ := m_cv200 (N := N) 14 0 N Ω1 (by omega) (by omega) (fun s h => by omega)
  have w2 : Wx sLcv Ω Ω2 := w1.step b2 (by decide)
  obtain ⟨Ω3, c1, c2, c3, c4⟩ := m_cv224 hB (N := N) hok (by omega) (by omega) (bM B q D kn kk sd bt but (gC B 3)).length 0 N Ω2 (fun _ => 0) (by omega) (by omega) (hE.1.step w2 (by decide)) (MB_W a3 b2 (by decide)) b3 (fun _ => by show 0 < 16384; decide)
  rw [List.drop_zero] at c3 c4
  have w3 : Wx sLcv Ω Ω3 := w2.step c2 (by decide)
  have W4 : Wx [(1, 73)] Ω3 (sI Ω3 1 0 73 0) := Wx.refl.sI (Or.inl (by simp [ky]))
  have w4 : Wx sLcv Ω (sI Ω3 1 0 73 0) := w3.step W4 (by decide)
  obtain ⟨Ω5, R, d1, d2, d3, d4, d5, d6⟩ := m_sets hB (N := N) c4 (by omega) (2 ^ gC B 2) 0 N (sI Ω3 1 0 73 0) 15 0 (by omega) (by omega) (hE.1.step w4 (by decide)) (fun s hs => by rw [gI_sI, if_neg (by omega)]; exact c3 s hs) (by rw [gI_sI, if_pos ⟨rfl, rfl, rfl⟩]; rfl) (Or.inl ⟨rfl, fun T h => by omega⟩)
  have w5 : Wx sLcv Ω Ω5 := w4.step d2 (by decide)
  have M5 : MB Ω5 (bM B q D kn kk sd bt but (gC B 3)) := MB_W (MB_W (MB_W (MB_W a3 b2 (by decide)) c2 (by decide)) W4 (by decide)) d2 (by decide)
  obtain ⟨Ω6, e1, e2, e3⟩ := m_szI hB (N := N) hok (by omega) (R := R) (by omega) (by omega) 801 0 N Ω5 (by omega) (by omega) (hE.1.step w5 (by decide)) M5 d3 (fun x h => by omega)
  refine ⟨Ω6, R, ?_, w5.step e2 (by decide), by rw [e2.I (by simp [ky]) (Or.inl fx_1)]; exact d3, d4, (enM_iff hB hD).1 d5, fun S h1 h2 => d6 S h1 ((enM_iff hB hD).2 h2), fun x hx => ?_⟩
  · unfold fn_X2_curve lt
    show fn_X2_curve_8 N N (nI kk) sd bt kn but (nI 0) (sI Ω 1 0 68 0) = _
    rw [a1, show (0 : Int32) = nI 0 from rfl, b1, show (0 : Int32) = nI 0 from rfl, c1]
    show fn_X2_curve_373 N N 15 (nI 0) (sI Ω3 1 0 73 0) = _
    rw [d1]
    unfold fn_X2_sizes
    rw [show (0 : Int32) = nI 0 from rfl, e1]
    rfl
  · obtain ⟨p1, p2⟩ := e3 x hx
    rw [p1, p2, lsM_V (fun s a v => bM_low hB hD), gsM_V (fun s a v => bM_up hB hD)]
    exact ⟨rfl, rfl⟩
end U
