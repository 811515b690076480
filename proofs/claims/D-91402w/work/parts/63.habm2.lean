/-! ===== M's habits: the rounds ===== -/
def dA (B : zo_O) (d : Nat) : Nat := (gI B 32 16 d).toNatClampNeg
def dB (B : zo_O) (d : Nat) : Nat := (gI B 32 17 d).toNatClampNeg
def dW (B : zo_O) (d : Nat) : Int := (gI B 32 18 d).toInt
def er (B : zo_O) : Int := (gI B 1 0 41).toInt
def uE1 (B : zo_O) (kn : Int32) (d : Nat) : hE := if gI B 32 19 d ≤ kn then [(dA B d, dB B d, dW B d + er B), (dB B d, dA B d, er B - dW B d)] else []
def uE (B : zo_O) (kn : Int32) : Nat → hE
  | 0 => []
  | d + 1 => uE B kn d ++ uE1 B kn d
def stp (B : zo_O) (kn : Int32) (d : Nat) (D : hM) : hM := if gI B 32 19 d ≤ kn then hbf (hbf D (dA B d) (dB B d) (dW B d + er B) 5) (dB B d) (dA B d) (er B - dW B d) 5 else D
def pD (B : zo_O) (kn : Int32) : Nat → Nat → hM → hM
  | 0, _, D => D
  | m + 1, d, D => pD B kn m (d + 1) (stp B kn d D)
section U
variable {B : zo_O} (hB : Bse B) {kn : Int32}
include hB
theorem dbl {d : Nat} (hd : d < gC B 5) : dA B d < 5 ∧ gI B 32 16 d = nI (dA B d) ∧ dB B d < 5 ∧ gI B 32 17 d = nI (dB B d) ∧ -1999 ≤ dW B d ∧ dW B d ≤ 1999 := by
  obtain ⟨h1, h2, h3⟩ := hB.2.2.2.2.1.2.1 d hd
  obtain ⟨i, i1, i2⟩ := nI_between (n := 5) (by decide) (show 0 ≤ gI B 32 16 d ∧ gI B 32 16 d ≤ nI 5 - 1 from h1)
  obtain ⟨j, j1, j2⟩ := nI_between (n := 5) (by decide) (show 0 ≤ gI B 32 17 d ∧ gI B 32 17 d ≤ nI 5 - 1 from h2)
  have e1 : dA B d = i := by unfold dA; rw [i2, nI_clamp (by omega)]
  have e2 : dB B d = j := by unfold dB; rw [j2, nI_clamp (by omega)]
  rw [e1, e2]
  rw [fa_le, fa_le] at h3
  exact ⟨i1, i2, j1, j2, h3.1, h3.2⟩
theorem er_b : 0 ≤ er B ∧ er B ≤ 30 := by
  have h := hB.2.2.2.2.2.1.2.2.2.2.2.2.2.1
  rw [fa_le, fa_le] at h
  exact h
theorem uE1_ok {d : Nat} (hd : d < gC B 5) : hOk (uE1 B kn d) := by
  obtain ⟨a, _, b, _, w1, w2⟩ := dbl hB hd
  have := er_b hB
  unfold uE1
  split
  · intro e he
    simp only [List.mem_cons, List.not_mem_nil, or_false] at he
    rcases he with rfl | rfl
    · exact ⟨a, b, by show -2029 ≤ dW B d + er B; omega, by show dW B d + er B ≤ 2029; omega⟩
    · exact ⟨b, a, by show -2029 ≤ er B - dW B d; omega, by show er B - dW B d ≤ 2029; omega⟩
  · intro e he; simp at he
theorem uE_ok : ∀ d, d ≤ gC B 5 → hOk (uE B kn d)
  | 0, _ => fun e he => by simp [uE] at he
  | d + 1, h => fun e he => by
    rw [uE, List.mem_append] at he
    rcases he with he | he
    · exact uE_ok d (by omega) e he
    · exact uE1_ok hB (by omega) e he
omit hB in
theorem hS_mono {E E' : hE} {D : hM} (h : hS E D) (hs : ∀ e ∈ E, e ∈ E') : hS E' D := fun x y hx hy hl => by
  obtain ⟨n, hn⟩ := h x y hx hy hl
  exact ⟨n, wk_mono hs hn⟩
theorem stp_S {d : Nat} {E : hE} {D : hM} (hd : d < gC B 5) (hE : ∀ e ∈ uE1 B kn d, e ∈ E) (h : hS E D) : hS E (stp B kn d D) := by
  obtain ⟨a, _, b, _, _⟩ := dbl hB hd
  unfold stp
  unfold uE1 at hE
  split
  · rename_i q
    rw [if_pos q] at hE
    exact hS_bf (hE _ (by simp)) b a (hS_bf (hE _ (by simp)) a b h 5) 5
  · exact h
theorem hN_bf {D : hM} {a b : Nat} {w : Int} (h : hN D) : hN (hbf D a b w 5) := by
  obtain ⟨x, hx, q⟩ := h
  have := hbf_le D a b w x x 0 5
  exact ⟨x, hx, Int.lt_of_le_of_lt this q⟩
theorem stp_N {d : Nat} {D : hM} (h : hN D) : hN (stp B kn d D) := by
  unfold stp
  split
  · exact hN_bf hB (hN_bf hB h)
  · exact h
theorem stp_G {d : Nat} {D : hM} (hd : d < gC B 5) (h : hG (uE B kn d) D ∨ hN D) : hG (uE B kn (d + 1)) (stp B kn d D) ∨ hN (stp B kn d D) := by
  have ho := uE_ok hB (kn := kn) (d + 1) (by omega)
  rw [uE] at ho ⊢
  unfold stp
  unfold uE1 at ho ⊢
  split
  · rename_i q
    rw [if_pos q] at ho
    have h1 : hOk (uE B kn d ++ [(dA B d, dB B d, dW B d + er B)]) := fun e he => ho e (by simp only [List.mem_append, List.mem_cons, List.not_mem_nil, or_false] at he ⊢; rcases he with he | he <;> simp [he])
    have h2 : hOk ((uE B kn d ++ [(dA B d, dB B d, dW B d + er B)]) ++ [(dB B d, dA B d, er B - dW B d)]) := by rw [List.append_assoc]; exact ho
    have := hG_step h2 (hG_step h1 h)
    rw [List.append_assoc] at this
    exact this
  · rw [List.append_nil]; exact h
theorem pD_S {E : hE} : ∀ m d D, d + m = gC B 5 → (∀ e ∈ uE B kn (d + m), e ∈ E) → hS E D → hS E (pD B kn m d D)
  | 0, d, D, _, _, h => h
  | m + 1, d, D, hd, he, h => by
    have e1 : ∀ k, ∀ e ∈ uE1 B kn d, e ∈ uE B kn (d + 1 + k) := by
      intro k
      induction k with
      | zero => intro e q; rw [Nat.add_zero, uE]; exact List.mem_append_right _ q
      | succ k ik => intro e q; rw [← Nat.add_assoc, uE]; exact List.mem_append_left _ (ik e q)
    exact pD_S m (d + 1) _ (by omega) (by rw [show d + 1 + m = d + (m + 1) by omega]; exact he) (stp_S hB (by omega) (fun e q => he e (by rw [show d + (m + 1) = d + 1 + m by omega]; exact e1 m e q)) h)
theorem pD_N : ∀ m d D, hN D → hN (pD B kn m d D)
  | 0, d, D, h => h
  | m + 1, d, D, h => pD_N m (d + 1) _ (stp_N hB h)
theorem pD_G : ∀ m d D, d + m = gC B 5 → (hG (uE B kn d) D ∨ hN D) → (hG (uE B kn (d + m)) (pD B kn m d D) ∨ hN (pD B kn m d D))
  | 0, d, D, _, h => h
  | m + 1, d, D, hd, h => by
    have := pD_G m (d + 1) (stp B kn d D) (by omega) (stp_G hB (by omega) h)
    rw [show d + (m + 1) = d + 1 + m by omega]
    exact this
omit hB in
theorem uE_mem {d : Nat} : ∀ n, d < n → ∀ e ∈ uE1 B kn d, e ∈ uE B kn n
  | 0, h => by omega
  | n + 1, h => fun e q => by
    rw [uE, List.mem_append]
    by_cases g : d = n
    · subst g; exact Or.inr q
    · exact Or.inl (uE_mem n (by omega) e q)
theorem still_all {D : hM} (h : hG (uE B kn (gC B 5)) D) : ∀ e ∈ uE B kn (gC B 5), hStl D e.1 e.2.1 e.2.2 := fun e he f t hf ht h1 h2 =>
  hG_still (uE_ok hB _ (Nat.le_refl _)) (show (e.1, e.2.1, e.2.2) ∈ _ from he) h hf ht h1 h2
theorem m_pass {N : Nat} {rd : Int32} {K38 : Int32 → Int32 → Int32 → zo_O → Option zo_R} (hN : 6 ≤ N) :
    ∀ m d n Ω fl D, d + m = gC B 5 → m < n → Wx sS0 B Ω → mtM Ω D → rgM D → (fl = 0 ∨ fl = 1) → ∃ Ω' fl', fn_X2_habits_53 N K38 n kn fl rd (nI d) Ω = K38 kn fl' (rd + 1) Ω' ∧ Wx [(32, 38)] Ω Ω' ∧ mtM Ω' (pD B kn m d D) ∧ rgM (pD B kn m d D) ∧ (fl' = 0 ∨ fl' = 1) ∧ ((∀ e ∈ uE B kn (gC B 5), hStl D e.1 e.2.1 e.2.2) → fl' = fl ∧ pD B kn m d D = D) := by
  obtain ⟨_, h22, h40⟩ := hB.1 5 (by decide) (by decide)
  have h40 : gC B 5 ≤ 40 := h40
  have h22 : gI B 1 0 22 = nI (gC B 5) := h22
  intro m
  induction m with
  | zero =>
    intro d n Ω fl D hd hn hw hm hr hl
    obtain ⟨n, rfl⟩ : ∃ k, n = k + 1 := ⟨n - 1, by omega⟩
    have : d = gC B 5 := by omega
    subst this
    unfold fn_X2_habits_53 bd_X2_habits_53
    rw [w_m hw (by decide), h22, if_pos (by rw [nI_leI (by omega) (by omega)]; omega)]
    exact ⟨Ω, fl, rfl, Wx.refl, hm, hr, hl, fun _ => ⟨rfl, rfl⟩⟩
  | succ m ih =>
    intro d n Ω fl D hd hn hw hm hr hl
    obtain ⟨n, rfl⟩ : ∃ k, n = k + 1 := ⟨n - 1, by omega⟩
    obtain ⟨a1, a2, b1, b2, w1, w2⟩ := dbl hB (show d < gC B 5 by omega)
    have hee := er_b hB
    unfold fn_X2_habits_53 bd_X2_habits_53 fn_X2_habits_142
    rw [w_m hw (by decide), h22, if_neg (by rw [nI_leI (by omega) (by omega)]; omega)]
    simp only [ix_n (show d < 40 by omega) (by decide), w_c hw (show 19 ≤ 35 by decide), w_c hw (show 16 ≤ 35 by decide), w_c hw (show 17 ≤ 35 by decide), w_c hw (show 18 ≤ 35 by decide), w_m hw (show (1, 41) ∉ sS0 by decide), a2, b2, li, nI_1]
    by_cases hk : gI B 32 19 d ≤ kn
    · rw [if_pos hk]
      have s1 : (gI B 32 18 d + gI B 1 0 41).toInt = dW B d + er B := by rw [fi_add (by unfold dW er at *; omega) (by unfold dW er at *; omega)]; rfl
      have s2 : (gI B 1 0 41 - gI B 32 18 d).toInt = er B - dW B d := by rw [fi_sub (by unfold dW er at *; omega) (by unfold dW er at *; omega)]; rfl
      obtain ⟨Ω1, f1, e1, x1, m1, r1, g1, t1⟩ := m_bounds (N := N) (w := gI B 32 18 d + gI B 1 0 41) hN a1 b1 (by omega) (by omega) hr hm
      rw [e1, ci_mk]
      have hw1 : Wx sS0 B Ω1 := hw.step x1 (by decide)
      simp only [w_c hw1 (show 19 ≤ 35 by decide), w_c hw1 (show 16 ≤ 35 by decide), w_c hw1 (show 17 ≤ 35 by decide), w_c hw1 (show 18 ≤ 35 by decide), w_m hw1 (show (1, 41) ∉ sS0 by decide), a2, b2]
      obtain ⟨Ω2, f2, e2, x2, m2, r2, g2, t2⟩ := m_bounds (N := N) (w := gI B 1 0 41 - gI B 32 18 d) hN b1 a1 (by omega) (by omega) r1 m1
      rw [e2, ci_mk]
      have hw2 : Wx sS0 B Ω2 := hw1.step x2 (by decide)
      rw [s1, s2] at m2 r2
      have hfl : fl ||| f1 ||| f2 = 0 ∨ fl ||| f1 ||| f2 = 1 := by
        rcases hl with rfl | rfl <;> rcases g1 with rfl | rfl <;> rcases g2 with rfl | rfl <;> decide
      obtain ⟨Ω3, f3, e3, x3, m3, r3, g3, t3⟩ := ih (d + 1) n Ω2 (fl ||| f1 ||| f2) _ (by omega) (by omega) hw2 m2 r2 hfl
      have hst : stp B kn d D = hbf (hbf D (dA B d) (dB B d) (dW B d + er B) 5) (dB B d) (dA B d) (er B - dW B d) 5 := by unfold stp; rw [if_pos hk]
      refine ⟨Ω3, f3, e3, (x1.trans x2).trans x3, ?_, ?_, g3, ?_⟩
      · rw [pD, hst]; exact m3
      · rw [pD, hst]; exact r3
      · intro hs
        have hm1 : (dA B d, dB B d, dW B d + er B) ∈ uE B kn (gC B 5) := uE_mem (d := d) (gC B 5) (by omega) _ (by unfold uE1; rw [if_pos hk]; simp)
        have hm2 : (dB B d, dA B d, er B - dW B d) ∈ uE B kn (gC B 5) := uE_mem (d := d) (gC B 5) (by omega) _ (by unfold uE1; rw [if_pos hk]; simp)
        have hq1 := hs _ hm1
        have hq2 := hs _ hm2
        have d1 : hbf D (dA B d) (dB B d) (dW B d + er B) 5 = D := hbf_still hq1 5 (by omega)
        have d2 : hbf D (dB B d) (dA B d) (er B - dW B d) 5 = D := hbf_still hq2 5 (by omega)
        rw [s1] at t1
        rw [s1, s2, d1] at t2
        rw [d1, d2] at t3
        rw [pD, hst, d1, d2]
        obtain ⟨t4, t5⟩ := t3 hs
        rw [t1 hq1, t2 hq2] at t4
        refine ⟨?_, t5⟩
        rw [t4]
        rcases hl with rfl | rfl <;> decide
    · rw [if_neg hk]
      have hst : stp B kn d D = D := by unfold stp; rw [if_neg hk]
      rw [pD, hst]
      exact ih (d + 1) n Ω fl D (by omega) (by omega) hw hm hr hl
end U
