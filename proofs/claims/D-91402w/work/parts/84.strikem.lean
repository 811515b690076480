/-! ===== M's curve: who is against whom, the sets ===== -/
def agM (Ω : zo_O) (g : Nat → Nat) : Prop := ∀ s, s < 14 → gI Ω 32 44 s = nI (g s)
def stN (r : Int32) (l : Nat × Int32 × Int32 × Bool) (us : mLs) (g : Nat → Nat) : Nat → Nat := us.foldl (fun g u => if u.2.2.2 = true ∧ u.2.2.1 < lowAt r l.2.1 l.2.2.1 u.2.1 then upd g l.1 (g l.1 ||| 2 ^ u.1) else g) g
def stA (r : Int32) (l : Nat × Int32 × Int32 × Bool) (g : Nat → Nat) : Nat → Nat := if 0 < lowAt r l.2.1 l.2.2.1 0 then upd g l.1 (g l.1 ||| 2 ^ l.1) else g
def stMM (r : Int32) (bs ls : mLs) (g : Nat → Nat) : Nat → Nat := ls.foldl (fun g l => if l.2.2.2 = true then g else stN r l bs (stA r l g)) g
theorem upd_tb {g : Nat → Nat} {s t x y : Nat} : (upd g s (g s ||| 2 ^ t) x).testBit y = true ↔ (g x).testBit y = true ∨ (x = s ∧ y = t) := by
  unfold upd
  by_cases e : x = s
  · subst e; rw [if_pos rfl, tb_or]; simp
  · rw [if_neg e]; simp [e]
theorem stN_g {r : Int32} {l : Nat × Int32 × Int32 × Bool} : ∀ (us : mLs) (g : Nat → Nat) (x y : Nat), ((stN r l us g) x).testBit y = true ↔ (g x).testBit y = true ∨ (x = l.1 ∧ ∃ u ∈ us, u.2.2.2 = true ∧ y = u.1 ∧ u.2.2.1 < lowAt r l.2.1 l.2.2.1 u.2.1)
  | [], g, x, y => by simp [stN]
  | u :: us, g, x, y => by
    have ih := stN_g (r := r) (l := l) us (if u.2.2.2 = true ∧ u.2.2.1 < lowAt r l.2.1 l.2.2.1 u.2.1 then upd g l.1 (g l.1 ||| 2 ^ u.1) else g) x y
    show ((stN r l us (if u.2.2.2 = true ∧ u.2.2.1 < lowAt r l.2.1 l.2.2.1 u.2.1 then upd g l.1 (g l.1 ||| 2 ^ u.1) else g)) x).testBit y = true ↔ _
    rw [ih]
    simp only [List.mem_cons, exists_eq_or_imp]
    by_cases h : u.2.2.2 = true ∧ u.2.2.1 < lowAt r l.2.1 l.2.2.1 u.2.1
    · rw [if_pos h, upd_tb]
      constructor
      · rintro ((q | q) | q)
        · exact Or.inl q
        · exact Or.inr ⟨q.1, Or.inl ⟨h.1, q.2, h.2⟩⟩
        · exact Or.inr ⟨q.1, Or.inr q.2⟩
      · rintro (q | ⟨q, q2 | q2⟩)
        · exact Or.inl (Or.inl q)
        · exact Or.inl (Or.inr ⟨q, q2.2.1⟩)
        · exact Or.inr ⟨q, q2⟩
    · rw [if_neg h]
      constructor
      · rintro (q | q)
        · exact Or.inl q
        · exact Or.inr ⟨q.1, Or.inr q.2⟩
      · rintro (q | ⟨q, q2 | q2⟩)
        · exact Or.inl q
        · exact absurd ⟨q2.1, q2.2.2⟩ h
        · exact Or.inr ⟨q, q2⟩
theorem stA_g {r : Int32} {l : Nat × Int32 × Int32 × Bool} {g : Nat → Nat} {x y : Nat} : ((stA r l g) x).testBit y = true ↔ (g x).testBit y = true ∨ (x = l.1 ∧ y = l.1 ∧ 0 < lowAt r l.2.1 l.2.2.1 0) := by
  unfold stA
  by_cases h : 0 < lowAt r l.2.1 l.2.2.1 0
  · rw [if_pos h, upd_tb]; simp [h]
  · rw [if_neg h]; simp [h]
theorem stM_g {r : Int32} {bs : mLs} : ∀ (ls : mLs) (g : Nat → Nat) (x y : Nat), ((stMM r bs ls g) x).testBit y = true ↔ (g x).testBit y = true ∨ ∃ l ∈ ls, l.2.2.2 = false ∧ x = l.1 ∧ ((y = l.1 ∧ 0 < lowAt r l.2.1 l.2.2.1 0) ∨ ∃ u ∈ bs, u.2.2.2 = true ∧ y = u.1 ∧ u.2.2.1 < lowAt r l.2.1 l.2.2.1 u.2.1)
  | [], g, x, y => by simp [stMM]
  | l :: ls, g, x, y => by
    have ih := stM_g (r := r) (bs := bs) ls (if l.2.2.2 = true then g else stN r l bs (stA r l g)) x y
    show ((stMM r bs ls (if l.2.2.2 = true then g else stN r l bs (stA r l g))) x).testBit y = true ↔ _
    rw [ih]
    simp only [List.mem_cons, exists_eq_or_imp]
    by_cases h : l.2.2.2 = true
    · rw [if_pos h]; simp [h]
    · rw [if_neg h, stN_g, stA_g]
      have h' : l.2.2.2 = false := by cases e : l.2.2.2 <;> simp_all
      constructor
      · rintro (((q | q) | q) | q)
        · exact Or.inl q
        · exact Or.inr (Or.inl ⟨h', q.1, Or.inl q.2⟩)
        · exact Or.inr (Or.inl ⟨h', q.1, Or.inr q.2⟩)
        · exact Or.inr (Or.inr q)
      · rintro (q | ⟨_, q, q2 | q2⟩ | q)
        · exact Or.inl (Or.inl (Or.inl q))
        · exact Or.inl (Or.inl (Or.inr ⟨q, q2⟩))
        · exact Or.inl (Or.inr ⟨q, q2⟩)
        · exact Or.inr q
theorem upd_lt {g : Nat → Nat} {s t : Nat} (h : ∀ x, g x < 16384) (ht : t < 14) : ∀ x, upd g s (g s ||| 2 ^ t) x < 16384 := fun x => by
  unfold upd
  split
  · exact or_14 (h _) ht
  · exact h _
theorem agM_set {Ω : zo_O} {s v : Nat} {g : Nat → Nat} (h : agM Ω g) : agM (sI Ω 32 44 s (nI v)) (upd g s v) := fun y hy => by
  rw [gI_sI]
  unfold upd
  by_cases e : y = s
  · rw [if_pos ⟨rfl, rfl, e⟩, if_pos e]
  · rw [if_neg (fun w => e w.2.2), if_neg e]; exact h y hy
theorem MB_W {Ω Ω' : zo_O} {bs : mLs} {L : List (Nat × Nat)} (h : MB Ω bs) (w : Wx L Ω Ω') (hL : ∀ x ∈ sLb, x ∉ L) : MB Ω' bs := by
  refine ⟨by rw [w.I (k := 1) (n := 0) (f := 68) (hL (1, 68) (by decide)) (Or.inl fx_1)]; exact h.1, fun i t ht => ?_⟩
  rw [w.I (k := 32) (n := 39) (hL (32, 39) (by decide)) (Or.inl (fx_m (by decide))), w.I (k := 32) (n := 40) (hL (32, 40) (by decide)) (Or.inl (fx_m (by decide))), w.I (k := 32) (n := 41) (hL (32, 41) (by decide)) (Or.inl (fx_m (by decide))), w.I (k := 33) (n := 4) (hL (33, 4) (by decide)) (Or.inl (fx_m (by decide)))]
  exact h.2 i t ht
section S
variable {B : zo_O} (hB : Bse B) {N : Nat} {bs : mLs} (hok : ∀ t ∈ bs, bOk B (t.1, t.2.1, t.2.2.1)) (hlen : bs.length ≤ 240)
include hB
/-- M's test and X's -/
theorem low_cmp {a v b w : Int32} (ha : 0 ≤ a.toInt ∧ a.toInt ≤ 800) (hb : 0 ≤ b.toInt ∧ b.toInt ≤ 800) (hv : 0 ≤ v.toInt ∧ v.toInt ≤ 1002000) (hw : 0 ≤ w.toInt ∧ w.toInt ≤ 1002000) : (w + (if a - b ≤ 0 then 0 else gI B 1 0 42 * (a - b)) < v) ↔ w < lowAt (gI B 1 0 42) a v b := by
  have hs : (a - b).toInt = a.toInt - b.toInt := fi_sub (by omega) (by omega)
  obtain ⟨t1, t2, t3⟩ := rate_mul hB (y := a - b) (by omega) (by omega)
  have h0 : (0 : Int32).toInt = 0 := rfl
  unfold lowAt
  have hab : (a - b ≤ 0) ↔ ¬ b < a := by rw [fa_le, fa_lt, hs, h0]; omega
  by_cases h : b < a
  · rw [if_neg (by rw [hab]; simp [h]), if_pos h, fa_lt, fa_lt, fi_add (by omega) (by omega), fi_sub (by omega) (by omega)]
    omega
  · rw [if_pos (by rw [hab]; exact h), if_neg h, fa_lt, fa_lt, fi_add (by omega) (by omega), h0]
    omega
theorem al_cmp {a v : Int32} (ha : 0 ≤ a.toInt ∧ a.toInt ≤ 800) (hv : 0 ≤ v.toInt ∧ v.toInt ≤ 1002000) : (v ≤ gI B 1 0 42 * a) ↔ ¬ 0 < lowAt (gI B 1 0 42) a v 0 := by
  obtain ⟨t1, t2, t3⟩ := rate_mul hB (y := a) (by omega) (by omega)
  have h0 : (0 : Int32).toInt = 0 := rfl
  have hs : (a - 0).toInt = a.toInt := by rw [fi_sub (by omega) (by omega), h0]; omega
  have hae : a - 0 = a := by rw [fa_eq, hs]
  unfold lowAt
  rw [hae]
  by_cases h : (0 : Int32) < a
  · rw [if_pos h, fa_le, fa_lt, h0, fi_sub (by omega) (by omega)]
    omega
  · have ha0 : a.toInt = 0 := by rw [fa_lt, h0] at h; omega
    rw [if_neg h, fa_le, fa_lt, t1, ha0, h0]
    omega
include hok hlen
theorem m_cv295 {K224 : Int32 → zo_O → Option zo_R} {i : Nat} {l : Nat × Int32 × Int32 × Bool} (hi : bs[i]? = some l) : ∀ m k n Ω g, k + m = bs.length → m < n → Wx sS0 B Ω → MB Ω bs → agM Ω g → (∀ x, g x < 16384) → ∃ Ω', fn_X2_curve_295 N K224 n (nI i) (nI k) Ω = K224 (nI (i + 1)) Ω' ∧ Wx [(32, 44)] Ω Ω' ∧ agM Ω' (stN (gI B 1 0 42) l (bs.drop k) g) ∧ ∀ x, stN (gI B 1 0 42) l (bs.drop k) g x < 16384 := by
  have h14 := n_2 hB
  have hil : i < bs.length := by rw [List.getElem?_eq_some_iff] at hi; exact hi.1
  have hlk := hok l (List.mem_of_getElem? hi)
  obtain ⟨hl1, hl2, hl3⟩ := hlk
  have hl1 : l.1 < gC B 2 := hl1
  intro m
  induction m with
  | zero =>
    intro k n Ω g hk hn hw hM hg hlt
    obtain ⟨n, rfl⟩ : ∃ k, n = k + 1 := ⟨n - 1, by omega⟩
    have : k = bs.length := by omega
    subst this
    unfold fn_X2_curve_295 bd_X2_curve_295 fn_X2_curve_355
    rw [hM.1, if_pos (by grind), List.drop_length, nI_1]
    exact ⟨Ω, rfl, Wx.refl, hg, hlt⟩
  | succ m ih =>
    intro k n Ω g hk hn hw hM hg hlt
    obtain ⟨n, rfl⟩ : ∃ k, n = k + 1 := ⟨n - 1, by omega⟩
    have hkl : k < bs.length := by omega
    have hd : bs.drop k = bs[k] :: bs.drop (k + 1) := List.drop_eq_getElem_cons hkl
    have hI : ∀ g, stN (gI B 1 0 42) l (bs[k] :: bs.drop (k + 1)) g = stN (gI B 1 0 42) l (bs.drop (k + 1)) (if bs[k].2.2.2 = true ∧ bs[k].2.2.1 < lowAt (gI B 1 0 42) l.2.1 l.2.2.1 bs[k].2.1 then upd g l.1 (g l.1 ||| 2 ^ bs[k].1) else g) := fun g => rfl
    obtain ⟨u1, u2, u3, u4⟩ := hM.2 k bs[k] (List.getElem?_eq_getElem hkl)
    obtain ⟨v1, v2, v3, v4⟩ := hM.2 i l hi
    obtain ⟨hu1, hu2, hu3⟩ := hok bs[k] (List.getElem_mem hkl)
    have hu1 : bs[k].1 < gC B 2 := hu1
    rw [hd, hI]
    unfold fn_X2_curve_295 bd_X2_curve_295 fn_X2_curve_349
    rw [hM.1, if_neg (by rw [nI_leI (by omega) (by omega)]; omega)]
    simp only [ix_n (show k < 240 by omega) (show 240 < 2147483648 by decide), u4, nI_1, if_10]
    cases hu : bs[k].2.2.2 with
    | false =>
      rw [if_neg Bool.false_ne_true, if_neg (fun w => Bool.false_ne_true w.1)]
      exact ih (k + 1) n Ω g (by omega) (by omega) hw hM hg hlt
    | true =>
      rw [if_pos rfl]
      have hgt : fn_X2_goTogether N (nI i) (nI k) Ω = some (some (vi (if bs[k].2.2.1 < lowAt (gI B 1 0 42) l.2.1 l.2.2.1 bs[k].2.1 then 0 else 1)), Ω, 0, 0) := by
        unfold fn_X2_goTogether fn_X2_goTogether_40 fn_X2_goTogether_49
        simp only [ix_n (show k < 240 by omega) (show 240 < 2147483648 by decide), ix_n (show i < 240 by omega) (show 240 < 2147483648 by decide), u2, u3, v2, v3, li, w_m hw (show (1, 42) ∉ sS0 by decide), rZ_0, rZ_1]
        have := low_cmp hB (a := l.2.1) (v := l.2.2.1) (b := bs[k].2.1) (w := bs[k].2.2.1) hl2 hu2 hl3 hu3
        by_cases e : l.2.1 - bs[k].2.1 ≤ 0
        · rw [if_pos e] at this ⊢
          by_cases e2 : bs[k].2.2.1 + 0 < l.2.2.1
          · rw [if_pos e2, if_pos (this.1 e2)]
          · rw [if_neg e2, if_neg (fun w => e2 (this.2 w))]
        · rw [if_neg e] at this ⊢
          by_cases e2 : bs[k].2.2.1 + gI B 1 0 42 * (l.2.1 - bs[k].2.1) < l.2.2.1
          · rw [if_pos e2, if_pos (this.1 e2)]
          · rw [if_neg e2, if_neg (fun w => e2 (this.2 w))]
      rw [hgt, ci_mk]
      by_cases h : bs[k].2.2.1 < lowAt (gI B 1 0 42) l.2.1 l.2.2.1 bs[k].2.1
      · rw [if_pos h, if_pos rfl, if_pos ⟨rfl, h⟩]
        simp only [ix_n (show i < 240 by omega) (show 240 < 2147483648 by decide), v1, u1, ix_n (show l.1 < 14 by omega) (show 14 < 2147483648 by decide), hg l.1 (by omega), b_shl _ (show bs[k].1 ≤ 14 by omega), b_or, lt]
        have W1 : Wx [(32, 44)] Ω (sI Ω 32 44 l.1 (nI (g l.1 ||| 2 ^ bs[k].1))) := Wx.refl.sI (Or.inl (by simp [ky]))
        obtain ⟨Ω', q1, q2, q3, q4⟩ := ih (k + 1) n _ _ (by omega) (by omega) (hw.step W1 (by decide)) (MB_W hM W1 (by decide)) (agM_set hg) (upd_lt hlt (by omega))
        exact ⟨Ω', q1, W1.trans q2, q3, q4⟩
      · rw [if_neg h, if_neg (by decide), if_neg (fun w => h w.2)]
        exact ih (k + 1) n Ω g (by omega) (by omega) hw hM hg hlt
theorem m_cv224 (hN : 250 ≤ N) : ∀ m i n Ω g, i + m = bs.length → m < n → Wx sS0 B Ω → MB Ω bs → agM Ω g → (∀ x, g x < 16384) → ∃ Ω', fn_X2_curve_224 N n (nI i) Ω = fn_X2_curve_373 N N 15 0 (sI Ω' 1 0 73 0) ∧ Wx [(32, 44)] Ω Ω' ∧ agM Ω' (stMM (gI B 1 0 42) bs (bs.drop i) g) ∧ ∀ x, stMM (gI B 1 0 42) bs (bs.drop i) g x < 16384 := by
  have h14 := n_2 hB
  intro m
  induction m with
  | zero =>
    intro i n Ω g hk hn hw hM hg hlt
    obtain ⟨n, rfl⟩ : ∃ k, n = k + 1 := ⟨n - 1, by omega⟩
    have : i = bs.length := by omega
    subst this
    unfold fn_X2_curve_224 bd_X2_curve_224
    rw [hM.1, if_pos (by grind), List.drop_length]
    exact ⟨Ω, rfl, Wx.refl, hg, hlt⟩
  | succ m ih =>
    intro i n Ω g hk hn hw hM hg hlt
    obtain ⟨n, rfl⟩ : ∃ k, n = k + 1 := ⟨n - 1, by omega⟩
    have hil : i < bs.length := by omega
    have hd : bs.drop i = bs[i] :: bs.drop (i + 1) := List.drop_eq_getElem_cons hil
    have hi : bs[i]? = some bs[i] := List.getElem?_eq_getElem hil
    have hI : ∀ g, stMM (gI B 1 0 42) bs (bs[i] :: bs.drop (i + 1)) g = stMM (gI B 1 0 42) bs (bs.drop (i + 1)) (if bs[i].2.2.2 = true then g else stN (gI B 1 0 42) bs[i] bs (stA (gI B 1 0 42) bs[i] g)) := fun g => rfl
    obtain ⟨v1, v2, v3, v4⟩ := hM.2 i bs[i] hi
    obtain ⟨hl1, hl2, hl3⟩ := hok bs[i] (List.getElem_mem hil)
    have hl1 : bs[i].1 < gC B 2 := hl1
    rw [hd, hI]
    unfold fn_X2_curve_224 bd_X2_curve_224 fn_X2_curve_292 fn_X2_curve_355
    rw [hM.1, if_neg (by rw [nI_leI (by omega) (by omega)]; omega)]
    simp only [ix_n (show i < 240 by omega) (show 240 < 2147483648 by decide), v4, v3, v2, v1, nI_1, if_10, w_m hw (show (1, 42) ∉ sS0 by decide), ix_n (show bs[i].1 < 14 by omega) (show 14 < 2147483648 by decide), hg bs[i].1 (by omega), b_shl _ (show bs[i].1 ≤ 14 by omega), b_or, lt]
    cases hu : bs[i].2.2.2 with
    | true =>
      rw [if_pos rfl, if_pos rfl]
      exact ih (i + 1) n Ω g (by omega) (by omega) hw hM hg hlt
    | false =>
      rw [if_neg Bool.false_ne_true, if_neg Bool.false_ne_true]
      have key : ∀ Ω1 g1, Wx [(32, 44)] Ω Ω1 → agM Ω1 g1 → (∀ x, g1 x < 16384) → ∃ Ω', fn_X2_curve_295 N (fn_X2_curve_224 N n) N (nI i) 0 Ω1 = fn_X2_curve_373 N N 15 0 (sI Ω' 1 0 73 0) ∧ Wx [(32, 44)] Ω Ω' ∧ agM Ω' (stMM (gI B 1 0 42) bs (bs.drop (i + 1)) (stN (gI B 1 0 42) bs[i] bs g1)) ∧ ∀ x, stMM (gI B 1 0 42) bs (bs.drop (i + 1)) (stN (gI B 1 0 42) bs[i] bs g1) x < 16384 := by
        intro Ω1 g1 w1 a1 l1
        obtain ⟨Ω2, q1, q2, q3, q4⟩ := m_cv295 hB (N := N) hok hlen (K224 := fn_X2_curve_224 N n) hi bs.length 0 N Ω1 g1 (by omega) (by omega) (hw.step w1 (by decide)) (MB_W hM w1 (by decide)) a1 l1
        rw [List.drop_zero] at q3 q4
        have w2 := w1.trans q2
        obtain ⟨Ω3, p1, p2, p3, p4⟩ := ih (i + 1) n Ω2 _ (by omega) (by omega) (hw.step w2 (by decide)) (MB_W hM w2 (by decide)) q3 q4
        exact ⟨Ω3, q1.trans p1, w2.trans p2, p3, p4⟩
      have hc := al_cmp hB hl2 hl3
      by_cases h : bs[i].2.2.1 ≤ gI B 1 0 42 * bs[i].2.1
      · rw [if_pos h]
        have : stA (gI B 1 0 42) bs[i] g = g := by unfold stA; rw [if_neg (hc.1 h)]
        rw [this]
        exact key Ω g Wx.refl hg hlt
      · rw [if_neg h]
        have : stA (gI B 1 0 42) bs[i] g = upd g bs[i].1 (g bs[i].1 ||| 2 ^ bs[i].1) := by
          unfold stA
          rw [if_pos]
          cases Classical.em (0 < lowAt (gI B 1 0 42) bs[i].2.1 bs[i].2.2.1 0) with
          | inl w => exact w
          | inr w => exact absurd (hc.2 w) h
        rw [this]
        exact key _ _ (Wx.refl.sI (Or.inl (by simp [ky]))) (agM_set hg) (upd_lt hlt (by omega))
end S
