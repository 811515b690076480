/-! ===== fields written, arrays, new cells, answers ===== -/
set_option maxRecDepth 10000
/-- a checked index -/
def ix (i : Int32) (N : Nat) (F : Nat → Option zo_R) : Option zo_R := if i < 0 then none else if N ≤ i.toNatClampNeg then none else F i.toNatClampNeg
theorem ix_e {i : Int32} {N : Nat} {F : Nat → Option zo_R} {r : zo_R} (h : ix i N F = some r) : vp_in i N ∧ F i.toNatClampNeg = some r := by
  unfold ix at h
  by_cases h1 : i < 0
  · rw [if_pos h1] at h; cases h
  · rw [if_neg h1] at h
    by_cases h2 : N ≤ i.toNatClampNeg
    · rw [if_pos h2] at h; cases h
    · rw [if_neg h2] at h
      exact ⟨fun q => q.elim h1 h2, h⟩
/-- X's fields that hold one thing from the constructor on -/
def zo_k0 (f : Nat) : Option zo_T := match f with
  | 0 => some (20, 0)
  | 1 => some (20, 1)
  | 2 => some (20, 2)
  | 3 => some (20, 3)
  | 4 => some (20, 4)
  | 5 => some (20, 5)
  | 6 => some (20, 6)
  | 7 => some (43, 0)
  | 12 => some (38, 0)
  | 16 => some (37, 0)
  | 18 => some (39, 0)
  | 20 => some (41, 0)
  | _ => none
/-- M's arrays in the order of its fields -/
def zo_k1 (f : Nat) : Option zo_T := match f with
  | 3 => some (32, 0)
  | 4 => some (32, 1)
  | 5 => some (32, 2)
  | 6 => some (32, 3)
  | 7 => some (32, 4)
  | 9 => some (32, 5)
  | 10 => some (32, 6)
  | 11 => some (32, 7)
  | 12 => some (32, 8)
  | 13 => some (32, 9)
  | 14 => some (32, 10)
  | 15 => some (33, 0)
  | 16 => some (32, 11)
  | 18 => some (32, 12)
  | 19 => some (32, 13)
  | 20 => some (32, 14)
  | 21 => some (32, 15)
  | 23 => some (32, 16)
  | 24 => some (32, 17)
  | 25 => some (32, 18)
  | 26 => some (32, 19)
  | 28 => some (32, 20)
  | 29 => some (32, 21)
  | 30 => some (32, 22)
  | 31 => some (32, 23)
  | 33 => some (32, 24)
  | 34 => some (32, 25)
  | 35 => some (32, 26)
  | 36 => some (32, 27)
  | 38 => some (32, 28)
  | 39 => some (32, 29)
  | 40 => some (32, 30)
  | 44 => some (32, 31)
  | 47 => some (33, 1)
  | 48 => some (32, 32)
  | 49 => some (33, 2)
  | 50 => some (32, 33)
  | 51 => some (32, 34)
  | 52 => some (32, 35)
  | 53 => some (34, 0)
  | 61 => some (32, 36)
  | 62 => some (32, 37)
  | 63 => some (33, 3)
  | 64 => some (32, 38)
  | 69 => some (32, 39)
  | 70 => some (32, 40)
  | 71 => some (32, 41)
  | 72 => some (33, 4)
  | 74 => some (32, 42)
  | 75 => some (32, 43)
  | 76 => some (32, 44)
  | 77 => some (32, 45)
  | 78 => some (32, 46)
  | 79 => some (32, 47)
  | _ => none
/-- lengths of the arrays that stay -/
def zo_kl (k n : Nat) : Option Nat := match k with
  | 32 => match n with
    | 0 => some 14
    | 1 => some 14
    | 2 => some 14
    | 3 => some 14
    | 4 => some 14
    | 5 => some 120
    | 6 => some 120
    | 7 => some 120
    | 8 => some 120
    | 9 => some 120
    | 10 => some 120
    | 11 => some 120
    | 12 => some 100
    | 13 => some 100
    | 14 => some 100
    | 15 => some 100
    | 16 => some 40
    | 17 => some 40
    | 18 => some 40
    | 19 => some 40
    | 20 => some 20
    | 21 => some 20
    | 22 => some 20
    | 23 => some 20
    | 24 => some 40
    | 25 => some 40
    | 26 => some 40
    | 27 => some 40
    | 28 => some 30
    | 29 => some 30
    | 30 => some 30
    | 31 => some 3
    | 32 => some 24
    | 33 => some 96
    | 34 => some 96
    | 35 => some 96
    | 36 => some 5
    | 37 => some 5
    | 38 => some 25
    | 39 => some 240
    | 40 => some 240
    | 41 => some 240
    | 42 => some 801
    | 43 => some 801
    | 44 => some 14
    | 45 => some 14
    | 46 => some 14
    | 47 => some 120
    | _ => none
  | 33 => match n with
    | 0 => some 120
    | 1 => some 24
    | 2 => some 96
    | 3 => some 5
    | 4 => some 240
    | _ => none
  | 34 => if n = 0 then some 300 else none
  | 36 => if n < 5 then some 5 else none
  | 37 => if n = 0 then some 5 else none
  | 38 => if n = 0 then some 300 else none
  | 39 => if n = 0 then some 18 else none
  | 41 => if n = 0 then some 14 else none
  | 43 => if n = 0 then some 3 else none
  | _ => none
def zo_Con (Ω : zo_O) : Prop := (∀ f t, zo_k0 f = some t → gR Ω 0 0 f = some t) ∧ (∀ f t, zo_k1 f = some t → gR Ω 1 0 f = some t) ∧ (∀ i, i < 5 → gR Ω 37 0 i = some (36, i)) ∧ ∀ k n N, zo_kl k n = some N → gL Ω k n = N
/-- kinds of which no more are made once X and M stand -/
def zo_ck (k : Nat) : Bool := k == 0 || k == 1 || k == 32 || k == 33 || k == 34 || k == 36 || k == 37 || k == 38 || k == 39 || k == 41 || k == 43
/-- fields of references that stay -/
def zo_cf (k f : Nat) : Bool := (k == 0 && (zo_k0 f).isSome) || (k == 1 && (zo_k1 f).isSome) || k == 37
/-- what a world's law must bear -/
def zo_JC (J : zo_O → Prop) : Prop := (∀ Ω k n f v, J Ω → J (sI Ω k n f v)) ∧ (∀ Ω k n f v, zo_cf k f = false → J Ω → J (sR Ω k n f v)) ∧ (∀ Ω k len, zo_ck k = false → J Ω → J (nw Ω k len)) ∧ (∀ Ω n l, J Ω → J (sS Ω n l)) ∧ (∀ Ω k n f v, J Ω → J (sJ Ω k n f v))
theorem zo_JT : zo_JC (fun _ => True) := ⟨fun _ _ _ _ _ _ => trivial, fun _ _ _ _ _ _ _ => trivial, fun _ _ _ _ _ => trivial, fun _ _ _ _ => trivial, fun _ _ _ _ _ _ => trivial⟩
theorem zo_JCon : zo_JC zo_Con := by
  refine ⟨fun Ω k n f v h => h, fun Ω k n f v hc h => ?_, fun Ω k len hc h => ?_, fun Ω n l h => h, fun Ω k n f v h => h⟩
  · obtain ⟨h1, h2, h3, h4⟩ := h
    refine ⟨fun g t hg => ?_, fun g t hg => ?_, fun i hi => ?_, h4⟩
    · show u3 Ω.2.1 k n f v 0 0 g = some t
      unfold u3
      rw [if_neg (fun q => by
        obtain ⟨q1, q2, q3⟩ := q
        subst q1 q2 q3
        simp [zo_cf, hg] at hc)]
      exact h1 g t hg
    · show u3 Ω.2.1 k n f v 1 0 g = some t
      unfold u3
      rw [if_neg (fun q => by
        obtain ⟨q1, q2, q3⟩ := q
        subst q1 q2 q3
        simp [zo_cf, hg] at hc)]
      exact h2 g t hg
    · show u3 Ω.2.1 k n f v 37 0 i = some _
      unfold u3
      rw [if_neg (fun q => by
        obtain ⟨q1, q2, q3⟩ := q
        subst q1
        simp [zo_cf] at hc)]
      exact h3 i hi
  · obtain ⟨h1, h2, h3, h4⟩ := h
    refine ⟨fun g t hg => ?_, fun g t hg => ?_, fun i hi => ?_, fun k' n' N hN => ?_⟩
    · show (if 0 = k ∧ 0 = gC Ω k then none else Ω.2.1 0 0 g) = some t
      rw [if_neg (fun q => by rw [← q.1] at hc; cases hc)]
      exact h1 g t hg
    · show (if 1 = k ∧ 0 = gC Ω k then none else Ω.2.1 1 0 g) = some t
      rw [if_neg (fun q => by rw [← q.1] at hc; cases hc)]
      exact h2 g t hg
    · show (if 37 = k ∧ 0 = gC Ω k then none else Ω.2.1 37 0 i) = some _
      rw [if_neg (fun q => by rw [← q.1] at hc; cases hc)]
      exact h3 i hi
    · show (if k' = k ∧ n' = gC Ω k then len else Ω.2.2.1 k' n') = N
      rw [if_neg (fun q => by
        rw [q.1] at hN
        unfold zo_kl at hN
        split at hN <;> first | (cases hc; done) | cases hN)]
      exact h4 k' n' N hN
theorem u3_ne {α : Type} {F : Nat → Nat → Nat → α} {k n i : Nat} {v : α} {k' n' i' : Nat} (h : ¬ (k' = k ∧ n' = n)) : u3 F k n i v k' n' i' = F k' n' i' := if_neg (fun q => h ⟨q.1, q.2.1⟩)
theorem u3_nf {α : Type} {F : Nat → Nat → Nat → α} {k n i : Nat} {v : α} {k' n' i' : Nat} (h : ¬ i' = i) : u3 F k n i v k' n' i' = F k' n' i' := if_neg (fun q => h q.2.2)
def zo_fin (Y : zo_Y) (own : String) (idx k f : Nat) : Prop := ((zo_cl k).2.1 f).2.2.2 = false ∨ (((zo_cl k).2.1 f).2.2.2 = true ∧ zo_mn Y ∧ ((zo_cl k).2.1 f).1 = own ∧ ∃ ref, Cond.fieldLink own idx ref ((zo_cl k).2.1 f).2.1 ((zo_cl k).2.1 f).2.2.1 ∈ lw_all ∧ (ref = ((zo_cl k).2.1 f).1 ∨ Cond.sameField ref ((zo_cl k).2.1 f).1 ((zo_cl k).2.1 f).2.1 ((zo_cl k).2.1 f).2.2.1 ∈ lw_all))
section TWP
variable {Y : zo_Y} {res : zo_R} {Ω : zo_O} {pc : Nat} {ls : List (Nat × zo_V)} {st : List zo_V} {cc : ByteArray} {nL : Nat} {own : String} {d : Nat} {A : Option zo_R} {F : Nat → Option zo_R} {FO : zo_O → Option zo_R} {FJ : Nat → zo_O → Option zo_R}
theorem zo_putI0 (hY : zo_Gd Y cc nL own d) (hJ : zo_JC (zo_J Y)) {idx k f n : Nat} {a : Int32} (L : zo_FL own idx k f) (hr : zo_rf k f = false) (hfin : zo_fin Y own idx k f) (hn : narrow (zo_ty k f) (.int a) = .int a) (hfit : fits (zo_ty k f) (.int a) = true) (hd : decode cc pc = .ok (.putfield idx, 3)) (kk : TW Y res (sI Ω k n f a) (pc + 3) ls st) : TW Y res Ω pc ls (vi a :: vr k n :: st) := by
  refine zo_put0 hY L hfin hd (vi a) (sI Ω k n f a) (fun _ => hn) (fun _ => hfit) (fun G ρ j hj => ?_) (fun _ => rfl) (fun _ => rfl) (fun _ _ => rfl) (fun k' n' i h => u3_ne h) (fun _ _ _ _ => rfl) (fun _ _ _ _ => rfl) (fun _ h => h) (hJ.1 Ω k n f a) kk
  rw [zo_flds L.2.2.1]
  unfold updV
  by_cases e : j = f
  · subst e
    rw [if_pos rfl, hr]
    show _ = Value.int (u3 Ω.1 k n j a k n j)
    unfold u3
    rw [if_pos ⟨rfl, rfl, rfl⟩]
    rfl
  · rw [if_neg e, zo_flds L.2.2.1]
    show _ = if zo_rf k j = true then zo_mp ρ (gR Ω k n j) else Value.int (u3 Ω.1 k n f a k n j)
    rw [u3_nf e]
    rfl
theorem zo_putI (hY : zo_Gd Y cc nL own d) (hJ : zo_JC (zo_J Y)) {idx k f n : Nat} {a : Int32} (L : zo_FL own idx k f) (ht : zo_ty k f = .int) (hfin : zo_fin Y own idx k f) (hd : decode cc pc = .ok (.putfield idx, 3)) (h : lt (sI Ω k n f a) FO = some res) (kk : ∀ Ω', FO Ω' = some res → TW Y res Ω' (pc + 3) ls st) : TW Y res Ω pc ls (vi a :: vr k n :: st) :=
  zo_putI0 hY hJ L (by unfold zo_rf; rw [ht]; rfl) hfin (by rw [ht]; rfl) (by rw [ht]; rfl) hd (kk _ h)
theorem zo_putZ (hY : zo_Gd Y cc nL own d) (hJ : zo_JC (zo_J Y)) {idx k f n : Nat} {a : Int32} (L : zo_FL own idx k f) (ht : zo_ty k f = .boolean) (hfin : zo_fin Y own idx k f) (hd : decode cc pc = .ok (.putfield idx, 3)) (h : gd (a = 0 ∨ a = 1) (lt (sI Ω k n f a) FO) = some res) (kk : ∀ Ω', FO Ω' = some res → TW Y res Ω' (pc + 3) ls st) : TW Y res Ω pc ls (vi a :: vr k n :: st) := by
  obtain ⟨h01, h⟩ := gd_e h
  refine zo_putI0 hY hJ L (by unfold zo_rf; rw [ht]; rfl) hfin ?_ ?_ hd (kk _ h)
  · rw [ht]; rcases h01 with rfl | rfl <;> rfl
  · rw [ht]; rcases h01 with rfl | rfl <;> rfl
theorem zo_putR (hY : zo_Gd Y cc nL own d) (hJ : zo_JC (zo_J Y)) {idx k f n : Nat} {o : Option zo_T} (L : zo_FL own idx k f) (hr : zo_rf k f = true) (hcf : zo_cf k f = false ∨ ∀ Ω v, zo_J Y Ω → zo_J Y (sR Ω k n f v)) (hfin : zo_fin Y own idx k f) (hd : decode cc pc = .ok (.putfield idx, 3)) (h : lt (sR Ω k n f o) FO = some res) (kk : ∀ Ω', FO Ω' = some res → TW Y res Ω' (pc + 3) ls st) : TW Y res Ω pc ls (vo o :: vr k n :: st) := by
  have kk := kk _ h
  have hnf : ∀ ρ, narrow (zo_ty k f) (zo_mp ρ o) = zo_mp ρ o ∧ fits (zo_ty k f) (zo_mp ρ o) = true := by
    intro ρ
    unfold zo_rf at hr
    cases hz : zo_ty k f with
    | object c => cases o <;> exact ⟨rfl, rfl⟩
    | array t => cases o <;> exact ⟨rfl, rfl⟩
    | _ => rw [hz] at hr; cases hr
  refine zo_put0 hY L hfin hd (vo o) (sR Ω k n f o) (fun ρ => (hnf ρ).1) (fun ρ => (hnf ρ).2) (fun G ρ j hj => ?_) (fun _ => rfl) (fun _ => rfl) (fun _ _ => rfl) (fun _ _ _ _ => rfl) (fun k' n' i h => u3_ne h) (fun _ _ _ _ => rfl) (fun h1 h2 g t ht => ?_) (fun hj => hcf.elim (fun hc => hJ.2.1 Ω k n f o hc hj) (fun hc => hc Ω o hj)) kk
  · rw [zo_flds L.2.2.1]
    unfold updV
    by_cases e : j = f
    · subst e
      rw [if_pos rfl, hr]
      show _ = zo_mp ρ (u3 Ω.2.1 k n j o k n j)
      unfold u3
      rw [if_pos ⟨rfl, rfl, rfl⟩]
      rfl
    · rw [if_neg e, zo_flds L.2.2.1]
      show _ = if zo_rf k j = true then zo_mp ρ (u3 Ω.2.1 k n f o k n j) else Value.int (gI Ω k n j)
      rw [u3_nf e]
      rfl
  · have ht : u3 Ω.2.1 k n f o k n g = some t := ht
    unfold u3 at ht
    by_cases e : g = f
    · rw [if_pos ⟨rfl, rfl, e⟩] at ht
      subst ht
      exact h1
    · rw [if_neg (fun q => e q.2.2)] at ht
      exact h2 g t ht
/-- a reference that is known -/
theorem zo_getG (hY : zo_Gd Y cc nL own d) {idx k f n K j : Nat} (L : zo_FL own idx k f) (hr : zo_rf k f = true) (hd : decode cc pc = .ok (.getfield idx, 3)) (h : gd (gR Ω k n f = some (K, j)) A = some res) (kk : A = some res → TW Y res Ω (pc + 3) ls (vr K j :: st)) : TW Y res Ω pc ls (vr k n :: st) := by
  obtain ⟨e, h⟩ := gd_e h
  refine zo_getR hY L hr hd ?_
  rw [e]
  exact kk h
theorem zo_acell {G : zo_G} {ρ : Nat → Nat → Nat} {H : Heap} (hR : zo_Rep G ρ Ω H) {k n : Nat} (h32 : 32 ≤ k ∧ k < 44) (h40 : k ≠ 40) (hok : zo_ok Ω (k, n)) : H[ρ k n]? = some (arrV (G.2.2.1 k) (gL Ω k n) (zo_av ρ Ω k n)) ∧ G.2.2.2.1.size ≤ ρ k n ∧ n < gC Ω k := by
  have hlv := zo_lv_of hok (by omega) (by omega)
  obtain ⟨hc, hb⟩ := hR.cell hlv
  unfold zo_cell at hc
  rw [if_neg (by omega)] at hc
  unfold zo_ln at hc
  rw [if_neg h40] at hc
  unfold zo_lv at hlv
  rw [if_neg h40] at hlv
  exact ⟨hc, hb, hlv⟩
theorem zo_avI {ρ : Nat → Nat → Nat} {k n i : Nat} (h40 : k ≠ 40) (h42 : k ≠ 42) (hr : (zo_at k).isReference = false) : zo_av ρ Ω k n i = .int (gI Ω k n i) := by
  unfold zo_av
  rw [if_neg h40, hr, if_neg (by decide), if_neg h42]
theorem zo_avR {ρ : Nat → Nat → Nat} {k n i : Nat} (h40 : k ≠ 40) (hr : (zo_at k).isReference = true) : zo_av ρ Ω k n i = zo_mp ρ (gR Ω k n i) := by
  unfold zo_av
  rw [if_neg h40, if_pos hr]
theorem zo_isz {cA : ClassId} {n : Nat} {f : Nat → Value} {i : Int32} (h : vp_in i n) : ¬ (i < 0 ∨ (arrV cA n f).slots.size ≤ i.toNatClampNeg) := by
  rw [arrV_size]; exact h
theorem zo_lt {n : Nat} {i : Int32} (h : vp_in i n) : i.toNatClampNeg < n := Nat.not_le.mp fun q => h (Or.inr q)
/-- iaload, baload -/
theorem zo_ald (hY : zo_Gd Y cc nL own d) {k n N : Nat} {i : Int32} (h32 : 32 ≤ k ∧ k < 44) (hty : (zo_at k = .int ∧ decode cc pc = .ok (.iaload, 1)) ∨ ((zo_at k = .byte ∨ zo_at k = .boolean) ∧ decode cc pc = .ok (.baload, 1))) (hN : zo_J Y Ω → gL Ω k n = N) (h : ix i N F = some res) (kk : ∀ j, F j = some res → TW Y res Ω (pc + 1) ls (vi (gI Ω k n j) :: st)) : TW Y res Ω pc ls (vi i :: vr k n :: st) := by
  obtain ⟨hin, h⟩ := ix_e h
  have kk := kk _ h
  obtain ⟨p, l, e, R, s, m, args, below, meth, c, G, J, ρ0, Ω0, nL0, Q⟩ := Y
  obtain ⟨hx, hb, hml, rfl, hown, hts, hlk, hK, hfr, hlo⟩ := hY
  intro ρ H locs LS x y hR hJ hE hL hq hv hvl hvs h1 h2
  have h40 : k ≠ 40 := by rintro rfl; rcases hty with ⟨q, -⟩ | ⟨q | q, -⟩ <;> cases q
  have h42 : k ≠ 42 := by rintro rfl; rcases hty with ⟨q, -⟩ | ⟨q | q, -⟩ <;> cases q
  have hrf : (zo_at k).isReference = false := by rcases hty with ⟨q, -⟩ | ⟨q | q, -⟩ <;> rw [q] <;> rfl
  obtain ⟨hc, -, -⟩ := zo_acell hR h32 h40 hvs.2.1
  have kk := kk ρ H locs LS x y hR hJ hE hL hq hv hvl ⟨trivial, hvs.2.2⟩ h1 h2
  have hA := (hK.2.1 k h32.1 h32.2).1
  rw [hN hJ] at hc
  have hval : (arrV (G.2.2.1 k) N (zo_av ρ Ω k n)).slots[i.toNatClampNeg]? = some (.int (gI Ω k n i.toNatClampNeg)) := by rw [arrV_read _ _ (zo_lt hin), zo_avI h40 h42 hrf]
  rcases hty with ⟨q, hd⟩ | ⟨q | q, hd⟩
  · rw [q] at hA
    exact W.iald hx hb hc (hA _ _) (fun q => by cases q) (zo_isz hin) hval rfl rfl hd kk
  · rw [q] at hA
    exact W.bald hx hb hc (hA _ _) (fun q => by cases q) (zo_isz hin) hval rfl rfl hd kk
  · rw [q] at hA
    exact W.zald hx hb hc (hA _ _) (fun q => by cases q) (zo_isz hin) hval rfl rfl hd kk
theorem zo_aldR0 (hY : zo_Gd Y cc nL own d) {k n N : Nat} {i : Int32} (h32 : 32 ≤ k ∧ k < 44) (h40 : k ≠ 40) (hrf : (zo_at k).isReference = true) (hd : decode cc pc = .ok (.aaload, 1)) (hN : zo_J Y Ω → gL Ω k n = N) (hin : vp_in i N) (kk : TW Y res Ω (pc + 1) ls (vo (gR Ω k n i.toNatClampNeg) :: st)) : TW Y res Ω pc ls (vi i :: vr k n :: st) := by
  obtain ⟨p, l, e, R, s, m, args, below, meth, c, G, J, ρ0, Ω0, nL0, Q⟩ := Y
  obtain ⟨hx, hb, hml, rfl, hown, hts, hlk, hK, hfr, hlo⟩ := hY
  intro ρ H locs LS x y hR hJ hE hL hq hv hvl hvs h1 h2
  obtain ⟨hc, -, hn⟩ := zo_acell hR h32 h40 hvs.2.1
  have hok : zo_vk Ω (vo (gR Ω k n i.toNatClampNeg)) := by
    cases hg : gR Ω k n i.toNatClampNeg with
    | none => trivial
    | some t => exact hR.2.2.2.2.1 k n _ t hn hg
  have kk := kk ρ H locs LS x y hR hJ hE hL hq hv hvl ⟨hok, hvs.2.2⟩ h1 h2
  have hA := (hK.2.1 k h32.1 h32.2).1
  rw [hN hJ] at hc
  have hval : (arrV (G.2.2.1 k) N (zo_av ρ Ω k n)).slots[i.toNatClampNeg]? = some (zo_mp ρ (gR Ω k n i.toNatClampNeg)) := by rw [arrV_read _ _ (zo_lt hin), zo_avR h40 hrf]
  exact W.aald (ty := zo_at k) hx hb hc (hA _ _) hrf (fun q => by cases q) (zo_isz hin) hval rfl rfl hd kk
/-- aaload: null or not -/
theorem zo_aldR (hY : zo_Gd Y cc nL own d) {k n N : Nat} {i : Int32} (h32 : 32 ≤ k ∧ k < 44) (h40 : k ≠ 40) (hrf : (zo_at k).isReference = true) (hd : decode cc pc = .ok (.aaload, 1)) (hN : zo_J Y Ω → gL Ω k n = N) (h : ix i N F = some res) (kk : ∀ j, F j = some res → TW Y res Ω (pc + 1) ls (vo (gR Ω k n j) :: st)) : TW Y res Ω pc ls (vi i :: vr k n :: st) := by
  obtain ⟨hin, h⟩ := ix_e h
  exact zo_aldR0 hY h32 h40 hrf hd hN hin (kk _ h)
/-- aaload of a row of above -/
theorem zo_aldW (hY : zo_Gd Y cc nL own d) {i : Int32} (hCon : ∀ Ω, zo_J Y Ω → zo_Con Ω) (hd : decode cc pc = .ok (.aaload, 1)) (h : ix i 5 F = some res) (kk : ∀ j, F j = some res → TW Y res Ω (pc + 1) ls (vr 36 j :: st)) : TW Y res Ω pc ls (vi i :: vr 37 0 :: st) := by
  obtain ⟨hin, h⟩ := ix_e h
  have kk := kk _ h
  have k1 : zo_J Y Ω → TW Y res Ω pc ls (vi i :: vr 37 0 :: st) := fun hJ => zo_aldR0 hY (by decide) (by decide) rfl hd (fun q => (hCon Ω q).2.2.2 37 0 5 rfl) hin (by rw [(hCon Ω hJ).2.2.1 _ (zo_lt hin)]; exact kk)
  obtain ⟨p, l, e, R, s, m, args, below, meth, c, G, J, ρ0, Ω0, nL0, Q⟩ := Y
  intro ρ H locs LS x y hR hJ
  exact k1 hJ ρ H locs LS x y hR hJ
theorem zo_alen (hY : zo_Gd Y cc nL own d) {k n N : Nat} (h32 : 32 ≤ k ∧ k < 44) (h40 : k ≠ 40) (hN : zo_J Y Ω → gL Ω k n = N) (hd : decode cc pc = .ok (.arraylength, 1)) (kk : TW Y res Ω (pc + 1) ls (vi (nI N) :: st)) : TW Y res Ω pc ls (vr k n :: st) := by
  obtain ⟨p, l, e, R, s, m, args, below, meth, c, G, J, ρ0, Ω0, nL0, Q⟩ := Y
  obtain ⟨hx, hb, hml, rfl, hown, hts, hlk, hK, hfr, hlo⟩ := hY
  intro ρ H locs LS x y hR hJ hE hL hq hv hvl hvs h1 h2
  obtain ⟨hc, -, hn⟩ := zo_acell hR h32 h40 hvs.1
  rw [hN hJ] at hc
  exact W.alen (n := nI N) hx hb hc ((hK.2.1 k h32.1 h32.2).1 _ _) (by rw [arrV_size] <;> rfl) rfl rfl hd (kk ρ H locs LS x y hR hJ hE hL hq hv hvl ⟨trivial, hvs.2⟩ h1 h2)
end TWP
