/-! ===== stores into arrays, new cells ===== -/
set_option maxRecDepth 10000
theorem zo_leI {Ω : zo_O} {k n f : Nat} {v : Int32} : zo_le Ω (sI Ω k n f v) := fun _ => Nat.le_refl _
theorem zo_leJ {Ω : zo_O} {k n f : Nat} {v : Int64} : zo_le Ω (sJ Ω k n f v) := fun _ => Nat.le_refl _
theorem zo_leR {Ω : zo_O} {k n f : Nat} {v : Option zo_T} : zo_le Ω (sR Ω k n f v) := fun _ => Nat.le_refl _
section TWA
variable {Y : zo_Y} {res : zo_R} {Ω : zo_O} {pc : Nat} {ls : List (Nat × zo_V)} {st : List zo_V} {cc : ByteArray} {nL : Nat} {own : String} {d : Nat} {A : Option zo_R} {F : Nat → Option zo_R} {FO : zo_O → Option zo_R} {FJ : Nat → zo_O → Option zo_R}
theorem zo_cellA {G : zo_G} {ρ : Nat → Nat → Nat} {Ω Ω' : zo_O} {H' : Heap} {k n N j : Nat} {v : Value} (h21 : 32 ≤ k) (h40 : k ≠ 40) (hN : gL Ω' k n = N) (e : H'[ρ k n]? = some ((arrV (G.2.2.1 k) N (zo_av ρ Ω k n)).setSlot j v)) (hav : ∀ i, updV (zo_av ρ Ω k n) j v i = zo_av ρ Ω' k n i) : zo_cell G ρ Ω' k n H' := by
  unfold zo_cell
  rw [if_neg (by omega)]
  unfold zo_ln
  rw [if_neg h40, hN, e, arrV_store]
  congr 2
  exact funext hav
/-- iastore, bastore -/
theorem zo_ast (hY : zo_Gd Y cc nL own d) (hJC : zo_JC (zo_J Y)) {k n N : Nat} {i a b : Int32} (h32 : 32 ≤ k ∧ k < 44) (hty : (zo_at k = .int ∧ b = a ∧ decode cc pc = .ok (.iastore, 1)) ∨ (zo_at k = .byte ∧ b = a.toInt8.toInt32 ∧ decode cc pc = .ok (.bastore, 1)) ∨ (zo_at k = .boolean ∧ b = vp_nar .boolean a ∧ decode cc pc = .ok (.bastore, 1))) (hN : zo_J Y Ω → gL Ω k n = N) (h : ix i N (fun j => lt (sI Ω k n j b) (FJ j)) = some res) (kk : ∀ j Ω', FJ j Ω' = some res → TW Y res Ω' (pc + 1) ls st) : TW Y res Ω pc ls (vi a :: vi i :: vr k n :: st) := by
  obtain ⟨hin, h⟩ := ix_e h
  have kk : TW Y res (sI Ω k n i.toNatClampNeg b) (pc + 1) ls st := kk _ _ h
  have hJ2 := hJC.1 Ω k n i.toNatClampNeg b
  obtain ⟨p, l, e, R, s, m, args, below, meth, c, G, J, ρ0, Ω0, nL0, Q⟩ := Y
  obtain ⟨hx, hb, hml, rfl, hown, hts, hlk, hK, hfr, hlo⟩ := hY
  intro ρ H locs LS x y hR hJ hE hL hq hv hvl hvs h1 h2
  have h40 : k ≠ 40 := by rintro rfl; rcases hty with ⟨q, -⟩ | ⟨q, -⟩ | ⟨q, -⟩ <;> cases q
  have h42 : k ≠ 42 := by rintro rfl; rcases hty with ⟨q, -⟩ | ⟨q, -⟩ | ⟨q, -⟩ <;> cases q
  have hrf : (zo_at k).isReference = false := by rcases hty with ⟨q, -⟩ | ⟨q, -⟩ | ⟨q, -⟩ <;> rw [q] <;> rfl
  have hok := hvs.2.2.1
  obtain ⟨hc, hbase, hn⟩ := zo_acell hR h32 h40 hok
  have hA := (hK.2.1 k h32.1 h32.2).1
  have hNN := hN hJ
  rw [hNN] at hc
  have fin : ∀ H' : Heap, H'[ρ k n]? = some ((arrV (G.2.2.1 k) N (zo_av ρ Ω k n)).setSlot i.toNatClampNeg (.int b)) → H'.size = H.size → (∀ q, q ≠ ρ k n → H'[q]? = H[q]?) → W p l e R s m args below meth c H' (locs ++ [⟨ρ k n, i.toNatClampNeg⟩]) x y (Q res.1 res.2.1) (F0 m (pc + 1) LS (st.map (zo_c ρ))) := by
    intro H' e1 e2 e3
    have hcell : zo_cell G ρ (sI Ω k n i.toNatClampNeg b) k n H' := by
      refine zo_cellA h32.1 h40 hNN e1 (fun j => ?_)
      rw [zo_avI h40 h42 hrf]
      unfold updV
      by_cases ej : j = i.toNatClampNeg
      · subst ej
        rw [if_pos rfl]
        show _ = Value.int (u3 Ω.1 k n _ b k n _)
        unfold u3
        rw [if_pos ⟨rfl, rfl, rfl⟩]
      · rw [if_neg ej, zo_avI h40 h42 hrf]
        show _ = Value.int (u3 Ω.1 k n _ b k n j)
        rw [u3_nf ej]
        rfl
    exact kk ρ H' _ LS x y (hR.put (zo_lv_of hok (by omega) (by omega)) ⟨by omega, h40⟩ e2 e3 hcell (fun _ => rfl) (fun _ => rfl) (fun _ _ => rfl) (fun k' n' i h => u3_ne h) (fun _ _ _ _ => rfl) (fun _ _ _ _ => rfl) (fun f t ht => hR.2.2.2.2.1 k n f t hn ht)) (hJ2 hJ) hE hL (zo_lsz hq hbase) hv hvl (zo_vs.le zo_leI hvs.2.2.2) h1 h2
  rcases hty with ⟨q, rfl, hd⟩ | ⟨q, rfl, hd⟩ | ⟨q, rfl, hd⟩
  · rw [q] at hA
    exact W.iast hx hb hc (hA _ _) (fun q => by cases q) (zo_isz hin) rfl rfl hd fin
  · rw [q] at hA
    exact W.bast hx hb hc (hA _ _) (fun q => by cases q) (zo_isz hin) rfl rfl hd fin
  · rw [q] at hA
    exact W.zast hx hb hc (hA _ _) (fun q => by cases q) (zo_isz hin) rfl rfl hd fin
/-- lastore -/
theorem zo_last (hY : zo_Gd Y cc nL own d) (hJC : zo_JC (zo_J Y)) {n N : Nat} {i : Int32} {b : Int64} (hd : decode cc pc = .ok (.lastore, 1)) (hN : zo_J Y Ω → gL Ω 42 n = N) (h : ix i N (fun j => lt (sJ Ω 42 n j b) (FJ j)) = some res) (kk : ∀ j Ω', FJ j Ω' = some res → TW Y res Ω' (pc + 1) ls st) : TW Y res Ω pc ls (vl b :: vi i :: vr 42 n :: st) := by
  obtain ⟨hin, h⟩ := ix_e h
  have kk : TW Y res (sJ Ω 42 n i.toNatClampNeg b) (pc + 1) ls st := kk _ _ h
  have hJ2 := hJC.2.2.2.2 Ω 42 n i.toNatClampNeg b
  obtain ⟨p, l, e, R, s, m, args, below, meth, c, G, J, ρ0, Ω0, nL0, Q⟩ := Y
  obtain ⟨hx, hb, hml, rfl, hown, hts, hlk, hK, hfr, hlo⟩ := hY
  intro ρ H locs LS x y hR hJ hE hL hq hv hvl hvs h1 h2
  have hok := hvs.2.2.1
  obtain ⟨hc, hbase, hn⟩ := zo_acell hR (by decide) (by decide) hok
  have hA := (hK.2.1 42 (by decide) (by decide)).1
  have hNN := hN hJ
  rw [hNN] at hc
  refine W.last hx hb hc (hA _ _) (fun q => by cases q) (zo_isz hin) rfl rfl hd (fun H' e1 e2 e3 => ?_)
  have hcell : zo_cell G ρ (sJ Ω 42 n i.toNatClampNeg b) 42 n H' := by
    refine zo_cellA (by decide) (by decide) hNN e1 (fun j => ?_)
    show updV (zo_av ρ Ω 42 n) _ _ j = Value.long (u3 Ω.2.2.2.2.2 42 n _ b 42 n j)
    unfold updV
    by_cases ej : j = i.toNatClampNeg
    · subst ej
      rw [if_pos rfl]
      unfold u3
      rw [if_pos ⟨rfl, rfl, rfl⟩]
    · rw [if_neg ej, u3_nf ej]
      rfl
  exact kk ρ H' _ LS x y (hR.put (zo_lv_of hok (by omega) (by omega)) ⟨by omega, by omega⟩ e2 e3 hcell (fun _ => rfl) (fun _ => rfl) (fun _ _ => rfl) (fun _ _ _ _ => rfl) (fun _ _ _ _ => rfl) (fun k' n' i h => u3_ne h) (fun f t ht => hR.2.2.2.2.1 42 n f t hn ht)) (hJ2 hJ) hE hL (zo_lsz hq hbase) hv hvl (zo_vs.le zo_leJ hvs.2.2.2) h1 h2
/-- laload -/
theorem zo_lald (hY : zo_Gd Y cc nL own d) {n N : Nat} {i : Int32} (hd : decode cc pc = .ok (.laload, 1)) (hN : zo_J Y Ω → gL Ω 42 n = N) (h : ix i N F = some res) (kk : ∀ j, F j = some res → TW Y res Ω (pc + 1) ls (vl (gJ Ω 42 n j) :: st)) : TW Y res Ω pc ls (vi i :: vr 42 n :: st) := by
  obtain ⟨hin, h⟩ := ix_e h
  have kk := kk _ h
  obtain ⟨p, l, e, R, s, m, args, below, meth, c, G, J, ρ0, Ω0, nL0, Q⟩ := Y
  obtain ⟨hx, hb, hml, rfl, hown, hts, hlk, hK, hfr, hlo⟩ := hY
  intro ρ H locs LS x y hR hJ hE hL hq hv hvl hvs h1 h2
  obtain ⟨hc, -, hn⟩ := zo_acell hR (by decide) (by decide) hvs.2.1
  have kk := kk ρ H locs LS x y hR hJ hE hL hq hv hvl ⟨trivial, hvs.2.2⟩ h1 h2
  have hA := (hK.2.1 42 (by decide) (by decide)).1
  rw [hN hJ] at hc
  have hval : (arrV (G.2.2.1 42) N (zo_av ρ Ω 42 n)).slots[i.toNatClampNeg]? = some (.long (gJ Ω 42 n i.toNatClampNeg)) := by rw [arrV_read _ _ (zo_lt hin)]; rfl
  exact W.lald hx hb hc (hA _ _) (fun q => by cases q) (zo_isz hin) hval rfl rfl hd kk
/-- aastore: null, or an object of the array's own class -/
theorem zo_astR (hY : zo_Gd Y cc nL own d) (hJC : zo_JC (zo_J Y)) {k n N K : Nat} {i : Int32} {o : Option zo_T} (h32 : 32 ≤ k ∧ k < 44) (h40 : k ≠ 40) (hcf : zo_cf k 0 = false ∧ ∀ f, zo_cf k f = zo_cf k 0) (hK21 : K < 21) (hty : zo_at k = .object (zo_cl K).1) (ho : o = none ∨ ∃ q, o = some (K, q)) (hd : decode cc pc = .ok (.aastore, 1)) (hN : zo_J Y Ω → gL Ω k n = N) (h : ix i N (fun j => lt (sR Ω k n j o) (FJ j)) = some res) (kk : ∀ j Ω', FJ j Ω' = some res → TW Y res Ω' (pc + 1) ls st) : TW Y res Ω pc ls (vo o :: vi i :: vr k n :: st) := by
  obtain ⟨hin, h⟩ := ix_e h
  have kk : TW Y res (sR Ω k n i.toNatClampNeg o) (pc + 1) ls st := kk _ _ h
  have hJ2 := hJC.2.1 Ω k n i.toNatClampNeg o (by rw [hcf.2]; exact hcf.1)
  obtain ⟨p, l, e, R, s, m, args, below, meth, c, G, J, ρ0, Ω0, nL0, Q⟩ := Y
  obtain ⟨hx, hb, hml, rfl, hown, hts, hlk, hK, hfr, hlo⟩ := hY
  intro ρ H locs LS x y hR hJ hE hL hq hv hvl hvs h1 h2
  have hrf : (zo_at k).isReference = true := by rw [hty]; rfl
  have hok := hvs.2.2.1
  obtain ⟨hc, hbase, hn⟩ := zo_acell hR h32 h40 hok
  obtain ⟨hA, hRA⟩ := hK.2.1 k h32.1 h32.2
  have hNN := hN hJ
  rw [hNN] at hc
  have fin : ∀ H' : Heap, H'[ρ k n]? = some ((arrV (G.2.2.1 k) N (zo_av ρ Ω k n)).setSlot i.toNatClampNeg (zo_mp ρ o)) → H'.size = H.size → (∀ q, q ≠ ρ k n → H'[q]? = H[q]?) → W p l e R s m args below meth c H' (locs ++ [⟨ρ k n, i.toNatClampNeg⟩]) x y (Q res.1 res.2.1) (F0 m (pc + 1) LS (st.map (zo_c ρ))) := by
    intro H' e1 e2 e3
    have hcell : zo_cell G ρ (sR Ω k n i.toNatClampNeg o) k n H' := by
      refine zo_cellA h32.1 h40 hNN e1 (fun j => ?_)
      rw [zo_avR h40 hrf]
      unfold updV
      by_cases ej : j = i.toNatClampNeg
      · subst ej
        rw [if_pos rfl]
        show _ = zo_mp ρ (u3 Ω.2.1 k n _ o k n _)
        unfold u3
        rw [if_pos ⟨rfl, rfl, rfl⟩]
      · rw [if_neg ej, zo_avR h40 hrf]
        show _ = zo_mp ρ (u3 Ω.2.1 k n _ o k n j)
        rw [u3_nf ej]
        rfl
    refine kk ρ H' _ LS x y (hR.put (zo_lv_of hok (by omega) (by omega)) ⟨by omega, h40⟩ e2 e3 hcell (fun _ => rfl) (fun _ => rfl) (fun _ _ => rfl) (fun _ _ _ _ => rfl) (fun k' n' i h => u3_ne h) (fun _ _ _ _ => rfl) (fun f t ht => ?_)) (hJ2 hJ) hE hL (zo_lsz hq hbase) hv hvl (zo_vs.le zo_leR hvs.2.2.2) h1 h2
    have ht : u3 Ω.2.1 k n i.toNatClampNeg o k n f = some t := ht
    unfold u3 at ht
    by_cases ef : f = i.toNatClampNeg
    · rw [if_pos ⟨rfl, rfl, ef⟩] at ht
      subst ht
      exact hvs.1
    · rw [if_neg (fun q => ef q.2.2)] at ht
      exact hR.2.2.2.2.1 k n f t hn ht
  rcases ho with rfl | ⟨q, rfl⟩
  · exact va_WaastN (C := (zo_cl K).1) hx hb hc (by rw [← hty]; exact hA _ _) (fun q => by cases q) (zo_isz hin) rfl rfl hd fin
  · rw [hty] at hRA
    obtain ⟨kA, comp, k1, k2, k3, -⟩ := hRA
    have hcls := (hK.1 K hK21).2
    have hcomp : comp = G.1 K := Option.some.inj (k3.symm.trans hcls.1)
    subst hcomp
    obtain ⟨kC, hkC, -⟩ := hcls.2
    have hokv := hvs.1
    obtain ⟨hcv, -⟩ := hR.cell (zo_lv_of (k := K) (n := q) hokv (by omega) (by omega))
    unfold zo_cell at hcv
    rw [if_pos hK21] at hcv
    obtain ⟨cellV, g1, g2, g3, -⟩ := hcv
    exact W.aast hx hb hc (fun q h => by cases h) (fun h => by cases h) k1 k2 rfl hkC ⟨fun q => hin (Or.inl q), by rw [arrV_size]; exact zo_lt hin⟩ g1 (fun q h => by rw [g3] at h; cases h) (by rw [g2]; exact hkC) (by rw [g2]; exact va_assign hcls) rfl rfl hd fin
end TWA
/-- a name for a new cell -/
def zo_rn (ρ : Nat → Nat → Nat) (k n a : Nat) : Nat → Nat → Nat := fun k' n' => if k' = k ∧ n' = n then a else ρ k' n'
theorem zo_le.nw {Ω : zo_O} {k len : Nat} : zo_le Ω (nw Ω k len) := fun k' => by
  show gC Ω k' ≤ if k' = k then gC Ω k + 1 else gC Ω k'
  by_cases h : k' = k
  · rw [if_pos h, h]; omega
  · rw [if_neg h]; exact Nat.le_refl _
theorem zo_cell.lt {G : zo_G} {ρ : Nat → Nat → Nat} {Ω : zo_O} {k n : Nat} {H : Heap} (h : zo_cell G ρ Ω k n H) : ρ k n < H.size := by
  unfold zo_cell at h
  by_cases hk : k < 21
  · rw [if_pos hk] at h
    obtain ⟨cell, h2, -⟩ := h
    exact (Array.getElem?_eq_some_iff.mp h2).1
  · rw [if_neg hk] at h
    exact (Array.getElem?_eq_some_iff.mp h).1
theorem zo_Rep.new {G : zo_G} {ρ : Nat → Nat → Nat} {Ω : zo_O} {H H' : Heap} (h : zo_Rep G ρ Ω H) {k len : Nat} (hk : k ≠ 21 ∧ k ≠ 22 ∧ k ≠ 40) (hz : H'.size = H.size + 1) (ho : ∀ q : Nat, q < H.size → H'[q]? = H[q]?) (hc : zo_cell G (zo_rn ρ k (gC Ω k) H.size) (nw Ω k len) k (gC Ω k) H') :
    zo_Rep G (zo_rn ρ k (gC Ω k) H.size) (nw Ω k len) H' ∧ zo_ext Ω ρ (zo_rn ρ k (gC Ω k) H.size) := by
  have hext : zo_ext Ω ρ (zo_rn ρ k (gC Ω k) H.size) := fun t ht => by
    unfold zo_rn
    rw [if_neg]
    rintro ⟨e1, e2⟩
    rcases ht with q | q | ⟨q, q2⟩
    · exact hk.1 (e1.symm.trans q)
    · exact hk.2.1 (e1.symm.trans q)
    · rw [e2, e1] at q2
      exact Nat.lt_irrefl _ q2
  obtain ⟨h1, h2, h3, ⟨own, h4⟩, h5, h6, h7⟩ := h
  refine ⟨⟨by omega, fun q hq => (ho q (by omega)).trans (h2 q hq), fun n => ?_, ⟨fun a => if a = H.size then (k, gC Ω k) else own a, fun k' n' hl' => ?_⟩, fun k' n' f t hn ht => ?_, fun n' t hn ht => ?_, ?_⟩, hext⟩
  · unfold zo_rn
    rw [if_neg (fun q => hk.1 q.1.symm), if_neg (fun q => hk.2.1 q.1.symm)]
    exact h3 n
  · by_cases he : k' = k ∧ n' = gC Ω k
    · obtain ⟨rfl, rfl⟩ := he
      refine ⟨?_, ?_, hc⟩
      · simp [zo_rn]
      · simp [zo_rn]; exact h1
    · have hl : zo_lv Ω k' n' := by
        unfold zo_lv at hl' ⊢
        by_cases h40 : k' = 40
        · rw [if_pos h40] at hl' ⊢
          obtain ⟨a1, a2⟩ := hl'
          have a1 : n' < if 20 = k then gC Ω k + 1 else gC Ω 20 := a1
          have a2 : (if k = 20 ∧ n' = gC Ω k then [] else gS Ω n') ≠ [] := a2
          by_cases h20 : k = 20
          · subst h20
            rw [if_pos rfl] at a1
            by_cases hn : n' = gC Ω 20
            · rw [if_pos ⟨rfl, hn⟩] at a2
              exact absurd rfl a2
            · rw [if_neg (fun q => hn q.2)] at a2
              exact ⟨by omega, a2⟩
          · rw [if_neg (fun q => h20 q.symm)] at a1
            rw [if_neg (fun q => h20 q.1)] at a2
            exact ⟨a1, a2⟩
        · rw [if_neg h40] at hl' ⊢
          have hl' : n' < if k' = k then gC Ω k + 1 else gC Ω k' := hl'
          by_cases hkk : k' = k
          · rw [if_pos hkk] at hl'
            have hne : n' ≠ gC Ω k := fun q => he ⟨hkk, q⟩
            rw [hkk]
            omega
          · rw [if_neg hkk] at hl'
            exact hl'
      obtain ⟨a1, a2, a3⟩ := h4 k' n' hl
      have hlt := a3.lt
      have hρ : zo_rn ρ k (gC Ω k) H.size k' n' = ρ k' n' := if_neg he
      have hSn : (k' = 20 ∨ k' = 40) → gS (nw Ω k len) n' = gS Ω n' := fun hq => by
        show (if k = 20 ∧ n' = gC Ω k then [] else gS Ω n') = gS Ω n'
        by_cases hc2 : k = 20 ∧ n' = gC Ω k
        · exfalso
          rcases hq with rfl | rfl
          · exact he ⟨hc2.1.symm, hc2.2⟩
          · unfold zo_lv at hl
            rw [if_pos rfl] at hl
            have := hl.1
            rw [hc2.2, hc2.1] at this
            exact Nat.lt_irrefl _ this
        · rw [if_neg hc2]
      have hIn : ∀ i, gI (nw Ω k len) k' n' i = gI Ω k' n' i := fun i => if_neg he
      have hRn : ∀ i, gR (nw Ω k len) k' n' i = gR Ω k' n' i := fun i => if_neg he
      have hJn : ∀ i, gJ (nw Ω k len) k' n' i = gJ Ω k' n' i := fun i => if_neg he
      have hLn : gL (nw Ω k len) k' n' = gL Ω k' n' := if_neg he
      have hnc : k' ≠ 40 → n' < gC Ω k' := fun q => by
        unfold zo_lv at hl
        rw [if_neg q] at hl
        exact hl
      have hmp : k' ≠ 40 → ∀ i, zo_mp (zo_rn ρ k (gC Ω k) H.size) (gR Ω k' n' i) = zo_mp ρ (gR Ω k' n' i) := fun q i => zo_mp.ext hext (fun t ht => h5 k' n' i t (hnc q) ht)
      refine ⟨?_, ?_, a3.cong hρ (ho _ hlt) (fun h21 f hf => ?_) (fun _ => ?_) (fun _ i hi => ?_)⟩
      · show (if zo_rn ρ k (gC Ω k) H.size k' n' = H.size then (k, gC Ω k) else own (zo_rn ρ k (gC Ω k) H.size k' n')) = (k', n')
        rw [hρ, if_neg (by omega)]
        exact a1
      · rw [hρ]; exact a2
      · unfold zo_fv
        by_cases h20 : k' = 20
        · rw [if_pos h20, if_pos h20, hSn (Or.inl h20)]
          rw [show zo_rn ρ k (gC Ω k) H.size 40 n' = ρ 40 n' from if_neg (fun q => hk.2.2 q.1.symm)]
        · rw [if_neg h20, if_neg h20, hRn, hIn, hmp (by omega)]
      · unfold zo_ln
        by_cases h40 : k' = 40
        · rw [if_pos h40, if_pos h40, hSn (Or.inr h40)]
        · rw [if_neg h40, if_neg h40, hLn]
      · unfold zo_av
        by_cases h40 : k' = 40
        · rw [if_pos h40, if_pos h40, hSn (Or.inr h40)]
          refine zo_mp.ext hext (fun t ht => ?_)
          unfold zo_lv at hl
          rw [if_pos h40] at hl
          exact h6 n' t hl.1 (List.mem_of_getElem? ht)
        · rw [if_neg h40, if_neg h40, hRn, hIn, hJn, hmp h40]
  · have ht : (if k' = k ∧ n' = gC Ω k then none else gR Ω k' n' f) = some t := ht
    by_cases he : k' = k ∧ n' = gC Ω k
    · rw [if_pos he] at ht; cases ht
    · rw [if_neg he] at ht
      have hn : n' < if k' = k then gC Ω k + 1 else gC Ω k' := hn
      have hn2 : n' < gC Ω k' := by
        by_cases hkk : k' = k
        · rw [if_pos hkk] at hn
          have hne : n' ≠ gC Ω k := fun q => he ⟨hkk, q⟩
          rw [hkk]; omega
        · rw [if_neg hkk] at hn; exact hn
      exact (h5 k' n' f t hn2 ht).le zo_le.nw
  · have ht : t ∈ (if k = 20 ∧ n' = gC Ω k then [] else gS Ω n') := ht
    by_cases he : k = 20 ∧ n' = gC Ω k
    · rw [if_pos he] at ht; cases ht
    · rw [if_neg he] at ht
      have hn : n' < if 20 = k then gC Ω k + 1 else gC Ω 20 := hn
      have hn2 : n' < gC Ω 20 := by
        by_cases hkk : 20 = k
        · rw [if_pos hkk] at hn
          have hne : n' ≠ gC Ω k := fun q => he ⟨hkk.symm, q⟩
          rw [hkk]; omega
        · rw [if_neg hkk] at hn; exact hn
      exact (h6 n' t hn2 ht).le zo_le.nw
  · refine ⟨?_, ?_, ?_⟩
    · exact (if_neg (fun q : (21 : Nat) = k => hk.1 q.symm)).trans h7.1
    · exact (if_neg (fun q : (22 : Nat) = k => hk.2.1 q.symm)).trans h7.2.1
    · exact (if_neg (fun q : (40 : Nat) = k => hk.2.2 q.symm)).trans h7.2.2
