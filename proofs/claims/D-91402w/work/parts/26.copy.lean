/-! ===== System.arraycopy of ints ===== -/
set_option maxRecDepth 10000
def zo_cpN (Ω : zo_O) (a sp b dp : Nat) : Nat → zo_O
  | 0 => Ω
  | n + 1 => sI (zo_cpN Ω a sp b dp n) 35 b (dp + n) (gI Ω 35 a (sp + n))
def zo_cp (Ω : zo_O) (a : Nat) (sp : Int32) (b : Nat) (dp n : Int32) : zo_O := zo_cpN Ω a sp.toNatClampNeg b dp.toNatClampNeg n.toNatClampNeg
def zo_cpk (Ω : zo_O) (a : Nat) (sp : Int32) (b : Nat) (dp n : Int32) : Bool := decide (a ≠ b ∧ ¬ sp < 0 ∧ ¬ dp < 0 ∧ ¬ n < 0 ∧ sp.toNatClampNeg + n.toNatClampNeg ≤ gL Ω 35 a ∧ dp.toNatClampNeg + n.toNatClampNeg ≤ gL Ω 35 b)
theorem zo_cpN_2 {Ω : zo_O} {a sp b dp : Nat} : ∀ n, (zo_cpN Ω a sp b dp n).2 = Ω.2
  | 0 => rfl
  | n + 1 => by show (zo_cpN Ω a sp b dp n).2 = Ω.2; exact zo_cpN_2 n
theorem zo_cpN_I {Ω : zo_O} {a sp b dp : Nat} : ∀ n k m i, gI (zo_cpN Ω a sp b dp n) k m i = if k = 35 ∧ m = b ∧ dp ≤ i ∧ i < dp + n then gI Ω 35 a (sp + (i - dp)) else gI Ω k m i
  | 0, k, m, i => by rw [if_neg (by omega)]; rfl
  | n + 1, k, m, i => by
    show (if k = 35 ∧ m = b ∧ i = dp + n then gI Ω 35 a (sp + n) else gI (zo_cpN Ω a sp b dp n) k m i) = _
    rw [zo_cpN_I n]
    by_cases h : k = 35 ∧ m = b ∧ i = dp + n
    · obtain ⟨rfl, rfl, rfl⟩ := h
      rw [if_pos ⟨rfl, rfl, rfl⟩, if_pos ⟨rfl, rfl, by omega, by omega⟩, Nat.add_sub_cancel_left]
    · rw [if_neg h]
      by_cases h2 : k = 35 ∧ m = b ∧ dp ≤ i ∧ i < dp + n
      · rw [if_pos h2, if_pos ⟨h2.1, h2.2.1, h2.2.2.1, by omega⟩]
      · rw [if_neg h2, if_neg (fun q => h2 ⟨q.1, q.2.1, q.2.2.1, by
          have : i ≠ dp + n := fun z => h ⟨q.1, q.2.1, z⟩
          omega⟩)]
theorem zo_cpN_J {J : zo_O → Prop} (hJ : zo_JC J) {Ω : zo_O} {a sp b dp : Nat} (h : J Ω) : ∀ n, J (zo_cpN Ω a sp b dp n)
  | 0 => h
  | n + 1 => hJ.1 _ _ _ _ _ (zo_cpN_J hJ h n)
theorem zo_fw5 : nativeFrameWords "java/lang/System" "arraycopy" 5 + 11 ≤ 40 := by decide +kernel
section TWK
variable {Y : zo_Y} {res : zo_R} {Ω : zo_O} {pc : Nat} {ls : List (Nat × zo_V)} {st : List zo_V} {cc : ByteArray} {nL : Nat} {own : String} {d : Nat} {FO : zo_O → Option zo_R}
theorem zo_acopy (hY : zo_Gd Y cc nL own d) (hJC : zo_JC (zo_J Y)) (hdp : 1 ≤ d) {idx a b : Nat} {sp dp n : Int32} (hlink : Cond.methodLink own idx arraycopyName ∈ lw_all) (h8 : st.length ≤ 4) (hd : decode cc pc = .ok (.invokestatic idx, 3)) (h : gd (zo_cpk Ω a sp b dp n = true) (lt (zo_cp Ω a sp b dp n) FO) = some res) (kk : ∀ Ω', FO Ω' = some res → TW Y res Ω' (pc + 3) ls st) : TW Y res Ω pc ls (vi n :: vi dp :: vr 35 b :: vi sp :: vr 35 a :: st) := by
  obtain ⟨hk, h'⟩ := gd_e h
  have kk := kk _ h'
  clear h
  obtain ⟨hab, g1, g2, g3, g4, g5⟩ := of_decide_eq_true hk
  have hJ2 : zo_J Y Ω → zo_J Y (zo_cp Ω a sp b dp n) := fun q => zo_cpN_J hJC q _
  obtain ⟨p, l, e, R, s, m, args, below, meth, c, G, J, ρ0, Ω0, nL0, Q⟩ := Y
  obtain ⟨hx, hb, hml, rfl, hown, hts, hlk, hK, hfr, hlo⟩ := hY
  intro ρ H locs LS x y hR hJ hE hL hq hv hvl hvs h1 h2
  have hvs : zo_ok Ω (35, b) ∧ zo_ok Ω (35, a) ∧ zo_vs Ω st := ⟨hvs.2.2.1, hvs.2.2.2.2.1, hvs.2.2.2.2.2⟩
  obtain ⟨ca, ba, -⟩ := zo_acell hR (by decide) (by decide) hvs.2.1
  obtain ⟨cb, bb, hbn⟩ := zo_acell hR (by decide) (by decide) hvs.1
  have ea : zo_av ρ Ω 35 a = fun i => .int (gI Ω 35 a i) := by funext i; exact zo_avI (by decide) (by decide) rfl
  have eb : zo_av ρ Ω 35 b = fun i => .int (gI Ω 35 b i) := by funext i; exact zo_avI (by decide) (by decide) rfl
  rw [ea] at ca
  rw [eb] at cb
  have nn : ∀ z : Int32, ¬ z < 0 → z.toInt = (z.toNatClampNeg : Int) := by
    intro z hz
    have hz0 : (0 : Int) ≤ z.toInt := by
      have := Int32.not_lt.mp hz
      simpa using Int32.le_iff_toInt_le.mp this
    show z.toInt = ((z.toInt.toNat : Nat) : Int)
    omega
  have hA := (hK.2.1 35 (by decide) (by decide)).1
  have h8' := zo_room8 (ρ := ρ) h8
  have hf5 := zo_fw5
  intro T hT X
  obtain ⟨-, k0, hk0, cm0, hkk0⟩ := hA (gL Ω 35 a) (fun j => .int (gI Ω 35 a j))
  obtain ⟨-, k1, hk1, cm1, hkk1⟩ := hA (gL Ω 35 b) (fun j => .int (gI Ω 35 b j))
  obtain ⟨vm', X', step⟩ := X.arraycopy hx hown (hts _ hlink) (hts _ q349) (hts _ q348) (hts _ q88) (src := ρ 35 a) (dst := ρ 35 b) (cs := arrV (G.2.2.1 35) (gL Ω 35 a) (fun j => .int (gI Ω 35 a j))) (cd := arrV (G.2.2.1 35) (gL Ω 35 b) (fun j => .int (gI Ω 35 b j))) (srcPos := sp) (destPos := dp) (n := n) (by rw [hT]; exact ca) (by rw [hT]; exact cb)
    (fun _ h => by cases h) (fun _ h => by cases h) (fun h => by cases h) (fun h => by cases h) hk0 hk1 hkk0 hkk1 (by simp [refKind, zo_at]) g1 g2 g3
    (by rw [nn sp g1, nn n g3]; show ¬ _ > ((arrV (G.2.2.1 35) (gL Ω 35 a) (fun j => .int (gI Ω 35 a j))).slots.size : Int); rw [arrV_size]; omega)
    (by rw [nn dp g2, nn n g3]; show ¬ _ > ((arrV (G.2.2.1 35) (gL Ω 35 b) (fun j => .int (gI Ω 35 b j))).slots.size : Int); rw [arrV_size]; omega)
    (fun vm₁ _ i hi => by
      have e : (arrV (G.2.2.1 35) (gL Ω 35 a) (fun j => .int (gI Ω 35 a j))).slots.getD (sp.toNatClampNeg + i) .null = .int (gI Ω 35 a (sp.toNatClampNeg + i)) := by
        rw [Array.getD_eq_getD_getElem?, arrV_read _ _ (by omega)]
        rfl
      refine ⟨?_, ?_⟩
      · rw [e]; rfl
      · rw [e]; exact trivial)
    (g := F0 m pc LS (.int n :: .int dp :: .ref (ρ 35 b) :: .int sp :: .ref (ρ 35 a) :: st.map (zo_c ρ))) rfl (by rw [hml]; exact hv.1) (rest := st.map (zo_c ρ)) rfl (by rw [hb]; exact hd) (by omega) (by show 2 * 0 + _ + _ ≤ _; omega)
  have e1 : copied (arrV (G.2.2.1 35) (gL Ω 35 a) (fun j => .int (gI Ω 35 a j))) (arrV (G.2.2.1 35) (gL Ω 35 b) (fun j => .int (gI Ω 35 b j))) sp dp n = arrV (G.2.2.1 35) (gL Ω 35 b) (fun j => .int (va_cpy (gI Ω 35 a) (gI Ω 35 b) sp.toNatClampNeg dp.toNatClampNeg n.toNatClampNeg j)) := va_copied (fun z => .int z) _ _ _ _ g4
  rw [e1] at X' step
  have hl : ρ 35 b < H.size := (Array.getElem?_eq_some_iff.mp cb).1
  generalize hcell : arrV (G.2.2.1 35) (gL Ω 35 b) (fun j => .int (va_cpy (gI Ω 35 a) (gI Ω 35 b) sp.toNatClampNeg dp.toNatClampNeg n.toNatClampNeg j)) = cN at X' step
  have hheap : ((T.setVm vm').setCell (ρ 35 b) cN).heap = H.setIfInBounds (ρ 35 b) cN := by rw [← hT]; rfl
  have oq : ∀ q : Nat, q ≠ ρ 35 b → (H.setIfInBounds (ρ 35 b) cN)[q]? = H[q]? := fun q hq => by simp [Array.getElem?_setIfInBounds, Ne.symm hq]
  have hI : ∀ k' n' i, gI (zo_cp Ω a sp b dp n) k' n' i = if k' = 35 ∧ n' = b ∧ dp.toNatClampNeg ≤ i ∧ i < dp.toNatClampNeg + n.toNatClampNeg then gI Ω 35 a (sp.toNatClampNeg + (i - dp.toNatClampNeg)) else gI Ω k' n' i := fun k' n' i => zo_cpN_I _ k' n' i
  have h22 : (zo_cp Ω a sp b dp n).2 = Ω.2 := zo_cpN_2 _
  have hgR : ∀ k' n' i, gR (zo_cp Ω a sp b dp n) k' n' i = gR Ω k' n' i := fun k' n' i => by unfold gR; rw [h22]
  have hgL : ∀ k' n', gL (zo_cp Ω a sp b dp n) k' n' = gL Ω k' n' := fun k' n' => by unfold gL; rw [h22]
  have hgS : ∀ n', gS (zo_cp Ω a sp b dp n) n' = gS Ω n' := fun n' => by unfold gS; rw [h22]
  have hgC : ∀ k', gC (zo_cp Ω a sp b dp n) k' = gC Ω k' := fun k' => by unfold gC; rw [h22]
  have hgJ : ∀ k' n' i, gJ (zo_cp Ω a sp b dp n) k' n' i = gJ Ω k' n' i := fun k' n' i => by unfold gJ; rw [h22]
  have hR' : zo_Rep G ρ (zo_cp Ω a sp b dp n) (H.setIfInBounds (ρ 35 b) cN) := by
    refine hR.put (k := 35) (n := b) (by unfold zo_lv; rw [if_neg (by decide)]; exact hbn) (by decide) (by simp) oq ?_ hgC hgS hgL (fun k' n' i hn => by rw [hI, if_neg (fun q => hn ⟨q.1, q.2.1⟩)]) (fun k' n' i _ => hgR k' n' i) (fun k' n' i _ => hgJ k' n' i) (fun f t ht => by rw [hgR] at ht; exact hR.2.2.2.2.1 35 b f t hbn ht)
    unfold zo_cell
    rw [if_neg (by decide)]
    show (H.setIfInBounds (ρ 35 b) cN)[ρ 35 b]? = _
    rw [show (H.setIfInBounds (ρ 35 b) cN)[ρ 35 b]? = some cN by simp [Array.getElem?_setIfInBounds, hl], ← hcell]
    unfold zo_ln
    rw [if_neg (by decide), hgL]
    congr 2
    funext j
    rw [zo_avI (by decide) (by decide) rfl, hI]
    unfold va_cpy
    by_cases hj : dp.toNatClampNeg ≤ j ∧ j < dp.toNatClampNeg + n.toNatClampNeg
    · rw [if_pos hj, if_pos ⟨rfl, rfl, hj.1, hj.2⟩]
    · rw [if_neg hj, if_neg (fun q => hj q.2.2)]
  have hle : zo_le Ω (zo_cp Ω a sp b dp n) := fun k => by rw [hgC]; exact Nat.le_refl _
  obtain ⟨t, a1, b1⟩ := kk ρ _ _ LS x y hR' (hJ2 hJ) hE (hL.tr hle) (fun q hq2 => by
      rcases List.mem_append.mp hq2 with h | h
      · exact hq q h
      · obtain ⟨z, -, hz⟩ := List.mem_map.mp h
        rw [← hz]
        exact bb) hv (hvl.le hle) (zo_vs.le hle hvs.2.2) h1 h2 _ hheap X'
  exact ⟨t, step t a1, b1⟩
end TWK
