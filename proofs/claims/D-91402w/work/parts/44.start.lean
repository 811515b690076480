/-! ===== the law's start ===== -/
set_option maxRecDepth 100000
theorem dL_law_0 : decode cL_law 0 = .ok (.new 8, 3) := by decide +kernel
theorem dL_law_3 : decode cL_law 3 = .ok (.dup, 1) := by decide +kernel
theorem dL_law_4 : decode cL_law 4 = .ok (.invokespecial 15, 3) := by decide +kernel
theorem dL_law_7 : decode cL_law 7 = .ok (.astore_n 1, 1) := by decide +kernel
theorem dL_law_8 : decode cL_law 8 = .ok (.new 16, 3) := by decide +kernel
theorem dL_law_11 : decode cL_law 11 = .ok (.dup, 1) := by decide +kernel
theorem dL_law_12 : decode cL_law 12 = .ok (.invokespecial 18, 3) := by decide +kernel
theorem dL_law_15 : decode cL_law 15 = .ok (.astore_n 2, 1) := by decide +kernel
theorem dL_law_16 : decode cL_law 16 = .ok (.iconst 1, 1) := by decide +kernel
theorem dL_law_17 : decode cL_law 17 = .ok (.newarray .long, 2) := by decide +kernel
theorem dL_law_19 : decode cL_law 19 = .ok (.astore_n 3, 1) := by decide +kernel
def zs_C : Cond := Jvm.Cond.and given_1 narrow_1
def zs_mk : List Nat := [307, 309, 291, 267, 269, 270, 271, 273, 275, 277, 279, 281, 282, 305]
def zs_rk : List Nat := [124, 126, 92, 68, 74, 76, 78, 80, 82, 84, 86, 88, 90, 138]
def zs_tm (j : Nat) : Term := .string "LichenTableModel" (zs_mk.getD j 0)
theorem zs_strs : ∀ q ∈ zo_strs, q.2.2.2 < 14 ∧ ((q.1 = "LichenTableModel" ∧ q.2.1 = zs_mk.getD q.2.2.2 0) ∨ (q.1 = "LichenTable$Reader" ∧ q.2.1 = zs_rk.getD q.2.2.2 0)) := by decide +kernel
theorem zs_c1 : ∀ j, j < 14 → Cond.exactly (zs_tm j) "java/lang/String" ∈ flatC zs_C ∧ Cond.eq (.field (zs_tm j) "java/lang/String" "coder" "B") (.int 0) ∈ flatC zs_C ∧ Cond.arrayOf (.field (zs_tm j) "java/lang/String" "value" "[B") .byte ∈ flatC zs_C ∧ Cond.eq (.length (.field (zs_tm j) "java/lang/String" "value" "[B")) (.int (Int32.ofNat (zo_sl j))) ∈ flatC zs_C := by decide +kernel
theorem zs_c2 : ∀ j, j < 14 → ∀ i, i < zo_sl j → Cond.eq (.elem (.field (zs_tm j) "java/lang/String" "value" "[B") (.int (Int32.ofNat i))) (.int (zo_sb j i)) ∈ flatC zs_C := by decide +kernel
theorem zs_c3 : ∀ j, j < 14 → Cond.eq (.string "LichenTable$Reader" (zs_rk.getD j 0)) (zs_tm j) ∈ flatC zs_C := by decide +kernel
theorem zs_c4 : Cond.arrayOf (.static "java/util/ArrayList" "DEFAULTCAPACITY_EMPTY_ELEMENTDATA" "[Ljava/lang/Object;") (.object "java/lang/Object") ∈ flatC zs_C ∧ Cond.eq (.length (.static "java/util/ArrayList" "DEFAULTCAPACITY_EMPTY_ELEMENTDATA" "[Ljava/lang/Object;")) (.int 0) ∈ flatC zs_C := by decide +kernel
theorem zs_len : ∀ j, j < 14 → zo_sl j < 2 ^ 31 := by decide +kernel
theorem zs_eqi {args : Array Value} {s : State} {t : Term} {z : Int32} (h : (Cond.eq t (.int z)).before args s = true) : t.eval args s none [] s = some (.int z) := by
  cases hv : t.eval args s none [] s with
  | none => simp [Cond.before, Cond.holds, Cond.value, hv] at h
  | some w =>
    have hz : (Term.int z).eval args s none [] s = some (.int z) := rfl
    simp only [Cond.before, Cond.holds, Cond.value, hv, hz] at h
    cases w <;> simp_all
theorem zs_eqr {args : Array Value} {s : State} {t u : Term} {a : Nat} (h : (Cond.eq t u).before args s = true) (hu : u.eval args s none [] s = some (.ref a)) : t.eval args s none [] s = some (.ref a) := by
  cases hv : t.eval args s none [] s with
  | none => simp [Cond.before, Cond.holds, Cond.value, hv] at h
  | some w =>
    simp only [Cond.before, Cond.holds, Cond.value, hv, hu] at h
    cases w <;> simp_all
theorem zs_sr : ∀ q ∈ zo_strs, Cond.stringRef q.1 q.2.1 q.2.2.1 ∈ lw_tbl := by
  unfold zo_strs
  refine List.forall_mem_cons.mpr ⟨q1602, ?_⟩
  refine List.forall_mem_cons.mpr ⟨q1609, ?_⟩
  refine List.forall_mem_cons.mpr ⟨q1618, ?_⟩
  refine List.forall_mem_cons.mpr ⟨q1626, ?_⟩
  refine List.forall_mem_cons.mpr ⟨q1627, ?_⟩
  refine List.forall_mem_cons.mpr ⟨q1628, ?_⟩
  refine List.forall_mem_cons.mpr ⟨q1629, ?_⟩
  refine List.forall_mem_cons.mpr ⟨q1630, ?_⟩
  refine List.forall_mem_cons.mpr ⟨q1631, ?_⟩
  refine List.forall_mem_cons.mpr ⟨q1632, ?_⟩
  refine List.forall_mem_cons.mpr ⟨q1633, ?_⟩
  refine List.forall_mem_cons.mpr ⟨q1634, ?_⟩
  refine List.forall_mem_cons.mpr ⟨q1635, ?_⟩
  refine List.forall_mem_cons.mpr ⟨q1640, ?_⟩
  refine List.forall_mem_cons.mpr ⟨q615, ?_⟩
  refine List.forall_mem_cons.mpr ⟨q666, ?_⟩
  refine List.forall_mem_cons.mpr ⟨q764, ?_⟩
  refine List.forall_mem_cons.mpr ⟨q769, ?_⟩
  refine List.forall_mem_cons.mpr ⟨q770, ?_⟩
  refine List.forall_mem_cons.mpr ⟨q771, ?_⟩
  refine List.forall_mem_cons.mpr ⟨q772, ?_⟩
  refine List.forall_mem_cons.mpr ⟨q773, ?_⟩
  refine List.forall_mem_cons.mpr ⟨q774, ?_⟩
  refine List.forall_mem_cons.mpr ⟨q775, ?_⟩
  refine List.forall_mem_cons.mpr ⟨q776, ?_⟩
  refine List.forall_mem_cons.mpr ⟨q777, ?_⟩
  refine List.forall_mem_cons.mpr ⟨q778, ?_⟩
  refine List.forall_mem_cons.mpr ⟨q803, ?_⟩
  intro q hq
  cases hq
section ZS
variable {s : State} {b : Nat}
theorem zs_kn (ht : ∀ w ∈ lw_tbl, w.before #[Value.ref b] s = true) : ∀ k, ∃ q : ClassId × (Nat → Nat), k < 21 → u_Kn s (zo_cl k).1 (zo_cl k).2.1 (zo_cl k).2.2 q.1 q.2 := by
  intro k
  by_cases hk : k < 21
  · have h : ∃ (c : ClassId) (iS : Nat → Nat), u_Kn s (zo_cl k).1 (zo_cl k).2.1 (zo_cl k).2.2 c iS := by
      match k, hk with
      | 0, _ => exact u_known ht (fun w h => lw_all_tbl (zo_in 0 (by decide) w h)) (ht _ (lw_all_tbl q119))
      | 1, _ => exact u_known ht (fun w h => lw_all_tbl (zo_in 1 (by decide) w h)) (ht _ (lw_all_tbl q1266))
      | 2, _ => exact u_known ht (fun w h => lw_all_tbl (zo_in 2 (by decide) w h)) (ht _ (lw_all_tbl q250))
      | 3, _ => exact u_known ht (fun w h => lw_all_tbl (zo_in 3 (by decide) w h)) (ht _ (lw_all_tbl q367))
      | 4, _ => exact u_known ht (fun w h => lw_all_tbl (zo_in 4 (by decide) w h)) (ht _ (lw_all_tbl q421))
      | 5, _ => exact u_known ht (fun w h => lw_all_tbl (zo_in 5 (by decide) w h)) (ht _ (lw_all_tbl q445))
      | 6, _ => exact u_known ht (fun w h => lw_all_tbl (zo_in 6 (by decide) w h)) (ht _ (lw_all_tbl q469))
      | 7, _ => exact u_known ht (fun w h => lw_all_tbl (zo_in 7 (by decide) w h)) (ht _ (lw_all_tbl q493))
      | 8, _ => exact u_known ht (fun w h => lw_all_tbl (zo_in 8 (by decide) w h)) (ht _ (lw_all_tbl q517))
      | 9, _ => exact u_known ht (fun w h => lw_all_tbl (zo_in 9 (by decide) w h)) (ht _ (lw_all_tbl q563))
      | 10, _ => exact u_known ht (fun w h => lw_all_tbl (zo_in 10 (by decide) w h)) (ht _ (lw_all_tbl q672))
      | 11, _ => exact u_known ht (fun w h => lw_all_tbl (zo_in 11 (by decide) w h)) (ht _ (lw_all_tbl q737))
      | 12, _ => exact u_known ht (fun w h => lw_all_tbl (zo_in 12 (by decide) w h)) (ht _ (lw_all_tbl q753))
      | 13, _ => exact u_known ht (fun w h => lw_all_tbl (zo_in 13 (by decide) w h)) (ht _ (lw_all_tbl q784))
      | 14, _ => exact u_known ht (fun w h => lw_all_tbl (zo_in 14 (by decide) w h)) (ht _ (lw_all_tbl q902))
      | 15, _ => exact u_known ht (fun w h => lw_all_tbl (zo_in 15 (by decide) w h)) (ht _ (lw_all_tbl q939))
      | 16, _ => exact u_known ht (fun w h => lw_all_tbl (zo_in 16 (by decide) w h)) (ht _ (lw_all_tbl q974))
      | 17, _ => exact u_known ht (fun w h => lw_all_tbl (zo_in 17 (by decide) w h)) (ht _ (lw_all_tbl q1016))
      | 18, _ => exact u_known ht (fun w h => lw_all_tbl (zo_in 18 (by decide) w h)) (ht _ (lw_all_tbl q1088))
      | 19, _ => exact u_known ht (fun w h => lw_all_tbl (zo_in 19 (by decide) w h)) (ht _ (lw_all_tbl q1243))
      | 20, _ => exact u_known ht (fun w h => lw_all_tbl (zo_in 20 (by decide) w h)) (ht _ (lw_all_tbl q127))
      | k + 21, h => exact absurd h (by omega)
    obtain ⟨c, i, h⟩ := h
    exact ⟨(c, i), fun _ => h⟩
  · exact ⟨(0, fun _ => 0), fun h => absurd h hk⟩
theorem zs_arr (ht : ∀ w ∈ lw_tbl, w.before #[Value.ref b] s = true) : ∀ k, ∃ cA : ClassId, 32 ≤ k → k < 44 → ArrOfT s cA (zo_at k) ∧ va_RA s cA (zo_at k) := by
  have hp : ∀ ty, (Cond.arrayClass ty) ∈ lw_all → (∀ cA, s.vm.findClass ("[" ++ ty.toString) = some cA → va_RA s cA ty) → ∃ cA, ArrOfT s cA ty ∧ va_RA s cA ty := fun ty h h2 => by
    obtain ⟨c, k, comp, h3, h4, h5⟩ := Cond.arrayClass_spec (ht _ (lw_all_tbl h))
    exact ⟨c, fun n z => ⟨fun q h => (by cases h), k, h4, comp, h5⟩, h2 c h3⟩
  have ho : ∀ C, (Cond.arrayOver (.object C)) ∈ lw_tbl → ∃ cA, ArrOfT s cA (.object C) ∧ va_RA s cA (.object C) := fun C h => by
    obtain ⟨comp, c, k, h1, h2, h3, h4, h5⟩ := Cond.arrayOver_spec (ht _ h)
    exact ⟨c, fun n z => ⟨fun q h => (by cases h), k, h3, comp, h4⟩, k, comp, h3, h4, h1, h5⟩
  have hi := hp .int q233 (fun _ h => h)
  have hA : ∃ cA, ArrOfT s cA (.array .int) ∧ va_RA s cA (.array .int) := by
    obtain ⟨comp, c, k, h1, h2, h3, h4, h5⟩ := arrayOverA_spec (ht _ q153)
    exact ⟨c, fun n z => ⟨fun q h => (by cases h), k, h3, comp, h4⟩, h5⟩
  intro k
  by_cases hk : 32 ≤ k ∧ k < 44
  · have h : ∃ cA, ArrOfT s cA (zo_at k) ∧ va_RA s cA (zo_at k) := by
      obtain ⟨h1, h2⟩ := hk
      have : k = 32 ∨ k = 33 ∨ k = 34 ∨ k = 35 ∨ k = 36 ∨ k = 37 ∨ k = 38 ∨ k = 39 ∨ k = 40 ∨ k = 41 ∨ k = 42 ∨ k = 43 := by omega
      rcases this with rfl | rfl | rfl | rfl | rfl | rfl | rfl | rfl | rfl | rfl | rfl | rfl
      · exact hi
      · exact hp .boolean q1512 (fun _ h => h)
      · exact hp .byte q234 (fun _ h => h)
      · exact hi
      · exact hi
      · exact hA
      · exact hp .byte q234 (fun _ h => h)
      · exact ho _ q155
      · exact ho _ q342
      · exact ho _ q157
      · exact hp .long q1822 (fun _ h => h)
      · exact hi
    obtain ⟨c, h⟩ := h
    exact ⟨c, fun _ _ => h⟩
  · exact ⟨0, fun a b => absurd ⟨a, b⟩ hk⟩
theorem zs_str (hg : zs_C.before #[Value.ref b] s = true) : ∀ j, ∃ q : Nat × Nat, j < 14 → (zs_tm j).eval #[Value.ref b] s none [] s = some (.ref q.1) ∧ va_O "java/lang/String" q.1 (fun a => s.heap.size ≤ a) s s.heap ∧ va_OF "java/lang/String" "coder" "B" (.int 0) q.1 (fun a => s.heap.size ≤ a) s s.heap ∧ va_OF "java/lang/String" "value" "[B" (.ref q.2) q.1 (fun a => s.heap.size ≤ a) s s.heap ∧ va_T .byte q.2 (zo_sl j) (fun i => .int (zo_sb j i)) (fun a => s.heap.size ≤ a) s s.heap := by
  have hs := flat_of_before _ hg
  intro j
  by_cases hj : j < 14
  · obtain ⟨c1, c2, c3, c4⟩ := zs_c1 j hj
    obtain ⟨adK, adV, ⟨h1, -⟩, h2⟩ := vk_Sof (args := #[Value.ref b]) (s := s) (N := 1) (tm := fun _ => zs_tm j) (len := [zo_sl j]) (byt := [(List.range (zo_sl j)).map (fun i => zo_sb j i)]) (A := fun a => s.heap.size ≤ a)
      (fun i hi => by obtain rfl : i = 0 := by omega
                      exact zs_len j hj) (fun i hi => hs _ c1) (fun i hi => hs _ c2) (fun i hi => hs _ c3)
      (fun i hi => by obtain rfl : i = 0 := by omega
                      exact hs _ c4)
      (fun i hi k hk => by
        obtain rfl : i = 0 := by omega
        have hk : k < zo_sl j := hk
        have e : (([(List.range (zo_sl j)).map (fun i => zo_sb j i)] : List (List Int32)).getD 0 []).getD k 0 = zo_sb j k := by
          show ((List.range (zo_sl j)).map (fun i => zo_sb j i)).getD k 0 = _
          simp [List.getD, hk]
        rw [e]
        exact hs _ (zs_c2 j hj k hk)) (fun i k hi hk hne => absurd (by omega) hne) (fun a ha q => by omega)
    obtain ⟨g1, g2, g3, cell, g4, g5, g6, g7, g8, g9, g10⟩ := h1 0 (by omega)
    refine ⟨(adK 0, adV 0), fun _ => ⟨h2 0 (by omega), g1, g2, g3, cell, g4, g5, g6, g7, g8, fun k hk => ?_, g10⟩⟩
    have := g9 k hk
    rw [this]
    have e : ((List.range (zo_sl j)).map (fun i => zo_sb j i)).getD k 0 = zo_sb j k := by simp [List.getD, hk]
    show some (Value.int (((List.range (zo_sl j)).map (fun i => zo_sb j i)).getD k 0)) = some (Value.int (zo_sb j k))
    rw [e]
  · exact ⟨(0, 0), fun h => absurd h hj⟩
end ZS
def zs_fx (b : Nat) (dS : Nat → Nat × Nat) : Nat → Nat → Nat := fun k n => if k = 21 then (dS n).1 else match n with
  | 0 => b
  | j + 1 => (dS j).2
def zs_G (s : State) (b L : Nat) (xs : Nat → Int32) (z : Nat) (dK : Nat → ClassId × (Nat → Nat)) (dA : Nat → ClassId) (dS : Nat → Nat × Nat) : zo_G := (fun k => (dK k).1, fun k => (dK k).2, dA, s.heap, zs_fx b dS, z, s, #[Value.ref b], L, xs)
/-- the empty world -/
def zo_E : zo_O := (fun _ _ _ => 0, fun _ _ _ => none, fun _ _ => 0, fun _ => [], fun _ => 0, fun _ _ _ => 0)
/-- the law, whole -/
def fw3 (N L : Nat) (xs : Nat → Int32) (Ω : zo_O) : Option zo_R := gd (¬ (1 : Int32) < 0 ∧ ((1 : Int32)).toNatClampNeg ≤ 65536) <| ad 1 ((1 : Int32)).toNatClampNeg <| lt (nw Ω 42 ((1 : Int32)).toNatClampNeg) fun Ω5 => fn_L_law N L xs Ω5
def fw2 (N L : Nat) (xs : Nat → Int32) (Ω : zo_O) : Option zo_R := ad 1 80 <| lt (nw Ω 1 0) fun Ω3 => cv (fn_X2_init N 0 Ω3) fun Ω4 => fw3 N L xs Ω4
def fw1 (N L : Nat) (xs : Nat → Int32) (Ω : zo_O) : Option zo_R := ad 1 23 <| lt (nw Ω 0 0) fun Ω1 => cv (fn_X1_init N 0 Ω1) fun Ω2 => fw2 N L xs Ω2
