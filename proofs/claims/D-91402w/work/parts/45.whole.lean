set_option maxRecDepth 100000
/-- from the law's entry to its end, by a run of fw1 -/
theorem zs_whole {p : Program} {e : Env} {s : State} {m : MethodId} {below : List Frame} {meth : Method} {c : Code} (l : Launch) (hl : l.flags = flags0) {b L : Nat} {xs : Nat → Int32} (C0 : lw_At p s m meth c b L xs) (N : Nat) {Ω' : zo_O} {uc us : Nat} (hfn : fw1 N L xs zo_E = some (some (vi 1), Ω', uc, us)) (h1 : uc ≤ 1151135) (h2 : us ≤ 5642700) : W p l e room_1 s m #[Value.ref b] below meth c s.heap [] 0 0 (lw_Z below #[Value.ref b] s) (entryFrame m ([Value.ref b] : List Value).toArray 7) := by
  obtain ⟨hx, hb, hr, hml, hown, hts, hX, hbl, hlocks, hgv⟩ := C0
  have hk := zs_kn hts
  have ha := zs_arr hts
  have hs := zs_str hgv
  have hf := flat_of_before _ hgv
  obtain ⟨z, hz1, cellz, z1, z2, z3, z4, z5, z6, z7⟩ := va_Tof (N := 0) (f := fun _ => Value.null) (A := fun a : Nat => s.heap.size ≤ a) (by decide) (hf _ zs_c4.1) (zs_eqi (hf _ zs_c4.2)) (fun j hj => absurd hj (Nat.not_lt_zero _)) (fun a ha q => absurd q (Nat.not_le.mpr ha))
  have hZ : va_Z "java/util/ArrayList" "DEFAULTCAPACITY_EMPTY_ELEMENTDATA" "[Ljava/lang/Object;" (.ref z) (fun a : Nat => s.heap.size ≤ a) s s.heap := va_Zof (hts _ q139) (hts _ (lw_all_tbl q81)) hz1 (fun a ha q => absurd q (Nat.not_le.mpr ha))
  obtain ⟨dK, hdK⟩ : ∃ f : Nat → ClassId × (Nat → Nat), ∀ k, k < 21 → u_Kn s (zo_cl k).1 (zo_cl k).2.1 (zo_cl k).2.2 (f k).1 (f k).2 := ⟨fun k => Classical.choose (hk k), fun k => Classical.choose_spec (hk k)⟩
  obtain ⟨dA, hdA⟩ : ∃ f : Nat → ClassId, ∀ k, 32 ≤ k → k < 44 → ArrOfT s (f k) (zo_at k) ∧ va_RA s (f k) (zo_at k) := ⟨fun k => Classical.choose (ha k), fun k => Classical.choose_spec (ha k)⟩
  obtain ⟨dS, hdS⟩ : ∃ f : Nat → Nat × Nat, ∀ j, j < 14 → (zs_tm j).eval #[Value.ref b] s none [] s = some (.ref (f j).1) ∧ va_O "java/lang/String" (f j).1 (fun a => s.heap.size ≤ a) s s.heap ∧ va_OF "java/lang/String" "coder" "B" (.int 0) (f j).1 (fun a => s.heap.size ≤ a) s s.heap ∧ va_OF "java/lang/String" "value" "[B" (.ref (f j).2) (f j).1 (fun a => s.heap.size ≤ a) s s.heap ∧ va_T .byte (f j).2 (zo_sl j) (fun i => .int (zo_sb j i)) (fun a => s.heap.size ≤ a) s s.heap := ⟨fun k => Classical.choose (hs k), fun k => Classical.choose_spec (hs k)⟩
  clear hk ha hs
  have hK : zo_K (zs_G s b L xs z dK dA dS) s := by
    refine ⟨hdK, hdA, fun w hw hn => ?_, rfl, hts, hgv, fun q hq => ?_, ⟨fun j hj => (hdS j hj).2, ⟨hbl, hX⟩, hZ, cellz, z1, z2, z5⟩, State.WarmedH.refl s⟩
    · cases w with
      | fieldLinkNest a i b n d hh => exact va_tabs rfl rfl (hts _ hw)
      | methodLinkNest a i x hh => exact va_tabs rfl rfl (hts _ hw)
      | castable C T => exact va_tabs rfl rfl (hts _ hw)
      | _ => cases hn
    · obtain ⟨hj, h | h⟩ := zs_strs q hq
      · refine vk_R.of (hts _ (zs_sr q hq)) ?_
        rw [h.1, h.2]
        exact (hdS _ hj).1
      · refine vk_R.of (hts _ (zs_sr q hq)) ?_
        rw [h.1, h.2]
        exact zs_eqr (hf _ (zs_c3 _ hj)) (hdS _ hj).1
  have hR : zo_Rep (zs_G s b L xs z dK dA dS) (zs_fx b dS) zo_E s.heap := by
    refine ⟨Nat.le_refl _, fun _ _ => rfl, fun n => ⟨rfl, rfl⟩, ⟨fun _ => (0, 0), fun k n h => ?_⟩, fun k n f t hn => absurd hn (Nat.not_lt_zero _), fun n t hn => absurd hn (Nat.not_lt_zero _), rfl, rfl, rfl⟩
    unfold zo_lv at h
    by_cases h40 : k = 40
    · rw [if_pos h40] at h; exact absurd h.1 (Nat.not_lt_zero _)
    · rw [if_neg h40] at h; exact absurd h (Nat.not_lt_zero _)
  have hl0 := lv_entry ([.ref b]) (n := 7) (Nat.le_of_ble_eq_true rfl)
  rw [lg_entry_eq]
  generalize (lg_sl ([.ref b]) ++ List.replicate (7 - (lg_sl ([.ref b])).length) Slot.unset).toArray = ls at hl0 ⊢
  have T := ct_whole (p := p) (l := l) (e := e) (R := room_1) (s := s) (m := m) (args := #[Value.ref b]) (below := below) (meth := meth) (c := c) (G := zs_G s b L xs z dK dA dS) (ρ0 := zs_fx b dS) (Ω0 := zo_E) (Q := fun o _ t => o = some (vi 1) → lw_Z below #[Value.ref b] s t)
    ⟨hx, hb, hml, rfl, hown, fun w hw => hts w (lw_all_tbl hw), hlocks, hK, by decide, by decide⟩ ⟨hl, rfl, ⟨b, rfl⟩, Nat.le_refl _, hr, hb, rfl⟩ ⟨rfl, rfl⟩ N _ hfn
  have T := T (zs_fx b dS) s.heap [] ls (1151135 - uc) (5642700 - us) hR trivial zo_ext.rf zo_le.rf (fun q h => by cases h) hl0 (fun q hq => by
    rw [List.mem_singleton.mp hq]
    exact Or.inr (Or.inl rfl)) trivial (by show 1151135 - uc + uc = 1151135; omega) (by show 5642700 - us + us = 5642700; omega)
  refine W.widen (k := 1151135 - uc) (n := 5642700 - us) (by omega) (by omega) ?_
  intro T0 hT0 X
  obtain ⟨t, a1, b1⟩ := T T0 hT0 X
  exact ⟨t, a1, b1 rfl⟩
