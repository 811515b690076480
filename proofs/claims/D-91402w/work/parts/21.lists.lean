set_option maxRecDepth 100000
theorem dJ0_init_0 : decode cJ0_init 0 = .ok (.aload_n 0, 1) := by decide +kernel
theorem dJ0_init_1 : decode cJ0_init 1 = .ok (.invokespecial 1, 3) := by decide +kernel
theorem dJ0_init_4 : decode cJ0_init 4 = .ok (.return_, 1) := by decide +kernel
theorem dJ1_init_0 : decode cJ1_init 0 = .ok (.aload_n 0, 1) := by decide +kernel
theorem dJ1_init_1 : decode cJ1_init 1 = .ok (.invokespecial 1, 3) := by decide +kernel
theorem dJ1_init_4 : decode cJ1_init 4 = .ok (.aload_n 0, 1) := by decide +kernel
theorem dJ1_init_5 : decode cJ1_init 5 = .ok (.iconst 0, 1) := by decide +kernel
theorem dJ1_init_6 : decode cJ1_init 6 = .ok (.putfield 7, 3) := by decide +kernel
theorem dJ1_init_9 : decode cJ1_init 9 = .ok (.return_, 1) := by decide +kernel
theorem dJ2_init_0 : decode cJ2_init 0 = .ok (.aload_n 0, 1) := by decide +kernel
theorem dJ2_init_1 : decode cJ2_init 1 = .ok (.invokespecial 1, 3) := by decide +kernel
theorem dJ2_init_4 : decode cJ2_init 4 = .ok (.aload_n 0, 1) := by decide +kernel
theorem dJ2_init_5 : decode cJ2_init 5 = .ok (.getstatic 39, 3) := by decide +kernel
theorem dJ2_init_8 : decode cJ2_init 8 = .ok (.putfield 9, 3) := by decide +kernel
theorem dJ2_init_11 : decode cJ2_init 11 = .ok (.return_, 1) := by decide +kernel
theorem dJ2_add_0 : decode cJ2_add 0 = .ok (.aload_n 0, 1) := by decide +kernel
theorem dJ2_add_1 : decode cJ2_add 1 = .ok (.dup, 1) := by decide +kernel
theorem dJ2_add_2 : decode cJ2_add 2 = .ok (.getfield 63, 3) := by decide +kernel
theorem dJ2_add_5 : decode cJ2_add 5 = .ok (.iconst 1, 1) := by decide +kernel
theorem dJ2_add_6 : decode cJ2_add 6 = .ok (.iadd, 1) := by decide +kernel
theorem dJ2_add_7 : decode cJ2_add 7 = .ok (.putfield 63, 3) := by decide +kernel
theorem dJ2_add_10 : decode cJ2_add 10 = .ok (.aload_n 0, 1) := by decide +kernel
theorem dJ2_add_11 : decode cJ2_add 11 = .ok (.aload_n 1, 1) := by decide +kernel
theorem dJ2_add_12 : decode cJ2_add 12 = .ok (.aload_n 0, 1) := by decide +kernel
theorem dJ2_add_13 : decode cJ2_add 13 = .ok (.getfield 9, 3) := by decide +kernel
theorem dJ2_add_16 : decode cJ2_add 16 = .ok (.aload_n 0, 1) := by decide +kernel
theorem dJ2_add_17 : decode cJ2_add 17 = .ok (.getfield 48, 3) := by decide +kernel
theorem dJ2_add_20 : decode cJ2_add 20 = .ok (.invokevirtual 131, 3) := by decide +kernel
theorem dJ2_add_23 : decode cJ2_add 23 = .ok (.iconst 1, 1) := by decide +kernel
theorem dJ2_add_24 : decode cJ2_add 24 = .ok (.ireturn, 1) := by decide +kernel
theorem dJ2_add_2_0 : decode cJ2_add_2 0 = .ok (.iload_n 3, 1) := by decide +kernel
theorem dJ2_add_2_1 : decode cJ2_add_2 1 = .ok (.aload_n 2, 1) := by decide +kernel
theorem dJ2_add_2_2 : decode cJ2_add_2 2 = .ok (.arraylength, 1) := by decide +kernel
theorem dJ2_add_2_3 : decode cJ2_add_2 3 = .ok (.if_icmp .ne 8, 3) := by decide +kernel
theorem dJ2_add_2_6 : decode cJ2_add_2 6 = .ok (.aload_n 0, 1) := by decide +kernel
theorem dJ2_add_2_7 : decode cJ2_add_2 7 = .ok (.invokevirtual 129, 3) := by decide +kernel
theorem dJ2_add_2_10 : decode cJ2_add_2 10 = .ok (.astore_n 2, 1) := by decide +kernel
theorem dJ2_add_2_11 : decode cJ2_add_2 11 = .ok (.aload_n 2, 1) := by decide +kernel
theorem dJ2_add_2_12 : decode cJ2_add_2 12 = .ok (.iload_n 3, 1) := by decide +kernel
theorem dJ2_add_2_13 : decode cJ2_add_2 13 = .ok (.aload_n 1, 1) := by decide +kernel
theorem dJ2_add_2_14 : decode cJ2_add_2 14 = .ok (.aastore, 1) := by decide +kernel
theorem dJ2_add_2_15 : decode cJ2_add_2 15 = .ok (.aload_n 0, 1) := by decide +kernel
theorem dJ2_add_2_16 : decode cJ2_add_2 16 = .ok (.iload_n 3, 1) := by decide +kernel
theorem dJ2_add_2_17 : decode cJ2_add_2 17 = .ok (.iconst 1, 1) := by decide +kernel
theorem dJ2_add_2_18 : decode cJ2_add_2 18 = .ok (.iadd, 1) := by decide +kernel
theorem dJ2_add_2_19 : decode cJ2_add_2 19 = .ok (.putfield 48, 3) := by decide +kernel
theorem dJ2_add_2_22 : decode cJ2_add_2 22 = .ok (.return_, 1) := by decide +kernel
theorem dJ2_grow_0 : decode cJ2_grow 0 = .ok (.aload_n 0, 1) := by decide +kernel
theorem dJ2_grow_1 : decode cJ2_grow 1 = .ok (.aload_n 0, 1) := by decide +kernel
theorem dJ2_grow_2 : decode cJ2_grow 2 = .ok (.getfield 48, 3) := by decide +kernel
theorem dJ2_grow_5 : decode cJ2_grow 5 = .ok (.iconst 1, 1) := by decide +kernel
theorem dJ2_grow_6 : decode cJ2_grow 6 = .ok (.iadd, 1) := by decide +kernel
theorem dJ2_grow_7 : decode cJ2_grow 7 = .ok (.invokevirtual 69, 3) := by decide +kernel
theorem dJ2_grow_10 : decode cJ2_grow 10 = .ok (.areturn, 1) := by decide +kernel
theorem dJ2_grow_2_0 : decode cJ2_grow_2 0 = .ok (.aload_n 0, 1) := by decide +kernel
theorem dJ2_grow_2_1 : decode cJ2_grow_2 1 = .ok (.getfield 9, 3) := by decide +kernel
theorem dJ2_grow_2_4 : decode cJ2_grow_2 4 = .ok (.arraylength, 1) := by decide +kernel
theorem dJ2_grow_2_5 : decode cJ2_grow_2 5 = .ok (.istore_n 2, 1) := by decide +kernel
theorem dJ2_grow_2_6 : decode cJ2_grow_2 6 = .ok (.iload_n 2, 1) := by decide +kernel
theorem dJ2_grow_2_7 : decode cJ2_grow_2 7 = .ok (.ifCond .gt 13, 3) := by decide +kernel
theorem dJ2_grow_2_10 : decode cJ2_grow_2 10 = .ok (.aload_n 0, 1) := by decide +kernel
theorem dJ2_grow_2_11 : decode cJ2_grow_2 11 = .ok (.getfield 9, 3) := by decide +kernel
theorem dJ2_grow_2_14 : decode cJ2_grow_2 14 = .ok (.getstatic 39, 3) := by decide +kernel
theorem dJ2_grow_2_17 : decode cJ2_grow_2 17 = .ok (.if_acmp .eq 28, 3) := by decide +kernel
theorem dJ2_grow_2_20 : decode cJ2_grow_2 20 = .ok (.iload_n 2, 1) := by decide +kernel
theorem dJ2_grow_2_21 : decode cJ2_grow_2 21 = .ok (.iload_n 1, 1) := by decide +kernel
theorem dJ2_grow_2_22 : decode cJ2_grow_2 22 = .ok (.iload_n 2, 1) := by decide +kernel
theorem dJ2_grow_2_23 : decode cJ2_grow_2 23 = .ok (.isub, 1) := by decide +kernel
theorem dJ2_grow_2_24 : decode cJ2_grow_2 24 = .ok (.iload_n 2, 1) := by decide +kernel
theorem dJ2_grow_2_25 : decode cJ2_grow_2 25 = .ok (.iconst 1, 1) := by decide +kernel
theorem dJ2_grow_2_26 : decode cJ2_grow_2 26 = .ok (.ishr, 1) := by decide +kernel
theorem dJ2_grow_2_27 : decode cJ2_grow_2 27 = .ok (.invokestatic 73, 3) := by decide +kernel
theorem dJ2_grow_2_30 : decode cJ2_grow_2 30 = .ok (.istore_n 3, 1) := by decide +kernel
theorem dJ2_grow_2_31 : decode cJ2_grow_2 31 = .ok (.aload_n 0, 1) := by decide +kernel
theorem dJ2_grow_2_32 : decode cJ2_grow_2 32 = .ok (.aload_n 0, 1) := by decide +kernel
theorem dJ2_grow_2_33 : decode cJ2_grow_2 33 = .ok (.getfield 9, 3) := by decide +kernel
theorem dJ2_grow_2_36 : decode cJ2_grow_2 36 = .ok (.iload_n 3, 1) := by decide +kernel
theorem dJ2_grow_2_37 : decode cJ2_grow_2 37 = .ok (.invokestatic 66, 3) := by decide +kernel
theorem dJ2_grow_2_40 : decode cJ2_grow_2 40 = .ok (.dup_x1, 1) := by decide +kernel
theorem dJ2_grow_2_41 : decode cJ2_grow_2 41 = .ok (.putfield 9, 3) := by decide +kernel
theorem dJ2_grow_2_44 : decode cJ2_grow_2 44 = .ok (.areturn, 1) := by decide +kernel
theorem dJ2_grow_2_45 : decode cJ2_grow_2 45 = .ok (.aload_n 0, 1) := by decide +kernel
theorem dJ2_grow_2_46 : decode cJ2_grow_2 46 = .ok (.bipush 10, 2) := by decide +kernel
theorem dJ2_grow_2_48 : decode cJ2_grow_2 48 = .ok (.iload_n 1, 1) := by decide +kernel
theorem dJ2_grow_2_49 : decode cJ2_grow_2 49 = .ok (.invokestatic 79, 3) := by decide +kernel
theorem dJ2_grow_2_52 : decode cJ2_grow_2 52 = .ok (.anewarray 7, 3) := by decide +kernel
theorem dJ2_grow_2_55 : decode cJ2_grow_2 55 = .ok (.dup_x1, 1) := by decide +kernel
theorem dJ2_grow_2_56 : decode cJ2_grow_2 56 = .ok (.putfield 9, 3) := by decide +kernel
theorem dJ2_grow_2_59 : decode cJ2_grow_2 59 = .ok (.areturn, 1) := by decide +kernel
theorem dJ3_newLength_0 : decode cJ3_newLength 0 = .ok (.iload_n 0, 1) := by decide +kernel
theorem dJ3_newLength_1 : decode cJ3_newLength 1 = .ok (.iload_n 1, 1) := by decide +kernel
theorem dJ3_newLength_2 : decode cJ3_newLength 2 = .ok (.iload_n 2, 1) := by decide +kernel
theorem dJ3_newLength_3 : decode cJ3_newLength 3 = .ok (.invokestatic 194, 3) := by decide +kernel
theorem dJ3_newLength_6 : decode cJ3_newLength 6 = .ok (.iadd, 1) := by decide +kernel
theorem dJ3_newLength_7 : decode cJ3_newLength 7 = .ok (.istore_n 3, 1) := by decide +kernel
theorem dJ3_newLength_8 : decode cJ3_newLength 8 = .ok (.iconst 0, 1) := by decide +kernel
theorem dJ3_newLength_9 : decode cJ3_newLength 9 = .ok (.iload_n 3, 1) := by decide +kernel
theorem dJ3_newLength_10 : decode cJ3_newLength 10 = .ok (.if_icmp .ge 11, 3) := by decide +kernel
theorem dJ3_newLength_13 : decode cJ3_newLength 13 = .ok (.iload_n 3, 1) := by decide +kernel
theorem dJ3_newLength_14 : decode cJ3_newLength 14 = .ok (.ldc 200, 2) := by decide +kernel
theorem dJ3_newLength_16 : decode cJ3_newLength 16 = .ok (.if_icmp .gt 5, 3) := by decide +kernel
theorem dJ3_newLength_19 : decode cJ3_newLength 19 = .ok (.iload_n 3, 1) := by decide +kernel
theorem dJ3_newLength_20 : decode cJ3_newLength 20 = .ok (.ireturn, 1) := by decide +kernel
theorem dJ3_newLength_21 : decode cJ3_newLength 21 = .ok (.iload_n 0, 1) := by decide +kernel
theorem dJ3_newLength_22 : decode cJ3_newLength 22 = .ok (.iload_n 1, 1) := by decide +kernel
theorem dJ3_newLength_23 : decode cJ3_newLength 23 = .ok (.invokestatic 201, 3) := by decide +kernel
theorem dJ3_newLength_26 : decode cJ3_newLength 26 = .ok (.ireturn, 1) := by decide +kernel
theorem dJ5_copyOf_0 : decode cJ5_copyOf 0 = .ok (.aload_n 0, 1) := by decide +kernel
theorem dJ5_copyOf_1 : decode cJ5_copyOf 1 = .ok (.iload_n 1, 1) := by decide +kernel
theorem dJ5_copyOf_2 : decode cJ5_copyOf 2 = .ok (.aload_n 0, 1) := by decide +kernel
theorem dJ5_copyOf_3 : decode cJ5_copyOf 3 = .ok (.invokevirtual 86, 3) := by decide +kernel
theorem dJ5_copyOf_6 : decode cJ5_copyOf 6 = .ok (.invokestatic 300, 3) := by decide +kernel
theorem dJ5_copyOf_9 : decode cJ5_copyOf 9 = .ok (.areturn, 1) := by decide +kernel
theorem dJ5_copyOf_2_0 : decode cJ5_copyOf_2 0 = .ok (.aload_n 2, 1) := by decide +kernel
theorem dJ5_copyOf_2_1 : decode cJ5_copyOf_2 1 = .ok (.ldc 110, 2) := by decide +kernel
theorem dJ5_copyOf_2_3 : decode cJ5_copyOf_2 3 = .ok (.if_acmp .ne 10, 3) := by decide +kernel
theorem dJ5_copyOf_2_6 : decode cJ5_copyOf_2 6 = .ok (.iload_n 1, 1) := by decide +kernel
theorem dJ5_copyOf_2_7 : decode cJ5_copyOf_2 7 = .ok (.anewarray 2, 3) := by decide +kernel
theorem dJ5_copyOf_2_10 : decode cJ5_copyOf_2 10 = .ok (.goto 14, 3) := by decide +kernel
theorem dJ5_copyOf_2_13 : decode cJ5_copyOf_2 13 = .ok (.aload_n 2, 1) := by decide +kernel
theorem dJ5_copyOf_2_14 : decode cJ5_copyOf_2 14 = .ok (.invokevirtual 90, 3) := by decide +kernel
theorem dJ5_copyOf_2_17 : decode cJ5_copyOf_2 17 = .ok (.iload_n 1, 1) := by decide +kernel
theorem dJ5_copyOf_2_18 : decode cJ5_copyOf_2 18 = .ok (.invokestatic 95, 3) := by decide +kernel
theorem dJ5_copyOf_2_21 : decode cJ5_copyOf_2 21 = .ok (.checkcast 110, 3) := by decide +kernel
theorem dJ5_copyOf_2_24 : decode cJ5_copyOf_2 24 = .ok (.astore_n 3, 1) := by decide +kernel
theorem dJ5_copyOf_2_25 : decode cJ5_copyOf_2 25 = .ok (.aload_n 0, 1) := by decide +kernel
theorem dJ5_copyOf_2_26 : decode cJ5_copyOf_2 26 = .ok (.iconst 0, 1) := by decide +kernel
theorem dJ5_copyOf_2_27 : decode cJ5_copyOf_2 27 = .ok (.aload_n 3, 1) := by decide +kernel
theorem dJ5_copyOf_2_28 : decode cJ5_copyOf_2 28 = .ok (.iconst 0, 1) := by decide +kernel
theorem dJ5_copyOf_2_29 : decode cJ5_copyOf_2 29 = .ok (.aload_n 0, 1) := by decide +kernel
theorem dJ5_copyOf_2_30 : decode cJ5_copyOf_2 30 = .ok (.arraylength, 1) := by decide +kernel
theorem dJ5_copyOf_2_31 : decode cJ5_copyOf_2 31 = .ok (.iload_n 1, 1) := by decide +kernel
theorem dJ5_copyOf_2_32 : decode cJ5_copyOf_2 32 = .ok (.invokestatic 304, 3) := by decide +kernel
theorem dJ5_copyOf_2_35 : decode cJ5_copyOf_2 35 = .ok (.invokestatic 150, 3) := by decide +kernel
theorem dJ5_copyOf_2_38 : decode cJ5_copyOf_2 38 = .ok (.aload_n 3, 1) := by decide +kernel
theorem dJ5_copyOf_2_39 : decode cJ5_copyOf_2 39 = .ok (.areturn, 1) := by decide +kernel
/-! ===== ArrayList's own methods, over the list's cell and its array's ===== -/
abbrev zl_L (b : Nat) (m : Nat) (ed : Nat) (c : Nat) : Nat × va_E := (b, .inr (0, [.int (nI m), .ref ed, .int (nI c)]))
abbrev zl_A (G : zo_G) (a n : Nat) (f : Nat → Option Nat) : Nat × va_E := (a, .inl (G.2.2.1 40, n, .inr (.inr (.inr (.inr f)))))
def zl_D (G : zo_G) : va_G := (fun _ => G.1 20, fun _ => G.2.1 20)
theorem zl_K {G : zo_G} {U : State} (h : zo_K G U) : va_K (zl_D G) [zo_cl 20] [(G.2.2.1 40, .object "java/lang/Object")] U := by
  refine ⟨fun c q hq => ?_, fun k q hq => ?_⟩
  · match c, hq with
    | 0, hq => cases hq; exact h.1 20 (by decide)
    | c + 1, hq => cases hq
  · match k, hq with
    | 0, hq => cases hq; exact h.2.1 40 (by decide) (by decide)
    | k + 1, hq => cases hq
/-- elements: old objects, apart from the list's own cells -/
def zl_ok (U : State) (ws : va_W) (sz : Nat) (f : Nat → Option Nat) : Prop := ∀ i y, f i = some y → ¬ va_A ws sz y ∧ va_Any "java/lang/Object" U U.heap y
theorem zl_any {E : String} {s U : State} {H : Heap} {y : Nat} (hv : s.vm.Alike U.vm) (h : va_Any E s H y) : va_Any E U H y := by
  obtain ⟨cell, h1, h2, ⟨k, h3⟩, h4⟩ := h
  obtain ⟨k', h5, -⟩ := hv.2.2 _ _ h3
  exact ⟨cell, h1, h2, ⟨k', h5⟩, fun comp hc => by rw [hv.assignable]; exact h4 comp (by rw [← hv.findClass]; exact hc)⟩
theorem zl_anyk {E : String} {s : State} {H H1 : Heap} {y : Nat} (he : H1[y]? = H[y]?) (h : va_Any E s H y) : va_Any E s H1 y := by
  obtain ⟨cell, h1, h2⟩ := h
  exact ⟨cell, by rw [he]; exact h1, h2⟩
theorem zl_anyS {E : String} {A : Nat → Prop} {s : State} {H : Heap} {locs : List Loc} {y : Nat} (hS : va_S A s.heap H locs) (hn : ¬ A y) (h : va_Any E s s.heap y) : va_Any E s H y := by
  obtain ⟨cell, h1, -⟩ := id h
  exact zl_anyk (hS.2.1 y (Array.getElem?_eq_some_iff.mp h1).1 hn) h
theorem zl_start {G : zo_G} {U : State} (hK : zo_K G U) {w : Cond} (h : w ∈ lw_tbl) : w.before G.2.2.2.2.2.2.2.1 G.2.2.2.2.2.2.1 = true := hK.2.2.2.2.1 w h
theorem zl_warm {G : zo_G} {U : State} (hK : zo_K G U) : G.2.2.2.2.2.2.1.WarmedH U.vm := hK.2.2.2.2.2.2.2.2

theorem zl_AO {G : zo_G} {U : State} (hK : zo_K G U) : va_AO "java/lang/Object" U := va_AO.moved (zl_warm hK).alike (va_AO.of (zl_start hK q342))
theorem zl_Mi {G : zo_G} {U : State} (hK : zo_K G U) : ∃ mi, va_Mi "[Ljava/lang/Object;" mi U := by
  obtain ⟨-, -, -, e0, hw, hg, -, -, hW⟩ := hK
  obtain ⟨mi, h⟩ := va_Mi.of (args := G.2.2.2.2.2.2.2.1) (s := G.2.2.2.2.2.2.1) (C := "[Ljava/lang/Object;") (flat_of_before _ hg _ (by decide +kernel))
  exact ⟨mi, h.moved hW.alike⟩
theorem zl_AA {ws : va_W} {sz : Nat} (h : ∀ (i j : Nat) (p q : Nat × va_E), ws[i]? = some p → ws[j]? = some q → p.1 = q.1 → i = j) : va_D (va_A ws sz) ws := ⟨h, fun k q hq => Or.inl ⟨k, q.2, hq⟩⟩
theorem zl_one (q : Nat × va_E) : ∀ (i j : Nat) (p p' : Nat × va_E), [q][i]? = some p → [q][j]? = some p' → p.1 = p'.1 → i = j := by
  intro i j p p' h1 h2 _
  match i, j, h1, h2 with
  | 0, 0, _, _ => rfl
  | 0, j + 1, _, h => cases h
  | i + 1, _, h, _ => cases h
theorem zl_two {q r : Nat × va_E} (hn : q.1 ≠ r.1) : ∀ (i j : Nat) (p p' : Nat × va_E), [q, r][i]? = some p → [q, r][j]? = some p' → p.1 = p'.1 → i = j := by
  intro i j p p' h1 h2 h
  match i, j, h1, h2 with
  | 0, 0, _, _ => rfl
  | 1, 1, _, _ => rfl
  | 0, 1, h1, h2 => cases h1; cases h2; exact absurd h hn
  | 1, 0, h1, h2 => cases h1; cases h2; exact absurd h.symm hn
  | 0, j + 2, _, h => cases h
  | 1, j + 2, _, h => cases h
  | i + 2, _, h, _ => cases h
def zl_P2 (G : zo_G) (sz a mi n n' : Nat) (f : Nat → Option Nat) : State → Prop := fun U => U.heap.size = sz ∧ va_P (zl_D G) [zo_cl 20] [zl_A G a n f] U.heap ∧ zo_K G U ∧ va_Mi "[Ljava/lang/Object;" mi U ∧ zl_ok U [zl_A G a n f] sz f
def zl_Q2 (G : zo_G) (sz a n n' : Nat) (f : Nat → Option Nat) : Array Value → State → Outcome → State → Prop := va_Qr (S := Unit) (fun _ => True) (fun _ ra t => va_P (zl_D G) [zo_cl 20] [zl_A G a n f, zl_A G ra n' (va_cpy f (fun _ => none) 0 0 n)] t.heap ∧ va_D (va_A [zl_A G a n f] sz) [zl_A G a n f, zl_A G ra n' (va_cpy f (fun _ => none) 0 0 n)]) (va_A [zl_A G a n f] sz)
theorem kc_cp2 (l : Launch) (G : zo_G) (sz a mi n n' : Nat) (f : Nat → Option Nat) (hn : n ≤ n') (hn' : n' ≤ 65536) : Met l yJ5_copyOf_2 (ws_ yJ5_copyOf_2 cJ5_copyOf_2 4 (some (.array (.object "java/lang/Object")))) { frames := 1, cells := 1, slots := n', locals := 64 } (va_Pc [.ref a, .int (nI n'), .ref mi] (zl_P2 G sz a mi n n' f)) (zl_Q2 G sz a n n' f) 1 n' (va_A [zl_A G a n f] sz) := by
  refine Met.ofW (cc := cJ5_copyOf_2) (maxL := 4) (ret := (some (.array (.object "java/lang/Object")))) (by decide) rfl ?_
  intro p e s m args below meth c s₁ B hml hP
  obtain ⟨rfl, rfl, hP, hK, hMi, hok⟩ := hP
  have hx := B.exec
  have hb := B.bytes
  have hr := B.returns
  have hlocks := B.notSynchronized
  have hts := atoms_spec (ws := ws_ yJ5_copyOf_2 cJ5_copyOf_2 4 (some (.array (.object "java/lang/Object")))) B.pre
  have hts : ∀ w ∈ lw_all, w.before _ s = true := fun w h => hts w (List.mem_cons_of_mem _ h)
  have hown : s.vm.findClass "java/util/Arrays" = some m.cls := findClass_of_methodNamed B.named
  have hl := lv_entry ([.ref a, .int (nI n'), .ref mi] : List Value) (n := 4) (Nat.le_of_ble_eq_true rfl)
  rw [lg_entry_eq]
  generalize (lg_sl ([.ref a, .int (nI n'), .ref mi] : List Value) ++ List.replicate (4 - (lg_sl ([.ref a, .int (nI n'), .ref mi] : List Value)).length) Slot.unset).toArray = ls at hl ⊢
  have hl : lv_has ls 4 [(0, .ref a), (1, .int (nI n')), (2, .ref mi)] := hl
  have hKK := zl_K hK
  have hD : va_D (va_A [zl_A G a n f] s.heap.size) [zl_A G a n f] := zl_AA (zl_one _)
  have hS : va_S (va_A [zl_A G a n f] s.heap.size) s.heap s.heap [] := va_S.rf
  refine lv_aload_n hx hb dJ5_copyOf_2_0 rfl (lv_at hl 2 rfl) ?_
  refine va_ldcM hx hb hown (hts _ q341) hMi dJ5_copyOf_2_1 ?_
  refine lv_acmp_ne (rx := some mi) (ry := some mi) (tgt := 13) hx hb dJ5_copyOf_2_3 (by decide) (fun q => absurd rfl q) (fun _ => ?_)
  refine lv_iload_n hx hb dJ5_copyOf_2_6 rfl (lv_at hl 1 rfl) ?_
  refine va_newq hx hb hown (hts _ q343) (zl_AO hK) hKK hP hD hS (fun q hq => Or.inr hq) (N' := n') (nI_pos (by omega)) (nI_clamp (by omega)) (by omega) (by show 0 + 1 ≤ 1; omega) (by show 0 + n' ≤ n'; omega) dJ5_copyOf_2_7 ?_
  intro q cA H1 hK1 hP1 hD1 hS1
  have hcA : cA = G.2.2.1 40 := by
    have g1 := va_nmO (hK1.2 1 _ rfl).2 rfl
    have g2 := va_nmO (hK1.2 0 _ rfl).2 rfl
    exact Option.some.inj (g1.symm.trans g2)
  subst hcA
  refine lv_goto (tgt := 24) hx hb dJ5_copyOf_2_10 (by decide) ?_
  refine lv_astore_n hx hb dJ5_copyOf_2_24 rfl hl (by decide) rfl (fun ls' hl' => ?_)
  have hl' : lv_has ls' 4 [(3, .ref q), (0, .ref a), (1, .int (nI n')), (2, .ref mi)] := hl'
  refine lv_aload_n hx hb dJ5_copyOf_2_25 rfl (lv_at hl' 1 rfl) ?_
  refine lv_iconst (v := 0) hx hb dJ5_copyOf_2_26 (by decide) ?_
  refine lv_aload_n hx hb dJ5_copyOf_2_27 rfl (lv_at hl' 0 rfl) ?_
  refine lv_iconst (v := 0) hx hb dJ5_copyOf_2_28 (by decide) ?_
  refine lv_aload_n hx hb dJ5_copyOf_2_29 rfl (lv_at hl' 1 rfl) ?_
  refine va_alen hx hb hK1 hP1 0 0 rfl rfl (v := nI n) rfl dJ5_copyOf_2_30 ?_
  refine lv_iload_n hx hb dJ5_copyOf_2_31 rfl (lv_at hl' 2 rfl) ?_
  refine va_mmin hx hb (by rw [hml]; exact hl'.1.symm) hown (hts _ q344) (hts _ zo_q_mins) (hts _ zo_q_mi) (hts _ zo_q_minc) (Nat.le_of_ble_eq_true rfl) (Nat.le_of_ble_eq_true rfl) (by show 0 + 1 ≤ 1; omega) (by show 0 + n' ≤ n'; omega) dJ5_copyOf_2_32 ?_
  rw [if_neg (nI_nlt (by omega) (by omega))]
  have hcl : (nI n).toNatClampNeg = n := nI_clamp (by omega)
  have hc0 : (0 : Int32).toNatClampNeg = 0 := by decide
  refine va_copyM hx hb (by rw [hml]; exact hl'.1.symm) hown (hts _ q347) (hts _ q349) (hts _ q348) (hts _ q88) hK1 hP1 hD1 hS1 0 1 0 1 rfl rfl rfl rfl (by decide) (by decide) (nI_pos (by omega)) (by rw [hcl, hc0]; omega) (by rw [hcl, hc0]; omega) (fun i hi y hy => zl_anyS hS1 (hok _ _ hy).1 (hok _ _ hy).2) (Nat.le_of_ble_eq_true rfl) (by show _ ≤ 64; exact Nat.le_of_ble_eq_true (by decide +kernel)) dJ5_copyOf_2_35 ?_
  intro H2 locs2 hP2 hD2 hS2
  rw [hcl, hc0] at hP2 hD2
  refine lv_aload_n hx hb dJ5_copyOf_2_38 rfl (lv_at hl' 0 rfl) ?_
  refine W.cs (Nat.zero_add 1) (Nat.zero_add n') ?_
  exact W.aret (v := .ref q) hx hb hr (Or.inr ⟨_, rfl⟩) (Or.inr ⟨_, rfl⟩) (fun t ht hW => ⟨⟨(), q, rfl, trivial, by rw [ht]; exact hP2, hD2⟩, hS2.F ht⟩) hS2.2.2 dJ5_copyOf_2_39 hlocks
theorem zl_blind2 {G : zo_G} {sz a mi n n' : Nat} {f : Nat → Option Nat} {av : List Value} : FrameBlind (va_Pc av (zl_P2 G sz a mi n n' f)) := fun a U g mk h => ⟨h.1, h.2.1, h.2.2.1, zo_K.same (s := U) (U := U.calling g mk a) rfl h.2.2.2.1, h.2.2.2.2.1, h.2.2.2.2.2⟩
def zl_P1 (G : zo_G) (sz a n : Nat) (f : Nat → Option Nat) : State → Prop := fun U => U.heap.size = sz ∧ va_P (zl_D G) [zo_cl 20] [zl_A G a n f] U.heap ∧ zo_K G U ∧ zl_ok U [zl_A G a n f] sz f
theorem zl_blind1 {G : zo_G} {sz a n : Nat} {f : Nat → Option Nat} {av : List Value} : FrameBlind (va_Pc av (zl_P1 G sz a n f)) := fun a U g mk h => ⟨h.1, h.2.1, h.2.2.1, zo_K.same (s := U) (U := U.calling g mk a) rfl h.2.2.2.1, h.2.2.2.2⟩
theorem zl_okM {s U : State} {ws : va_W} {sz : Nat} {f : Nat → Option Nat} (hW : s.WarmedH U.vm) (hh : ∀ i y, f i = some y → va_Any "java/lang/Object" s U.heap y) (h : zl_ok s ws sz f) : zl_ok U ws sz f := fun i y e => ⟨(h i y e).1, zl_any hW.alike (hh i y e)⟩
theorem kc_cp1 (l : Launch) (G : zo_G) (sz a n n' : Nat) (f : Nat → Option Nat) (hn : n ≤ n') (hn' : n' ≤ 65536) : Met l yJ5_copyOf (ws_ yJ5_copyOf cJ5_copyOf 2 (some (.array (.object "java/lang/Object")))) { frames := 2, cells := 1, slots := n', locals := 128 } (va_Pc [.ref a, .int (nI n')] (zl_P1 G sz a n f)) (zl_Q2 G sz a n n' f) 1 n' (va_A [zl_A G a n f] sz) := by
  refine Met.ofW (cc := cJ5_copyOf) (maxL := 2) (ret := (some (.array (.object "java/lang/Object")))) (by decide) rfl ?_
  intro p e s m args below meth c s₁ B hml hP
  obtain ⟨rfl, rfl, hP, hK, hok⟩ := hP
  have hx := B.exec
  have hb := B.bytes
  have hr := B.returns
  have hlocks := B.notSynchronized
  have hts := atoms_spec (ws := ws_ yJ5_copyOf cJ5_copyOf 2 (some (.array (.object "java/lang/Object")))) B.pre
  have hts : ∀ w ∈ lw_all, w.before _ s = true := fun w h => hts w (List.mem_cons_of_mem _ h)
  have hown : s.vm.findClass "java/util/Arrays" = some m.cls := findClass_of_methodNamed B.named
  have hl := lv_entry ([.ref a, .int (nI n')] : List Value) (n := 2) (Nat.le_of_ble_eq_true rfl)
  rw [lg_entry_eq]
  generalize (lg_sl ([.ref a, .int (nI n')] : List Value) ++ List.replicate (2 - (lg_sl ([.ref a, .int (nI n')] : List Value)).length) Slot.unset).toArray = ls at hl ⊢
  have hl : lv_has ls 2 [(0, .ref a), (1, .int (nI n'))] := hl
  obtain ⟨mi, hMi⟩ := zl_Mi hK
  have hS : va_S (va_A [zl_A G a n f] s.heap.size) s.heap s.heap [] := va_S.rf
  refine lv_aload_n hx hb dJ5_copyOf_0 rfl (lv_at hl 0 rfl) ?_
  refine lv_iload_n hx hb dJ5_copyOf_1 rfl (lv_at hl 1 rfl) ?_
  refine lv_aload_n hx hb dJ5_copyOf_2 rfl (lv_at hl 0 rfl) ?_
  have hcell : ∃ cell : Cell, s.heap[a]? = some cell ∧ cell.vm.isStatics = false ∧ s.vm.findClass "[Ljava/lang/Object;" = some cell.cls := ⟨_, hP 0 _ rfl, rfl, va_nmO ((zl_K hK).2 0 _ rfl).2 rfl⟩
  refine va_getC hx hb (by rw [hml]; exact hl.1.symm) hown (hts _ q313) (va_Dc.use (va_Dc.moved (zl_warm hK).alike (va_Dc.of (zl_start hK q1853)))) (hts _ q1852) (hts _ q314) (hts _ q337) hMi hcell (Nat.le_of_ble_eq_true rfl) (Nat.le_of_ble_eq_true rfl) dJ5_copyOf_3 ?_
  have cw := va_cwS (rm := { frames := 1, cells := 1, slots := n', locals := 64 }) (R := (headSpec (ws_ yJ5_copyOf cJ5_copyOf 2 (some (.array (.object "java/lang/Object")))) { frames := 2, cells := 1, slots := n', locals := 128 }).room) (mc := 1) (ms := n') 3 hts (lw_S q338 q339 q87 q340) rfl rfl rfl ⟨by decide, by decide, by decide +kernel⟩ ⟨(Nat.le_of_ble_eq_true rfl), (Nat.le_of_ble_eq_true rfl)⟩
  have hrun := va_runS (p := p) (l := l) (e := e) (m := m) (below := below) (meth := meth) (locs := []) (cells := 0) (slots := 0) (As := [.ref a, .int (nI n'), .ref mi]) (rest := []) (g := F0 m 6 ls [.ref mi, .int (nI n'), .ref a]) (Ts := lw_all) ⟨hx, hb, hml, hown, hts⟩ (kc_cp2 l G s.heap.size a mi n n' f hn hn') cw ⟨zl_blind2, fun U hU hW => ⟨rfl, by rw [hU], by rw [hU]; exact hP, hK.moved hW, hMi.moved hW.alike, zl_okM hW (fun i y e => by rw [hU]; exact (hok i y e).2) hok⟩⟩ rfl rfl hl.1 rfl (by show 2 * 0 + 0 ≤ 8; omega) dJ5_copyOf_6 ⟨by show 0 + 1 ≤ 1; omega, by show 0 + n' ≤ n'; omega⟩
  refine va_callr hrun hS (fun q _ h => h) (fun q h => h) (fun u ra t H1 locs1 ht hal _ hB _ _ hS1 => ?_)
  subst ht
  refine W.cs (Nat.zero_add 1) (Nat.zero_add n') ?_
  exact W.aret (v := .ref ra) hx hb hr (Or.inr ⟨_, rfl⟩) (Or.inr ⟨_, rfl⟩) (fun t' ht' hW => ⟨⟨(), ra, rfl, trivial, by rw [ht']; exact hB.1, hB.2⟩, hS1.F ht'⟩) hS1.2.2 dJ5_copyOf_9 hlocks
