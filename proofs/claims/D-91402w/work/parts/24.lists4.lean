/-! ===== ArrayList.add's contract, new lists ===== -/
set_option maxRecDepth 100000
def zo_kc (n : Nat) : Nat := if n < zo_cap n then 0 else 1
def zo_ks (n : Nat) : Nat := if n < zo_cap n then 0 else zo_cap (n + 1)
def fn_J2_add (N : Nat) (x0 : Nat) (x1 : Option zo_T) (Ω : zo_O) : Option zo_R := match x1 with
  | none => none
  | some t => gd ((gS Ω x0 ++ [t]).all (fun t => decide (t.1 < 20)) = true ∧ (gS Ω x0).length ≤ 30000) (some (some (vi 1), sS Ω x0 (gS Ω x0 ++ [t]), zo_kc (gS Ω x0).length, zo_ks (gS Ω x0).length))
def zl_f (ρ : Nat → Nat → Nat) (l : List zo_T) : Nat → Option Nat := fun i => (l[i]?).map (fun t => ρ t.1 t.2)
theorem zl_up (ρ : Nat → Nat → Nat) (l : List zo_T) (t : zo_T) : (fun j => va_rf (va_up (zl_f ρ l) l.length (some (ρ t.1 t.2)) j)) = fun i => zo_mp ρ ((l ++ [t])[i]?) := by
  funext j
  unfold va_up zl_f zo_mp
  by_cases h : j = l.length
  · subst h; rw [if_pos rfl]; simp
  · rw [if_neg h]
    by_cases h2 : j < l.length
    · rw [List.getElem?_append_left h2]
    · have e1 : l[j]? = none := List.getElem?_eq_none (by omega)
      have e2 : (l ++ [t])[j]? = none := List.getElem?_eq_none (by rw [List.length_append]; simp; omega)
      rw [e1, e2]
theorem zl_cpy (ρ : Nat → Nat → Nat) (l : List zo_T) : va_cpy (zl_f ρ l) (fun _ => none) 0 0 l.length = zl_f ρ l := by
  funext j
  unfold va_cpy zl_f
  by_cases h : 0 ≤ j ∧ j < 0 + l.length
  · rw [if_pos h]; simp
  · rw [if_neg h]
    have e1 : l[j]? = none := List.getElem?_eq_none (by omega)
    rw [e1]; rfl
theorem zl_obj {G : zo_G} {b mo ra ct : Nat} {H : Heap} (h : va_at (zl_D G) [zo_cl 20] (zl_L b mo ra ct) H) (e : mo = ct) : t_OB b (G.1 20) 3 (G.2.1 20) H (fun f => if f = 1 then .ref ra else .int (nI ct)) := by
  subst e
  obtain ⟨r, h1, h2⟩ := h
  cases h1
  refine t_OB.to (N := 3) h2 (fun f hf => ?_)
  match f, hf with
  | 0, _ => rfl
  | 1, _ => rfl
  | 2, _ => rfl
theorem zl_obj' {G : zo_G} {ρ : Nat → Nat → Nat} {Ω : zo_O} {H : Heap} {n : Nat} (hR : zo_Rep G ρ Ω H) (hn : n < gC Ω 20) : va_at (zl_D G) [zo_cl 20] (zl_L (ρ 20 n) (gS Ω n).length (if gS Ω n = [] then G.2.2.2.2.2.1 else ρ 40 n) (gS Ω n).length) H := by
  have hc := (hR.cell (k := 20) (n := n) (by unfold zo_lv; rw [if_neg (by decide)]; exact hn)).1
  unfold zo_cell at hc
  rw [if_pos (by decide)] at hc
  refine ⟨zo_cl 20, rfl, hc.to (fun f hf => ?_)⟩
  have hf : f < 3 := hf
  unfold zo_fv
  rw [if_pos rfl]
  match f, hf with
  | 0, _ => rfl
  | 1, _ => rw [if_pos rfl]; by_cases h : gS Ω n = [] <;> simp [h, vp_V]
  | 2, _ => rfl
theorem zl_arr' {G : zo_G} {ρ : Nat → Nat → Nat} {Ω : zo_O} {H : Heap} {n : Nat} (hR : zo_Rep G ρ Ω H) (hn : n < gC Ω 20) (hne : gS Ω n ≠ []) : va_at (zl_D G) [zo_cl 20] (zl_A G (ρ 40 n) (zo_cap (gS Ω n).length) (zl_f ρ (gS Ω n))) H := by
  have hc := (hR.cell (k := 40) (n := n) (by unfold zo_lv; rw [if_pos rfl]; exact ⟨hn, hne⟩)).1
  unfold zo_cell at hc
  rw [if_neg (by decide)] at hc
  show H[ρ 40 n]? = some (arrV (G.2.2.1 40) (zo_cap (gS Ω n).length) (fun j => va_rf (zl_f ρ (gS Ω n) j)))
  rw [hc]
  unfold zo_ln
  rw [if_pos rfl]
  congr 2
theorem zl_P1w {D : va_G} {cl : List vw_C} {q : Nat × va_E} {H : Heap} (h1 : va_at D cl q H) : va_P D cl [q] H := by
  intro k z hz
  match k, hz with
  | 0, hz => cases hz; exact h1
  | k + 1, hz => cases hz
theorem zl_P2w {D : va_G} {cl : List vw_C} {q r : Nat × va_E} {H : Heap} (h1 : va_at D cl q H) (h2 : va_at D cl r H) : va_P D cl [q, r] H := by
  intro k z hz
  match k, hz with
  | 0, hz => cases hz; exact h1
  | 1, hz => cases hz; exact h2
  | k + 2, hz => cases hz
theorem zl_A1 {q : Nat × va_E} {sz y : Nat} (h : va_A [q] sz y) : y = q.1 ∨ sz ≤ y := by
  rcases h with ⟨k, e, z⟩ | z
  · match k, z with
    | 0, z => exact Or.inl (congrArg Prod.fst (Option.some.inj z)).symm
    | k + 1, z => cases z
  · exact Or.inr z
theorem zl_A2 {q r : Nat × va_E} {sz y : Nat} (h : va_A [q, r] sz y) : y = q.1 ∨ y = r.1 ∨ sz ≤ y := by
  rcases h with ⟨k, e, z⟩ | z
  · match k, z with
    | 0, z => exact Or.inl (congrArg Prod.fst (Option.some.inj z)).symm
    | 1, z => exact Or.inr (Or.inl (congrArg Prod.fst (Option.some.inj z)).symm)
    | k + 2, z => cases z
  · exact Or.inr (Or.inr z)
theorem zo_cap_le : ∀ n, zo_cap n ≤ n + n / 2 + 10
  | 0 => by decide
  | n + 1 => by
    have := zo_cap_le n
    have hg := zo_cap_ge n
    unfold zo_cap
    by_cases h : n < zo_cap n
    · rw [if_pos h]; omega
    · rw [if_neg h]
      by_cases h0 : zo_cap n = 0
      · rw [if_pos h0]; omega
      · rw [if_neg h0]; omega
theorem mt_J2_add {G : zo_G} {J : zo_O → Prop} (hJ : zo_JC J) (hCon : ∀ Ω, J Ω → zo_Con Ω) (N : Nat) (x0 : Nat) (x1 : Option zo_T) (Ω : zo_O) (res : zo_R) (h : fn_J2_add N x0 x1 Ω = some res) : zo_MT G J yJ2_add cJ2_add 2 (Option.some Jvm.ClassFile.FieldType.boolean) 6 [vr 20 x0, vo x1] Ω res := by
  cases x1 with
  | none => cases h
  | some t =>
  have hg := gd_e (show gd ((gS Ω x0 ++ [t]).all (fun t => decide (t.1 < 20)) = true ∧ (gS Ω x0).length ≤ 30000) (some (some (vi 1), sS Ω x0 (gS Ω x0 ++ [t]), zo_kc (gS Ω x0).length, zo_ks (gS Ω x0).length)) = some res from h)
  obtain ⟨⟨hall, hlen⟩, he⟩ := hg
  cases he
  clear h
  have hall : ∀ t' ∈ gS Ω x0 ++ [t], t'.1 < 20 := fun t' h' => by simpa using List.all_eq_true.mp hall t' h'
  intro l ρ
  generalize hL0 : (gS Ω x0).length = len at *
  show MetFree l yJ2_add (headSpec (ws_ yJ2_add cJ2_add 2 (some .boolean)) { frames := 6, cells := zo_kc len, slots := zo_ks len, locals := 64 * 6 }) _ _ _
  -- what every case needs
  have common : ∀ {p : Program} {e : Env} {s : State} {args : Array Value}, zo_Pc G J ρ [vr 20 x0, vo (some t)] Ω args s → x0 < gC Ω 20 ∧ zo_ok Ω t ∧ (∀ t' ∈ gS Ω x0 ++ [t], zo_ok Ω t') := by
    intro p e s args hP
    obtain ⟨-, hR, -, -, hvs⟩ := hP
    have hn : x0 < gC Ω 20 := by
      rcases hvs.1 with q | q | q
      · cases q
      · cases q
      · exact q.2
    have ht : zo_ok Ω t := hvs.2.1
    refine ⟨hn, ht, fun t' h' => ?_⟩
    rcases List.mem_append.mp h' with q | q
    · exact hR.2.2.2.2.2.1 x0 t' hn q
    · rw [List.mem_singleton.mp q]; exact ht
  have hany : ∀ {s : State}, zo_K G s → zo_Rep G ρ Ω s.heap → x0 < gC Ω 20 → (∀ t' ∈ gS Ω x0 ++ [t], zo_ok Ω t') → ∀ t' ∈ gS Ω x0 ++ [t], va_Any "java/lang/Object" s s.heap (ρ t'.1 t'.2) ∧ ρ t'.1 t'.2 < s.heap.size ∧ ρ t'.1 t'.2 ≠ ρ 20 x0 ∧ (gS Ω x0 ≠ [] → ρ t'.1 t'.2 ≠ ρ 40 x0) := by
    intro s hK hR hn hok t' h'
    have h20 := hall t' h'
    have ha := zl_tok hK hR (t := t') (by omega) (hok t' h')
    have hlv : zo_lv Ω t'.1 t'.2 := zo_lv_of (hok t' h') (by omega) (by omega)
    obtain ⟨-, -, -, ⟨own, h4⟩, -⟩ := id hR
    have g1 := (h4 t'.1 t'.2 hlv).1
    refine ⟨ha, (h4 t'.1 t'.2 hlv).2.2.lt, fun e => ?_, fun hne e => ?_⟩
    · have g2 := (h4 20 x0 (by unfold zo_lv; rw [if_neg (by decide)]; exact hn)).1
      rw [e, g2] at g1
      have : (20 : Nat) = t'.1 := congrArg Prod.fst g1
      omega
    · have g2 := (h4 40 x0 (by unfold zo_lv; rw [if_pos rfl]; exact ⟨hn, hne⟩)).1
      rw [e, g2] at g1
      have : (40 : Nat) = t'.1 := congrArg Prod.fst g1
      omega
  by_cases hroom : len < zo_cap len
  · have hne : gS Ω x0 ≠ [] := fun q => by rw [q] at hL0; rw [← hL0] at hroom; exact absurd hroom (by decide)
    have e1 : zo_kc len = 0 := if_pos hroom
    have e2 : zo_ks len = 0 := if_pos hroom
    have ecap : zo_cap (len + 1) = zo_cap len := zo_cap_room hroom
    have hcap : zo_cap len ≤ 65536 := by have := zo_cap_le len; omega
    rw [e1, e2]
    intro p e ha hc hk s m args below hf happ hP _
    obtain ⟨hn, ht, hok⟩ := common (p := p) (e := e) hP
    obtain ⟨rfl, hR, hJ0, hK, hvs⟩ := hP
    have hA := hany hK hR hn hok
    have hob := zl_obj' hR hn
    rw [if_neg hne, hL0] at hob
    have hac := zl_arr' hR hn hne
    rw [hL0] at hac
    have hl40 : zo_lv Ω 40 x0 := by unfold zo_lv; rw [if_pos rfl]; exact ⟨hn, hne⟩
    obtain ⟨-, -, -, ⟨own, h4⟩, -⟩ := id hR
    have hl20 : zo_lv Ω 20 x0 := by unfold zo_lv; rw [if_neg (by decide)]; exact hn
    have hba : ρ 20 x0 ≠ ρ 40 x0 := fun q => by
      have g1 := (h4 20 x0 hl20).1
      rw [q, (h4 40 x0 hl40).1] at g1
      cases g1
    have hnA : ∀ t' ∈ gS Ω x0 ++ [t], ¬ va_A (zl_r1 G (ρ 20 x0) len (ρ 40 x0) len (zo_cap len) (zl_f ρ (gS Ω x0))) s.heap.size (ρ t'.1 t'.2) := fun t' h' z => by
      rcases zl_A2 z with z | z | z
      · exact (hA t' h').2.2.1 z
      · exact (hA t' h').2.2.2 hne z
      · have := (hA t' h').2.1; omega
    obtain ⟨nn, o, k1, k2, k3, ⟨⟨r, ra, rfl, rfl, hPf, hDf⟩, hFr⟩, L, hFE, hL⟩ := kc_adr l G s.heap.size (ρ 20 x0) len (ρ 40 x0) len (zo_cap len) (zl_f ρ (gS Ω x0)) (ρ t.1 t.2) hroom hcap p e ha hc hk s m _ below hf happ
      ⟨rfl, ⟨rfl, zl_P2w hob hac, zl_two hba, hK, fun y hy => by
        rcases hy with ⟨i, hi⟩ | rfl
        · obtain ⟨t', h1, rfl⟩ := Option.map_eq_some_iff.mp hi
          have hm := List.mem_append_left [t] (List.mem_of_getElem? h1)
          exact ⟨hnA t' hm, (hA t' hm).1⟩
        · have hm : t ∈ gS Ω x0 ++ [t] := List.mem_append_right _ (List.mem_singleton.mpr rfl)
          exact ⟨hnA t hm, (hA t hm).1⟩, hR.2.1⟩, hR.1, fun k q hq => by
        match k, hq with
        | 0, hq => cases hq; exact (h4 20 x0 hl20).2.1
        | 1, hq => cases hq; exact (h4 40 x0 hl40).2.1
        | k + 2, hq => cases hq⟩ trivial
    refine ⟨nn, _, k1, k2, k3, ?_, L, hFE, fun q hq => ?_⟩
    · have hob2 := zl_obj (hPf 0 _ rfl) rfl
      have hup := zl_up ρ (gS Ω x0) t
      rw [hL0] at hup
      have har2 : (stepsAlone p.tables e nn s).heap[ρ 40 x0]? = some (arrV (G.2.2.1 40) (zo_cap len) (fun j => va_rf (va_up (zl_f ρ (gS Ω x0)) len (some (ρ t.1 t.2)) j))) := hPf 1 _ rfl
      rw [hup, ← ecap] at har2
      obtain ⟨hR', hE'⟩ := hR.lst (H' := (stepsAlone p.tables e nn s).heap) (ra := ρ 40 x0) hn ht hFr.1 (fun q hq h1 h2 => hFr.2 q hq (fun z => by
          rcases zl_A2 z with z | z | z
          · exact h1 z
          · exact h2 z
          · omega)) (Or.inl ⟨rfl, hne⟩) (by rw [hL0]; exact hob2) (by rw [hL0]; exact har2)
      exact ⟨_, rfl, hR', hJ.2.2.2.1 _ _ _ hJ0, hE', zo_le.rf, fun v hv => by cases hv; trivial⟩
    · rcases zl_A2 (hL q hq) with z | z | z
      · rw [z]; exact (h4 20 x0 hl20).2.1
      · rw [z]; exact (h4 40 x0 hl40).2.1
      · exact Nat.le_trans hR.1 z
  · by_cases hz : len = 0
    · subst hz
      have hnil : gS Ω x0 = [] := List.eq_nil_of_length_eq_zero hL0
      rw [show zo_kc 0 = 1 from rfl, show zo_ks 0 = 10 from rfl]
      intro p e ha hc hk s m args below hf happ hP _
      obtain ⟨hn, ht, hok⟩ := common (p := p) (e := e) hP
      obtain ⟨rfl, hR, hJ0, hK, hvs⟩ := hP
      have hA := hany hK hR hn hok
      have hob := zl_obj' hR hn
      rw [if_pos hnil, hL0] at hob
      obtain ⟨-, -, -, ⟨own, h4⟩, -⟩ := id hR
      have hl20 : zo_lv Ω 20 x0 := by unfold zo_lv; rw [if_neg (by decide)]; exact hn
      have hnA : ∀ t' ∈ gS Ω x0 ++ [t], ¬ va_A (zl_z1 G (ρ 20 x0) 0) s.heap.size (ρ t'.1 t'.2) := fun t' h' z => by
        rcases zl_A1 z with z | z
        · exact (hA t' h').2.2.1 z
        · have := (hA t' h').2.1; omega
      obtain ⟨nn, o, k1, k2, k3, ⟨⟨r, ra, rfl, rfl, hPf, hDf⟩, hFr⟩, L, hFE, hL⟩ := kc_adz l G s.heap.size (ρ 20 x0) 0 (ρ t.1 t.2) p e ha hc hk s m _ below hf happ
        ⟨rfl, ⟨rfl, zl_P1w hob, zl_one _, hK, fun y hy => by
          have hy : y = ρ t.1 t.2 := hy
          subst hy
          have hm : t ∈ gS Ω x0 ++ [t] := List.mem_append_right _ (List.mem_singleton.mpr rfl)
          exact ⟨hnA t hm, (hA t hm).1⟩, hR.2.1⟩, hR.1, fun k q hq => by
          match k, hq with
          | 0, hq => cases hq; exact (h4 20 x0 hl20).2.1
          | k + 1, hq => cases hq⟩ trivial
      refine ⟨nn, _, k1, k2, k3, ?_, L, hFE, fun q hq => ?_⟩
      · have hob2 := zl_obj (hPf 0 _ rfl) rfl
        have hup := zl_up ρ (gS Ω x0) t
        rw [hL0] at hup
        have har2 : (stepsAlone p.tables e nn s).heap[ra]? = some (arrV (G.2.2.1 40) 10 (fun j => va_rf (va_up (fun _ => none) 0 (some (ρ t.1 t.2)) j))) := hPf 1 _ rfl
        have hz0 : zl_f ρ (gS Ω x0) = fun _ => none := by rw [hnil]; funext i; rfl
        rw [hz0] at hup
        rw [hup] at har2
        have hra : s.heap.size ≤ ra := by
          rcases zl_A1 (hDf.2 1 _ rfl) with z | z
          · exact absurd (hDf.1 0 1 _ _ rfl rfl z.symm) (by decide)
          · exact z
        obtain ⟨hR', hE'⟩ := hR.lst (H' := (stepsAlone p.tables e nn s).heap) (ra := ra) hn ht hFr.1 (fun q hq h1 h2 => hFr.2 q hq (fun z => by
                rcases zl_A1 z with z | z
                · exact h1 z
                · omega)) (Or.inr hra) (by rw [hL0]; exact hob2) (by rw [hL0]; exact har2)
        exact ⟨_, rfl, hR', hJ.2.2.2.1 _ _ _ hJ0, hE', zo_le.rf, fun v hv => by cases hv; trivial⟩
      · rcases zl_A1 (hL q hq) with z | z
        · rw [z]; exact (h4 20 x0 hl20).2.1
        · exact Nat.le_trans hR.1 z
    · have hne : gS Ω x0 ≠ [] := fun q => by rw [q] at hL0; exact hz hL0.symm
      obtain ⟨ecap0, ecap⟩ := zo_cap_grow hroom hz
      have h10 : 10 ≤ len := by have := zo_cap_10 len hz; omega
      have e1 : zo_kc len = 1 := if_neg hroom
      have e2 : zo_ks len = len + len / 2 := (if_neg hroom).trans ecap
      rw [e1, e2]
      intro p e ha hc hk s m args below hf happ hP _
      obtain ⟨hn, ht, hok⟩ := common (p := p) (e := e) hP
      obtain ⟨rfl, hR, hJ0, hK, hvs⟩ := hP
      have hA := hany hK hR hn hok
      have hob := zl_obj' hR hn
      rw [if_neg hne, hL0] at hob
      have hac := zl_arr' hR hn hne
      rw [hL0, ecap0] at hac
      have hl40 : zo_lv Ω 40 x0 := by unfold zo_lv; rw [if_pos rfl]; exact ⟨hn, hne⟩
      obtain ⟨-, -, -, ⟨own, h4⟩, -⟩ := id hR
      have hl20 : zo_lv Ω 20 x0 := by unfold zo_lv; rw [if_neg (by decide)]; exact hn
      have hba : ρ 20 x0 ≠ ρ 40 x0 := fun q => by
        have g1 := (h4 20 x0 hl20).1
        rw [q, (h4 40 x0 hl40).1] at g1
        cases g1
      have hnA : ∀ t' ∈ gS Ω x0 ++ [t], ¬ va_A (zl_w1 G (ρ 20 x0) len (ρ 40 x0) len (zl_f ρ (gS Ω x0))) s.heap.size (ρ t'.1 t'.2) := fun t' h' z => by
        rcases zl_A2 z with z | z | z
        · exact (hA t' h').2.2.1 z
        · exact (hA t' h').2.2.2 hne z
        · have := (hA t' h').2.1; omega
      obtain ⟨nn, o, k1, k2, k3, ⟨⟨r, ra, rfl, rfl, hPf, hDf⟩, hFr⟩, L, hFE, hL⟩ := kc_adg l G s.heap.size (ρ 20 x0) len (ρ 40 x0) len (zl_f ρ (gS Ω x0)) (ρ t.1 t.2) h10 (by omega) p e ha hc hk s m _ below hf happ
        ⟨rfl, ⟨rfl, zl_P2w hob hac, zl_two hba, hK, fun y hy => by
          rcases hy with ⟨i, hi⟩ | rfl
          · obtain ⟨t', h1, rfl⟩ := Option.map_eq_some_iff.mp hi
            have hm := List.mem_append_left [t] (List.mem_of_getElem? h1)
            exact ⟨hnA t' hm, (hA t' hm).1⟩
          · have hm : t ∈ gS Ω x0 ++ [t] := List.mem_append_right _ (List.mem_singleton.mpr rfl)
            exact ⟨hnA t hm, (hA t hm).1⟩, hR.2.1⟩, hR.1, fun k q hq => by
          match k, hq with
          | 0, hq => cases hq; exact (h4 20 x0 hl20).2.1
          | 1, hq => cases hq; exact (h4 40 x0 hl40).2.1
          | k + 2, hq => cases hq⟩ trivial
      refine ⟨nn, _, k1, k2, k3, ?_, L, hFE, fun q hq => ?_⟩
      · have hob2 := zl_obj (hPf 0 _ rfl) rfl
        have hup := zl_up ρ (gS Ω x0) t
        rw [hL0] at hup
        have hcp := zl_cpy ρ (gS Ω x0)
        rw [hL0] at hcp
        have har2 : (stepsAlone p.tables e nn s).heap[ra]? = some (arrV (G.2.2.1 40) (len + len / 2) (fun j => va_rf (va_up (va_cpy (zl_f ρ (gS Ω x0)) (fun _ => none) 0 0 len) len (some (ρ t.1 t.2)) j))) := hPf 2 _ rfl
        rw [hcp, hup, ← ecap] at har2
        have hra : s.heap.size ≤ ra := by
          rcases zl_A2 (hDf.2 2 _ rfl) with z | z | z
          · exact absurd (hDf.1 0 2 _ _ rfl rfl z.symm) (by decide)
          · exact absurd (hDf.1 1 2 _ _ rfl rfl z.symm) (by decide)
          · exact z
        obtain ⟨hR', hE'⟩ := hR.lst (H' := (stepsAlone p.tables e nn s).heap) (ra := ra) hn ht hFr.1 (fun q hq h1 h2 => by
            by_cases hqa : q = ρ 40 x0
            · subst hqa
              have g1 : (stepsAlone p.tables e nn s).heap[ρ 40 x0]? = _ := hPf 1 _ rfl
              have g2 : s.heap[ρ 40 x0]? = _ := hac
              exact g1.trans g2.symm
            · exact hFr.2 q hq (fun z => by
                rcases zl_A2 z with z | z | z
                · exact h1 z
                · exact hqa z
                · omega)) (Or.inr hra) (by rw [hL0]; exact hob2) (by rw [hL0]; exact har2)
        exact ⟨_, rfl, hR', hJ.2.2.2.1 _ _ _ hJ0, hE', zo_le.rf, fun v hv => by cases hv; trivial⟩
      · rcases zl_A2 (hL q hq) with z | z | z
        · rw [z]; exact (h4 20 x0 hl20).2.1
        · rw [z]; exact (h4 40 x0 hl40).2.1
        · exact Nat.le_trans hR.1 z
