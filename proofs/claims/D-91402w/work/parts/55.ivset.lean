/-! ===== the setters keep what ties X to M ===== -/
theorem vp_nb {g : Int32} (h : g = 0 ∨ g = 1) : vp_nar .boolean g = g := by rcases h with rfl | rfl <;> rfl
theorem iv_site_L {Ω : zo_O} {a b p y : Int32} (hL : IvL Ω) (hn : gC Ω 2 < 14) (hg : (0 ≤ a ∧ a ≤ 1) ∧ (0 ≤ b ∧ b ≤ 2) ∧ (0 ≤ p ∧ p ≤ 999) ∧ (y = -1 ∨ (1000 ≤ y ∧ y ≤ 2100))) : IvL (m_siteW (x_siteW Ω (gC Ω 2) a b p y) (gC Ω 2) a b p y) := by
  intro k h1 h2
  have := hL k h1 h2
  have hk : k = 2 ∨ k = 3 ∨ k = 4 ∨ k = 5 ∨ k = 6 ∨ k = 7 ∨ k = 8 := by omega
  rcases hk with rfl | rfl | rfl | rfl | rfl | rfl | rfl <;> simp_all [m_siteW, x_siteW, gC_sI, gC_sS, gC_sR, gC_nw, gS_sI, gS_sS, gS_sR, gS_nw, gI_sI, gI_sS, gI_sR, gI_nw, gR_sI, gR_sS, gR_sR, gR_nw, iv_cf, iv_cap] <;> omega
theorem iv_site_F {Ω : zo_O} {a b p y : Int32} (hF : IvF Ω) (hZ : IvZ Ω) (hn : gC Ω 2 < 14) (hg : (0 ≤ a ∧ a ≤ 1) ∧ (0 ≤ b ∧ b ≤ 2) ∧ (0 ≤ p ∧ p ≤ 999) ∧ (y = -1 ∨ (1000 ≤ y ∧ y ≤ 2100))) : IvF (m_siteW (x_siteW Ω (gC Ω 2) a b p y) (gC Ω 2) a b p y) := by
  intro q hq i hi
  have := hF q hq i
  simp only [iv_cols, List.mem_cons, List.not_mem_nil, or_false] at hq
  rcases hq with rfl | rfl | rfl | rfl | rfl | rfl | rfl | rfl | rfl | rfl | rfl | rfl | rfl | rfl | rfl | rfl | rfl | rfl | rfl | rfl | rfl | rfl | rfl | rfl | rfl | rfl | rfl | rfl | rfl | rfl <;> simp [m_siteW, x_siteW, gC_sI, gC_sS, gC_sR, gC_nw, gS_sI, gS_sS, gS_sR, gS_nw, gI_sI, gI_sS, gI_sR, gI_nw, gR_sI, gR_sS, gR_sR, gR_nw] at hi this ⊢ <;> first | grind | (unfold IvZ at hZ; grind)
theorem iv_site_S {Ω : zo_O} {a b p y : Int32} (hS : IvS Ω) (hZ : IvZ Ω) (hn : gC Ω 2 < 14) (hg : (0 ≤ a ∧ a ≤ 1) ∧ (0 ≤ b ∧ b ≤ 2) ∧ (0 ≤ p ∧ p ≤ 999) ∧ (y = -1 ∨ (1000 ≤ y ∧ y ≤ 2100))) : IvS (m_siteW (x_siteW Ω (gC Ω 2) a b p y) (gC Ω 2) a b p y) := by
  obtain ⟨z1, -, -, -, -, -, -, ⟨z2, z3⟩, -⟩ := hZ
  intro i hi
  by_cases e : i = gC Ω 2
  · subst e
    simp [m_siteW, x_siteW, gC_sI, gC_sS, gC_sR, gC_nw, gS_sI, gS_sS, gS_sR, gS_nw, gI_sI, gI_sS, gI_sR, gI_nw, gR_sI, gR_sS, gR_sR, gR_nw, hg, z2]
  · have hi' : i < gC Ω 2 := by simp [m_siteW, x_siteW, gC_sI, gC_sS, gC_sR, gC_nw, gS_sI, gS_sS, gS_sR, gS_nw, gI_sI, gI_sS, gI_sR, gI_nw, gR_sI, gR_sS, gR_sR, gR_nw] at hi; omega
    have := hS i hi'
    simp [m_siteW, x_siteW, gC_sI, gC_sS, gC_sR, gC_nw, gS_sI, gS_sS, gS_sR, gS_nw, gI_sI, gI_sS, gI_sR, gI_nw, gR_sI, gR_sS, gR_sR, gR_nw, e]
    exact this
theorem iv_site_C {Ω : zo_O} {a b p y : Int32} (hC : IvC Ω) (hS : IvS Ω) (hZ : IvZ Ω) (hn : gC Ω 2 < 14) (hg : (0 ≤ a ∧ a ≤ 1) ∧ (0 ≤ b ∧ b ≤ 2) ∧ (0 ≤ p ∧ p ≤ 999) ∧ (y = -1 ∨ (1000 ≤ y ∧ y ≤ 2100))) : IvC (m_siteW (x_siteW Ω (gC Ω 2) a b p y) (gC Ω 2) a b p y) := by
  obtain ⟨z1, -, -, -, -, -, -, ⟨z2, z3⟩, -⟩ := hZ
  intro i hi
  obtain ⟨s0, h1, h2⟩ := hC i (by simp [m_siteW, x_siteW, gC_sI, gC_sS, gC_sR, gC_nw, gS_sI, gS_sS, gS_sR, gS_nw, gI_sI, gI_sS, gI_sR, gI_nw, gR_sI, gR_sS, gR_sR, gR_nw] at hi; omega)
  refine ⟨s0, by simp [m_siteW, x_siteW, gC_sI, gC_sS, gC_sR, gC_nw, gS_sI, gS_sS, gS_sR, gS_nw, gI_sI, gI_sS, gI_sR, gI_nw, gR_sI, gR_sS, gR_sR, gR_nw]; omega, ?_⟩
  have hne : s0 ≠ gC Ω 2 := by omega
  simpa [m_siteW, x_siteW, gC_sI, gC_sS, gC_sR, gC_nw, gS_sI, gS_sS, gS_sR, gS_nw, gI_sI, gI_sS, gI_sR, gI_nw, gR_sI, gR_sS, gR_sR, gR_nw, hne] using h2
theorem iv_site_O {Ω : zo_O} {a b p y : Int32} (hO : IvO Ω) (hS : IvS Ω) (hZ : IvZ Ω) (hn : gC Ω 2 < 14) (hg : (0 ≤ a ∧ a ≤ 1) ∧ (0 ≤ b ∧ b ≤ 2) ∧ (0 ≤ p ∧ p ≤ 999) ∧ (y = -1 ∨ (1000 ≤ y ∧ y ≤ 2100))) : IvO (m_siteW (x_siteW Ω (gC Ω 2) a b p y) (gC Ω 2) a b p y) := by
  obtain ⟨z1, -, -, -, -, -, -, ⟨z2, z3⟩, -⟩ := hZ
  obtain ⟨o1, o2, o3, o4, o5⟩ := hO
  refine ⟨fun i hi => ?_, fun i hi => ?_, fun i hi => ?_, fun i hi => ?_, fun i hi => ?_⟩
  · have hi' : i < gC Ω 4 := by simp [m_siteW, x_siteW, gC_sI, gC_sS, gC_sR, gC_nw, gS_sI, gS_sS, gS_sR, gS_nw, gI_sI, gI_sS, gI_sR, gI_nw, gR_sI, gR_sS, gR_sR, gR_nw] at hi; omega
    have := o1 i hi'
    simp [m_siteW, x_siteW, gC_sI, gC_sS, gC_sR, gC_nw, gS_sI, gS_sS, gS_sR, gS_nw, gI_sI, gI_sS, gI_sR, gI_nw, gR_sI, gR_sS, gR_sR, gR_nw]
    exact this
  · have hi' : i < gC Ω 5 := by simp [m_siteW, x_siteW, gC_sI, gC_sS, gC_sR, gC_nw, gS_sI, gS_sS, gS_sR, gS_nw, gI_sI, gI_sS, gI_sR, gI_nw, gR_sI, gR_sS, gR_sR, gR_nw] at hi; omega
    have := o2 i hi'
    simp [m_siteW, x_siteW, gC_sI, gC_sS, gC_sR, gC_nw, gS_sI, gS_sS, gS_sR, gS_nw, gI_sI, gI_sS, gI_sR, gI_nw, gR_sI, gR_sS, gR_sR, gR_nw]
    exact this
  · have hi' : i < gC Ω 6 := by simp [m_siteW, x_siteW, gC_sI, gC_sS, gC_sR, gC_nw, gS_sI, gS_sS, gS_sR, gS_nw, gI_sI, gI_sS, gI_sR, gI_nw, gR_sI, gR_sS, gR_sR, gR_nw] at hi; omega
    have := o3 i hi'
    simp [m_siteW, x_siteW, gC_sI, gC_sS, gC_sR, gC_nw, gS_sI, gS_sS, gS_sR, gS_nw, gI_sI, gI_sS, gI_sR, gI_nw, gR_sI, gR_sS, gR_sR, gR_nw]
    exact this
  · obtain ⟨a0, b0, h1, h2, h3⟩ := o4 i (by simp [m_siteW, x_siteW, gC_sI, gC_sS, gC_sR, gC_nw, gS_sI, gS_sS, gS_sR, gS_nw, gI_sI, gI_sS, gI_sR, gI_nw, gR_sI, gR_sS, gR_sR, gR_nw] at hi; omega)
    refine ⟨a0, b0, by simp [m_siteW, x_siteW, gC_sI, gC_sS, gC_sR, gC_nw, gS_sI, gS_sS, gS_sR, gS_nw, gI_sI, gI_sS, gI_sR, gI_nw, gR_sI, gR_sS, gR_sR, gR_nw]; omega, by simp [m_siteW, x_siteW, gC_sI, gC_sS, gC_sR, gC_nw, gS_sI, gS_sS, gS_sR, gS_nw, gI_sI, gI_sS, gI_sR, gI_nw, gR_sI, gR_sS, gR_sR, gR_nw]; omega, ?_⟩
    have hne : a0 ≠ gC Ω 2 := by omega
    have hne2 : b0 ≠ gC Ω 2 := by omega
    simpa [m_siteW, x_siteW, gC_sI, gC_sS, gC_sR, gC_nw, gS_sI, gS_sS, gS_sR, gS_nw, gI_sI, gI_sS, gI_sR, gI_nw, gR_sI, gR_sS, gR_sR, gR_nw, hne, hne2] using h3
  · obtain ⟨a0, b0, h1, h2, h3⟩ := o5 i (by simp [m_siteW, x_siteW, gC_sI, gC_sS, gC_sR, gC_nw, gS_sI, gS_sS, gS_sR, gS_nw, gI_sI, gI_sS, gI_sR, gI_nw, gR_sI, gR_sS, gR_sR, gR_nw] at hi; omega)
    refine ⟨a0, b0, by simp [m_siteW, x_siteW, gC_sI, gC_sS, gC_sR, gC_nw, gS_sI, gS_sS, gS_sR, gS_nw, gI_sI, gI_sS, gI_sR, gI_nw, gR_sI, gR_sS, gR_sR, gR_nw]; omega, by simp [m_siteW, x_siteW, gC_sI, gC_sS, gC_sR, gC_nw, gS_sI, gS_sS, gS_sR, gS_nw, gI_sI, gI_sS, gI_sR, gI_nw, gR_sI, gR_sS, gR_sR, gR_nw]; omega, ?_⟩
    simpa [m_siteW, x_siteW, gC_sI, gC_sS, gC_sR, gC_nw, gS_sI, gS_sS, gS_sR, gS_nw, gI_sI, gI_sS, gI_sR, gI_nw, gR_sI, gR_sS, gR_sR, gR_nw] using h3
theorem iv_site_Z {Ω : zo_O} {a b p y : Int32} (hZ : IvZ Ω) (hn : gC Ω 2 < 14) (hg : (0 ≤ a ∧ a ≤ 1) ∧ (0 ≤ b ∧ b ≤ 2) ∧ (0 ≤ p ∧ p ≤ 999) ∧ (y = -1 ∨ (1000 ≤ y ∧ y ≤ 2100))) : IvZ (m_siteW (x_siteW Ω (gC Ω 2) a b p y) (gC Ω 2) a b p y) := by
  unfold IvZ at hZ ⊢
  simp [m_siteW, x_siteW, gC_sI, gC_sS, gC_sR, gC_nw, gS_sI, gS_sS, gS_sR, gS_nw, gI_sI, gI_sS, gI_sR, gI_nw, gR_sI, gR_sS, gR_sR, gR_nw] at hZ ⊢
  exact hZ
theorem iv_circle_L {Ω : zo_O} {s : Nat} {b p q r y g : Int32} (hL : IvL Ω) (hn : gC Ω 3 < 120) (hs : s < gC Ω 2) (hb : g = 0 ∨ g = 1) (hg : (0 ≤ b ∧ b ≤ 2) ∧ (0 ≤ p ∧ p ≤ 4) ∧ (1 ≤ q ∧ q ≤ 2000) ∧ (1 ≤ r ∧ r ≤ q) ∧ (1000 ≤ y ∧ y ≤ 2100)) : IvL (m_circleW (x_circleW Ω (gC Ω 3) s b p q r y g) (gC Ω 3) (nI s) b p q r y g) := by
  intro k h1 h2
  have := hL k h1 h2
  have hk : k = 2 ∨ k = 3 ∨ k = 4 ∨ k = 5 ∨ k = 6 ∨ k = 7 ∨ k = 8 := by omega
  rcases hk with rfl | rfl | rfl | rfl | rfl | rfl | rfl <;> simp_all [m_circleW, x_circleW, gC_sI, gC_sS, gC_sR, gC_nw, gS_sI, gS_sS, gS_sR, gS_nw, gI_sI, gI_sS, gI_sR, gI_nw, gR_sI, gR_sS, gR_sR, gR_nw, iv_cf, iv_cap] <;> omega
theorem iv_circle_F {Ω : zo_O} {s : Nat} {b p q r y g : Int32} (hF : IvF Ω) (hZ : IvZ Ω) (hn : gC Ω 3 < 120) (hs : s < gC Ω 2) (hb : g = 0 ∨ g = 1) (hg : (0 ≤ b ∧ b ≤ 2) ∧ (0 ≤ p ∧ p ≤ 4) ∧ (1 ≤ q ∧ q ≤ 2000) ∧ (1 ≤ r ∧ r ≤ q) ∧ (1000 ≤ y ∧ y ≤ 2100)) : IvF (m_circleW (x_circleW Ω (gC Ω 3) s b p q r y g) (gC Ω 3) (nI s) b p q r y g) := by
  intro q hq i hi
  have := hF q hq i
  simp only [iv_cols, List.mem_cons, List.not_mem_nil, or_false] at hq
  rcases hq with rfl | rfl | rfl | rfl | rfl | rfl | rfl | rfl | rfl | rfl | rfl | rfl | rfl | rfl | rfl | rfl | rfl | rfl | rfl | rfl | rfl | rfl | rfl | rfl | rfl | rfl | rfl | rfl | rfl | rfl <;> simp [m_circleW, x_circleW, gC_sI, gC_sS, gC_sR, gC_nw, gS_sI, gS_sS, gS_sR, gS_nw, gI_sI, gI_sS, gI_sR, gI_nw, gR_sI, gR_sS, gR_sR, gR_nw] at hi this ⊢ <;> first | grind | (unfold IvZ at hZ; grind)
theorem iv_circle_S {Ω : zo_O} {s : Nat} {b p q r y g : Int32} (hS : IvS Ω) (hZ : IvZ Ω) (hn : gC Ω 3 < 120) (hs : s < gC Ω 2) (hb : g = 0 ∨ g = 1) (hg : (0 ≤ b ∧ b ≤ 2) ∧ (0 ≤ p ∧ p ≤ 4) ∧ (1 ≤ q ∧ q ≤ 2000) ∧ (1 ≤ r ∧ r ≤ q) ∧ (1000 ≤ y ∧ y ≤ 2100)) : IvS (m_circleW (x_circleW Ω (gC Ω 3) s b p q r y g) (gC Ω 3) (nI s) b p q r y g) := by
  obtain ⟨z1, -, -, -, -, -, -, ⟨z2, z3⟩, -⟩ := hZ
  intro i hi
  have hi' : i < gC Ω 2 := by simp [m_circleW, x_circleW, gC_sI, gC_sS, gC_sR, gC_nw, gS_sI, gS_sS, gS_sR, gS_nw, gI_sI, gI_sS, gI_sR, gI_nw, gR_sI, gR_sS, gR_sR, gR_nw] at hi; omega
  have := hS i hi'
  simp [m_circleW, x_circleW, gC_sI, gC_sS, gC_sR, gC_nw, gS_sI, gS_sS, gS_sR, gS_nw, gI_sI, gI_sS, gI_sR, gI_nw, gR_sI, gR_sS, gR_sR, gR_nw]
  exact this
theorem iv_circle_C {Ω : zo_O} {s : Nat} {b p q r y g : Int32} (hC : IvC Ω) (hS : IvS Ω) (hZ : IvZ Ω) (hn : gC Ω 3 < 120) (hs : s < gC Ω 2) (hb : g = 0 ∨ g = 1) (hg : (0 ≤ b ∧ b ≤ 2) ∧ (0 ≤ p ∧ p ≤ 4) ∧ (1 ≤ q ∧ q ≤ 2000) ∧ (1 ≤ r ∧ r ≤ q) ∧ (1000 ≤ y ∧ y ≤ 2100)) : IvC (m_circleW (x_circleW Ω (gC Ω 3) s b p q r y g) (gC Ω 3) (nI s) b p q r y g) := by
  obtain ⟨z1, -, -, -, -, -, -, ⟨z2, z3⟩, -⟩ := hZ
  intro i hi
  by_cases e : i = gC Ω 3
  · subst e
    refine ⟨s, by simp [m_circleW, x_circleW, gC_sI, gC_sS, gC_sR, gC_nw, gS_sI, gS_sS, gS_sR, gS_nw, gI_sI, gI_sS, gI_sR, gI_nw, gR_sI, gR_sS, gR_sR, gR_nw]; omega, ?_⟩
    have := (hS s hs).2.2.2.2.2.2
    simp [m_circleW, x_circleW, gC_sI, gC_sS, gC_sR, gC_nw, gS_sI, gS_sS, gS_sR, gS_nw, gI_sI, gI_sS, gI_sR, gI_nw, gR_sI, gR_sS, gR_sR, gR_nw, vp_nb hb, hg, hb, z1, this]
  · obtain ⟨s0, h1, h2⟩ := hC i (by simp [m_circleW, x_circleW, gC_sI, gC_sS, gC_sR, gC_nw, gS_sI, gS_sS, gS_sR, gS_nw, gI_sI, gI_sS, gI_sR, gI_nw, gR_sI, gR_sS, gR_sR, gR_nw] at hi; omega)
    refine ⟨s0, by simp [m_circleW, x_circleW, gC_sI, gC_sS, gC_sR, gC_nw, gS_sI, gS_sS, gS_sR, gS_nw, gI_sI, gI_sS, gI_sR, gI_nw, gR_sI, gR_sS, gR_sR, gR_nw]; omega, ?_⟩
    have hne : s0 ≠ gC Ω 2 := by omega
    simpa [m_circleW, x_circleW, gC_sI, gC_sS, gC_sR, gC_nw, gS_sI, gS_sS, gS_sR, gS_nw, gI_sI, gI_sS, gI_sR, gI_nw, gR_sI, gR_sS, gR_sR, gR_nw, hne, e] using h2
theorem iv_circle_O {Ω : zo_O} {s : Nat} {b p q r y g : Int32} (hO : IvO Ω) (hS : IvS Ω) (hZ : IvZ Ω) (hn : gC Ω 3 < 120) (hs : s < gC Ω 2) (hb : g = 0 ∨ g = 1) (hg : (0 ≤ b ∧ b ≤ 2) ∧ (0 ≤ p ∧ p ≤ 4) ∧ (1 ≤ q ∧ q ≤ 2000) ∧ (1 ≤ r ∧ r ≤ q) ∧ (1000 ≤ y ∧ y ≤ 2100)) : IvO (m_circleW (x_circleW Ω (gC Ω 3) s b p q r y g) (gC Ω 3) (nI s) b p q r y g) := by
  obtain ⟨z1, -, -, -, -, -, -, ⟨z2, z3⟩, -⟩ := hZ
  obtain ⟨o1, o2, o3, o4, o5⟩ := hO
  refine ⟨fun i hi => ?_, fun i hi => ?_, fun i hi => ?_, fun i hi => ?_, fun i hi => ?_⟩
  · have hi' : i < gC Ω 4 := by simp [m_circleW, x_circleW, gC_sI, gC_sS, gC_sR, gC_nw, gS_sI, gS_sS, gS_sR, gS_nw, gI_sI, gI_sS, gI_sR, gI_nw, gR_sI, gR_sS, gR_sR, gR_nw] at hi; omega
    have := o1 i hi'
    simp [m_circleW, x_circleW, gC_sI, gC_sS, gC_sR, gC_nw, gS_sI, gS_sS, gS_sR, gS_nw, gI_sI, gI_sS, gI_sR, gI_nw, gR_sI, gR_sS, gR_sR, gR_nw]
    exact this
  · have hi' : i < gC Ω 5 := by simp [m_circleW, x_circleW, gC_sI, gC_sS, gC_sR, gC_nw, gS_sI, gS_sS, gS_sR, gS_nw, gI_sI, gI_sS, gI_sR, gI_nw, gR_sI, gR_sS, gR_sR, gR_nw] at hi; omega
    have := o2 i hi'
    simp [m_circleW, x_circleW, gC_sI, gC_sS, gC_sR, gC_nw, gS_sI, gS_sS, gS_sR, gS_nw, gI_sI, gI_sS, gI_sR, gI_nw, gR_sI, gR_sS, gR_sR, gR_nw]
    exact this
  · have hi' : i < gC Ω 6 := by simp [m_circleW, x_circleW, gC_sI, gC_sS, gC_sR, gC_nw, gS_sI, gS_sS, gS_sR, gS_nw, gI_sI, gI_sS, gI_sR, gI_nw, gR_sI, gR_sS, gR_sR, gR_nw] at hi; omega
    have := o3 i hi'
    simp [m_circleW, x_circleW, gC_sI, gC_sS, gC_sR, gC_nw, gS_sI, gS_sS, gS_sR, gS_nw, gI_sI, gI_sS, gI_sR, gI_nw, gR_sI, gR_sS, gR_sR, gR_nw]
    exact this
  · obtain ⟨a0, b0, h1, h2, h3⟩ := o4 i (by simp [m_circleW, x_circleW, gC_sI, gC_sS, gC_sR, gC_nw, gS_sI, gS_sS, gS_sR, gS_nw, gI_sI, gI_sS, gI_sR, gI_nw, gR_sI, gR_sS, gR_sR, gR_nw] at hi; omega)
    refine ⟨a0, b0, by simp [m_circleW, x_circleW, gC_sI, gC_sS, gC_sR, gC_nw, gS_sI, gS_sS, gS_sR, gS_nw, gI_sI, gI_sS, gI_sR, gI_nw, gR_sI, gR_sS, gR_sR, gR_nw]; omega, by simp [m_circleW, x_circleW, gC_sI, gC_sS, gC_sR, gC_nw, gS_sI, gS_sS, gS_sR, gS_nw, gI_sI, gI_sS, gI_sR, gI_nw, gR_sI, gR_sS, gR_sR, gR_nw]; omega, ?_⟩
    have hne : a0 ≠ gC Ω 2 := by omega
    have hne2 : b0 ≠ gC Ω 2 := by omega
    simpa [m_circleW, x_circleW, gC_sI, gC_sS, gC_sR, gC_nw, gS_sI, gS_sS, gS_sR, gS_nw, gI_sI, gI_sS, gI_sR, gI_nw, gR_sI, gR_sS, gR_sR, gR_nw, hne, hne2] using h3
  · obtain ⟨a0, b0, h1, h2, h3⟩ := o5 i (by simp [m_circleW, x_circleW, gC_sI, gC_sS, gC_sR, gC_nw, gS_sI, gS_sS, gS_sR, gS_nw, gI_sI, gI_sS, gI_sR, gI_nw, gR_sI, gR_sS, gR_sR, gR_nw] at hi; omega)
    refine ⟨a0, b0, by simp [m_circleW, x_circleW, gC_sI, gC_sS, gC_sR, gC_nw, gS_sI, gS_sS, gS_sR, gS_nw, gI_sI, gI_sS, gI_sR, gI_nw, gR_sI, gR_sS, gR_sR, gR_nw]; omega, by simp [m_circleW, x_circleW, gC_sI, gC_sS, gC_sR, gC_nw, gS_sI, gS_sS, gS_sR, gS_nw, gI_sI, gI_sS, gI_sR, gI_nw, gR_sI, gR_sS, gR_sR, gR_nw]; omega, ?_⟩
    simpa [m_circleW, x_circleW, gC_sI, gC_sS, gC_sR, gC_nw, gS_sI, gS_sS, gS_sR, gS_nw, gI_sI, gI_sS, gI_sR, gI_nw, gR_sI, gR_sS, gR_sR, gR_nw] using h3
theorem iv_circle_Z {Ω : zo_O} {s : Nat} {b p q r y g : Int32} (hZ : IvZ Ω) (hn : gC Ω 3 < 120) (hs : s < gC Ω 2) (hb : g = 0 ∨ g = 1) (hg : (0 ≤ b ∧ b ≤ 2) ∧ (0 ≤ p ∧ p ≤ 4) ∧ (1 ≤ q ∧ q ≤ 2000) ∧ (1 ≤ r ∧ r ≤ q) ∧ (1000 ≤ y ∧ y ≤ 2100)) : IvZ (m_circleW (x_circleW Ω (gC Ω 3) s b p q r y g) (gC Ω 3) (nI s) b p q r y g) := by
  unfold IvZ at hZ ⊢
  simp [m_circleW, x_circleW, gC_sI, gC_sS, gC_sR, gC_nw, gS_sI, gS_sS, gS_sR, gS_nw, gI_sI, gI_sS, gI_sR, gI_nw, gR_sI, gR_sS, gR_sR, gR_nw] at hZ ⊢
  exact hZ
theorem iv_looked_L {Ω : zo_O} {a b p : Int32} (hL : IvL Ω) (hn : gC Ω 4 < 100) (hg : (0 ≤ b ∧ b ≤ 2) ∧ (0 ≤ p ∧ p ≤ 999)) : IvL (m_lookedW (x_obj4 Ω 2 4 (gC Ω 4) a b p) (gC Ω 4) a b p) := by
  intro k h1 h2
  have := hL k h1 h2
  have hk : k = 2 ∨ k = 3 ∨ k = 4 ∨ k = 5 ∨ k = 6 ∨ k = 7 ∨ k = 8 := by omega
  rcases hk with rfl | rfl | rfl | rfl | rfl | rfl | rfl <;> simp_all [m_lookedW, x_obj4, gC_sI, gC_sS, gC_sR, gC_nw, gS_sI, gS_sS, gS_sR, gS_nw, gI_sI, gI_sS, gI_sR, gI_nw, gR_sI, gR_sS, gR_sR, gR_nw, iv_cf, iv_cap] <;> omega
theorem iv_looked_F {Ω : zo_O} {a b p : Int32} (hF : IvF Ω) (hZ : IvZ Ω) (hn : gC Ω 4 < 100) (hg : (0 ≤ b ∧ b ≤ 2) ∧ (0 ≤ p ∧ p ≤ 999)) : IvF (m_lookedW (x_obj4 Ω 2 4 (gC Ω 4) a b p) (gC Ω 4) a b p) := by
  intro q hq i hi
  have := hF q hq i
  simp only [iv_cols, List.mem_cons, List.not_mem_nil, or_false] at hq
  rcases hq with rfl | rfl | rfl | rfl | rfl | rfl | rfl | rfl | rfl | rfl | rfl | rfl | rfl | rfl | rfl | rfl | rfl | rfl | rfl | rfl | rfl | rfl | rfl | rfl | rfl | rfl | rfl | rfl | rfl | rfl <;> simp [m_lookedW, x_obj4, gC_sI, gC_sS, gC_sR, gC_nw, gS_sI, gS_sS, gS_sR, gS_nw, gI_sI, gI_sS, gI_sR, gI_nw, gR_sI, gR_sS, gR_sR, gR_nw] at hi this ⊢ <;> first | grind | (unfold IvZ at hZ; grind)
theorem iv_looked_S {Ω : zo_O} {a b p : Int32} (hS : IvS Ω) (hZ : IvZ Ω) (hn : gC Ω 4 < 100) (hg : (0 ≤ b ∧ b ≤ 2) ∧ (0 ≤ p ∧ p ≤ 999)) : IvS (m_lookedW (x_obj4 Ω 2 4 (gC Ω 4) a b p) (gC Ω 4) a b p) := by
  obtain ⟨z1, -, -, -, -, -, -, ⟨z2, z3⟩, -⟩ := hZ
  intro i hi
  have hi' : i < gC Ω 2 := by simp [m_lookedW, x_obj4, gC_sI, gC_sS, gC_sR, gC_nw, gS_sI, gS_sS, gS_sR, gS_nw, gI_sI, gI_sS, gI_sR, gI_nw, gR_sI, gR_sS, gR_sR, gR_nw] at hi; omega
  have := hS i hi'
  simp [m_lookedW, x_obj4, gC_sI, gC_sS, gC_sR, gC_nw, gS_sI, gS_sS, gS_sR, gS_nw, gI_sI, gI_sS, gI_sR, gI_nw, gR_sI, gR_sS, gR_sR, gR_nw]
  exact this
theorem iv_looked_C {Ω : zo_O} {a b p : Int32} (hC : IvC Ω) (hS : IvS Ω) (hZ : IvZ Ω) (hn : gC Ω 4 < 100) (hg : (0 ≤ b ∧ b ≤ 2) ∧ (0 ≤ p ∧ p ≤ 999)) : IvC (m_lookedW (x_obj4 Ω 2 4 (gC Ω 4) a b p) (gC Ω 4) a b p) := by
  obtain ⟨z1, -, -, -, -, -, -, ⟨z2, z3⟩, -⟩ := hZ
  intro i hi
  obtain ⟨s0, h1, h2⟩ := hC i (by simp [m_lookedW, x_obj4, gC_sI, gC_sS, gC_sR, gC_nw, gS_sI, gS_sS, gS_sR, gS_nw, gI_sI, gI_sS, gI_sR, gI_nw, gR_sI, gR_sS, gR_sR, gR_nw] at hi; omega)
  refine ⟨s0, by simp [m_lookedW, x_obj4, gC_sI, gC_sS, gC_sR, gC_nw, gS_sI, gS_sS, gS_sR, gS_nw, gI_sI, gI_sS, gI_sR, gI_nw, gR_sI, gR_sS, gR_sR, gR_nw]; omega, ?_⟩
  have hne : s0 ≠ gC Ω 2 := by omega
  simpa [m_lookedW, x_obj4, gC_sI, gC_sS, gC_sR, gC_nw, gS_sI, gS_sS, gS_sR, gS_nw, gI_sI, gI_sS, gI_sR, gI_nw, gR_sI, gR_sS, gR_sR, gR_nw, hne] using h2
theorem iv_looked_O {Ω : zo_O} {a b p : Int32} (hO : IvO Ω) (hS : IvS Ω) (hZ : IvZ Ω) (hn : gC Ω 4 < 100) (hg : (0 ≤ b ∧ b ≤ 2) ∧ (0 ≤ p ∧ p ≤ 999)) : IvO (m_lookedW (x_obj4 Ω 2 4 (gC Ω 4) a b p) (gC Ω 4) a b p) := by
  obtain ⟨z1, -, -, -, -, -, -, ⟨z2, z3⟩, -⟩ := hZ
  obtain ⟨o1, o2, o3, o4, o5⟩ := hO
  refine ⟨fun i hi => ?_, fun i hi => ?_, fun i hi => ?_, fun i hi => ?_, fun i hi => ?_⟩
  · by_cases e : i = gC Ω 4
    · subst e
      simp [m_lookedW, x_obj4, gC_sI, gC_sS, gC_sR, gC_nw, gS_sI, gS_sS, gS_sR, gS_nw, gI_sI, gI_sS, gI_sR, gI_nw, gR_sI, gR_sS, gR_sR, gR_nw, hg]
    · have hi' : i < gC Ω 4 := by simp [m_lookedW, x_obj4, gC_sI, gC_sS, gC_sR, gC_nw, gS_sI, gS_sS, gS_sR, gS_nw, gI_sI, gI_sS, gI_sR, gI_nw, gR_sI, gR_sS, gR_sR, gR_nw] at hi; omega
      have := o1 i hi'
      simp [m_lookedW, x_obj4, gC_sI, gC_sS, gC_sR, gC_nw, gS_sI, gS_sS, gS_sR, gS_nw, gI_sI, gI_sS, gI_sR, gI_nw, gR_sI, gR_sS, gR_sR, gR_nw, e]
      exact this
  · have hi' : i < gC Ω 5 := by simp [m_lookedW, x_obj4, gC_sI, gC_sS, gC_sR, gC_nw, gS_sI, gS_sS, gS_sR, gS_nw, gI_sI, gI_sS, gI_sR, gI_nw, gR_sI, gR_sS, gR_sR, gR_nw] at hi; omega
    have := o2 i hi'
    simp [m_lookedW, x_obj4, gC_sI, gC_sS, gC_sR, gC_nw, gS_sI, gS_sS, gS_sR, gS_nw, gI_sI, gI_sS, gI_sR, gI_nw, gR_sI, gR_sS, gR_sR, gR_nw]
    exact this
  · have hi' : i < gC Ω 6 := by simp [m_lookedW, x_obj4, gC_sI, gC_sS, gC_sR, gC_nw, gS_sI, gS_sS, gS_sR, gS_nw, gI_sI, gI_sS, gI_sR, gI_nw, gR_sI, gR_sS, gR_sR, gR_nw] at hi; omega
    have := o3 i hi'
    simp [m_lookedW, x_obj4, gC_sI, gC_sS, gC_sR, gC_nw, gS_sI, gS_sS, gS_sR, gS_nw, gI_sI, gI_sS, gI_sR, gI_nw, gR_sI, gR_sS, gR_sR, gR_nw]
    exact this
  · obtain ⟨a0, b0, h1, h2, h3⟩ := o4 i (by simp [m_lookedW, x_obj4, gC_sI, gC_sS, gC_sR, gC_nw, gS_sI, gS_sS, gS_sR, gS_nw, gI_sI, gI_sS, gI_sR, gI_nw, gR_sI, gR_sS, gR_sR, gR_nw] at hi; omega)
    refine ⟨a0, b0, by simp [m_lookedW, x_obj4, gC_sI, gC_sS, gC_sR, gC_nw, gS_sI, gS_sS, gS_sR, gS_nw, gI_sI, gI_sS, gI_sR, gI_nw, gR_sI, gR_sS, gR_sR, gR_nw]; omega, by simp [m_lookedW, x_obj4, gC_sI, gC_sS, gC_sR, gC_nw, gS_sI, gS_sS, gS_sR, gS_nw, gI_sI, gI_sS, gI_sR, gI_nw, gR_sI, gR_sS, gR_sR, gR_nw]; omega, ?_⟩
    have hne : a0 ≠ gC Ω 2 := by omega
    have hne2 : b0 ≠ gC Ω 2 := by omega
    simpa [m_lookedW, x_obj4, gC_sI, gC_sS, gC_sR, gC_nw, gS_sI, gS_sS, gS_sR, gS_nw, gI_sI, gI_sS, gI_sR, gI_nw, gR_sI, gR_sS, gR_sR, gR_nw, hne, hne2] using h3
  · obtain ⟨a0, b0, h1, h2, h3⟩ := o5 i (by simp [m_lookedW, x_obj4, gC_sI, gC_sS, gC_sR, gC_nw, gS_sI, gS_sS, gS_sR, gS_nw, gI_sI, gI_sS, gI_sR, gI_nw, gR_sI, gR_sS, gR_sR, gR_nw] at hi; omega)
    refine ⟨a0, b0, by simp [m_lookedW, x_obj4, gC_sI, gC_sS, gC_sR, gC_nw, gS_sI, gS_sS, gS_sR, gS_nw, gI_sI, gI_sS, gI_sR, gI_nw, gR_sI, gR_sS, gR_sR, gR_nw]; omega, by simp [m_lookedW, x_obj4, gC_sI, gC_sS, gC_sR, gC_nw, gS_sI, gS_sS, gS_sR, gS_nw, gI_sI, gI_sS, gI_sR, gI_nw, gR_sI, gR_sS, gR_sR, gR_nw]; omega, ?_⟩
    simpa [m_lookedW, x_obj4, gC_sI, gC_sS, gC_sR, gC_nw, gS_sI, gS_sS, gS_sR, gS_nw, gI_sI, gI_sS, gI_sR, gI_nw, gR_sI, gR_sS, gR_sR, gR_nw] using h3
theorem iv_looked_Z {Ω : zo_O} {a b p : Int32} (hZ : IvZ Ω) (hn : gC Ω 4 < 100) (hg : (0 ≤ b ∧ b ≤ 2) ∧ (0 ≤ p ∧ p ≤ 999)) : IvZ (m_lookedW (x_obj4 Ω 2 4 (gC Ω 4) a b p) (gC Ω 4) a b p) := by
  unfold IvZ at hZ ⊢
  simp [m_lookedW, x_obj4, gC_sI, gC_sS, gC_sR, gC_nw, gS_sI, gS_sS, gS_sR, gS_nw, gI_sI, gI_sS, gI_sR, gI_nw, gR_sI, gR_sS, gR_sR, gR_nw] at hZ ⊢
  exact hZ
theorem iv_twice_L {Ω : zo_O} {a sa b sb : Int32} (hL : IvL Ω) (hn : gC Ω 5 < 40) (hg : (0 ≤ a ∧ a ≤ 4) ∧ (0 ≤ b ∧ b ≤ 4) ∧ a ≠ b ∧ (1 ≤ sa ∧ sa ≤ 2000) ∧ (1 ≤ sb ∧ sb ≤ 2000)) : IvL (m_twiceW (x_obj4 Ω 3 5 (gC Ω 5) a b (sa - sb)) (gC Ω 5) a sa b sb) := by
  intro k h1 h2
  have := hL k h1 h2
  have hk : k = 2 ∨ k = 3 ∨ k = 4 ∨ k = 5 ∨ k = 6 ∨ k = 7 ∨ k = 8 := by omega
  rcases hk with rfl | rfl | rfl | rfl | rfl | rfl | rfl <;> simp_all [m_twiceW, x_obj4, gC_sI, gC_sS, gC_sR, gC_nw, gS_sI, gS_sS, gS_sR, gS_nw, gI_sI, gI_sS, gI_sR, gI_nw, gR_sI, gR_sS, gR_sR, gR_nw, iv_cf, iv_cap] <;> omega
theorem iv_twice_F {Ω : zo_O} {a sa b sb : Int32} (hF : IvF Ω) (hZ : IvZ Ω) (hn : gC Ω 5 < 40) (hg : (0 ≤ a ∧ a ≤ 4) ∧ (0 ≤ b ∧ b ≤ 4) ∧ a ≠ b ∧ (1 ≤ sa ∧ sa ≤ 2000) ∧ (1 ≤ sb ∧ sb ≤ 2000)) : IvF (m_twiceW (x_obj4 Ω 3 5 (gC Ω 5) a b (sa - sb)) (gC Ω 5) a sa b sb) := by
  intro q hq i hi
  have := hF q hq i
  simp only [iv_cols, List.mem_cons, List.not_mem_nil, or_false] at hq
  rcases hq with rfl | rfl | rfl | rfl | rfl | rfl | rfl | rfl | rfl | rfl | rfl | rfl | rfl | rfl | rfl | rfl | rfl | rfl | rfl | rfl | rfl | rfl | rfl | rfl | rfl | rfl | rfl | rfl | rfl | rfl <;> simp [m_twiceW, x_obj4, gC_sI, gC_sS, gC_sR, gC_nw, gS_sI, gS_sS, gS_sR, gS_nw, gI_sI, gI_sS, gI_sR, gI_nw, gR_sI, gR_sS, gR_sR, gR_nw] at hi this ⊢ <;> first | grind | (unfold IvZ at hZ; grind)
theorem iv_twice_S {Ω : zo_O} {a sa b sb : Int32} (hS : IvS Ω) (hZ : IvZ Ω) (hn : gC Ω 5 < 40) (hg : (0 ≤ a ∧ a ≤ 4) ∧ (0 ≤ b ∧ b ≤ 4) ∧ a ≠ b ∧ (1 ≤ sa ∧ sa ≤ 2000) ∧ (1 ≤ sb ∧ sb ≤ 2000)) : IvS (m_twiceW (x_obj4 Ω 3 5 (gC Ω 5) a b (sa - sb)) (gC Ω 5) a sa b sb) := by
  obtain ⟨z1, -, -, -, -, -, -, ⟨z2, z3⟩, -⟩ := hZ
  intro i hi
  have hi' : i < gC Ω 2 := by simp [m_twiceW, x_obj4, gC_sI, gC_sS, gC_sR, gC_nw, gS_sI, gS_sS, gS_sR, gS_nw, gI_sI, gI_sS, gI_sR, gI_nw, gR_sI, gR_sS, gR_sR, gR_nw] at hi; omega
  have := hS i hi'
  simp [m_twiceW, x_obj4, gC_sI, gC_sS, gC_sR, gC_nw, gS_sI, gS_sS, gS_sR, gS_nw, gI_sI, gI_sS, gI_sR, gI_nw, gR_sI, gR_sS, gR_sR, gR_nw]
  exact this
theorem iv_twice_C {Ω : zo_O} {a sa b sb : Int32} (hC : IvC Ω) (hS : IvS Ω) (hZ : IvZ Ω) (hn : gC Ω 5 < 40) (hg : (0 ≤ a ∧ a ≤ 4) ∧ (0 ≤ b ∧ b ≤ 4) ∧ a ≠ b ∧ (1 ≤ sa ∧ sa ≤ 2000) ∧ (1 ≤ sb ∧ sb ≤ 2000)) : IvC (m_twiceW (x_obj4 Ω 3 5 (gC Ω 5) a b (sa - sb)) (gC Ω 5) a sa b sb) := by
  obtain ⟨z1, -, -, -, -, -, -, ⟨z2, z3⟩, -⟩ := hZ
  intro i hi
  obtain ⟨s0, h1, h2⟩ := hC i (by simp [m_twiceW, x_obj4, gC_sI, gC_sS, gC_sR, gC_nw, gS_sI, gS_sS, gS_sR, gS_nw, gI_sI, gI_sS, gI_sR, gI_nw, gR_sI, gR_sS, gR_sR, gR_nw] at hi; omega)
  refine ⟨s0, by simp [m_twiceW, x_obj4, gC_sI, gC_sS, gC_sR, gC_nw, gS_sI, gS_sS, gS_sR, gS_nw, gI_sI, gI_sS, gI_sR, gI_nw, gR_sI, gR_sS, gR_sR, gR_nw]; omega, ?_⟩
  have hne : s0 ≠ gC Ω 2 := by omega
  simpa [m_twiceW, x_obj4, gC_sI, gC_sS, gC_sR, gC_nw, gS_sI, gS_sS, gS_sR, gS_nw, gI_sI, gI_sS, gI_sR, gI_nw, gR_sI, gR_sS, gR_sR, gR_nw, hne] using h2
theorem iv_twice_O {Ω : zo_O} {a sa b sb : Int32} (hO : IvO Ω) (hS : IvS Ω) (hZ : IvZ Ω) (hn : gC Ω 5 < 40) (hg : (0 ≤ a ∧ a ≤ 4) ∧ (0 ≤ b ∧ b ≤ 4) ∧ a ≠ b ∧ (1 ≤ sa ∧ sa ≤ 2000) ∧ (1 ≤ sb ∧ sb ≤ 2000)) : IvO (m_twiceW (x_obj4 Ω 3 5 (gC Ω 5) a b (sa - sb)) (gC Ω 5) a sa b sb) := by
  obtain ⟨z1, -, -, -, -, -, -, ⟨z2, z3⟩, -⟩ := hZ
  obtain ⟨o1, o2, o3, o4, o5⟩ := hO
  refine ⟨fun i hi => ?_, fun i hi => ?_, fun i hi => ?_, fun i hi => ?_, fun i hi => ?_⟩
  · have hi' : i < gC Ω 4 := by simp [m_twiceW, x_obj4, gC_sI, gC_sS, gC_sR, gC_nw, gS_sI, gS_sS, gS_sR, gS_nw, gI_sI, gI_sS, gI_sR, gI_nw, gR_sI, gR_sS, gR_sR, gR_nw] at hi; omega
    have := o1 i hi'
    simp [m_twiceW, x_obj4, gC_sI, gC_sS, gC_sR, gC_nw, gS_sI, gS_sS, gS_sR, gS_nw, gI_sI, gI_sS, gI_sR, gI_nw, gR_sI, gR_sS, gR_sR, gR_nw]
    exact this
  · by_cases e : i = gC Ω 5
    · subst e
      simp [m_twiceW, x_obj4, gC_sI, gC_sS, gC_sR, gC_nw, gS_sI, gS_sS, gS_sR, gS_nw, gI_sI, gI_sS, gI_sR, gI_nw, gR_sI, gR_sS, gR_sR, gR_nw, hg]
      grind
    · have hi' : i < gC Ω 5 := by simp [m_twiceW, x_obj4, gC_sI, gC_sS, gC_sR, gC_nw, gS_sI, gS_sS, gS_sR, gS_nw, gI_sI, gI_sS, gI_sR, gI_nw, gR_sI, gR_sS, gR_sR, gR_nw] at hi; omega
      have := o2 i hi'
      simp [m_twiceW, x_obj4, gC_sI, gC_sS, gC_sR, gC_nw, gS_sI, gS_sS, gS_sR, gS_nw, gI_sI, gI_sS, gI_sR, gI_nw, gR_sI, gR_sS, gR_sR, gR_nw, e]
      exact this
  · have hi' : i < gC Ω 6 := by simp [m_twiceW, x_obj4, gC_sI, gC_sS, gC_sR, gC_nw, gS_sI, gS_sS, gS_sR, gS_nw, gI_sI, gI_sS, gI_sR, gI_nw, gR_sI, gR_sS, gR_sR, gR_nw] at hi; omega
    have := o3 i hi'
    simp [m_twiceW, x_obj4, gC_sI, gC_sS, gC_sR, gC_nw, gS_sI, gS_sS, gS_sR, gS_nw, gI_sI, gI_sS, gI_sR, gI_nw, gR_sI, gR_sS, gR_sR, gR_nw]
    exact this
  · obtain ⟨a0, b0, h1, h2, h3⟩ := o4 i (by simp [m_twiceW, x_obj4, gC_sI, gC_sS, gC_sR, gC_nw, gS_sI, gS_sS, gS_sR, gS_nw, gI_sI, gI_sS, gI_sR, gI_nw, gR_sI, gR_sS, gR_sR, gR_nw] at hi; omega)
    refine ⟨a0, b0, by simp [m_twiceW, x_obj4, gC_sI, gC_sS, gC_sR, gC_nw, gS_sI, gS_sS, gS_sR, gS_nw, gI_sI, gI_sS, gI_sR, gI_nw, gR_sI, gR_sS, gR_sR, gR_nw]; omega, by simp [m_twiceW, x_obj4, gC_sI, gC_sS, gC_sR, gC_nw, gS_sI, gS_sS, gS_sR, gS_nw, gI_sI, gI_sS, gI_sR, gI_nw, gR_sI, gR_sS, gR_sR, gR_nw]; omega, ?_⟩
    have hne : a0 ≠ gC Ω 2 := by omega
    have hne2 : b0 ≠ gC Ω 2 := by omega
    simpa [m_twiceW, x_obj4, gC_sI, gC_sS, gC_sR, gC_nw, gS_sI, gS_sS, gS_sR, gS_nw, gI_sI, gI_sS, gI_sR, gI_nw, gR_sI, gR_sS, gR_sR, gR_nw, hne, hne2] using h3
  · obtain ⟨a0, b0, h1, h2, h3⟩ := o5 i (by simp [m_twiceW, x_obj4, gC_sI, gC_sS, gC_sR, gC_nw, gS_sI, gS_sS, gS_sR, gS_nw, gI_sI, gI_sS, gI_sR, gI_nw, gR_sI, gR_sS, gR_sR, gR_nw] at hi; omega)
    refine ⟨a0, b0, by simp [m_twiceW, x_obj4, gC_sI, gC_sS, gC_sR, gC_nw, gS_sI, gS_sS, gS_sR, gS_nw, gI_sI, gI_sS, gI_sR, gI_nw, gR_sI, gR_sS, gR_sR, gR_nw]; omega, by simp [m_twiceW, x_obj4, gC_sI, gC_sS, gC_sR, gC_nw, gS_sI, gS_sS, gS_sR, gS_nw, gI_sI, gI_sS, gI_sR, gI_nw, gR_sI, gR_sS, gR_sR, gR_nw]; omega, ?_⟩
    simpa [m_twiceW, x_obj4, gC_sI, gC_sS, gC_sR, gC_nw, gS_sI, gS_sS, gS_sR, gS_nw, gI_sI, gI_sS, gI_sR, gI_nw, gR_sI, gR_sS, gR_sR, gR_nw] using h3
theorem iv_twice_Z {Ω : zo_O} {a sa b sb : Int32} (hZ : IvZ Ω) (hn : gC Ω 5 < 40) (hg : (0 ≤ a ∧ a ≤ 4) ∧ (0 ≤ b ∧ b ≤ 4) ∧ a ≠ b ∧ (1 ≤ sa ∧ sa ≤ 2000) ∧ (1 ≤ sb ∧ sb ≤ 2000)) : IvZ (m_twiceW (x_obj4 Ω 3 5 (gC Ω 5) a b (sa - sb)) (gC Ω 5) a sa b sb) := by
  unfold IvZ at hZ ⊢
  simp [m_twiceW, x_obj4, gC_sI, gC_sS, gC_sR, gC_nw, gS_sI, gS_sS, gS_sR, gS_nw, gI_sI, gI_sS, gI_sR, gI_nw, gR_sI, gR_sS, gR_sR, gR_nw] at hZ ⊢
  exact hZ
theorem iv_witness_L {Ω : zo_O} {a b p : Int32} (hL : IvL Ω) (hn : gC Ω 6 < 20) (hg : (1000 ≤ b ∧ b ≤ 2100) ∧ (1000 ≤ p ∧ p ≤ 2100) ∧ b ≤ p) : IvL (m_witnessW (x_obj4 Ω 4 6 (gC Ω 6) a b p) (gC Ω 6) a b p) := by
  intro k h1 h2
  have := hL k h1 h2
  have hk : k = 2 ∨ k = 3 ∨ k = 4 ∨ k = 5 ∨ k = 6 ∨ k = 7 ∨ k = 8 := by omega
  rcases hk with rfl | rfl | rfl | rfl | rfl | rfl | rfl <;> simp_all [m_witnessW, x_obj4, gC_sI, gC_sS, gC_sR, gC_nw, gS_sI, gS_sS, gS_sR, gS_nw, gI_sI, gI_sS, gI_sR, gI_nw, gR_sI, gR_sS, gR_sR, gR_nw, iv_cf, iv_cap] <;> omega
theorem iv_witness_F {Ω : zo_O} {a b p : Int32} (hF : IvF Ω) (hZ : IvZ Ω) (hn : gC Ω 6 < 20) (hg : (1000 ≤ b ∧ b ≤ 2100) ∧ (1000 ≤ p ∧ p ≤ 2100) ∧ b ≤ p) : IvF (m_witnessW (x_obj4 Ω 4 6 (gC Ω 6) a b p) (gC Ω 6) a b p) := by
  intro q hq i hi
  have := hF q hq i
  simp only [iv_cols, List.mem_cons, List.not_mem_nil, or_false] at hq
  rcases hq with rfl | rfl | rfl | rfl | rfl | rfl | rfl | rfl | rfl | rfl | rfl | rfl | rfl | rfl | rfl | rfl | rfl | rfl | rfl | rfl | rfl | rfl | rfl | rfl | rfl | rfl | rfl | rfl | rfl | rfl <;> simp [m_witnessW, x_obj4, gC_sI, gC_sS, gC_sR, gC_nw, gS_sI, gS_sS, gS_sR, gS_nw, gI_sI, gI_sS, gI_sR, gI_nw, gR_sI, gR_sS, gR_sR, gR_nw] at hi this ⊢ <;> first | grind | (unfold IvZ at hZ; grind)
theorem iv_witness_S {Ω : zo_O} {a b p : Int32} (hS : IvS Ω) (hZ : IvZ Ω) (hn : gC Ω 6 < 20) (hg : (1000 ≤ b ∧ b ≤ 2100) ∧ (1000 ≤ p ∧ p ≤ 2100) ∧ b ≤ p) : IvS (m_witnessW (x_obj4 Ω 4 6 (gC Ω 6) a b p) (gC Ω 6) a b p) := by
  obtain ⟨z1, -, -, -, -, -, -, ⟨z2, z3⟩, -⟩ := hZ
  intro i hi
  have hi' : i < gC Ω 2 := by simp [m_witnessW, x_obj4, gC_sI, gC_sS, gC_sR, gC_nw, gS_sI, gS_sS, gS_sR, gS_nw, gI_sI, gI_sS, gI_sR, gI_nw, gR_sI, gR_sS, gR_sR, gR_nw] at hi; omega
  have := hS i hi'
  simp [m_witnessW, x_obj4, gC_sI, gC_sS, gC_sR, gC_nw, gS_sI, gS_sS, gS_sR, gS_nw, gI_sI, gI_sS, gI_sR, gI_nw, gR_sI, gR_sS, gR_sR, gR_nw]
  exact this
theorem iv_witness_C {Ω : zo_O} {a b p : Int32} (hC : IvC Ω) (hS : IvS Ω) (hZ : IvZ Ω) (hn : gC Ω 6 < 20) (hg : (1000 ≤ b ∧ b ≤ 2100) ∧ (1000 ≤ p ∧ p ≤ 2100) ∧ b ≤ p) : IvC (m_witnessW (x_obj4 Ω 4 6 (gC Ω 6) a b p) (gC Ω 6) a b p) := by
  obtain ⟨z1, -, -, -, -, -, -, ⟨z2, z3⟩, -⟩ := hZ
  intro i hi
  obtain ⟨s0, h1, h2⟩ := hC i (by simp [m_witnessW, x_obj4, gC_sI, gC_sS, gC_sR, gC_nw, gS_sI, gS_sS, gS_sR, gS_nw, gI_sI, gI_sS, gI_sR, gI_nw, gR_sI, gR_sS, gR_sR, gR_nw] at hi; omega)
  refine ⟨s0, by simp [m_witnessW, x_obj4, gC_sI, gC_sS, gC_sR, gC_nw, gS_sI, gS_sS, gS_sR, gS_nw, gI_sI, gI_sS, gI_sR, gI_nw, gR_sI, gR_sS, gR_sR, gR_nw]; omega, ?_⟩
  have hne : s0 ≠ gC Ω 2 := by omega
  simpa [m_witnessW, x_obj4, gC_sI, gC_sS, gC_sR, gC_nw, gS_sI, gS_sS, gS_sR, gS_nw, gI_sI, gI_sS, gI_sR, gI_nw, gR_sI, gR_sS, gR_sR, gR_nw, hne] using h2
theorem iv_witness_O {Ω : zo_O} {a b p : Int32} (hO : IvO Ω) (hS : IvS Ω) (hZ : IvZ Ω) (hn : gC Ω 6 < 20) (hg : (1000 ≤ b ∧ b ≤ 2100) ∧ (1000 ≤ p ∧ p ≤ 2100) ∧ b ≤ p) : IvO (m_witnessW (x_obj4 Ω 4 6 (gC Ω 6) a b p) (gC Ω 6) a b p) := by
  obtain ⟨z1, -, -, -, -, -, -, ⟨z2, z3⟩, -⟩ := hZ
  obtain ⟨o1, o2, o3, o4, o5⟩ := hO
  refine ⟨fun i hi => ?_, fun i hi => ?_, fun i hi => ?_, fun i hi => ?_, fun i hi => ?_⟩
  · have hi' : i < gC Ω 4 := by simp [m_witnessW, x_obj4, gC_sI, gC_sS, gC_sR, gC_nw, gS_sI, gS_sS, gS_sR, gS_nw, gI_sI, gI_sS, gI_sR, gI_nw, gR_sI, gR_sS, gR_sR, gR_nw] at hi; omega
    have := o1 i hi'
    simp [m_witnessW, x_obj4, gC_sI, gC_sS, gC_sR, gC_nw, gS_sI, gS_sS, gS_sR, gS_nw, gI_sI, gI_sS, gI_sR, gI_nw, gR_sI, gR_sS, gR_sR, gR_nw]
    exact this
  · have hi' : i < gC Ω 5 := by simp [m_witnessW, x_obj4, gC_sI, gC_sS, gC_sR, gC_nw, gS_sI, gS_sS, gS_sR, gS_nw, gI_sI, gI_sS, gI_sR, gI_nw, gR_sI, gR_sS, gR_sR, gR_nw] at hi; omega
    have := o2 i hi'
    simp [m_witnessW, x_obj4, gC_sI, gC_sS, gC_sR, gC_nw, gS_sI, gS_sS, gS_sR, gS_nw, gI_sI, gI_sS, gI_sR, gI_nw, gR_sI, gR_sS, gR_sR, gR_nw]
    exact this
  · by_cases e : i = gC Ω 6
    · subst e
      simp [m_witnessW, x_obj4, gC_sI, gC_sS, gC_sR, gC_nw, gS_sI, gS_sS, gS_sR, gS_nw, gI_sI, gI_sS, gI_sR, gI_nw, gR_sI, gR_sS, gR_sR, gR_nw, hg]
    · have hi' : i < gC Ω 6 := by simp [m_witnessW, x_obj4, gC_sI, gC_sS, gC_sR, gC_nw, gS_sI, gS_sS, gS_sR, gS_nw, gI_sI, gI_sS, gI_sR, gI_nw, gR_sI, gR_sS, gR_sR, gR_nw] at hi; omega
      have := o3 i hi'
      simp [m_witnessW, x_obj4, gC_sI, gC_sS, gC_sR, gC_nw, gS_sI, gS_sS, gS_sR, gS_nw, gI_sI, gI_sS, gI_sR, gI_nw, gR_sI, gR_sS, gR_sR, gR_nw, e]
      exact this
  · obtain ⟨a0, b0, h1, h2, h3⟩ := o4 i (by simp [m_witnessW, x_obj4, gC_sI, gC_sS, gC_sR, gC_nw, gS_sI, gS_sS, gS_sR, gS_nw, gI_sI, gI_sS, gI_sR, gI_nw, gR_sI, gR_sS, gR_sR, gR_nw] at hi; omega)
    refine ⟨a0, b0, by simp [m_witnessW, x_obj4, gC_sI, gC_sS, gC_sR, gC_nw, gS_sI, gS_sS, gS_sR, gS_nw, gI_sI, gI_sS, gI_sR, gI_nw, gR_sI, gR_sS, gR_sR, gR_nw]; omega, by simp [m_witnessW, x_obj4, gC_sI, gC_sS, gC_sR, gC_nw, gS_sI, gS_sS, gS_sR, gS_nw, gI_sI, gI_sS, gI_sR, gI_nw, gR_sI, gR_sS, gR_sR, gR_nw]; omega, ?_⟩
    have hne : a0 ≠ gC Ω 2 := by omega
    have hne2 : b0 ≠ gC Ω 2 := by omega
    simpa [m_witnessW, x_obj4, gC_sI, gC_sS, gC_sR, gC_nw, gS_sI, gS_sS, gS_sR, gS_nw, gI_sI, gI_sS, gI_sR, gI_nw, gR_sI, gR_sS, gR_sR, gR_nw, hne, hne2] using h3
  · obtain ⟨a0, b0, h1, h2, h3⟩ := o5 i (by simp [m_witnessW, x_obj4, gC_sI, gC_sS, gC_sR, gC_nw, gS_sI, gS_sS, gS_sR, gS_nw, gI_sI, gI_sS, gI_sR, gI_nw, gR_sI, gR_sS, gR_sR, gR_nw] at hi; omega)
    refine ⟨a0, b0, by simp [m_witnessW, x_obj4, gC_sI, gC_sS, gC_sR, gC_nw, gS_sI, gS_sS, gS_sR, gS_nw, gI_sI, gI_sS, gI_sR, gI_nw, gR_sI, gR_sS, gR_sR, gR_nw]; omega, by simp [m_witnessW, x_obj4, gC_sI, gC_sS, gC_sR, gC_nw, gS_sI, gS_sS, gS_sR, gS_nw, gI_sI, gI_sS, gI_sR, gI_nw, gR_sI, gR_sS, gR_sR, gR_nw]; omega, ?_⟩
    simpa [m_witnessW, x_obj4, gC_sI, gC_sS, gC_sR, gC_nw, gS_sI, gS_sS, gS_sR, gS_nw, gI_sI, gI_sS, gI_sR, gI_nw, gR_sI, gR_sS, gR_sR, gR_nw] using h3
theorem iv_witness_Z {Ω : zo_O} {a b p : Int32} (hZ : IvZ Ω) (hn : gC Ω 6 < 20) (hg : (1000 ≤ b ∧ b ≤ 2100) ∧ (1000 ≤ p ∧ p ≤ 2100) ∧ b ≤ p) : IvZ (m_witnessW (x_obj4 Ω 4 6 (gC Ω 6) a b p) (gC Ω 6) a b p) := by
  unfold IvZ at hZ ⊢
  simp [m_witnessW, x_obj4, gC_sI, gC_sS, gC_sR, gC_nw, gS_sI, gS_sS, gS_sR, gS_nw, gI_sI, gI_sS, gI_sR, gI_nw, gR_sI, gR_sS, gR_sR, gR_nw] at hZ ⊢
  exact hZ
theorem iv_order_L {Ω : zo_O} {s t : Nat} {p : Int32} (hL : IvL Ω) (hn : gC Ω 7 < 40) (hs : s < gC Ω 2) (ht : t < gC Ω 2) (hg : 0 ≤ p ∧ p ≤ 500) : IvL (m_orderW (x_obj4 Ω 5 7 (gC Ω 7) (nI s) (nI t) p) (gC Ω 7) (nI s) (nI t) p) := by
  intro k h1 h2
  have := hL k h1 h2
  have hk : k = 2 ∨ k = 3 ∨ k = 4 ∨ k = 5 ∨ k = 6 ∨ k = 7 ∨ k = 8 := by omega
  rcases hk with rfl | rfl | rfl | rfl | rfl | rfl | rfl <;> simp_all [m_orderW, x_obj4, gC_sI, gC_sS, gC_sR, gC_nw, gS_sI, gS_sS, gS_sR, gS_nw, gI_sI, gI_sS, gI_sR, gI_nw, gR_sI, gR_sS, gR_sR, gR_nw, iv_cf, iv_cap] <;> omega
theorem iv_order_F {Ω : zo_O} {s t : Nat} {p : Int32} (hF : IvF Ω) (hZ : IvZ Ω) (hn : gC Ω 7 < 40) (hs : s < gC Ω 2) (ht : t < gC Ω 2) (hg : 0 ≤ p ∧ p ≤ 500) : IvF (m_orderW (x_obj4 Ω 5 7 (gC Ω 7) (nI s) (nI t) p) (gC Ω 7) (nI s) (nI t) p) := by
  intro q hq i hi
  have := hF q hq i
  simp only [iv_cols, List.mem_cons, List.not_mem_nil, or_false] at hq
  rcases hq with rfl | rfl | rfl | rfl | rfl | rfl | rfl | rfl | rfl | rfl | rfl | rfl | rfl | rfl | rfl | rfl | rfl | rfl | rfl | rfl | rfl | rfl | rfl | rfl | rfl | rfl | rfl | rfl | rfl | rfl <;> simp [m_orderW, x_obj4, gC_sI, gC_sS, gC_sR, gC_nw, gS_sI, gS_sS, gS_sR, gS_nw, gI_sI, gI_sS, gI_sR, gI_nw, gR_sI, gR_sS, gR_sR, gR_nw] at hi this ⊢ <;> first | grind | (unfold IvZ at hZ; grind)
theorem iv_order_S {Ω : zo_O} {s t : Nat} {p : Int32} (hS : IvS Ω) (hZ : IvZ Ω) (hn : gC Ω 7 < 40) (hs : s < gC Ω 2) (ht : t < gC Ω 2) (hg : 0 ≤ p ∧ p ≤ 500) : IvS (m_orderW (x_obj4 Ω 5 7 (gC Ω 7) (nI s) (nI t) p) (gC Ω 7) (nI s) (nI t) p) := by
  obtain ⟨z1, -, -, -, -, -, -, ⟨z2, z3⟩, -⟩ := hZ
  intro i hi
  have hi' : i < gC Ω 2 := by simp [m_orderW, x_obj4, gC_sI, gC_sS, gC_sR, gC_nw, gS_sI, gS_sS, gS_sR, gS_nw, gI_sI, gI_sS, gI_sR, gI_nw, gR_sI, gR_sS, gR_sR, gR_nw] at hi; omega
  have := hS i hi'
  simp [m_orderW, x_obj4, gC_sI, gC_sS, gC_sR, gC_nw, gS_sI, gS_sS, gS_sR, gS_nw, gI_sI, gI_sS, gI_sR, gI_nw, gR_sI, gR_sS, gR_sR, gR_nw]
  exact this
theorem iv_order_C {Ω : zo_O} {s t : Nat} {p : Int32} (hC : IvC Ω) (hS : IvS Ω) (hZ : IvZ Ω) (hn : gC Ω 7 < 40) (hs : s < gC Ω 2) (ht : t < gC Ω 2) (hg : 0 ≤ p ∧ p ≤ 500) : IvC (m_orderW (x_obj4 Ω 5 7 (gC Ω 7) (nI s) (nI t) p) (gC Ω 7) (nI s) (nI t) p) := by
  obtain ⟨z1, -, -, -, -, -, -, ⟨z2, z3⟩, -⟩ := hZ
  intro i hi
  obtain ⟨s0, h1, h2⟩ := hC i (by simp [m_orderW, x_obj4, gC_sI, gC_sS, gC_sR, gC_nw, gS_sI, gS_sS, gS_sR, gS_nw, gI_sI, gI_sS, gI_sR, gI_nw, gR_sI, gR_sS, gR_sR, gR_nw] at hi; omega)
  refine ⟨s0, by simp [m_orderW, x_obj4, gC_sI, gC_sS, gC_sR, gC_nw, gS_sI, gS_sS, gS_sR, gS_nw, gI_sI, gI_sS, gI_sR, gI_nw, gR_sI, gR_sS, gR_sR, gR_nw]; omega, ?_⟩
  have hne : s0 ≠ gC Ω 2 := by omega
  simpa [m_orderW, x_obj4, gC_sI, gC_sS, gC_sR, gC_nw, gS_sI, gS_sS, gS_sR, gS_nw, gI_sI, gI_sS, gI_sR, gI_nw, gR_sI, gR_sS, gR_sR, gR_nw, hne] using h2
theorem iv_order_O {Ω : zo_O} {s t : Nat} {p : Int32} (hO : IvO Ω) (hS : IvS Ω) (hZ : IvZ Ω) (hn : gC Ω 7 < 40) (hs : s < gC Ω 2) (ht : t < gC Ω 2) (hg : 0 ≤ p ∧ p ≤ 500) : IvO (m_orderW (x_obj4 Ω 5 7 (gC Ω 7) (nI s) (nI t) p) (gC Ω 7) (nI s) (nI t) p) := by
  obtain ⟨z1, -, -, -, -, -, -, ⟨z2, z3⟩, -⟩ := hZ
  obtain ⟨o1, o2, o3, o4, o5⟩ := hO
  refine ⟨fun i hi => ?_, fun i hi => ?_, fun i hi => ?_, fun i hi => ?_, fun i hi => ?_⟩
  · have hi' : i < gC Ω 4 := by simp [m_orderW, x_obj4, gC_sI, gC_sS, gC_sR, gC_nw, gS_sI, gS_sS, gS_sR, gS_nw, gI_sI, gI_sS, gI_sR, gI_nw, gR_sI, gR_sS, gR_sR, gR_nw] at hi; omega
    have := o1 i hi'
    simp [m_orderW, x_obj4, gC_sI, gC_sS, gC_sR, gC_nw, gS_sI, gS_sS, gS_sR, gS_nw, gI_sI, gI_sS, gI_sR, gI_nw, gR_sI, gR_sS, gR_sR, gR_nw]
    exact this
  · have hi' : i < gC Ω 5 := by simp [m_orderW, x_obj4, gC_sI, gC_sS, gC_sR, gC_nw, gS_sI, gS_sS, gS_sR, gS_nw, gI_sI, gI_sS, gI_sR, gI_nw, gR_sI, gR_sS, gR_sR, gR_nw] at hi; omega
    have := o2 i hi'
    simp [m_orderW, x_obj4, gC_sI, gC_sS, gC_sR, gC_nw, gS_sI, gS_sS, gS_sR, gS_nw, gI_sI, gI_sS, gI_sR, gI_nw, gR_sI, gR_sS, gR_sR, gR_nw]
    exact this
  · have hi' : i < gC Ω 6 := by simp [m_orderW, x_obj4, gC_sI, gC_sS, gC_sR, gC_nw, gS_sI, gS_sS, gS_sR, gS_nw, gI_sI, gI_sS, gI_sR, gI_nw, gR_sI, gR_sS, gR_sR, gR_nw] at hi; omega
    have := o3 i hi'
    simp [m_orderW, x_obj4, gC_sI, gC_sS, gC_sR, gC_nw, gS_sI, gS_sS, gS_sR, gS_nw, gI_sI, gI_sS, gI_sR, gI_nw, gR_sI, gR_sS, gR_sR, gR_nw]
    exact this
  · by_cases e : i = gC Ω 7
    · subst e
      refine ⟨s, t, by simp [m_orderW, x_obj4, gC_sI, gC_sS, gC_sR, gC_nw, gS_sI, gS_sS, gS_sR, gS_nw, gI_sI, gI_sS, gI_sR, gI_nw, gR_sI, gR_sS, gR_sR, gR_nw]; omega, by simp [m_orderW, x_obj4, gC_sI, gC_sS, gC_sR, gC_nw, gS_sI, gS_sS, gS_sR, gS_nw, gI_sI, gI_sS, gI_sR, gI_nw, gR_sI, gR_sS, gR_sR, gR_nw]; omega, ?_⟩
      have q1 := (hS s hs).2.2.2.2.2.2
      have q2 := (hS t ht).2.2.2.2.2.2
      simp [m_orderW, x_obj4, gC_sI, gC_sS, gC_sR, gC_nw, gS_sI, gS_sS, gS_sR, gS_nw, gI_sI, gI_sS, gI_sR, gI_nw, gR_sI, gR_sS, gR_sR, gR_nw, hg, z1, q1, q2]
    · obtain ⟨a0, b0, h1, h2, h3⟩ := o4 i (by simp [m_orderW, x_obj4, gC_sI, gC_sS, gC_sR, gC_nw, gS_sI, gS_sS, gS_sR, gS_nw, gI_sI, gI_sS, gI_sR, gI_nw, gR_sI, gR_sS, gR_sR, gR_nw] at hi; omega)
      refine ⟨a0, b0, by simp [m_orderW, x_obj4, gC_sI, gC_sS, gC_sR, gC_nw, gS_sI, gS_sS, gS_sR, gS_nw, gI_sI, gI_sS, gI_sR, gI_nw, gR_sI, gR_sS, gR_sR, gR_nw]; omega, by simp [m_orderW, x_obj4, gC_sI, gC_sS, gC_sR, gC_nw, gS_sI, gS_sS, gS_sR, gS_nw, gI_sI, gI_sS, gI_sR, gI_nw, gR_sI, gR_sS, gR_sR, gR_nw]; omega, ?_⟩
      have hne : a0 ≠ gC Ω 2 := by omega
      have hne2 : b0 ≠ gC Ω 2 := by omega
      simpa [m_orderW, x_obj4, gC_sI, gC_sS, gC_sR, gC_nw, gS_sI, gS_sS, gS_sR, gS_nw, gI_sI, gI_sS, gI_sR, gI_nw, gR_sI, gR_sS, gR_sR, gR_nw, hne, hne2, e] using h3
  · obtain ⟨a0, b0, h1, h2, h3⟩ := o5 i (by simp [m_orderW, x_obj4, gC_sI, gC_sS, gC_sR, gC_nw, gS_sI, gS_sS, gS_sR, gS_nw, gI_sI, gI_sS, gI_sR, gI_nw, gR_sI, gR_sS, gR_sR, gR_nw] at hi; omega)
    refine ⟨a0, b0, by simp [m_orderW, x_obj4, gC_sI, gC_sS, gC_sR, gC_nw, gS_sI, gS_sS, gS_sR, gS_nw, gI_sI, gI_sS, gI_sR, gI_nw, gR_sI, gR_sS, gR_sR, gR_nw]; omega, by simp [m_orderW, x_obj4, gC_sI, gC_sS, gC_sR, gC_nw, gS_sI, gS_sS, gS_sR, gS_nw, gI_sI, gI_sS, gI_sR, gI_nw, gR_sI, gR_sS, gR_sR, gR_nw]; omega, ?_⟩
    simpa [m_orderW, x_obj4, gC_sI, gC_sS, gC_sR, gC_nw, gS_sI, gS_sS, gS_sR, gS_nw, gI_sI, gI_sS, gI_sR, gI_nw, gR_sI, gR_sS, gR_sR, gR_nw] using h3
theorem iv_order_Z {Ω : zo_O} {s t : Nat} {p : Int32} (hZ : IvZ Ω) (hn : gC Ω 7 < 40) (hs : s < gC Ω 2) (ht : t < gC Ω 2) (hg : 0 ≤ p ∧ p ≤ 500) : IvZ (m_orderW (x_obj4 Ω 5 7 (gC Ω 7) (nI s) (nI t) p) (gC Ω 7) (nI s) (nI t) p) := by
  unfold IvZ at hZ ⊢
  simp [m_orderW, x_obj4, gC_sI, gC_sS, gC_sR, gC_nw, gS_sI, gS_sS, gS_sR, gS_nw, gI_sI, gI_sS, gI_sR, gI_nw, gR_sI, gR_sS, gR_sR, gR_nw] at hZ ⊢
  exact hZ
theorem iv_again_L {Ω : zo_O} {s t : Nat} (hL : IvL Ω) (hn : gC Ω 8 < 30) (hs : s < gC Ω 3) (ht : t < gC Ω 3) : IvL (m_againW (x_againW Ω (gC Ω 8) (nI s) (nI t)) (gC Ω 8) (nI s) (nI t)) := by
  intro k h1 h2
  have := hL k h1 h2
  have hk : k = 2 ∨ k = 3 ∨ k = 4 ∨ k = 5 ∨ k = 6 ∨ k = 7 ∨ k = 8 := by omega
  rcases hk with rfl | rfl | rfl | rfl | rfl | rfl | rfl <;> simp_all [m_againW, x_againW, gC_sI, gC_sS, gC_sR, gC_nw, gS_sI, gS_sS, gS_sR, gS_nw, gI_sI, gI_sS, gI_sR, gI_nw, gR_sI, gR_sS, gR_sR, gR_nw, iv_cf, iv_cap] <;> omega
theorem iv_again_F {Ω : zo_O} {s t : Nat} (hF : IvF Ω) (hZ : IvZ Ω) (hn : gC Ω 8 < 30) (hs : s < gC Ω 3) (ht : t < gC Ω 3) : IvF (m_againW (x_againW Ω (gC Ω 8) (nI s) (nI t)) (gC Ω 8) (nI s) (nI t)) := by
  intro q hq i hi
  have := hF q hq i
  simp only [iv_cols, List.mem_cons, List.not_mem_nil, or_false] at hq
  rcases hq with rfl | rfl | rfl | rfl | rfl | rfl | rfl | rfl | rfl | rfl | rfl | rfl | rfl | rfl | rfl | rfl | rfl | rfl | rfl | rfl | rfl | rfl | rfl | rfl | rfl | rfl | rfl | rfl | rfl | rfl <;> simp [m_againW, x_againW, gC_sI, gC_sS, gC_sR, gC_nw, gS_sI, gS_sS, gS_sR, gS_nw, gI_sI, gI_sS, gI_sR, gI_nw, gR_sI, gR_sS, gR_sR, gR_nw] at hi this ⊢ <;> first | grind | (unfold IvZ at hZ; grind)
theorem iv_again_S {Ω : zo_O} {s t : Nat} (hS : IvS Ω) (hZ : IvZ Ω) (hn : gC Ω 8 < 30) (hs : s < gC Ω 3) (ht : t < gC Ω 3) : IvS (m_againW (x_againW Ω (gC Ω 8) (nI s) (nI t)) (gC Ω 8) (nI s) (nI t)) := by
  obtain ⟨z1, -, -, -, -, -, -, ⟨z2, z3⟩, -⟩ := hZ
  intro i hi
  have hi' : i < gC Ω 2 := by simp [m_againW, x_againW, gC_sI, gC_sS, gC_sR, gC_nw, gS_sI, gS_sS, gS_sR, gS_nw, gI_sI, gI_sS, gI_sR, gI_nw, gR_sI, gR_sS, gR_sR, gR_nw] at hi; omega
  have := hS i hi'
  simp [m_againW, x_againW, gC_sI, gC_sS, gC_sR, gC_nw, gS_sI, gS_sS, gS_sR, gS_nw, gI_sI, gI_sS, gI_sR, gI_nw, gR_sI, gR_sS, gR_sR, gR_nw]
  exact this
theorem iv_again_C {Ω : zo_O} {s t : Nat} (hC : IvC Ω) (hS : IvS Ω) (hZ : IvZ Ω) (hn : gC Ω 8 < 30) (hs : s < gC Ω 3) (ht : t < gC Ω 3) : IvC (m_againW (x_againW Ω (gC Ω 8) (nI s) (nI t)) (gC Ω 8) (nI s) (nI t)) := by
  obtain ⟨z1, -, -, -, -, -, -, ⟨z2, z3⟩, -⟩ := hZ
  intro i hi
  obtain ⟨s0, h1, h2⟩ := hC i (by simp [m_againW, x_againW, gC_sI, gC_sS, gC_sR, gC_nw, gS_sI, gS_sS, gS_sR, gS_nw, gI_sI, gI_sS, gI_sR, gI_nw, gR_sI, gR_sS, gR_sR, gR_nw] at hi; omega)
  refine ⟨s0, by simp [m_againW, x_againW, gC_sI, gC_sS, gC_sR, gC_nw, gS_sI, gS_sS, gS_sR, gS_nw, gI_sI, gI_sS, gI_sR, gI_nw, gR_sI, gR_sS, gR_sR, gR_nw]; omega, ?_⟩
  have hne : s0 ≠ gC Ω 2 := by omega
  simpa [m_againW, x_againW, gC_sI, gC_sS, gC_sR, gC_nw, gS_sI, gS_sS, gS_sR, gS_nw, gI_sI, gI_sS, gI_sR, gI_nw, gR_sI, gR_sS, gR_sR, gR_nw, hne] using h2
theorem iv_again_O {Ω : zo_O} {s t : Nat} (hO : IvO Ω) (hS : IvS Ω) (hZ : IvZ Ω) (hn : gC Ω 8 < 30) (hs : s < gC Ω 3) (ht : t < gC Ω 3) : IvO (m_againW (x_againW Ω (gC Ω 8) (nI s) (nI t)) (gC Ω 8) (nI s) (nI t)) := by
  obtain ⟨z1, -, -, -, -, -, -, ⟨z2, z3⟩, -⟩ := hZ
  obtain ⟨o1, o2, o3, o4, o5⟩ := hO
  refine ⟨fun i hi => ?_, fun i hi => ?_, fun i hi => ?_, fun i hi => ?_, fun i hi => ?_⟩
  · have hi' : i < gC Ω 4 := by simp [m_againW, x_againW, gC_sI, gC_sS, gC_sR, gC_nw, gS_sI, gS_sS, gS_sR, gS_nw, gI_sI, gI_sS, gI_sR, gI_nw, gR_sI, gR_sS, gR_sR, gR_nw] at hi; omega
    have := o1 i hi'
    simp [m_againW, x_againW, gC_sI, gC_sS, gC_sR, gC_nw, gS_sI, gS_sS, gS_sR, gS_nw, gI_sI, gI_sS, gI_sR, gI_nw, gR_sI, gR_sS, gR_sR, gR_nw]
    exact this
  · have hi' : i < gC Ω 5 := by simp [m_againW, x_againW, gC_sI, gC_sS, gC_sR, gC_nw, gS_sI, gS_sS, gS_sR, gS_nw, gI_sI, gI_sS, gI_sR, gI_nw, gR_sI, gR_sS, gR_sR, gR_nw] at hi; omega
    have := o2 i hi'
    simp [m_againW, x_againW, gC_sI, gC_sS, gC_sR, gC_nw, gS_sI, gS_sS, gS_sR, gS_nw, gI_sI, gI_sS, gI_sR, gI_nw, gR_sI, gR_sS, gR_sR, gR_nw]
    exact this
  · have hi' : i < gC Ω 6 := by simp [m_againW, x_againW, gC_sI, gC_sS, gC_sR, gC_nw, gS_sI, gS_sS, gS_sR, gS_nw, gI_sI, gI_sS, gI_sR, gI_nw, gR_sI, gR_sS, gR_sR, gR_nw] at hi; omega
    have := o3 i hi'
    simp [m_againW, x_againW, gC_sI, gC_sS, gC_sR, gC_nw, gS_sI, gS_sS, gS_sR, gS_nw, gI_sI, gI_sS, gI_sR, gI_nw, gR_sI, gR_sS, gR_sR, gR_nw]
    exact this
  · obtain ⟨a0, b0, h1, h2, h3⟩ := o4 i (by simp [m_againW, x_againW, gC_sI, gC_sS, gC_sR, gC_nw, gS_sI, gS_sS, gS_sR, gS_nw, gI_sI, gI_sS, gI_sR, gI_nw, gR_sI, gR_sS, gR_sR, gR_nw] at hi; omega)
    refine ⟨a0, b0, by simp [m_againW, x_againW, gC_sI, gC_sS, gC_sR, gC_nw, gS_sI, gS_sS, gS_sR, gS_nw, gI_sI, gI_sS, gI_sR, gI_nw, gR_sI, gR_sS, gR_sR, gR_nw]; omega, by simp [m_againW, x_againW, gC_sI, gC_sS, gC_sR, gC_nw, gS_sI, gS_sS, gS_sR, gS_nw, gI_sI, gI_sS, gI_sR, gI_nw, gR_sI, gR_sS, gR_sR, gR_nw]; omega, ?_⟩
    have hne : a0 ≠ gC Ω 2 := by omega
    have hne2 : b0 ≠ gC Ω 2 := by omega
    simpa [m_againW, x_againW, gC_sI, gC_sS, gC_sR, gC_nw, gS_sI, gS_sS, gS_sR, gS_nw, gI_sI, gI_sS, gI_sR, gI_nw, gR_sI, gR_sS, gR_sR, gR_nw, hne, hne2] using h3
  · by_cases e : i = gC Ω 8
    · subst e
      refine ⟨s, t, by simp [m_againW, x_againW, gC_sI, gC_sS, gC_sR, gC_nw, gS_sI, gS_sS, gS_sR, gS_nw, gI_sI, gI_sS, gI_sR, gI_nw, gR_sI, gR_sS, gR_sR, gR_nw]; omega, by simp [m_againW, x_againW, gC_sI, gC_sS, gC_sR, gC_nw, gS_sI, gS_sS, gS_sR, gS_nw, gI_sI, gI_sS, gI_sR, gI_nw, gR_sI, gR_sS, gR_sR, gR_nw]; omega, ?_⟩
      simp [m_againW, x_againW, gC_sI, gC_sS, gC_sR, gC_nw, gS_sI, gS_sS, gS_sR, gS_nw, gI_sI, gI_sS, gI_sR, gI_nw, gR_sI, gR_sS, gR_sR, gR_nw]
    · obtain ⟨a0, b0, h1, h2, h3⟩ := o5 i (by simp [m_againW, x_againW, gC_sI, gC_sS, gC_sR, gC_nw, gS_sI, gS_sS, gS_sR, gS_nw, gI_sI, gI_sS, gI_sR, gI_nw, gR_sI, gR_sS, gR_sR, gR_nw] at hi; omega)
      refine ⟨a0, b0, by simp [m_againW, x_againW, gC_sI, gC_sS, gC_sR, gC_nw, gS_sI, gS_sS, gS_sR, gS_nw, gI_sI, gI_sS, gI_sR, gI_nw, gR_sI, gR_sS, gR_sR, gR_nw]; omega, by simp [m_againW, x_againW, gC_sI, gC_sS, gC_sR, gC_nw, gS_sI, gS_sS, gS_sR, gS_nw, gI_sI, gI_sS, gI_sR, gI_nw, gR_sI, gR_sS, gR_sR, gR_nw]; omega, ?_⟩
      simpa [m_againW, x_againW, gC_sI, gC_sS, gC_sR, gC_nw, gS_sI, gS_sS, gS_sR, gS_nw, gI_sI, gI_sS, gI_sR, gI_nw, gR_sI, gR_sS, gR_sR, gR_nw, e] using h3
theorem iv_again_Z {Ω : zo_O} {s t : Nat} (hZ : IvZ Ω) (hn : gC Ω 8 < 30) (hs : s < gC Ω 3) (ht : t < gC Ω 3) : IvZ (m_againW (x_againW Ω (gC Ω 8) (nI s) (nI t)) (gC Ω 8) (nI s) (nI t)) := by
  unfold IvZ at hZ ⊢
  simp [m_againW, x_againW, gC_sI, gC_sS, gC_sR, gC_nw, gS_sI, gS_sS, gS_sR, gS_nw, gI_sI, gI_sS, gI_sR, gI_nw, gR_sI, gR_sS, gR_sR, gR_nw] at hZ ⊢
  exact hZ
