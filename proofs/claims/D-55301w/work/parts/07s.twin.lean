noncomputable def n_inv (A : Nat → Nat) (s l : Nat) (y : Nat) : Nat := match (List.range 16).find? (fun a => @decide (lin s l a ∧ A (6 + a) = y) (Classical.propDecidable _)) with
  | some a => a
  | none => 0
section E2
variable {κ A : Nat → Nat} {h h' H : xH} {g : Nat → Int32} {s l r a b b3 : Nat} {w : Nat × Nat} {S : Nat → Prop}
theorem n_inv_l (hA : mOK κ A s l) (hl : lin s l a) : n_inv A s l (A (6 + a)) = a := by
  unfold n_inv
  cases hf : (List.range 16).find? (fun a' => @decide (lin s l a' ∧ A (6 + a') = A (6 + a)) (Classical.propDecidable _)) with
  | none =>
    have := List.find?_eq_none.mp hf a (List.mem_range.mpr hl.1)
    simp [hl] at this
  | some a' =>
    have h1 := List.find?_some hf
    simp only [decide_eq_true_eq] at h1
    have := hA.2 _ _ (mdl h1.1) (mdl hl) h1.2
    show a' = a
    omega
theorem cc_cmp7 {k j : Nat} (ea : H a = some (.inl (5, lFs A g k))) (eb : H b = some (.inl (5, lFs A g j))) (K : Int32 → xH → Prop) (hK : K (g (121 + k) - g (121 + j)) H) : P_X7_compare κ b3 (some a) (some b) (H, w) K := by
  unfold P_X7_compare
  rw [t_nn, g_gi ea rfl, t_nn, g_gi eb rfl]
  exact hK
theorem cc_dirtyH {k : Nat} (ea : H a = some (.inl (5, lFs A g k))) (hd : ∃ d, d < 16 ∧ g (89 + k) = nI d) (K : Int32 → xH → Prop) (hK : K (m_ones (g (89 + k))) H) : P_X3_dirtyWords κ a (H, w) K := by
  unfold P_X3_dirtyWords
  obtain ⟨d, hd, e⟩ := hd
  rw [g_gi ea rfl]
  rw [e] at hK ⊢
  exact t_pure (r := m_ones (nI d)) (fun τ K hk => cc_size hd τ K hk) hK
theorem CM_line (hA : mOK κ A s l) (hr : r < 4) (hb3 : H b3 = some (.inl (28 + r, []))) (hH : ∀ a, lin s l a → H (A (6 + a)) = some (.inl (5, lFs A g a))) (hS : ∀ y, S y → ∃ a, lin s l a ∧ y = A (6 + a) ∧ LN g a) : CM κ H b3 S (fun y => n_rk g r (n_inv A s l y)) := by
  refine ⟨fun x y => n_cm g r (n_inv A s l x) (n_inv A s l y), fun x y hx hy => ?_, fun H' hs x y hx hy w K hK => ?_⟩
  · obtain ⟨a, ha, rfl, hLa⟩ := hS x hx
    obtain ⟨b, hb, rfl, hLb⟩ := hS y hy
    show (n_cm g r (n_inv A s l (A (6 + a))) (n_inv A s l (A (6 + b))) < 0 ↔ n_rk g r (n_inv A s l (A (6 + a))) < n_rk g r (n_inv A s l (A (6 + b)))) ∧ (0 < n_cm g r (n_inv A s l (A (6 + a))) (n_inv A s l (A (6 + b))) ↔ n_rk g r (n_inv A s l (A (6 + b))) < n_rk g r (n_inv A s l (A (6 + a))))
    rw [n_inv_l hA ha, n_inv_l hA hb]
    exact n_cm_ok hLa hLb
  · have e3 : H' b3 = some (.inl (28 + r, [])) := by rw [hs b3 (Or.inr rfl)]; exact hb3
    have hx' := hs x (Or.inl hx)
    have hy' := hs y (Or.inl hy)
    obtain ⟨a, ha, rfl, hLa⟩ := hS x hx
    obtain ⟨b, hb, rfl, hLb⟩ := hS y hy
    have hK : K (n_cm g r (n_inv A s l (A (6 + a))) (n_inv A s l (A (6 + b)))) H' := hK
    rw [n_inv_l hA ha, n_inv_l hA hb] at hK
    have ea : H' (A (6 + a)) = some (.inl (5, lFs A g a)) := hx'.trans (hH a ha)
    have eb : H' (A (6 + b)) = some (.inl (5, lFs A g b)) := hy'.trans (hH b hb)
    unfold cP
    rcases (show r = 0 ∨ r = 1 ∨ r = 2 ∨ r = 3 by omega) with rfl | rfl | rfl | rfl
    · refine Or.inl ⟨⟨_, e3⟩, ?_⟩
      unfold P_X7_compare_2
      rw [t_nn, g_rc ea, true_and, t_nn, g_rc eb, true_and, g_rc e3, true_and]
      exact c_pure (r := g (121 + a) - g (121 + b)) (fun w K hk => cc_cmp7 ea eb K hk) hK
    · refine Or.inr (Or.inl ⟨⟨_, e3⟩, ?_⟩)
      unfold P_X8_compare
      rw [t_nn, g_rc ea, true_and, t_nn, g_rc eb, true_and, g_rc e3, true_and]
      refine c_pure (r := g (137 + a) - g (137 + b)) (fun w K hk => ?_) hK
      unfold P_X8_compare_2
      rw [t_nn, g_gi ea rfl, t_nn, g_gi eb rfl]
      exact hk
    · refine Or.inr (Or.inr (Or.inl ⟨⟨_, e3⟩, ?_⟩))
      unfold P_X9_compare
      rw [t_nn, g_rc ea, true_and, t_nn, g_rc eb, true_and, g_rc e3, true_and]
      refine c_pure (r := n_cm g 2 a b) (fun w K hk => ?_) hK
      have hk : K (if g (153 + a) = g (153 + b) then g (121 + a) - g (121 + b) else g (153 + a) - g (153 + b)) H' := hk
      unfold P_X9_compare_2
      rw [t_nn, g_gi ea rfl, t_nn, g_gi eb rfl]
      refine ⟨fun z => ?_, fun z => ?_⟩
      · rw [if_pos z] at hk
        rw [g_rc e3, true_and]
        refine c_pure (r := g (121 + a) - g (121 + b)) (fun w K hk => ?_) hk
        unfold P_X7_compare_X9
        rw [t_nn, g_gi ea rfl, t_nn, g_gi eb rfl]
        exact hk
      · rw [if_neg z] at hk
        rw [g_gi ea rfl, g_gi eb rfl]
        exact hk
    · refine Or.inr (Or.inr (Or.inr (Or.inl ⟨⟨_, e3⟩, ?_⟩)))
      unfold P_X10_compare
      rw [t_nn, g_rc ea, true_and, t_nn, g_rc eb, true_and, g_rc e3, true_and]
      refine c_pure (r := n_cm g 3 a b) (fun w K hk => ?_) hK
      have hk : K (if m_ones (g (89 + a)) - m_ones (g (89 + b)) = 0 then g (121 + a) - g (121 + b) else m_ones (g (89 + a)) - m_ones (g (89 + b))) H' := hk
      unfold P_X10_compare_2
      rw [t_nn, g_rc ea, true_and]
      refine c_pure (r := m_ones (g (89 + a))) (fun w K hk => cc_dirtyH ea hLa.1 K hk) ?_
      rw [t_nn, g_rc eb, true_and]
      refine c_pure (r := m_ones (g (89 + b))) (fun w K hk => cc_dirtyH eb hLb.1 K hk) ?_
      refine ⟨fun z => ?_, fun z => ?_⟩
      · rw [if_pos z] at hk
        rw [g_rc e3, true_and]
        refine c_pure (r := g (121 + a) - g (121 + b)) (fun w K hk => ?_) hk
        unfold P_X7_compare_X10
        rw [t_nn, g_gi ea rfl, t_nn, g_gi eb rfl]
        exact hk
      · rw [if_neg z] at hk
        exact hk
theorem cc_byRule (hr : r < 4) {c0 s0 : Nat} (hc : 1 ≤ c0) (K : Option Nat → xH → Prop) (hK : ∀ q, H q = none → κ 0 ≤ q → K (some q) (xup H q (.inl (28 + r, [])))) : P_X1_byRule κ (nI r) (H, c0, s0) K := by
  unfold P_X1_byRule
  have e0 : nI r = (0 : Int32) ↔ r = 0 := nI_eq (b := 0) (by omega) (by decide)
  have e1 : nI r = (1 : Int32) ↔ r = 1 := nI_eq (b := 1) (by omega) (by decide)
  have e2 : nI r = (2 : Int32) ↔ r = 2 := nI_eq (b := 2) (by omega) (by decide)
  rw [e0, e1, e2]
  refine ⟨fun z => ?_, fun z0 => ⟨fun z => ?_, fun z1 => ⟨fun z => ?_, fun z2 => ?_⟩⟩⟩
  · subst z
    refine ⟨hc, Nat.zero_le _, fun q hq hκ => ?_⟩
    exact c_pure (r := ()) (fun w K hk => hk) (hK q hq hκ)
  · subst z
    refine ⟨hc, Nat.zero_le _, fun q hq hκ => ?_⟩
    exact c_pure (r := ()) (fun w K hk => hk) (hK q hq hκ)
  · subst z
    refine ⟨hc, Nat.zero_le _, fun q hq hκ => ?_⟩
    refine c_pure (r := ()) (fun w K hk => ?_) (hK q hq hκ)
    unfold P_X9_init
    exact c_pure (r := ()) (fun w K hk => hk) hk
  · obtain rfl : r = 3 := by omega
    refine ⟨hc, Nat.zero_le _, fun q hq hκ => ?_⟩
    refine c_pure (r := ()) (fun w K hk => ?_) (hK q hq hκ)
    unfold P_X10_init
    exact c_pure (r := ()) (fun w K hk => hk) hk
end E2
