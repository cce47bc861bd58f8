-- the class's numbers gc against the twin's g
def RM (gc g : Nat → Int32) (s l : Nat) : Prop := (∀ j, (j = 0 ∨ (2 ≤ j ∧ j < 73) ∨ j = 233 ∨ (251 ≤ j ∧ j < 293)) → gc j = g j) ∧ ∀ a, lin s l a → gc (73 + a) = g (73 + a) ∧ gc (89 + a) = g (89 + a) ∧ gc (105 + a) = g (105 + a) ∧ (g (73 + a) ≠ -1 → gc (121 + a) = g (121 + a) ∧ gc (137 + a) = g (137 + a) ∧ gc (153 + a) = g (153 + a) ∧ ∀ k, k < 4 → gc (169 + 4 * a + k) = g (169 + 4 * a + k)) ∧ (g (73 + a) = -1 → gc (121 + a) = -1 ∧ gc (137 + a) = -1 ∧ gc (153 + a) = -1)
section G1
variable {gc g : Nat → Int32} {T N s l r a b : Nat}
theorem RM.holder (hG : GI g T N s l r) (hR : RM gc g s l) (hb : b < 16) : (n_in gc (b % s) l (nI b)).map (fun k => 4 * (b % s) + k) = m_lw g b := by
  obtain ⟨hs1, hs4⟩ := hG.1.2.1.2
  obtain ⟨hl1, hl4⟩ := hG.1.2.2.1.2
  have hq : b % s < s := Nat.mod_lt _ (by omega)
  have e : ∀ k, k < l → gc (73 + (4 * (b % s) + k)) = g (73 + (4 * (b % s) + k)) := fun k hk => (hR.2 _ (lin_q hs4 hl4 hq hk)).1
  cases hw : m_lw g b with
  | none =>
    have : n_in gc (b % s) l (nI b) = none := by
      unfold n_in
      rw [List.find?_eq_none]
      intro k hk
      have hk := List.mem_range.mp hk
      rw [e k hk]
      simp [m_lw_none hw (4 * (b % s) + k) (by omega)]
    rw [this]
    rfl
  | some a =>
    obtain ⟨ha, hab⟩ := m_lw_lt hw
    have hne : g (73 + a) ≠ -1 := by rw [hab]; exact nI_ne b (by omega)
    have hpl : a / 4 = b % s ∧ a % 4 < l := by
      rcases hG.2.2.1 a ha with ⟨h1, -⟩ | ⟨b', d, x, y, n, e1, e2, e3, e4, -⟩
      · exact absurd h1 hne
      · rw [hab] at e2
        have := (nI_eq (by omega) (by omega)).mp e2
        rw [this]
        exact ⟨e3, e4⟩
    have ea : 4 * (b % s) + a % 4 = a := by omega
    have : n_in gc (b % s) l (nI b) = some (a % 4) := by
      unfold n_in
      refine m_hit (fun k hk => ?_) hpl.2 (by rw [e _ hpl.2, ea, hab]; simp)
      rw [e k (by omega)]
      simp only [decide_eq_false_iff_not]
      intro z
      have hne2 : g (73 + (4 * (b % s) + k)) ≠ -1 := by rw [z]; exact nI_ne b (by omega)
      exact (hG.2.2.2.1 (4 * (b % s) + k) a (by omega) ha (by omega) hne2 hne).1 (z.trans hab.symm)
    rw [this]
    show some (4 * (b % s) + a % 4) = some a
    rw [ea]
end G1
