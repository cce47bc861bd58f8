section G2
variable {gc g : Nat → Int32} {bl : Nat → Nat} {T N s l r a b n i : Nat}
theorem n_idx_first (h : n_idx bl n b = some i) : ∀ j, j < i → bl j ≠ b := by
  intro j
  induction j using Nat.strongRecOn with
  | ind j ih =>
    intro hj hb
    have hi := (n_idx_lt h).1
    have : n_idx bl n b = some j := by
      unfold n_idx
      exact m_hit (fun j' hj' => by simp [ih j' hj' (by omega)]) (by omega) (by simp [hb])
    rw [this] at h
    cases h
    exact Nat.lt_irrefl _ hj
theorem n_idx_none (h : n_idx bl n b = none) : ∀ j, j < n → bl j ≠ b := fun j hj => by
  unfold n_idx at h
  have := List.find?_eq_none.mp h j (List.mem_range.mpr hj)
  simpa using this
theorem n_cause_eq (h233 : gc 233 = g 233) (hbl : ∀ i, i < r → g (235 + i) = nI (bl i) ∧ bl i < 16) (hb : b < 16) : n_cause gc bl r b s l = m_cause g b r s l := by
  have e : ∀ i, i < r → (g (235 + i) = nI b ↔ bl i = b) := fun i hi => by
    rw [(hbl i hi).1]
    exact nI_eq (by have := (hbl i hi).2; omega) (by omega)
  unfold n_cause m_cause
  rw [h233]
  split
  · rfl
  · cases hx : n_idx bl r b with
    | none =>
      rw [m_amongF (fun j hj => fun z => n_idx_none hx j (by omega) ((e j (by omega)).mp z))]
      rfl
    | some i =>
      obtain ⟨hi, hib⟩ := n_idx_lt hx
      show (if i < s * l then 2 else 1) = _
      by_cases h1 : i < s * l
      · rw [if_pos h1, m_amongT (i := i) (by omega) ((e i hi).mpr hib), if_pos rfl]
      · rw [if_neg h1, m_amongF (fun j hj => fun z => n_idx_first hx j (by omega) ((e j (by omega)).mp z))]
        rfl
end G2
