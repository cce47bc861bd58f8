section U24
theorem GI_g0 : GI g0 0 0 2 2 0 := by
  have o : ∀ j, (j < 73 ∨ 233 ≤ j) → g0 j = upd (upd (fun _ => 0) 1 2) 2 2 j := fun j hj => m_empties_o _ hj 16 (by omega)
  have o0 : ∀ j, j ≠ 1 → j ≠ 2 → upd (upd (fun _ => (0 : Int32)) 1 2) 2 2 j = 0 := fun j h1 h2 => by rw [upd_ne h2, upd_ne h1]
  have l := m_empties_c (upd (upd (fun _ => (0 : Int32)) 1 2) 2 2) 16 (by omega)
  refine ⟨⟨⟨?_, by omega⟩, ⟨?_, by omega, by omega⟩, ⟨?_, by omega, by omega⟩, ⟨0, by omega, ?_⟩, Or.inl ?_, fun j hj => ?_⟩, ⟨?_, fun k hk => ⟨0, by omega, ?_⟩⟩, fun c hc => Or.inl (l c hc), fun a c ha hc _ h1 _ => absurd (l a ha).1 h1, ⟨fun i hi => absurd hi (Nat.not_lt_zero _), fun i j _ hj => absurd hj (Nat.not_lt_zero _)⟩, fun b hb => ⟨⟨0, by omega, ?_⟩, 0, by omega, ?_⟩⟩
  · rw [o _ (by omega), o0 _ (by omega) (by omega), nI_0]
  · rw [o _ (by omega)]; rfl
  · rw [o _ (by omega)]; rfl
  · rw [o _ (by omega), o0 _ (by omega) (by omega), nI_0]
  · rw [o _ (by omega), o0 _ (by omega) (by omega)]
  · rw [o _ (by omega), o0 _ (by omega) (by omega)]
  · rw [o _ (by omega), o0 _ (by omega) (by omega), nI_0]
  · rw [o _ (by omega), o0 _ (by omega) (by omega), nI_0]
  · rw [o _ (by omega), o0 _ (by omega) (by omega), nI_0]
  · rw [o _ (by omega), o0 _ (by omega) (by omega), nI_0]
end U24
