section T6
variable {κ A : Nat → Nat} {h : xH} {t : Nat → Nat → Int32} {g : Nat → Int32} {w : Nat × Nat}
theorem nI_mul (a b : Nat) : nI a * nI b = nI (a * b) := (Int32.ofNat_mul a b).symm
def m_among (g : Nat → Int32) (n b : Nat) : Bool := (List.range n).any fun k => g (235 + k) = nI b
def m_causeBy (g : Nat → Int32) (b r s l : Nat) : Int32 := if (g 233 >>> (nI b &&& 31)) &&& 1 = 0 then 0 else if m_among g (min r (s * l)) b then 2 else 1
theorem i_1 : vp_in (1 : Int32) 357 ↔ True := iff_true_intro (by unfold vp_in; decide)
theorem i_2 : vp_in (2 : Int32) 357 ↔ True := iff_true_intro (by unfold vp_in; decide)
theorem i_233 : vp_in (233 : Int32) 357 ↔ True := iff_true_intro (by unfold vp_in; decide)
theorem i_234 : vp_in (234 : Int32) 357 ↔ True := iff_true_intro (by unfold vp_in; decide)
theorem l_1 : ((1 : Int32)).toNatClampNeg = 1 := by decide
theorem l_2 : ((2 : Int32)).toNatClampNeg = 2 := by decide
theorem l_233 : ((233 : Int32)).toNatClampNeg = 233 := by decide
theorem l_234 : ((234 : Int32)).toNatClampNeg = 234 := by decide
theorem m_amongF {g : Nat → Int32} {n b : Nat} (h : ∀ j, j < n → g (235 + j) ≠ nI b) : m_among g n b = false := by
  unfold m_among
  rw [List.any_eq_false]
  intro x hx
  rw [List.mem_range] at hx
  simp [h x hx]
theorem m_amongT {g : Nat → Int32} {n b i : Nat} (hi : i < n) (h : g (235 + i) = nI b) : m_among g n b = true := by
  unfold m_among
  rw [List.any_eq_true]
  exact ⟨i, List.mem_range.mpr hi, by simp [h]⟩
theorem tc_causeBy (hA : tOK κ A) {b r s l : Nat} (hr : g 234 = nI r) (hr16 : r ≤ 16) (hs : g 1 = nI s) (h4 : s ≤ 4) (hl : g 2 = nI l) (hl4 : l ≤ 4) (K : Int32 → xH → Prop) (hK : K (m_causeBy g b r s l) (tput h A (tg t g))) : P_X4_causeBy κ (A 20) (nI b) (tput h A (tg t g), w) K := by
  have hsl : s * l ≤ 16 := Nat.mul_le_mul h4 hl4
  unfold P_X4_causeBy
  unfold m_causeBy at hK
  simp only [t_gq_0 hA, t_nn, t_ag hA, i_233, l_233, true_and]
  refine ⟨fun h0 => ?_, fun h0 => ?_⟩
  · rw [if_pos h0] at hK
    exact hK
  rw [if_neg h0] at hK
  refine x_for (min r (s * l)) (fun i v σ => v = nI i ∧ i ≤ min r (s * l) ∧ σ = (tput h A (tg t g), w) ∧ ∀ j, j < i → g (235 + j) ≠ nI b) ?_ ?_ ⟨rfl, by omega, rfl, fun j hj => absurd hj (Nat.not_lt_zero _)⟩
  · rintro i v σ ⟨rfl, -, rfl, hj⟩ hi self hself
    unfold B_X4_causeBy_19
    simp (disch := omega) only [t_gq_0 hA, t_nn, t_ag hA, i_1, i_2, i_234, l_1, l_2, l_234, true_and, hr, hs, hl, nI_mul, a_235, vi_n, c_n]
    refine ⟨fun z => absurd ((nI_leI (by omega) (by omega)).mp z) (by omega), fun _ => ⟨fun z => absurd ((nI_leI (by omega) (by omega)).mp z) (by omega), fun _ => ⟨fun z => ?_, fun z => ?_⟩⟩⟩
    · rw [m_amongT hi z, if_pos rfl] at hK
      exact hK
    · rw [(nI_succ i).symm]
      refine hself _ _ ⟨rfl, by omega, rfl, fun j hj' => ?_⟩
      rcases Nat.lt_succ_iff_lt_or_eq.mp hj' with h1 | h1
      · exact hj j h1
      · rw [h1]; exact z
  · rintro v σ ⟨rfl, -, rfl, hj⟩ self
    rw [m_amongF hj] at hK
    unfold B_X4_causeBy_19
    simp (disch := omega) only [t_gq_0 hA, t_nn, t_ag hA, i_1, i_2, i_234, l_1, l_2, l_234, true_and, hr, hs, hl, nI_mul]
    refine ⟨fun _ => by simpa using hK, fun z => ⟨fun _ => by simpa using hK, fun y => ?_⟩⟩
    have z : ¬ r ≤ min r (s * l) := fun q => z ((nI_leI (by omega) (by omega)).mpr q)
    have y : ¬ s * l ≤ min r (s * l) := fun q => y ((nI_leI (by omega) (by omega)).mpr q)
    rcases Nat.le_total r (s * l) with q | q
    · exact absurd (Nat.le_of_eq (Nat.min_eq_left q).symm) z
    · exact absurd (Nat.le_of_eq (Nat.min_eq_right q).symm) y
end T6
