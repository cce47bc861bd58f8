section T8
variable {κ A : Nat → Nat} {h : xH} {t : Nat → Nat → Int32} {g : Nat → Int32} {w : Nat × Nat}
/-- writesBack of line a that holds block b (if it is dirty) -/
def m_wB (g : Nat → Int32) (a b : Nat) : Nat → Int32 := if m_ones (g (89 + a)) = 0 then g else m_wb g a b
theorem tc_writesBack (hA : tOK κ A) {a b : Nat} (ha : a < 16) (hB : ¬ m_ones (g (89 + a)) = 0 → b < 16 ∧ g (73 + a) = nI b) (K : Int32 → xH → Prop) (hK : K (m_ones (g (89 + a))) (tput h A (tg t (m_wB g a b)))) : P_X4_writesBack κ (A 20) (nI a) (tput h A (tg t g), w) K := by
  unfold m_wB at hK
  by_cases h0 : m_ones (g (89 + a)) = 0
  · rw [if_pos h0, h0] at hK
    exact tc_writesBack0 hA ha h0 K hK
  · rw [if_neg h0] at hK
    exact tc_writesBack1 hA ha (hB h0).1 (hB h0).2 h0 K hK
def m_cause (g : Nat → Int32) (b r s l : Nat) : Nat := if (g 233 >>> (nI b &&& 31)) &&& 1 = 0 then 0 else if m_among g (min r (s * l)) b then 2 else 1
theorem m_cause_lt (g : Nat → Int32) (b r s l : Nat) : m_cause g b r s l < 3 := by
  unfold m_cause
  split
  · decide
  · split <;> decide
theorem m_cause_eq (g : Nat → Int32) (b r s l : Nat) : m_causeBy g b r s l = nI (m_cause g b r s l) := by
  unfold m_causeBy m_cause
  split
  · decide
  · split <;> decide
end T8
