-- the rules' comparators, over lines
/-- line a's number for the rule r (lower: gives way first) -/
def n_rk (g : Nat → Int32) (r a : Nat) : Nat := match r with
  | 0 => (g (121 + a)).toNatClampNeg
  | 1 => (g (137 + a)).toNatClampNeg
  | 2 => (g (153 + a)).toNatClampNeg * 2147483648 + (g (121 + a)).toNatClampNeg
  | _ => (m_ones (g (89 + a))).toNatClampNeg * 2147483648 + (g (121 + a)).toNatClampNeg
noncomputable def n_rkA (A : Nat → Nat) (s l : Nat) (g : Nat → Int32) (r : Nat) : Nat → Nat := fun y => match (List.range 16).find? (fun a => @decide (lin s l a ∧ A (6 + a) = y) (Classical.propDecidable _)) with
  | some a => n_rk g r a
  | none => 0
/-- a held line's numbers are small -/
def LN (g : Nat → Int32) (a : Nat) : Prop := (∃ d, d < 16 ∧ g (89 + a) = nI d) ∧ (∃ x, x < 2 ^ 30 ∧ g (121 + a) = nI x) ∧ (∃ x, x < 2 ^ 30 ∧ g (137 + a) = nI x) ∧ ∃ x, x < 2 ^ 30 ∧ g (153 + a) = nI x
section E1
variable {κ A : Nat → Nat} {h h' H : xH} {g : Nat → Int32} {s l r a b b3 : Nat} {w : Nat × Nat} {S : Nat → Prop}
theorem n_rkA_l (hA : mOK κ A s l) (hl : lin s l a) : n_rkA A s l g r (A (6 + a)) = n_rk g r a := by
  unfold n_rkA
  cases hf : (List.range 16).find? (fun a' => @decide (lin s l a' ∧ A (6 + a') = A (6 + a)) (Classical.propDecidable _)) with
  | none =>
    have := List.find?_eq_none.mp hf a (List.mem_range.mpr hl.1)
    simp [hl] at this
  | some a' =>
    have h1 := List.find?_some hf
    simp only [decide_eq_true_eq] at h1
    have := hA.2 _ _ (mdl h1.1) (mdl hl) h1.2
    have e : a' = a := by omega
    rw [e]
theorem nI_diff {x y : Nat} (hx : x < 2 ^ 30) (hy : y < 2 ^ 30) : (nI x - nI y < 0 ↔ x < y) ∧ (0 < nI x - nI y ↔ y < x) ∧ (nI x - nI y = 0 ↔ x = y) := by
  have h8 : (nI x - nI y).toInt = (x : Int) - (y : Int) := by
    rw [Int32.toInt_sub, nI_toInt (by omega), nI_toInt (by omega)]
    exact Int.bmod_eq_of_le (by omega) (by omega)
  have h0 : (0 : Int32).toInt = 0 := by decide
  refine ⟨?_, ?_, ?_⟩
  · rw [Int32.lt_iff_toInt_lt, h8, h0]; omega
  · rw [Int32.lt_iff_toInt_lt, h8, h0]; omega
  · rw [← Int32.toInt_inj, h8, h0]; omega
/-- what two lines' comparison answers -/
def n_cm (g : Nat → Int32) (r a b : Nat) : Int32 := match r with
  | 0 => g (121 + a) - g (121 + b)
  | 1 => g (137 + a) - g (137 + b)
  | 2 => if g (153 + a) = g (153 + b) then g (121 + a) - g (121 + b) else g (153 + a) - g (153 + b)
  | _ => if m_ones (g (89 + a)) - m_ones (g (89 + b)) = 0 then g (121 + a) - g (121 + b) else m_ones (g (89 + a)) - m_ones (g (89 + b))
theorem n_cm_ok (ha : LN g a) (hb : LN g b) : (n_cm g r a b < 0 ↔ n_rk g r a < n_rk g r b) ∧ (0 < n_cm g r a b ↔ n_rk g r b < n_rk g r a) := by
  obtain ⟨⟨d, hd, ed⟩, ⟨u, hu, eu⟩, ⟨v, hv, ev⟩, ⟨c, hc, ec⟩⟩ := ha
  obtain ⟨⟨d', hd', ed'⟩, ⟨u', hu', eu'⟩, ⟨v', hv', ev'⟩, ⟨c', hc', ec'⟩⟩ := hb
  have p := m_pop d hd
  have p' := m_pop d' hd'
  unfold n_cm n_rk
  rw [ed, eu, ev, ec, ed', eu', ev', ec', p.1, p'.1]
  generalize (m_ones (nI d)).toNatClampNeg = o at p
  generalize (m_ones (nI d')).toNatClampNeg = o' at p'
  have hU := nI_diff hu hu'
  have hV := nI_diff hv hv'
  have hC := nI_diff hc hc'
  have hO := nI_diff (x := o) (y := o') (by omega) (by omega)
  have eC : nI c = nI c' ↔ c = c' := nI_eq (by omega) (by omega)
  rw [nI_clamp (n := u) (by omega), nI_clamp (n := u') (by omega), nI_clamp (n := v) (by omega), nI_clamp (n := v') (by omega), nI_clamp (n := c) (by omega), nI_clamp (n := c') (by omega), nI_clamp (n := o) (by omega), nI_clamp (n := o') (by omega)]
  split
  · exact ⟨hU.1, hU.2.1⟩
  · exact ⟨hV.1, hV.2.1⟩
  · by_cases h1 : c = c'
    · rw [if_pos (eC.mpr h1)]
      refine ⟨hU.1.trans ?_, hU.2.1.trans ?_⟩ <;> omega
    · rw [if_neg (fun z => h1 (eC.mp z))]
      refine ⟨hC.1.trans ?_, hC.2.1.trans ?_⟩ <;> omega
  · by_cases h1 : o = o'
    · rw [if_pos (hO.2.2.mpr h1)]
      refine ⟨hU.1.trans ?_, hU.2.1.trans ?_⟩ <;> omega
    · rw [if_neg (fun z => h1 (hO.2.2.mp z))]
      refine ⟨hO.1.trans ?_, hO.2.1.trans ?_⟩ <;> omega
end E1
