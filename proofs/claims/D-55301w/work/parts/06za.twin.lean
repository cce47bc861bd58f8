section U17
variable {g g' g1 : Nat → Int32} {T T' T1 N s l r a b : Nat}
/-- numbers of which the invariant says nothing -/
def fQ (j : Nat) : Prop := (5 ≤ j ∧ j < 69) ∨ (169 ≤ j ∧ j < 234) ∨ (283 ≤ j ∧ j < 357)
theorem GI.free (he : ∀ j, ¬ fQ j → g' j = g j) (h : GI g T N s l r) : GI g' T N s l r := by
  obtain ⟨hA, hG, hL, hD, hR, hC⟩ := h
  have e : ∀ j, (j < 5 ∨ (69 ≤ j ∧ j < 169) ∨ (234 ≤ j ∧ j < 283) ∨ 357 ≤ j) → g' j = g j := fun j hj => he j (by unfold fQ; omega)
  refine ⟨?_, ?_, fun c hc => ?_, ?_, ?_, ?_⟩
  · exact GA.congr (r' := r) (by rw [e _ (by omega)]; exact hA.1.1) hA.1.2 (e _ (by omega)) (e _ (by omega)) (e _ (by omega)) (e _ (by omega)) (fun j hj => by rw [e _ (by omega)]; exact hA.2.2.2.2.2 j hj) hA
  · exact GT.of (e _ (by omega)) (fun k hk => e _ (by omega)) hG
  · exact LOK.congr (Nat.le_refl _) (e _ (by omega)) (e _ (by omega)) (e _ (by omega)) (e _ (by omega)) (e _ (by omega)) (e _ (by omega)) (hL c hc)
  · exact GD.congr (fun c hc => ⟨e _ (by omega), e _ (by omega), e _ (by omega)⟩) hD
  · exact GR.congr (fun i hi => e _ (by have := hA.1.2; omega)) hR
  · exact GC.congr (Nat.le_refl _) (fun c hc => ⟨e _ (by omega), e _ (by omega)⟩) hC
theorem GI.updf {i : Nat} {v : Int32} (hi : fQ i) (h : GI g T N s l r) : GI (upd g i v) T N s l r := GI.free (fun j hj => upd_ne (fun z => hj (by rw [z]; exact hi))) h
theorem m_emptiesLine_c (g : Nat → Int32) {a c j : Nat} (ha : a < 16) (hc : c < 16) (hca : c ≠ a) (hj : j = 73 ∨ j = 89 ∨ j = 105 ∨ j = 121 ∨ j = 137 ∨ j = 153) : m_emptiesLine g a (j + c) = g (j + c) := by
  simp only [m_emptiesLine]
  rw [upd_ne (by omega), upd_ne (by omega), upd_ne (by omega), upd_ne (by omega), upd_ne (by omega), upd_ne (by omega), upd_ne (by omega), upd_ne (by omega), upd_ne (by omega), upd_ne (by omega)]
theorem m_emptiesLine_73 (g : Nat → Int32) {a : Nat} (ha : a < 16) : m_emptiesLine g a (73 + a) = -1 := by
  simp only [m_emptiesLine]
  rw [upd_ne (by omega), upd_ne (by omega), upd_ne (by omega), upd_ne (by omega), upd_ne (by omega), upd_ne (by omega), upd_ne (by omega), upd_ne (by omega), upd_ne (by omega), upd_eq]
theorem m_emptiesLine_89 (g : Nat → Int32) {a : Nat} (ha : a < 16) : m_emptiesLine g a (89 + a) = 0 := by
  simp only [m_emptiesLine]
  rw [upd_ne (by omega), upd_ne (by omega), upd_ne (by omega), upd_ne (by omega), upd_ne (by omega), upd_ne (by omega), upd_ne (by omega), upd_ne (by omega), upd_eq]
theorem m_emptiesLine_105 (g : Nat → Int32) {a : Nat} (ha : a < 16) : m_emptiesLine g a (105 + a) = 0 := by
  simp only [m_emptiesLine]
  rw [upd_ne (by omega), upd_ne (by omega), upd_ne (by omega), upd_ne (by omega), upd_ne (by omega), upd_ne (by omega), upd_ne (by omega), upd_eq]
theorem m_emptiesLine_121 (g : Nat → Int32) {a : Nat} (ha : a < 16) : m_emptiesLine g a (121 + a) = 0 := by
  simp only [m_emptiesLine]
  rw [upd_ne (by omega), upd_ne (by omega), upd_ne (by omega), upd_ne (by omega), upd_ne (by omega), upd_ne (by omega), upd_eq]
theorem m_emptiesLine_137 (g : Nat → Int32) {a : Nat} (ha : a < 16) : m_emptiesLine g a (137 + a) = 0 := by
  simp only [m_emptiesLine]
  rw [upd_ne (by omega), upd_ne (by omega), upd_ne (by omega), upd_ne (by omega), upd_ne (by omega), upd_eq]
theorem m_emptiesLine_153 (g : Nat → Int32) {a : Nat} (ha : a < 16) : m_emptiesLine g a (153 + a) = 0 := by
  simp only [m_emptiesLine]
  rw [upd_ne (by omega), upd_ne (by omega), upd_ne (by omega), upd_ne (by omega), upd_eq]
theorem GI.empties (ha : a < 16) (h : GI g T N s l r) : GI (m_emptiesLine g a) T N s l r := by
  obtain ⟨hA, hG, hL, hD, hR, hC⟩ := h
  have o := fun j hj => m_emptiesLine_o g a j ha hj
  have oc := fun c hc hca j hj => m_emptiesLine_c g (a := a) (c := c) (j := j) ha hc hca hj
  refine ⟨?_, ?_, fun c hc => ?_, fun c d hc hd hcd h1 h2 => ?_, ?_, ?_⟩
  · exact GA.congr (r' := r) (by rw [o _ (by omega)]; exact hA.1.1) hA.1.2 (o _ (by omega)) (o _ (by omega)) (o _ (by omega)) (o _ (by omega)) (z_emptiesLine ha hA.2.2.2.2.2) hA
  · exact GT.of (o _ (by omega)) (fun k hk => o _ (by omega)) hG
  · by_cases hca : c = a
    · subst hca
      exact Or.inl ⟨m_emptiesLine_73 g hc, m_emptiesLine_89 g hc, m_emptiesLine_105 g hc, m_emptiesLine_121 g hc, m_emptiesLine_137 g hc, m_emptiesLine_153 g hc⟩
    · exact LOK.congr (Nat.le_refl _) (oc c hc hca 73 (by omega)) (oc c hc hca 89 (by omega)) (oc c hc hca 105 (by omega)) (oc c hc hca 121 (by omega)) (oc c hc hca 137 (by omega)) (oc c hc hca 153 (by omega)) (hL c hc)
  · by_cases hca : c = a
    · subst hca
      exact absurd (m_emptiesLine_73 g hc) h1
    · by_cases hda : d = a
      · subst hda
        exact absurd (m_emptiesLine_73 g hd) h2
      · rw [oc c hc hca 73 (by omega)] at h1 ⊢
        rw [oc d hd hda 73 (by omega)] at h2 ⊢
        rw [oc c hc hca 121 (by omega), oc d hd hda 121 (by omega), oc c hc hca 137 (by omega), oc d hd hda 137 (by omega)]
        exact hD c d hc hd hcd h1 h2
  · exact GR.congr (fun i hi => o _ (by omega)) hR
  · exact GC.congr (Nat.le_refl _) (fun c hc => ⟨o _ (by omega), o _ (by omega)⟩) hC
theorem pigeon : ∀ (n m : Nat) (f : Nat → Nat), (∀ i, i < m → f i < n) → (∀ i j, i < j → j < m → f i ≠ f j) → m ≤ n := by
  intro n
  induction n with
  | zero =>
    intro m f h1 _
    rcases Nat.eq_zero_or_pos m with z | z
    · omega
    · exact absurd (h1 0 z) (Nat.not_lt_zero _)
  | succ n ih =>
    intro m f h1 h2
    by_cases hx : ∃ i, i < m ∧ f i = n
    · obtain ⟨i0, hi0, e0⟩ := hx
      have := ih (m - 1) (fun i => if i < i0 then f i else f (i + 1)) (fun i hi => by
        have a1 : ∀ k, k < m → k ≠ i0 → f k < n := fun k hk hne => by
          have b1 := h1 k hk
          have b2 : f k ≠ n := by
            rw [← e0]
            rcases Nat.lt_or_gt_of_ne hne with z | z
            · exact h2 k i0 z hi0
            · exact (h2 i0 k z hk).symm
          omega
        show (if i < i0 then f i else f (i + 1)) < n
        split
        · exact a1 i (by omega) (by omega)
        · exact a1 (i + 1) (by omega) (by omega)) (fun i j hij hj => by
        show (if i < i0 then f i else f (i + 1)) ≠ (if j < i0 then f j else f (j + 1))
        split
        · split
          · exact h2 _ _ hij (by omega)
          · exact h2 _ _ (by omega) (by omega)
        · split
          · omega
          · exact h2 _ _ (by omega) (by omega))
      omega
    · have := ih m f (fun i hi => by
        have b1 := h1 i hi
        have b2 : f i ≠ n := fun z => hx ⟨i, hi, z⟩
        omega) h2
      omega
-- the place of a block among the latest
theorem m_placeGo_spec (g : Nat → Int32) (b : Nat) : ∀ n i, (∀ j, i ≤ j → j < m_placeGo g b n i → g (235 + j) ≠ nI b) ∧ (m_placeGo g b n i < i + n → g (235 + m_placeGo g b n i) = nI b) ∧ i ≤ m_placeGo g b n i := by
  intro n
  induction n with
  | zero => intro i; exact ⟨fun j h1 h2 => absurd (Nat.lt_of_le_of_lt h1 h2) (Nat.lt_irrefl _), fun z => absurd z (Nat.lt_irrefl _), Nat.le_refl _⟩
  | succ n ih =>
    intro i
    simp only [m_placeGo]
    split
    · rename_i h
      exact ⟨fun j h1 h2 => absurd (Nat.lt_of_le_of_lt h1 h2) (Nat.lt_irrefl _), fun _ => h, Nat.le_refl _⟩
    · rename_i h
      obtain ⟨i1, i2, i3⟩ := ih (i + 1)
      refine ⟨fun j h1 h2 => ?_, fun z => i2 (by omega), by omega⟩
      rcases Nat.eq_or_lt_of_le h1 with z | z
      · rw [← z]; exact h
      · exact i1 j z h2
theorem m_place_spec (g : Nat → Int32) (r b : Nat) : (∀ j, j < m_place g r b → g (235 + j) ≠ nI b) ∧ (m_place g r b < r → g (235 + m_place g r b) = nI b) := by
  obtain ⟨h1, h2, -⟩ := m_placeGo_spec g b r 0
  exact ⟨fun j hj => h1 j (Nat.zero_le _) hj, fun z => h2 (by unfold m_place at z; omega)⟩
def m_r (g : Nat → Int32) (r b : Nat) : Nat := if m_place g r b = r then r + 1 else r
theorem m_latest_o (g : Nat → Int32) {r b j : Nat} (hr : r ≤ 16) (hj : j < 234 ∨ 235 + 16 < j) : m_latest g r b j = g j := by
  have := m_place_le g r b
  simp only [m_latest]
  rw [upd_ne (by omega)]
  unfold m_sh
  rw [if_neg (by omega), upd_ne (by omega)]
theorem m_latest_234 (g : Nat → Int32) {r b : Nat} : m_latest g r b 234 = nI (m_r g r b) := by
  simp only [m_latest]
  rw [upd_ne (by omega)]
  unfold m_sh
  rw [if_neg (by omega), upd_eq]
  rfl
theorem m_latest_i (g : Nat → Int32) {r b i : Nat} : m_latest g r b (235 + i) = if i = 0 then nI b else if i ≤ m_place g r b then g (235 + (i - 1)) else g (235 + i) := by
  simp only [m_latest]
  by_cases h0 : i = 0
  · subst h0
    rw [if_pos rfl]
    exact upd_eq
  · rw [if_neg h0, upd_ne (by omega)]
    unfold m_sh
    by_cases h1 : i ≤ m_place g r b
    · rw [if_pos h1, if_pos (by omega), upd_ne (by omega)]
      congr 1
      omega
    · rw [if_neg h1, if_neg (by omega), upd_ne (by omega)]
theorem GR.latest (hr : r ≤ 16) (hb : b < 16) (h : GR g r) : GR (m_latest g r b) (m_r g r b) ∧ m_r g r b ≤ 16 := by
  obtain ⟨p1, p2⟩ := m_place_spec g r b
  have p3 := m_place_le g r b
  have hlt : m_place g r b = r → r + 1 ≤ 16 := by
    intro hp
    rw [hp] at p1
    refine pigeon 16 (r + 1) (fun i => if i = r then b else (g (235 + i)).toNatClampNeg) (fun i hi => ?_) (fun i j hij hj => ?_)
    · show (if i = r then b else (g (235 + i)).toNatClampNeg) < 16
      split
      · exact hb
      · obtain ⟨c, hc, e⟩ := h.1 i (by omega)
        rw [e, nI_clamp (by omega)]; exact hc
    · show (if i = r then b else (g (235 + i)).toNatClampNeg) ≠ (if j = r then b else (g (235 + j)).toNatClampNeg)
      rw [if_neg (by omega)]
      obtain ⟨c, hc, e⟩ := h.1 i (by omega)
      rw [e, nI_clamp (by omega)]
      split
      · intro z
        subst z
        exact p1 i (by omega) e
      · obtain ⟨d, hd, e'⟩ := h.1 j (by omega)
        rw [e', nI_clamp (by omega)]
        intro z
        subst z
        exact h.2 i j hij (by omega) (e.trans e'.symm)
  have hr' : m_r g r b ≤ 16 := by
    unfold m_r
    split
    · rename_i z; exact hlt z
    · exact hr
  refine ⟨⟨fun i hi => ?_, fun i j hij hj => ?_⟩, hr'⟩
  · rw [m_latest_i]
    unfold m_r at hi
    by_cases h0 : i = 0
    · rw [if_pos h0]; exact ⟨b, hb, rfl⟩
    · rw [if_neg h0]
      by_cases h1 : i ≤ m_place g r b
      · rw [if_pos h1]; exact h.1 _ (by omega)
      · rw [if_neg h1]
        refine h.1 _ ?_
        split at hi <;> omega
  · rw [m_latest_i, m_latest_i]
    unfold m_r at hj
    have hj0 : j ≠ 0 := by omega
    rw [if_neg hj0]
    by_cases h0 : i = 0
    · rw [if_pos h0]
      by_cases h1 : j ≤ m_place g r b
      · rw [if_pos h1]; exact (p1 _ (by omega)).symm
      · rw [if_neg h1]
        have hpr : m_place g r b < r := by split at hj <;> omega
        rw [← p2 hpr]
        exact h.2 _ _ (by omega) (by split at hj <;> omega)
    · rw [if_neg h0]
      by_cases h1 : j ≤ m_place g r b
      · rw [if_pos h1, if_pos (by omega)]
        exact h.2 _ _ (by omega) (by omega)
      · rw [if_neg h1]
        by_cases h2 : i ≤ m_place g r b
        · rw [if_pos h2]; exact h.2 _ _ (by omega) (by split at hj <;> omega)
        · rw [if_neg h2]; exact h.2 _ _ (by omega) (by split at hj <;> omega)
end U17
