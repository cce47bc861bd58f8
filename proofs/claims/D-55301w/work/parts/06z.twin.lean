-- the invariant of g
section U16
variable {g g' : Nat → Int32} {T T' N s l r a b : Nat}
def LOK (g : Nat → Int32) (T s l a : Nat) : Prop :=
  (g (73 + a) = -1 ∧ g (89 + a) = 0 ∧ g (105 + a) = 0 ∧ g (121 + a) = 0 ∧ g (137 + a) = 0 ∧ g (153 + a) = 0) ∨
  (∃ b d x y n : Nat, b < 16 ∧ g (73 + a) = nI b ∧ a / 4 = b % s ∧ a % 4 < l ∧ d < 16 ∧ g (89 + a) = nI d ∧ (g (105 + a) = 0 ∨ g (105 + a) = 1) ∧ x < T ∧ g (121 + a) = nI x ∧ y < T ∧ g (137 + a) = nI y ∧ n ≤ T ∧ g (153 + a) = nI n)
def GT (g : Nat → Int32) (T : Nat) : Prop := g 0 = nI T ∧ ∀ k, k < 4 → ∃ y, y ≤ T + 4 ∧ g (69 + k) = nI y
def GD (g : Nat → Int32) : Prop := ∀ a c, a < 16 → c < 16 → a ≠ c → g (73 + a) ≠ -1 → g (73 + c) ≠ -1 → g (73 + a) ≠ g (73 + c) ∧ g (121 + a) ≠ g (121 + c) ∧ g (137 + a) ≠ g (137 + c)
def GR (g : Nat → Int32) (r : Nat) : Prop := (∀ i, i < r → ∃ b, b < 16 ∧ g (235 + i) = nI b) ∧ ∀ i j, i < j → j < r → g (235 + i) ≠ g (235 + j)
def GC (g : Nat → Int32) (T : Nat) : Prop := ∀ b, b < 16 → (∃ n, n ≤ T ∧ g (251 + b) = nI n) ∧ ∃ n, n ≤ T ∧ g (267 + b) = nI n
def GA (g : Nat → Int32) (s l r : Nat) : Prop := (g 234 = nI r ∧ r ≤ 16) ∧ (g 1 = nI s ∧ 1 ≤ s ∧ s ≤ 4) ∧ (g 2 = nI l ∧ 1 ≤ l ∧ l ≤ 4) ∧ (∃ q, q < 4 ∧ g 3 = nI q) ∧ (g 4 = 0 ∨ g 4 = 1) ∧ z357 g
def GI (g : Nat → Int32) (T N s l r : Nat) : Prop := GA g s l r ∧ GT g T ∧ (∀ a, a < 16 → LOK g T s l a) ∧ GD g ∧ GR g r ∧ GC g N
theorem LOK.d (h : LOK g T s l a) : ∃ d, d < 16 ∧ g (89 + a) = nI d := by
  rcases h with ⟨-, h, -⟩ | ⟨b, d, x, y, n, -, -, -, -, hd, h, -⟩
  · exact ⟨0, by omega, by rw [h, nI_0]⟩
  · exact ⟨d, hd, h⟩
theorem LOK.blk (h : LOK g T s l a) : g (73 + a) = -1 ∨ (m_blk g a < 16 ∧ g (73 + a) = nI (m_blk g a)) := by
  rcases h with ⟨h, -⟩ | ⟨b, d, x, y, n, hb, h, -⟩
  · exact Or.inl h
  · have : m_blk g a = b := by unfold m_blk; rw [h, nI_clamp (by omega)]
    rw [this]
    exact Or.inr ⟨hb, h⟩
theorem LOK.dirty (h : LOK g T s l a) (hd : ¬ m_ones (g (89 + a)) = 0) : m_blk g a < 16 ∧ g (73 + a) = nI (m_blk g a) := by
  rcases h.blk with hb | hb
  · rcases h with ⟨-, h, -⟩ | ⟨b, d, x, y, n, hb16, h, -⟩
    · rw [h] at hd
      exact absurd m_ones0 hd
    · rw [h] at hb
      exact absurd hb (nI_ne b (by omega))
  · exact hb
theorem LOK.congr (hT : T ≤ T') (h73 : g' (73 + a) = g (73 + a)) (h89 : g' (89 + a) = g (89 + a)) (h105 : g' (105 + a) = g (105 + a)) (h121 : g' (121 + a) = g (121 + a)) (h137 : g' (137 + a) = g (137 + a)) (h153 : g' (153 + a) = g (153 + a)) (h : LOK g T s l a) : LOK g' T' s l a := by
  rcases h with ⟨e1, e2, e3, e4, e5, e6⟩ | ⟨b, d, x, y, n, e1, e2, e3, e4, e5, e6, e7, e8, e9, e10, e11, e12, e13⟩
  · exact Or.inl ⟨by rw [h73]; exact e1, by rw [h89]; exact e2, by rw [h105]; exact e3, by rw [h121]; exact e4, by rw [h137]; exact e5, by rw [h153]; exact e6⟩
  · exact Or.inr ⟨b, d, x, y, n, e1, by rw [h73]; exact e2, e3, e4, e5, by rw [h89]; exact e6, by rw [h105]; exact e7, by omega, by rw [h121]; exact e9, by omega, by rw [h137]; exact e11, by omega, by rw [h153]; exact e13⟩
theorem GI.TI (h : GI g T N s l r) : TI g s l r := ⟨h.1.1, h.1.2.1, ⟨h.1.2.2.1.1, h.1.2.2.1.2.2⟩, fun a ha hd => (h.2.2.1 a ha).dirty hd⟩
theorem GI.LI (h : GI g T N s l r) : LI g := fun a ha => ⟨(h.2.2.1 a ha).blk, (h.2.2.1 a ha).d⟩
theorem GI.z (h : GI g T N s l r) : z357 g := h.1.2.2.2.2.2
theorem GA.congr {r' : Nat} (h234 : g' 234 = nI r') (hr : r' ≤ 16) (h1 : g' 1 = g 1) (h2 : g' 2 = g 2) (h3 : g' 3 = g 3) (h4 : g' 4 = g 4) (hz : z357 g') (h : GA g s l r) : GA g' s l r' := by
  obtain ⟨-, e2, e3, e4, e5, -⟩ := h
  exact ⟨⟨h234, hr⟩, by rw [h1]; exact e2, by rw [h2]; exact e3, by rw [h3]; exact e4, by rw [h4]; exact e5, hz⟩
theorem GC.congr (hT : T ≤ T') (he : ∀ b, b < 16 → g' (251 + b) = g (251 + b) ∧ g' (267 + b) = g (267 + b)) (h : GC g T) : GC g' T' := fun b hb => by
  obtain ⟨⟨n, hn, e1⟩, n', hn', e2⟩ := h b hb
  obtain ⟨f1, f2⟩ := he b hb
  exact ⟨⟨n, by omega, by rw [f1]; exact e1⟩, n', by omega, by rw [f2]; exact e2⟩
theorem GR.congr (he : ∀ i, i < r → g' (235 + i) = g (235 + i)) (h : GR g r) : GR g' r :=
  ⟨fun i hi => by rw [he i hi]; exact h.1 i hi, fun i j hi hj => by rw [he i (by omega), he j hj]; exact h.2 i j hi hj⟩
theorem GD.congr (he : ∀ a, a < 16 → g' (73 + a) = g (73 + a) ∧ g' (121 + a) = g (121 + a) ∧ g' (137 + a) = g (137 + a)) (h : GD g) : GD g' := fun a c ha hc hac => by
  obtain ⟨f1, f2, f3⟩ := he a ha
  obtain ⟨f4, f5, f6⟩ := he c hc
  rw [f1, f2, f3, f4, f5, f6]
  exact h a c ha hc hac
-- time
theorem m_uses_0 (g : Nat → Int32) {k : Nat} (n : Int32) (hk : k < 4) : m_uses g k n 0 = (if g (69 + k) ≤ g 0 then g 0 else g (69 + k)) + n := by
  simp only [m_uses]
  rw [upd_ne (by omega), upd_eq]
  split
  · rfl
  · rw [upd_eq]
theorem m_uses_k (g : Nat → Int32) {k : Nat} (n : Int32) (hk : k < 4) : m_uses g k n (69 + k) = m_uses g k n 0 + 4 := by
  simp only [m_uses]
  rw [upd_eq, upd_eq, upd_ne (show 0 ≠ 69 + k by omega), upd_eq]
theorem m_uses_j (g : Nat → Int32) {k j : Nat} (n : Int32) (hk : k < 4) (hj : 69 ≤ j) (hj2 : j < 73) (hne : j ≠ 69 + k) : m_uses g k n j = g j := by
  simp only [m_uses]
  rw [upd_ne (by omega), upd_ne (by omega)]
  split
  · rfl
  · rw [upd_ne (by omega), upd_ne (by omega)]
theorem GT.uses {k m : Nat} (hT : T < 2 ^ 29) (hm : m ≤ 5) (hk : k < 4) (h : GT g T) : ∃ T', T + m ≤ T' ∧ T' ≤ T + m + 4 ∧ GT (m_uses g k (nI m)) T' := by
  obtain ⟨y, hy, e⟩ := h.2 k hk
  have e0 : ∀ M, (if g (69 + k) ≤ g 0 then g 0 else g (69 + k)) = nI M → T ≤ M → M ≤ T + 4 → ∃ T', T + m ≤ T' ∧ T' ≤ T + m + 4 ∧ GT (m_uses g k (nI m)) T' := by
    intro M hM h1 h2
    refine ⟨M + m, by omega, by omega, ?_, fun j hj => ?_⟩
    · rw [m_uses_0 g _ hk, hM, nI_add]
    · by_cases hjk : j = k
      · subst hjk
        refine ⟨M + m + 4, by omega, ?_⟩
        rw [m_uses_k g _ hk, m_uses_0 g _ hk, hM, nI_add]
        exact nI_add _ 4
      · obtain ⟨y', hy', e'⟩ := h.2 j hj
        exact ⟨y', by omega, by rw [m_uses_j g _ hk (by omega) (by omega) (by omega)]; exact e'⟩
  rw [e, h.1] at e0
  by_cases hc : nI y ≤ nI T
  · exact e0 T (by rw [if_pos hc]) (by omega) (by omega)
  · have : ¬ y ≤ T := fun z => hc ((nI_leI (by omega) (by omega)).mpr z)
    exact e0 y (by rw [if_neg hc]) (by omega) hy
theorem GT.of (h0 : g' 0 = g 0) (hk : ∀ k, k < 4 → g' (69 + k) = g (69 + k)) (h : GT g T) : GT g' T := ⟨by rw [h0]; exact h.1, fun k hk' => by rw [hk k hk']; exact h.2 k hk'⟩
/-- what writesBack does to a line's dirt and leaves alone -/
theorem m_wB_89 (ha : a < 16) : m_ones (m_wB g a b (89 + a)) = 0 := by
  by_cases h0 : m_ones (g (89 + a)) = 0
  · unfold m_wB
    rw [if_pos h0]
    exact h0
  · unfold m_wB
    rw [if_neg h0]
    simp only [m_wb]
    rw [upd_ne (by omega), upd_eq]
    exact m_ones0
theorem m_wB_up (ho : ¬ m_ones (g (89 + a)) = 0 → b < 16) (j : Nat) (hj : j < 5 ∨ 69 ≤ j) (h1 : j ≠ 89 + a) (h2 : j ≠ 289) : m_wB g a b j = if m_ones (g (89 + a)) = 0 then g j else m_uses g (b % 4) (m_ones (g (89 + a))) j := by
  unfold m_wB
  split
  · rfl
  · rename_i hn
    have ho := ho hn
    simp only [m_wb]
    rw [upd_ne h2, upd_ne h1]
    rcases hj with hj | hj
    · exact m_back_low _ _ _ _ _ _ hj
    · exact m_back_hi _ _ _ ho _ _ (by omega) _ hj
theorem GI.wB (hT : T < 2 ^ 29) (ha : a < 16) (h : GI g T N s l r) : ∃ T', T ≤ T' ∧ T' ≤ T + 8 ∧ GI (m_wB g a (m_blk g a)) T' N s l r := by
  have hTI := h.TI
  obtain ⟨hA, hG, hL, hD, hR, hC⟩ := h
  by_cases h0 : m_ones (g (89 + a)) = 0
  · refine ⟨T, by omega, by omega, ?_⟩
    unfold m_wB
    rw [if_pos h0]
    exact ⟨hA, hG, hL, hD, hR, hC⟩
  · obtain ⟨hb, hb2⟩ := hTI.2.2.2 a ha h0
    obtain ⟨d, hd, hd2⟩ := (hL a ha).d
    obtain ⟨p1, p2⟩ := m_pop d hd
    rw [← hd2] at p1 p2
    obtain ⟨T', t1, t2, hG'⟩ := GT.uses (k := m_blk g a % 4) (m := (m_ones (g (89 + a))).toNatClampNeg) hT (by omega) (Nat.mod_lt _ (by decide)) hG
    rw [← p1] at hG'
    have o := fun j => m_wB_o g a (m_blk g a) j (fun _ => hb)
    have up := fun j hj h1 h2 => (m_wB_up (g := g) (a := a) (b := m_blk g a) (fun _ => hb) j hj h1 h2).trans (if_neg h0)
    refine ⟨T', by omega, by omega, ?_, ?_, fun c hc => ?_, ?_, ?_, ?_⟩
    · refine GA.congr (r' := r) ?_ hA.1.2 (m_wB_low _ _ _ _ (by omega) (by omega)) (m_wB_low _ _ _ _ (by omega) (by omega)) (m_wB_low _ _ _ _ (by omega) (by omega)) (m_wB_low _ _ _ _ (by omega) (by omega)) (z_wB ha (fun _ => hb) hA.2.2.2.2.2) hA
      rw [o _ (by omega) (by omega) (by omega) (by omega)]
      exact hA.1.1
    · exact GT.of (up 0 (by omega) (by omega) (by omega)) (fun k hk => up _ (by omega) (by omega) (by omega)) hG'
    · by_cases hca : c = a
      · subst hca
        rcases hL c ha with ⟨e1, -⟩ | ⟨b, d', x, y, n, e1, e2, e3, e4, e5, e6, e7, e8, e9, e10, e11, e12, e13⟩
        · rw [e1] at hb2
          exact absurd hb2.symm (nI_ne _ (by omega))
        · refine Or.inr ⟨b, 0, x, y, n, e1, ?_, e3, e4, by omega, ?_, ?_, by omega, ?_, by omega, ?_, by omega, ?_⟩
          · rw [o _ (by omega) (by omega) (by omega) (by omega)]; exact e2
          · unfold m_wB
            rw [if_neg h0]
            simp only [m_wb]
            rw [upd_ne (by omega), upd_eq, nI_0]
          · rw [o _ (by omega) (by omega) (by omega) (by omega)]; exact e7
          · rw [o _ (by omega) (by omega) (by omega) (by omega)]; exact e9
          · rw [o _ (by omega) (by omega) (by omega) (by omega)]; exact e11
          · rw [o _ (by omega) (by omega) (by omega) (by omega)]; exact e13
      · exact LOK.congr (by omega) (o _ (by omega) (by omega) (by omega) (by omega)) (o _ (by omega) (by omega) (by omega) (by omega)) (o _ (by omega) (by omega) (by omega) (by omega)) (o _ (by omega) (by omega) (by omega) (by omega)) (o _ (by omega) (by omega) (by omega) (by omega)) (o _ (by omega) (by omega) (by omega) (by omega)) (hL c hc)
    · exact GD.congr (fun c hc => ⟨o _ (by omega) (by omega) (by omega) (by omega), o _ (by omega) (by omega) (by omega) (by omega), o _ (by omega) (by omega) (by omega) (by omega)⟩) hD
    · exact GR.congr (fun i hi => o _ (by omega) (by have := hA.1.2; omega) (by have := hA.1.2; omega) (by have := hA.1.2; omega)) hR
    · exact GC.congr (by omega) (fun c hc => ⟨o _ (by omega) (by omega) (by omega) (by omega), o _ (by omega) (by omega) (by omega) (by omega)⟩) hC
end U16
