section G9
variable {gc g W C G : Nat → Int32} {A κ c : Nat → Nat} {bl : Nat → Nat} {T N s l r a b i j k q : Nat} {h h0 : xH}
theorem RX.wA (hG : GI G T N s l r) (hR : RX C G W bl s l r) (hl : lin s l a) : RX (m_wB C a (m_blk C a)) (m_wB G a (m_blk G a)) W bl s l r ∧ m_ones (C (89 + a)) = m_ones (G (89 + a)) := by
  have ha := hl.1
  have hob : m_blk C a = m_blk G a := by unfold m_blk; rw [(hR.1.2 a hl).1]
  have hd := (hG.2.2.1 a ha).dirty
  rw [hob, (hR.1.2 a hl).2.1]
  have ho : ¬ m_ones (G (89 + a)) = 0 → m_blk G a < 16 := fun z => (hd z).1
  refine ⟨⟨hR.1.wB hl (fun z => ⟨by rw [(hd z).2]; exact nI_ne _ (by have := (hd z).1; omega), (hd z).1⟩), fun i hi => ?_, fun i hi => ?_⟩, rfl⟩
  · have hr := hG.1.1.2
    rw [m_wB_o _ _ _ _ ho (by omega) (by omega) (by omega) (by omega)]
    exact hR.2.1 i hi
  · rw [m_wB_o _ _ _ _ ho (by omega) (by omega) (by omega) (by omega)]
    exact hR.2.2 i hi
theorem n_at_eq (hk : k < l) : n_at l (q * l + k) = 4 * q + k := by
  have e1 : (q * l + k) / l = q := by
    rw [Nat.mul_comm, Nat.mul_add_div (by omega), Nat.div_eq_of_lt hk]
    omega
  have e2 : (q * l + k) % l = k := by
    rw [Nat.mul_comm, Nat.mul_add_mod, Nat.mod_eq_of_lt hk]
  unfold n_at
  rw [e1, e2]
theorem wAin_eq (hl4 : l ≤ 4) (hs4 : s ≤ 4) (hq : q < s) (hT : T + 32 < 2 ^ 29) {p p' : Int32 × (Nat → Int32)} (h1 : p.1 = p'.1) (h2 : RX p.2 p'.2 W bl s l r) (hG : GI p'.2 T N s l r) (hp : n_wAll (0, gc) l (q * l) = p) : ∀ k, k ≤ l → (n_wAll (0, gc) l (q * l + k)).1 = (m_wAin p' q k).1 ∧ RX (n_wAll (0, gc) l (q * l + k)).2 (m_wAin p' q k).2 W bl s l r ∧ ∃ T', T' ≤ T + 8 * k ∧ GI (m_wAin p' q k).2 T' N s l r := by
  intro k
  induction k with
  | zero => intro _; rw [Nat.add_zero, hp]; exact ⟨h1, h2, T, by omega, hG⟩
  | succ k ih =>
    intro hk
    obtain ⟨i1, i2, T', t1, i3⟩ := ih (by omega)
    have hl := lin_q hs4 hl4 hq (show k < l by omega)
    obtain ⟨w1, w2⟩ := RX.wA i3 i2 hl
    obtain ⟨T2, t2, t3, i4⟩ := GI.wB (a := 4 * q + k) (by omega) hl.1 i3
    rw [show q * l + (k + 1) = q * l + k + 1 by omega, n_wAll, m_wAin, n_at_eq (by omega)]
    refine ⟨?_, w1, T2, by omega, i4⟩
    show (n_wAll (0, gc) l (q * l + k)).1 + m_ones _ = (m_wAin p' q k).1 + m_ones _
    rw [i1, w2]
theorem wAll_eq (hl4 : l ≤ 4) (hs4 : s ≤ 4) (hT : T < 2 ^ 28) (hR : RX gc g W bl s l r) (hG : GI g T N s l r) : ∀ q, q ≤ s → (n_wAll (0, gc) l (q * l)).1 = (m_wAll (0, g) l q).1 ∧ RX (n_wAll (0, gc) l (q * l)).2 (m_wAll (0, g) l q).2 W bl s l r ∧ ∃ T', T' ≤ T + 32 * q ∧ GI (m_wAll (0, g) l q).2 T' N s l r := by
  intro q
  induction q with
  | zero => intro _; rw [Nat.zero_mul]; exact ⟨rfl, hR, T, by omega, hG⟩
  | succ q ih =>
    intro hq
    obtain ⟨i1, i2, T', t1, i3⟩ := ih (by omega)
    obtain ⟨j1, j2, T2, t2, j3⟩ := wAin_eq hl4 hs4 (show q < s by omega) (by omega) i1 i2 i3 rfl l (Nat.le_refl _)
    rw [Nat.succ_mul]
    exact ⟨j1, j2, T2, by omega, j3⟩
/-- the sum of the dirty words, as a number -/
theorem dirty_nat (hG : GI g T N s l r) : ∀ n, n ≤ 16 → ∃ m, m ≤ 4 * n ∧ m_sum (fun a => m_ones (g (89 + a))) n = nI m := by
  intro n
  induction n with
  | zero => intro _; exact ⟨0, by omega, rfl⟩
  | succ n ih =>
    intro hn
    obtain ⟨m, h1, h2⟩ := ih (by omega)
    obtain ⟨d, hd, ed⟩ := (hG.2.2.1 n (by omega)).d
    obtain ⟨p1, p2⟩ := m_pop d hd
    refine ⟨m + (m_ones (nI d)).toNatClampNeg, by omega, ?_⟩
    rw [m_sum, h2, ed, ← nI_add, ← p1]
theorem dirty_eq (hR : RM gc g s l) (hG : GI g T N s l r) : m_sum (fun i => m_ones (gc (89 + n_at l i))) (s * l) = m_dirty g := by
  obtain ⟨hs1, hs4⟩ := hG.1.2.1.2
  obtain ⟨hl1, hl4⟩ := hG.1.2.2.1.2
  have off : ∀ a, a < 16 → ¬ lin s l a → m_ones (g (89 + a)) = 0 := fun a ha ho => by rw [(hG.off ha ho).2.1]; exact m_ones0
  have skip : ∀ n m, n ≤ m → m ≤ 16 → (∀ a, n ≤ a → a < m → m_ones (g (89 + a)) = 0) → m_sum (fun a => m_ones (g (89 + a))) m = m_sum (fun a => m_ones (g (89 + a))) n := by
    intro n m
    induction m with
    | zero => intro h1 _ _; have : n = 0 := by omega
              rw [this]
    | succ m ih =>
      intro h1 h2 h3
      by_cases e : n = m + 1
      · rw [e]
      · rw [m_sum, ih (by omega) (by omega) (fun a ha hb => h3 a ha (by omega)), h3 m (by omega) (by omega), Int32.add_zero]
  have row : ∀ q, q < s → m_sum (fun i => m_ones (gc (89 + n_at l i))) (q * l) = m_sum (fun a => m_ones (g (89 + a))) (4 * q) → ∀ k, k ≤ l → m_sum (fun i => m_ones (gc (89 + n_at l i))) (q * l + k) = m_sum (fun a => m_ones (g (89 + a))) (4 * q + k) := by
    intro q hq h0 k
    induction k with
    | zero => intro _; rw [Nat.add_zero, Nat.add_zero]; exact h0
    | succ k ih =>
      intro hk
      have hl := lin_q hs4 hl4 hq (show k < l by omega)
      rw [show q * l + (k + 1) = q * l + k + 1 by omega, show 4 * q + (k + 1) = 4 * q + k + 1 by omega, m_sum, m_sum, ih (by omega), n_at_eq (by omega), (hR.2 _ hl).2.1]
  have all : ∀ q, q ≤ s → m_sum (fun i => m_ones (gc (89 + n_at l i))) (q * l) = m_sum (fun a => m_ones (g (89 + a))) (4 * q) := by
    intro q
    induction q with
    | zero => intro _; rw [Nat.zero_mul, Nat.mul_zero, m_sum, m_sum]
    | succ q ih =>
      intro hq
      rw [Nat.succ_mul, row q (by omega) (ih (by omega)) l (Nat.le_refl _)]
      exact (skip (4 * q + l) (4 * (q + 1)) (by omega) (by omega) (fun a h1 h2 => off a (by omega) (fun z => by have := z.2.2; omega))).symm
  unfold m_dirty
  rw [all s (Nat.le_refl _)]
  exact (skip (4 * s) 16 (by omega) (by omega) (fun a h1 h2 => off a h2 (fun z => by have := z.2.1; omega))).symm
theorem o_flushes (hM : MM κ A s l c W h0 r bl h) (hR : RX gc g W bl s l r) (hG : GI g T N s l r) (hT : T < 2 ^ 28) {c0 s0 : Nat} (hc : 90 ≤ c0) (hs : 50000 ≤ s0) (K : Int32 → xH → Prop) (KX : Nat → xH → Prop) (hO : ORD κ c h0 (A 5) (m_flushes g s l) K KX) : P_X2_flushes κ (A 5) (mput h A s l gc, c0, s0) K KX := by
  obtain ⟨p1, ⟨q, hq, p2, p3⟩, p4, p5, p6, p7, p8⟩ := hR.pre hG hT
  obtain ⟨hs1, hs4⟩ := hG.1.2.1.2
  obtain ⟨hl1, hl4⟩ := hG.1.2.2.1.2
  obtain ⟨m, m1, m2⟩ := dirty_nat hG 16 (Nat.le_refl _)
  have hdm : m_dirty g = nI m := m2
  have hz : m_dirty g ≤ 0 ↔ m_dirty g = 0 := by
    rw [hdm, show (0 : Int32) = nI 0 from rfl, nI_leI (by omega) (by omega), nI_eq (by omega) (by omega)]
    omega
  obtain ⟨e1, e2, T2, -, e3⟩ := wAll_eq hl4 hs4 hT hR hG s (Nat.le_refl _)
  have e234 := e3.1.1.1
  refine cc_flushes hM p4 hT (by omega) (by omega) K KX (fun hd h' hM' => ?_) (fun hd => hO.2 6 0 ?_)
  · rw [dirty_eq hR.1 hG] at hd
    rw [e1]
    have he : m_flushes g s l = .inr (m_wAll (0, g) l s) := by
      unfold m_flushes
      rw [if_neg (fun z => hd (hz.mpr z))]
    exact hO.1 _ _ he A s l _ W bl r h' rfl e2 ((GI.flushes hT hG he).r3 e234) hM'
  · rw [dirty_eq hR.1 hG] at hd
    unfold m_flushes
    rw [if_pos (hz.mp hd)]
theorem RX.anew {s' l' : Nat} (hR : RX C G W bl s l r) (hs : 1 ≤ s' ∧ s' ≤ 4) (hl : 1 ≤ l' ∧ l' ≤ 4) : RX (n_anew C l') (m_anew G (nI s') (nI l')) W bl s' l' 0 := by
  refine ⟨⟨fun j hj => ?_, fun a hla => ?_⟩, fun i hi => absurd hi (Nat.not_lt_zero _), fun k hk => ?_⟩
  · have hj0 := hj
    unfold n_anew
    by_cases h233 : j = 233
    · subst h233
      rw [upd_eq]
      unfold m_anew
      rw [m_zl_o _ (by omega) 16 (by omega), upd_ne (by omega), upd_eq]
    · rw [upd_ne h233]
      by_cases h2 : j = 2
      · subst h2
        rw [upd_eq]
        unfold m_anew
        rw [m_zl_o _ (by omega) 16 (by omega), upd_ne (by omega), upd_ne (by omega), upd_eq]
      · rw [upd_ne h2, gI_o (by omega), m_anew_o _ _ _ (by omega)]
        exact hR.1.1 j hj
  · have ha := hla.1
    obtain ⟨z1, z2, z3, z4, z5, z6⟩ := m_empties_c G 16 (Nat.le_refl _) a ha
    obtain ⟨e1, e2, e3, e4, e5, e6, e7⟩ := gI_El (g := C) ha
    unfold n_anew
    rw [upd_ne (show 73 + a ≠ 233 by omega), upd_ne (show 73 + a ≠ 2 by omega), upd_ne (show 89 + a ≠ 233 by omega), upd_ne (show 89 + a ≠ 2 by omega), upd_ne (show 105 + a ≠ 233 by omega), upd_ne (show 105 + a ≠ 2 by omega), upd_ne (show 121 + a ≠ 233 by omega), upd_ne (show 121 + a ≠ 2 by omega), upd_ne (show 137 + a ≠ 233 by omega), upd_ne (show 137 + a ≠ 2 by omega), upd_ne (show 153 + a ≠ 233 by omega), upd_ne (show 153 + a ≠ 2 by omega), m_anew_l _ _ _ (by omega) (by omega), m_anew_l (j := 89 + a) _ _ _ (by omega) (by omega), m_anew_l (j := 105 + a) _ _ _ (by omega) (by omega), e1, e2, e3, e4, e5, e6, z1, z2, z3]
    exact ⟨rfl, rfl, rfl, fun z => absurd rfl z, fun _ => ⟨rfl, rfl, rfl⟩⟩
  · rw [m_anew_o _ _ _ (by omega)]
    exact hR.2.2 k hk
theorem o_shapes (hM : MM κ A s l c W h0 r bl h) (hR : RX gc g W bl s l r) (hG : GI g T N s l r) (hT : T < 2 ^ 28) (x y : Int32) {c0 s0 : Nat} (hc : 90 ≤ c0) (hs : 50000 ≤ s0) (K : Int32 → xH → Prop) (KX : Nat → xH → Prop) (hO : ORD κ c h0 (A 5) (m_shape g x y s l) K KX) : P_X2_shapes κ (A 5) x y (mput h A s l gc, c0, s0) K KX := by
  obtain ⟨p1, ⟨q, hq, p2, p3⟩, p4, p5, p6, p7, p8⟩ := hR.pre hG hT
  obtain ⟨hs1, hs4⟩ := hG.1.2.1.2
  obtain ⟨hl1, hl4⟩ := hG.1.2.2.1.2
  obtain ⟨e1, e2, -⟩ := wAll_eq hl4 hs4 hT hR hG s (Nat.le_refl _)
  have in14 : ∀ k, 1 ≤ k → k ≤ 4 → m_in (nI k) 1 4 = true := fun k h1 h2 => by
    have : k = 1 ∨ k = 2 ∨ k = 3 ∨ k = 4 := by omega
    rcases this with rfl | rfl | rfl | rfl <;> decide
  refine cc_shapes hM p4 hT x y hc hs K KX (fun s' l' A' h' ex ey hs' hl' hA' hM' => ?_) (fun hi => hO.2 1 x ?_) (fun hi hj => hO.2 1 y ?_)
  · rw [e1]
    have he : m_shape g x y s l = .inr ((m_wAll (0, g) l s).1, m_anew (m_wAll (0, g) l s).2 (nI s') (nI l')) := by
      rw [ex, ey]
      unfold m_shape
      rw [if_pos (in14 s' hs'.1 hs'.2), if_pos (in14 l' hl'.1 hl'.2)]
    obtain ⟨T', x', y', g1, g2, g3, g4⟩ := GI.shape hT hG he
    refine hO.1 _ _ he A' s' l' _ W bl 0 h' (hA' 5 (by omega)) (e2.anew hs' hl') ⟨?_, ?_, g4.1.1.1⟩ hM'
    · exact (show m_anew (m_wAll (0, g) l s).2 (nI s') (nI l') 1 = nI x' from g4.1.2.1.1).trans (by rw [← g1, ex])
    · exact (show m_anew (m_wAll (0, g) l s).2 (nI s') (nI l') 2 = nI y' from g4.1.2.2.1.1).trans (by rw [← g2, ey])
  · unfold m_shape
    rw [hi]
    rfl
  · unfold m_shape
    rw [hi, hj]
    rfl
end G9
