/-- what the class's walk over its lines needs -/
def CI (g : Nat → Int32) (T s l : Nat) : Prop := GT g T ∧ ∀ a, lin s l a → (∃ d, d < 16 ∧ g (89 + a) = nI d) ∧ (¬ m_ones (g (89 + a)) = 0 → m_blk g a < 16 ∧ g (73 + a) = nI (m_blk g a))
def n_at (l i : Nat) : Nat := 4 * (i / l) + i % l
def n_wAll (p : Int32 × (Nat → Int32)) (l : Nat) : Nat → Int32 × (Nat → Int32)
  | 0 => p
  | i + 1 => m_wA (n_wAll p l i) (n_at l i)
/-- what every machine that stands has: addresses apart, its sets, the empty array -/
def MB (κ A : Nat → Nat) (s l : Nat) (h : xH) : Prop := mOK κ A s l ∧ mD A s l h ∧ SA κ h A s l ∧ (1 ≤ s ∧ s ≤ 4) ∧ (1 ≤ l ∧ l ≤ 4) ∧ κ 2 < κ 0 ∧ ∃ F0 : Nat → Option Nat, h (κ 2) = some (oA 0 F0) ∧ ∀ i, F0 i = none
section D1
variable {κ A : Nat → Nat} {h h' h1 H : xH} {g g' : Nat → Int32} {s l k j a b d n i q T : Nat} {f : Nat → Option Nat} {m : Int32} {w : Nat × Nat} {e : xE}
theorem MB.ext (hE : Ext h h') (hD : mD A s l h') (hM : MB κ A s l h) : MB κ A s l h' := by
  obtain ⟨h1, -, h3, h4, h5, h6, F0, h7, h8⟩ := hM
  exact ⟨h1, hD, h3.mono hE, h4, h5, h6, F0, hE _ _ h7, h8⟩
theorem CI.wB (hT : T < 2 ^ 29) (hl : lin s l a) (h : CI g T s l) : ∃ T', T ≤ T' ∧ T' ≤ T + 8 ∧ CI (m_wB g a (m_blk g a)) T' s l := by
  have ha := hl.1
  obtain ⟨hG, hL⟩ := h
  by_cases h0 : m_ones (g (89 + a)) = 0
  · refine ⟨T, by omega, by omega, ?_⟩
    unfold m_wB
    rw [if_pos h0]
    exact ⟨hG, hL⟩
  · obtain ⟨hb, hb2⟩ := (hL a hl).2 h0
    obtain ⟨d, hd, hd2⟩ := (hL a hl).1
    obtain ⟨p1, p2⟩ := m_pop d hd
    rw [← hd2] at p1 p2
    obtain ⟨T', t1, t2, hG'⟩ := GT.uses (k := m_blk g a % 4) (m := (m_ones (g (89 + a))).toNatClampNeg) hT (by omega) (Nat.mod_lt _ (by decide)) hG
    rw [← p1] at hG'
    have o := fun j => m_wB_o g a (m_blk g a) j (fun _ => hb)
    have up := fun j hj h1 h2 => (m_wB_up (g := g) (a := a) (b := m_blk g a) (fun _ => hb) j hj h1 h2).trans (if_neg h0)
    refine ⟨T', by omega, by omega, GT.of (up 0 (by omega) (by omega) (by omega)) (fun k hk => up _ (by omega) (by omega) (by omega)) hG', fun c hc => ?_⟩
    have hc16 := hc.1
    have e73 : m_wB g a (m_blk g a) (73 + c) = g (73 + c) := o _ (by omega) (by omega) (by omega) (by omega)
    have eblk : m_blk (m_wB g a (m_blk g a)) c = m_blk g c := by show (m_wB g a (m_blk g a) (73 + c)).toNatClampNeg = _; rw [e73]; rfl
    by_cases hca : c = a
    · subst hca
      have h89 : m_wB g c (m_blk g c) (89 + c) = 0 := by
        unfold m_wB
        rw [if_neg h0]
        simp only [m_wb]
        rw [upd_ne (by omega), upd_eq]
      exact ⟨⟨0, by omega, by rw [h89, nI_0]⟩, fun z => absurd (by rw [h89]; exact m_ones0) z⟩
    · have h89 : m_wB g a (m_blk g a) (89 + c) = g (89 + c) := o _ (by omega) (by omega) (by omega) (by omega)
      rw [e73, eblk, h89]
      exact hL c hc
theorem n_at_lin (hM : MB κ A s l h) (hi : i < s * l) : lin s l (n_at l i) := n_all_lin hM.2.2.2.1.2 hM.2.2.2.2.1.1 hM.2.2.2.2.1.2 hi
theorem cc_dirtyWords2 (hM : MB κ A s l h) (hC : CI g T s l) {c0 s0 : Nat} (hc : 13 ≤ c0) (hs : 6004 ≤ s0) (K : Int32 → xH → Prop)
    (hK : ∀ h', Ext h h' → mD A s l h' → K (m_sum (fun i => m_ones (g (89 + n_at l i))) (s * l)) (mput h' A s l g)) : P_X2_dirtyWords κ (A 5) (mput h A s l g, c0, s0) K := by
  have hM0 := hM
  obtain ⟨hA, hD, hS, ⟨hs1, hs4⟩, ⟨hl1, hl4⟩, hκ2, F0, he2, hF0⟩ := hM
  have hsl : s * l ≤ 16 := Nat.mul_le_mul hs4 hl4
  unfold P_X2_dirtyWords
  rw [n_rc hA, true_and]
  refine c_call 12 6000 (by omega) (by omega) (cc_allLines hA hD hS hs4 hl1 hl4 hκ2 he2 hF0 (Nat.le_refl _) (Nat.le_refl _) _ (fun h2 q d m hE2 hD2 hqn hκq hL2 => ?_))
  rw [t_nn, (hL2.mono (mput_ext hD2)).rc, true_and]
  refine c_call 1 4 (by omega) (by omega) (cc_iterator (hL2.mono (mput_ext hD2)) (Nat.le_refl _) (Nat.le_refl _) _ (fun p hp hκp hI => ?_))
  obtain ⟨hpA, hpn⟩ := mput_none hA hp
  rw [mput_xup hA hpA]
  refine x_for (s * l) (fun i v σ => v = m_sum (fun i => m_ones (g (89 + n_at l i))) i ∧ i ≤ s * l ∧ ∃ (w : Nat × Nat) (h1 : xH), σ = (mput h1 A s l g, w) ∧ Ext h2 h1 ∧ mD A s l h1 ∧ IT h1 p q i m) ?_ ?_ (v := (0 : Int32)) (σ := (mput (xup h2 p (itE 0 (-1) m q)) A s l g, _)) ⟨rfl, Nat.zero_le _, _, _, rfl, Ext.new hpn, hD2.xup hpA, ⟨-1, xup_eq⟩⟩
  · rintro i v σ ⟨rfl, -, w, h1, rfl, hE1, hD1, hI1⟩ hi self hself
    unfold B_X2_dirtyWords_12
    have hlin := n_at_lin hM0 hi
    refine x_it ((hL2.mono hE1).mono (mput_ext hD1)) (hI1.mono (mput_ext hD1)) hκp (by omega) (fun z => absurd z (by omega)) (fun _ hI2 => ?_)
    obtain ⟨j0, ej⟩ := hI1
    have hp1 := hD1.ne ej
    rw [mput_xup hA hp1]
    show xnn (some (A (6 + n_at l i))) _
    rw [t_nn, l_rc hA hlin, true_and, true_and]
    refine c_pure (r := m_ones (g (89 + n_at l i))) (fun w K hk => cc_dirtyWords3 hA hlin (hC.2 _ hlin).1 K hk) ?_
    exact hself _ _ ⟨rfl, by omega, w, _, rfl, hE1.new2 hpn, hD1.xup hp1, ⟨_, xup_eq⟩⟩
  · rintro v σ ⟨rfl, -, w, h1, rfl, hE1, hD1, hI1⟩ self
    unfold B_X2_dirtyWords_12
    exact x_it ((hL2.mono hE1).mono (mput_ext hD1)) (hI1.mono (mput_ext hD1)) hκp (Nat.le_refl _) (fun _ => hK _ (hE2.trans hE1) hD1) (fun z => absurd z (Nat.lt_irrefl _))
theorem cc_writesAllBack (hM : MB κ A s l h) (hC : CI g T s l) (hT : T < 2 ^ 28) {c0 s0 : Nat} (hc : 13 ≤ c0) (hs : 6004 ≤ s0) (K : Int32 → xH → Prop)
    (hK : ∀ h', Ext h h' → mD A s l h' → K (n_wAll (0, g) l (s * l)).1 (mput h' A s l (n_wAll (0, g) l (s * l)).2)) : P_X2_writesAllBack κ (A 5) (mput h A s l g, c0, s0) K := by
  have hM0 := hM
  obtain ⟨hA, hD, hS, ⟨hs1, hs4⟩, ⟨hl1, hl4⟩, hκ2, F0, he2, hF0⟩ := hM
  have hsl : s * l ≤ 16 := Nat.mul_le_mul hs4 hl4
  unfold P_X2_writesAllBack
  rw [n_rc hA, true_and]
  refine c_call 12 6000 (by omega) (by omega) (cc_allLines hA hD hS hs4 hl1 hl4 hκ2 he2 hF0 (Nat.le_refl _) (Nat.le_refl _) _ (fun h2 q d m hE2 hD2 hqn hκq hL2 => ?_))
  rw [t_nn, (hL2.mono (mput_ext hD2)).rc, true_and]
  refine c_call 1 4 (by omega) (by omega) (cc_iterator (hL2.mono (mput_ext hD2)) (Nat.le_refl _) (Nat.le_refl _) _ (fun p hp hκp hI => ?_))
  obtain ⟨hpA, hpn⟩ := mput_none hA hp
  rw [mput_xup hA hpA]
  refine x_for (s * l) (fun i v σ => v = (n_wAll (0, g) l i).1 ∧ i ≤ s * l ∧ ∃ (w : Nat × Nat) (h1 : xH) (T1 : Nat), σ = (mput h1 A s l (n_wAll (0, g) l i).2, w) ∧ Ext h2 h1 ∧ mD A s l h1 ∧ IT h1 p q i m ∧ CI (n_wAll (0, g) l i).2 T1 s l ∧ T1 ≤ T + 8 * i) ?_ ?_ (v := (0 : Int32)) (σ := (mput (xup h2 p (itE 0 (-1) m q)) A s l g, _)) ⟨rfl, Nat.zero_le _, _, _, T, rfl, Ext.new hpn, hD2.xup hpA, ⟨-1, xup_eq⟩, hC, by omega⟩
  · rintro i v σ ⟨rfl, -, w, h1, T1, rfl, hE1, hD1, hI1, hC1, hT1⟩ hi self hself
    unfold B_X2_writesAllBack_12
    have hlin := n_at_lin hM0 hi
    refine x_it ((hL2.mono hE1).mono (mput_ext hD1)) (hI1.mono (mput_ext hD1)) hκp (by omega) (fun z => absurd z (by omega)) (fun _ hI2 => ?_)
    obtain ⟨j0, ej⟩ := hI1
    have hp1 := hD1.ne ej
    rw [mput_xup hA hp1]
    show xnn (some (A (6 + n_at l i))) _
    rw [t_nn, l_rc hA hlin, true_and, n_rc hA, true_and]
    obtain ⟨T2, t1, t2, hC2⟩ := hC1.wB (by omega) hlin
    refine ⟨0, 0, Nat.zero_le _, Nat.zero_le _, cc_writesBack hA hlin hC1.1 (by omega) (hC1.2 _ hlin).1 (hC1.2 _ hlin).2 _ ?_⟩
    exact hself _ _ ⟨rfl, by omega, w, _, T2, rfl, hE1.new2 hpn, hD1.xup hp1, ⟨_, xup_eq⟩, hC2, by omega⟩
  · rintro v σ ⟨rfl, -, w, h1, T1, rfl, hE1, hD1, hI1, hC1, hT1⟩ self
    unfold B_X2_writesAllBack_12
    exact x_it ((hL2.mono hE1).mono (mput_ext hD1)) (hI1.mono (mput_ext hD1)) hκp (Nat.le_refl _) (fun _ => hK _ (hE2.trans hE1) hD1) (fun z => absurd z (Nat.lt_irrefl _))
theorem cc_sumOfMisses (hA : mOK κ A s l) (K : Int32 → xH → Prop) (hK : K (((0 + g 286) + g 287) + g 288) (mput h A s l g)) : P_X2_sumOfMisses κ (A 5) (mput h A s l g, w) K := by
  unfold P_X2_sumOfMisses
  rw [n_gq_7 hA, t_nn, g_an (mput_k (k := 4) hA (md (by omega)))]
  refine x_for 3 (fun i v σ => v = (m_sum (fun k => g (286 + k)) i, nI i) ∧ i ≤ 3 ∧ σ = (mput h A s l g, w)) ?_ ?_ ⟨rfl, by omega, rfl⟩
  · rintro i v σ ⟨rfl, -, rfl⟩ hi self hself
    unfold B_X2_sumOfMisses_13
    refine ⟨fun z => absurd ((nI_leI (a := 3) (b := i) (by decide) (by omega)).mp z) (by omega), fun _ => ?_⟩
    rw [n_ai_4 hA hi, (nI_succ i).symm]
    exact hself _ _ ⟨rfl, by omega, rfl⟩
  · rintro v σ ⟨rfl, -, rfl⟩ self
    unfold B_X2_sumOfMisses_13
    exact ⟨fun _ => hK, fun z => absurd ((nI_leI (a := 3) (b := 3) (by decide) (by omega)).mpr (Nat.le_refl _)) z⟩
def n_next (g : Nat → Int32) (s l k : Nat) : Int32 := match (List.range 64).find? (fun i => decide (k ≤ i) && n_dirty g s l i) with
  | some i => nI i
  | none => -1
theorem cc_nextDirty (hM : MB κ A s l h) (hk : k < 64) {c0 s0 : Nat} (hc : 64 ≤ c0) (hs : 256 ≤ s0) (K : Int32 → xH → Prop)
    (hK : ∀ h', Ext h h' → mD A s l h' → K (n_next g s l k) (mput h' A s l g)) : P_X2_nextDirty κ (A 5) (nI k) (mput h A s l g, c0, s0) K := by
  obtain ⟨hA, hD, hS, ⟨hs1, hs4⟩, ⟨hl1, hl4⟩, hκ2, F0, he2, hF0⟩ := hM
  unfold P_X2_nextDirty
  unfold n_next at hK
  refine x_for (64 - k) (fun i v σ => v = nI (k + i) ∧ i ≤ 64 - k ∧ (∀ j, j < k + i → (decide (k ≤ j) && n_dirty g s l j) = false) ∧ ∃ (c s1 : Nat) (h1 : xH), σ = (mput h1 A s l g, c, s1) ∧ 64 ≤ c + i ∧ 256 ≤ s1 + 4 * i ∧ Ext h h1 ∧ mD A s l h1) ?_ ?_ ⟨rfl, by omega, fun j hj => by simp; omega, _, _, _, rfl, by omega, by omega, Ext.rfl, hD⟩
  · rintro i v σ ⟨rfl, -, hj, c, s1, h1', rfl, hc1, hs1', hE1, hD1⟩ hi self hself
    unfold B_X2_nextDirty_2
    refine ⟨fun z => absurd ((nI_leI (a := 64) (b := k + i) (by decide) (by omega)).mp z) (by omega), fun _ => ?_⟩
    rw [n_rc hA, true_and]
    refine c_call 1 4 (by omega) (by omega) (cc_isDirty2 hA hD1 (hS.mono hE1) hs1 hs4 hl4 (by omega) (Nat.le_refl _) (Nat.le_refl _) _ (fun h' hE hD' => ?_))
    refine ⟨fun z => ?_, fun z => ?_⟩
    · rw [(nI_succ (k + i)).symm]
      refine hself _ _ ⟨rfl, by omega, fun j hj' => ?_, _, _, _, rfl, by omega, by omega, hE1.trans hE, hD'⟩
      rcases Nat.lt_or_ge j (k + i) with h1 | h1
      · exact hj j h1
      · rw [show j = k + i by omega, (bI_0 _).mp z]; simp
    · have := hK _ (hE1.trans hE) hD'
      rw [m_hit (i := k + i) hj (by omega) (by rw [bI_c z]; simp)] at this
      exact this
  · rintro v σ ⟨rfl, -, hj, c, s1, h1', rfl, hc1, hs1', hE1, hD1⟩ self
    unfold B_X2_nextDirty_2
    have e : k + (64 - k) = 64 := by omega
    rw [e] at hj ⊢
    refine ⟨fun _ => ?_, fun z => absurd ((nI_leI (a := 64) (b := 64) (by omega) (by omega)).mpr (Nat.le_refl _)) z⟩
    have := hK _ hE1 hD1
    rw [List.find?_eq_none.mpr (fun x hx => by rw [hj x (List.mem_range.mp hx)]; decide)] at this
    exact this
end D1
