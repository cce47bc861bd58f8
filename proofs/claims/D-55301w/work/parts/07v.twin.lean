/-- the line into which block b would come -/
def CT (A : Nat → Nat) (g : Nat → Int32) (s l r b : Nat) (res : Option Nat) : Prop := match n_in g (b % s) l (-1) with
  | some k => res = some (A (6 + (4 * (b % s) + k)))
  | none => (res = none ∧ ∀ y, ¬ gS A g (b % s) l y) ∨ ∃ y, res = some y ∧ gS A g (b % s) l y ∧ ∀ z, gS A g (b % s) l z → n_rk g r (n_inv A s l y) ≤ n_rk g r (n_inv A s l z)
section E5
variable {κ A : Nat → Nat} {h h' H M0 : xH} {g : Nat → Int32} {s l r a b b3 d n q k : Nat} {w : Nat × Nat}
theorem cc_comesTo (hM : MB κ A s l h) (hr : r < 4) (hr3 : g 3 = nI r) (hb : b < 64) (hLN : ∀ a, lin s l a → m_canGive g a = true → LN g a) {c0 s0 : Nat} (hc : 21 ≤ c0) (hs : 8004 ≤ s0) (K : Option Nat → xH → Prop)
    (hK : ∀ (h' : xH) (res : Option Nat), Ext h h' → mD A s l h' → CT A g s l r b res → K res (mput h' A s l g)) : P_X2_comesTo κ (A 5) (nI b) (mput h A s l g, c0, s0) K := by
  have hM0 := hM
  obtain ⟨hA, hD, hS0, ⟨hs1, hs4⟩, ⟨hl1, hl4⟩, hκ2, F0, he2, hF0⟩ := hM
  have hq : b % s < s := Nat.mod_lt _ (by omega)
  obtain ⟨d0, m0, B, D, M, hS1, hS2⟩ := hS0
  have hS : SA κ h A s l := ⟨d0, m0, B, D, M, hS1, hS2⟩
  have hE := mput_ext (g := g) hD
  unfold P_X2_comesTo
  rw [n_gq_2 hA, n_rc hA, true_and]
  refine c_pure (r := nI (b % s)) (fun w K hk => cc_setOf hA hD hS hs1 hs4 hb K hk) ?_
  rw [t_nn, (hS1.mono hE).rc, true_and]
  refine c_pure (r := some (B (b % s))) (fun w K hk => cc_get4 (hS1.mono hE) hq K hk) ?_
  rw [t_nn, ((hS2 _ hq).mono hE).rc, true_and, true_and]
  refine c_call 1 4 (by omega) (by omega) (cc_iterator ((hS2 _ hq).mono hE) (Nat.le_refl _) (Nat.le_refl _) _ (fun p hp hκ hI => ?_))
  obtain ⟨hpA, hpn⟩ := mput_none hA hp
  rw [mput_xup hA hpA] at hI ⊢
  unfold CT at hK
  have hset : ∀ (h1 : xH) (w : Nat × Nat) (K : Int32 → xH → Prop), Ext h h1 → mD A s l h1 → K (nI (b % s)) (mput h1 A s l g) → P_X2_setOf κ (A 5) (nI b) (mput h1 A s l g, w) K := fun h1 w K x1 x2 hk => cc_setOf hA x2 (hS.mono x1) hs1 hs4 hb K hk
  generalize b % s = c at hq hK hI hset
  have hD1 : mD A s l (xup h p (itE 0 (-1) (M c) (B c))) := hD.xup hpA
  refine x_for l (fun i v σ => i ≤ l ∧ ∃ (c1 s1 : Nat) (h1 : xH), σ = (mput h1 A s l g, c1, s1) ∧ 20 ≤ c1 ∧ 8000 ≤ s1 ∧ Ext h h1 ∧ mD A s l h1 ∧ IT h1 p (B c) i (M c) ∧ ∀ j, j < i → g (73 + (4 * c + j)) ≠ -1) ?_ ?_ (v := ()) (σ := (mput (xup h p (itE 0 (-1) (M c) (B c))) A s l g, c0 - 1, s0 - 4)) ⟨Nat.zero_le _, _, _, _, rfl, by omega, by omega, Ext.new hpn, hD1, ⟨-1, xup_eq⟩, fun j hj => absurd hj (Nat.not_lt_zero _)⟩
  · rintro i v σ ⟨-, c1, s1, h1, rfl, hc1, hs1', hE1, hD1, hI1, hj⟩ hi self hself
    unfold B_X2_comesTo_23
    have hlin := lin_q hs4 hl4 hq hi
    refine x_it (((hS2 c hq).mono hE1).mono (mput_ext hD1)) (hI1.mono (mput_ext hD1)) hκ (by omega) (fun z => absurd z (by omega)) (fun _ hI2 => ?_)
    obtain ⟨j0, ej⟩ := hI1
    have hq1 := hD1.ne ej
    rw [mput_xup hA hq1]
    have hE2 : Ext h (xup h1 p (itE (i + 1) (nI i) (M c) (B c))) := hE1.new2 hpn
    rw [t_nn, l_rc hA hlin, true_and, true_and]
    refine c_pure (r := bI (decide (g (73 + (4 * c + i)) = -1))) (fun w K hk => cc_isEmpty hA hlin K hk) ?_
    refine ⟨fun z => ?_, fun z => ?_⟩
    · have z := (bI_0 _).mp z
      simp only [decide_eq_false_iff_not] at z
      refine hself _ _ ⟨by omega, c1, s1, _, rfl, hc1, hs1', hE2, hD1.xup hq1, ⟨_, xup_eq⟩, fun j hj' => ?_⟩
      rcases Nat.lt_succ_iff_lt_or_eq.mp hj' with h1 | h1
      · exact hj j h1
      · rw [h1]; exact z
    · have z := bI_c z
      simp only [decide_eq_true_eq] at z
      refine hK _ _ hE2 (hD1.xup hq1) ?_
      unfold n_in
      rw [m_hit (i := i) (fun j hj' => by simp [hj j hj']) hi (by simp [z])]
  · rintro v σ ⟨-, c1, s1, h1, rfl, hc1, hs1', hE1, hD1, hI1, hj⟩ self
    unfold B_X2_comesTo_23
    refine x_it (((hS2 c hq).mono hE1).mono (mput_ext hD1)) (hI1.mono (mput_ext hD1)) hκ (Nat.le_refl _) (fun _ => ?_) (fun z => absurd z (Nat.lt_irrefl _))
    dsimp only
    have hnone : n_in g c l (-1) = none := by
      unfold n_in
      rw [List.find?_eq_none]
      intro x hx
      simp [hj x (List.mem_range.mp hx)]
    rw [n_rc hA, true_and]
    refine c_pure (r := nI c) (fun w K hk => hset h1 w K hE1 hD1 hk) ?_
    rw [n_rc hA, true_and]
    refine c_call 20 8000 hc1 hs1' (cc_giving (hM0.ext hE1 hD1) hr hr3 hq (fun k hk => hLN _ (lin_q hs4 hl4 hq hk)) (Nat.le_refl _) (Nat.le_refl _) _ (fun h2 o od n p m x2 y2 hL hn4 hst => ?_))
    have hLM := hL.mono (mput_ext (g := g) y2)
    have hE2 : Ext h h2 := hE1.trans x2
    rw [t_nn, hLM.rc, true_and]
    refine c_pure (r := bI (decide (n = 0))) (fun w K hk => cc_isEmpty4 hLM K hk) ?_
    refine ⟨fun z => ?_, fun z => ?_⟩
    · have z := (bI_0 _).mp z
      simp only [decide_eq_false_iff_not] at z
      rw [hLM.rc, true_and]
      have e0 : (0 : Int32) = nI 0 := by decide
      rw [e0]
      refine c_pure (r := some (p 0)) (fun w K hk => cc_get4 hLM (i := 0) (by omega) K hk) ?_
      have hg0 : gS A g c l (p 0) := (hst.1.2 _).mpr ⟨0, by omega, rfl⟩
      have hg0' := hg0
      obtain ⟨k, hk, -, ek⟩ := hg0'
      rw [t_nn]
      refine ⟨?_, hK h2 (some (p 0)) hE2 y2 ?_⟩
      · rw [ek]
        exact ⟨_, mput_l hA (lin_q hs4 hl4 hq hk)⟩
      · rw [hnone]
        refine Or.inr ⟨p 0, rfl, hg0, fun z hz => ?_⟩
        obtain ⟨i, hi, e⟩ := (hst.1.2 z).mp hz
        rw [← e]
        rcases Nat.eq_zero_or_pos i with u | u
        · rw [u]; exact Nat.le_refl _
        · exact hst.2 0 i u hi
    · have z := bI_c z
      simp only [decide_eq_true_eq] at z
      refine hK h2 none hE2 y2 ?_
      rw [hnone]
      refine Or.inl ⟨rfl, fun y hy => ?_⟩
      obtain ⟨i, hi, -⟩ := (hst.1.2 y).mp hy
      omega
end E5
