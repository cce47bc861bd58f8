section C4
variable {κ A : Nat → Nat} {h : xH} {g g' : Nat → Int32} {s l k j a b T : Nat} {w : Nat × Nat}
theorem cc_copiesBack (hA : mOK κ A s l) (hl : lin s l a) (hd : ∃ d, d < 16 ∧ g (89 + a) = nI d) (hb : b < 16) (hab : g (73 + a) = nI b) (K : Int32 → xH → Prop) (hK : K (m_ones (g (89 + a))) (mput h A s l (upd (upd (m_back g a b (g (89 + a)) 4) (89 + a) 0) 289 (upd (m_back g a b (g (89 + a)) 4) (89 + a) 0 289 + m_ones (g (89 + a)))))) : P_X2_copiesBack κ (A 5) (some (A (6 + a))) (mput h A s l g, w) K := by
  have ha := hl.1
  unfold P_X2_copiesBack
  rw [t_nn, l_rc hA hl, true_and]
  refine c_pure (r := m_ones (g (89 + a))) (fun w K hk => cc_dirtyWords3 hA hl hd K hk) ?_
  refine x_for 4 (fun i v σ => v = nI i ∧ i ≤ 4 ∧ ∃ w, σ = (mput h A s l (m_back g a b (g (89 + a)) i), w)) ?_ ?_ ⟨rfl, by omega, _, rfl⟩
  · rintro i v σ ⟨rfl, -, w, rfl⟩ hi self hself
    unfold B_X2_copiesBack_7
    have e89 : m_back g a b (g (89 + a)) i (89 + a) = g (89 + a) := m_back_hi _ _ _ hb _ _ (by omega) _ (by omega)
    have e73 : m_back g a b (g (89 + a)) i (73 + a) = nI b := by rw [m_back_hi _ _ _ hb _ _ (by omega) _ (by omega)]; exact hab
    refine ⟨fun z => absurd ((nI_leI (a := 4) (b := i) (by decide) (by omega)).mp z) (by omega), fun _ => ?_⟩
    rw [l_rc hA hl, true_and]
    refine c_pure (r := bI (b_at (g (89 + a)) i)) (fun w K hk => cc_isDirty3 hA hl K (by rw [e89]; exact hk)) ?_
    refine ⟨fun z => ?_, fun z => ?_⟩
    · rw [(nI_succ i).symm]
      exact hself _ _ ⟨rfl, by omega, w, by rw [m_back, if_neg (by rw [(bI_0 _).mp z]; decide)]⟩
    · have e4 : (4 : Int32) * nI b + nI i = nI (4 * b + i) := by rw [a_m4, nI_add]
      rw [n_gq_0 hA, l_gi_2 hA hl, e73, l_gq_1 hA hl, t_nn, l_ai hA hl hi, t_nn, e4, n_si_0 hA (show 4 * b + i < 64 by omega), (nI_succ i).symm, ← Nat.add_assoc]
      exact hself _ _ ⟨rfl, by omega, w, by rw [m_back, if_pos (bI_c z)]⟩
  · rintro v σ ⟨rfl, -, w, rfl⟩ self
    unfold B_X2_copiesBack_7
    refine ⟨fun _ => ?_, fun z => absurd ((nI_leI (a := 4) (b := 4) (by decide) (by omega)).mpr (Nat.le_refl _)) z⟩
    dsimp only
    rw [l_pi_3 hA hl, n_gi_16 hA, n_pi_16 hA]
    exact hK
theorem cc_writesBack (hA : mOK κ A s l) (hl : lin s l a) (hG : GT g T) (hT : T < 2 ^ 29) (hd : ∃ d, d < 16 ∧ g (89 + a) = nI d) (hB : ¬ m_ones (g (89 + a)) = 0 → b < 16 ∧ g (73 + a) = nI b) (K : Int32 → xH → Prop) (hK : K (m_ones (g (89 + a))) (mput h A s l (m_wB g a b))) : P_X2_writesBack κ (A 5) (some (A (6 + a))) (mput h A s l g, w) K := by
  have ha := hl.1
  unfold P_X2_writesBack
  unfold m_wB at hK
  obtain ⟨d, hd16, hd2⟩ := hd
  have h0 := m_ones_0 d hd16
  rw [← hd2] at h0
  rw [t_nn, l_gi_3 hA hl]
  refine ⟨fun z => ?_, fun z => ?_⟩
  · have z1 := h0.mpr z
    rw [if_pos z1, z1] at hK
    exact hK
  · have z1 : ¬ m_ones (g (89 + a)) = 0 := fun y => z (h0.mp y)
    rw [if_neg z1] at hK
    obtain ⟨hb, hab⟩ := hB z1
    rw [l_rc hA hl, true_and]
    refine c_pure (r := nI (b % 4)) (fun w K hk => cc_bank hA hl hb hab K hk) ?_
    rw [l_rc hA hl, true_and]
    refine c_pure (r := m_ones (g (89 + a))) (fun w K hk => cc_dirtyWords3 hA hl ⟨d, hd16, hd2⟩ K hk) ?_
    rw [n_rc hA, true_and, Int32.one_mul]
    refine ⟨0, 0, Nat.zero_le _, Nat.zero_le _, cc_works hA hG hT (Nat.mod_lt _ (by decide)) _ _ ?_⟩
    show xrc (mput h A s l (m_uses g (b % 4) (m_ones (g (89 + a)))), _) (A 5) 1 ∧ xcall (fun τ L => P_X2_copiesBack κ (A 5) (some (A (6 + a))) τ L) (mput h A s l (m_uses g (b % 4) (m_ones (g (89 + a)))), _) fun v8 σ9 => K v8 σ9.1
    have e89 : m_uses g (b % 4) (m_ones (g (89 + a))) (89 + a) = g (89 + a) := m_uses_hi _ _ (Nat.mod_lt _ (by decide)) _ _ (by omega) (by omega)
    have e73 : m_uses g (b % 4) (m_ones (g (89 + a))) (73 + a) = g (73 + a) := m_uses_hi _ _ (Nat.mod_lt _ (by decide)) _ _ (by omega) (by omega)
    rw [n_rc hA, true_and]
    refine ⟨0, 0, Nat.zero_le _, Nat.zero_le _, cc_copiesBack hA hl ⟨d, hd16, by rw [e89]; exact hd2⟩ hb (by rw [e73]; exact hab) _ ?_⟩
    rw [e89]
    exact hK
end C4
