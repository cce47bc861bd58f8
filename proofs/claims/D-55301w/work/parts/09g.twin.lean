-- the class's questions about a set
section H7
variable {κ c A An An' : Nat → Nat} {H H' H1 H2 h h' h0 : xH} {a s l n r s' l' r' hd dq dd sb ln xa oa Tm Tm' T N T' N' i M k b p : Nat} {sv lt : Option Nat} {f bl : Nat → Nat} {t t' : Nat → Nat → Int32} {g g' gT gc W ch : Nat → Int32} {w : Nat × Nat} {x y z : Int32} {ex : Int32 → Nat} {q : Int32 × Int32}
theorem cc_reqSet {fs : List Value} (hM : MB κ A s l h) (e : mput h A s l gc xa = some (.inl (0, .ref (A 5) :: fs))) {c0 s0 : Nat} (hc : 1 ≤ c0) (hs : 6 ≤ s0) (K : Unit → xH → Prop) (KX : Nat → xH → Prop) (hK : m_in x 0 (nI (s - 1)) = true → K () (mput h A s l gc)) (hX : m_in x 0 (nI (s - 1)) = false → ∀ q H', κ 0 ≤ q → H' q = some (.inl (16, [])) → Ext (mput h A s l gc) H' → KX q H') : P_X1_requireSet κ xa x (mput h A s l gc, c0, s0) K KX := by
  obtain ⟨hA, hD, ⟨d0, m0, B, D, M, hS1, hS2⟩, ⟨hs1, hs4⟩, ⟨hl1, hl4⟩, -⟩ := hM
  have hX0 := mput_ext (g := gc) hD
  unfold P_X1_requireSet
  rw [g_gq (r := some (A 5)) e rfl, t_nn, n_gq_2 hA, t_nn, (hS1.mono hX0).rc, true_and]
  refine c_pure (r := nI s) (fun w K hk => cc_size4 (hS1.mono hX0) K hk) ?_
  rw [nI_m1 hs1]
  refine c_pure (r := bI (m_in x 0 (nI (s - 1)))) (fun w K hk => cc_btw x w K hk) ?_
  refine c_callX 1 6 hc hs (cc_reqI (Nat.le_refl _) (Nat.le_refl _) _ _ (fun z => hK (bI_c z)) (fun z q H' h1 h2 h3 => ⟨h1, ⟨_, h2⟩, hX ((bI_0 _).mp z) q H' h1 h2 h3⟩))
theorem cc_lineOf1 (hR : RR κ c H xa t Tm) (hG : GI (t 0) T N s l r) (x y z : Int32) {c0 s0 : Nat} (hc : 400 ≤ c0) (hs : 20000 ≤ s0) (hx : ex 1 = 16) (hx2 : ex 2 = 17) (K : Int32 → xH → Prop) (KX : Nat → xH → Prop) (hK : kQ κ c xa H ex (m_lineOf (t 0) s l x y z) t Tm K KX) : P_X1_lineOf κ xa x y z (H, c0, s0) K KX := by
  unfold P_X1_lineOf
  unfold m_lineOf at hK
  obtain ⟨A, gc, W, bl, h, h0, T', N', rfl, hM, hX, hG', hT', ⟨fs, ex2, hfs⟩, hk2⟩ := hR.ask hG
  obtain ⟨hA, hD, ⟨d0, m0, B, D, M, hS1, hS2⟩, ⟨hs1, hs4⟩, ⟨hl1, hl4⟩, -⟩ := id hM.1
  have hX0 := mput_ext (g := gc) hD
  rw [g_rc ex2, true_and]
  refine c_callX 1 6 (by omega) (by omega) (cc_reqSet hM.1 ex2 (by omega) (by omega) _ _ (fun hi => ?_) (fun hi q H' h1 h2 h3 => ⟨h1, ⟨_, h2⟩, ?_⟩))
  · rw [hi, if_pos rfl] at hK
    obtain ⟨u, rfl, hu⟩ := m_inI (by omega) hi
    have e2 : gc 2 = nI l := (hX.1.1 2 (by omega)).trans hG'.1.2.2.1.1
    rw [g_gq (r := some (A 5)) ex2 rfl, t_nn, n_gi_8 hA, e2, nI_m1 hl1]
    refine c_pure (r := bI (m_in y 0 (nI (l - 1)))) (fun w K hk => cc_btw y w K hk) ?_
    refine c_callX 1 6 (by omega) (by omega) (cc_reqI (by omega) (by omega) _ _ (fun hi2 => ?_) (fun hi2 q H' h1 h2 h3 => ⟨h1, ⟨_, h2⟩, ?_⟩))
    · have hi2 := bI_c hi2
      rw [hi2, if_pos rfl] at hK
      obtain ⟨v, rfl, hv⟩ := m_inI (by omega) hi2
      have hlin := lin_q hs4 hl4 (show u < s by omega) (show v < l by omega)
      rw [g_gq (r := some (A 5)) ex2 rfl, t_nn, n_gq_2 hA, t_nn, (hS1.mono hX0).rc, true_and]
      refine c_pure (r := some (B u)) (fun w K hk => cc_get4 (hS1.mono hX0) (by omega) K hk) ?_
      have hS3 := (hS2 u (by omega)).mono hX0
      rw [t_nn, hS3.rc, true_and, true_and]
      refine c_pure (r := some (A (6 + (4 * u + v)))) (fun w K hk => cc_get4 hS3 (by omega) K hk) ?_
      rw [t_nn, l_rc hA hlin, true_and]
      have hr := hX.1.2 _ hlin
      rw [c_n (by omega), c_n (by omega)] at hK
      have hKe : ∀ (j : Nat) (w : Int32), z = nI j → j ≤ 5 → w = (if t 0 (73 + (4 * u + v)) = -1 ∧ 2 < j then -1 else t 0 (73 + 16 * j + (4 * u + v))) → K w (mput h A s l gc) := fun j w hz hj hw => by
        subst hz hw
        have hin : m_in (nI j) 0 5 = true := by
          have : ∀ j, j < 6 → m_in (nI j) 0 5 = true := by decide
          exact this j (by omega)
        rw [hin, if_pos rfl, c_n (by omega)] at hK
        exact (hK _ hR KF.refl).1 rfl
      have hp01 := hG'.p01 hlin.1
      have hh : ∀ (j : Nat), 2 < j → j ≤ 5 → gc (73 + 16 * j + (4 * u + v)) = (if t 0 (73 + (4 * u + v)) = -1 ∧ 2 < j then -1 else t 0 (73 + 16 * j + (4 * u + v))) := fun j hj hj5 => by
        by_cases he : t 0 (73 + (4 * u + v)) = -1
        · rw [if_pos ⟨he, hj⟩]
          have := hr.2.2.2.2 he
          rcases (show j = 3 ∨ j = 4 ∨ j = 5 by omega) with rfl | rfl | rfl
          · exact this.1
          · exact this.2.1
          · exact this.2.2
        · rw [if_neg (fun z => he z.1)]
          have := hr.2.2.2.1 he
          rcases (show j = 3 ∨ j = 4 ∨ j = 5 by omega) with rfl | rfl | rfl
          · exact this.1
          · exact this.2.1
          · exact this.2.2.1
      refine ⟨fun z0 => ?_, fun z0 => ⟨fun z1 => ?_, fun z1 => ⟨fun z2 => ?_, fun z2 => ⟨fun z3 => ?_, fun z3 => ⟨fun z4 => ?_, fun z4 => ⟨fun z5 => ?_, fun z5 => ?_⟩⟩⟩⟩⟩⟩
      · rw [l_gi_2 hA hlin]
        refine hKe 0 _ z0 (by omega) ?_
        rw [if_neg (by omega), hr.1]
      · rw [l_gi_3 hA hlin]
        refine hKe 1 _ z1 (by omega) ?_
        rw [if_neg (by omega), hr.2.1]
      · rw [l_gi_4 hA hlin, hr.2.2.1]
        rcases hp01 with e | e
        · refine ⟨fun _ => hKe 2 _ z2 (by omega) ?_, fun z => absurd e z⟩
          rw [if_neg (by omega)]
          exact e.symm
        · refine ⟨fun z => absurd (e.symm.trans z) (by decide), fun _ => hKe 2 _ z2 (by omega) ?_⟩
          rw [if_neg (by omega)]
          exact e.symm
      · rw [l_gi_5 hA hlin]
        exact hKe 3 _ z3 (by omega) (hh 3 (by omega) (by omega))
      · rw [l_gi_6 hA hlin]
        exact hKe 4 _ z4 (by omega) (hh 4 (by omega) (by omega))
      · rw [l_gi_7 hA hlin]
        exact hKe 5 _ z5 (by omega) (hh 5 (by omega) (by omega))
      · have hin : m_in z 0 5 = false := by
          cases hz : m_in z 0 5 with
          | false => rfl
          | true =>
            obtain ⟨j, rfl, hj⟩ := m_inI (c := 5) (by decide) hz
            rcases (show j = 0 ∨ j = 1 ∨ j = 2 ∨ j = 3 ∨ j = 4 ∨ j = 5 by omega) with rfl | rfl | rfl | rfl | rfl | rfl
            · exact absurd rfl z0
            · exact absurd rfl z1
            · exact absurd rfl z2
            · exact absurd rfl z3
            · exact absurd rfl z4
            · exact absurd rfl z5
        rw [hin, if_neg (by simp)] at hK
        refine ⟨by dsimp only; omega, by dsimp only; omega, fun q hq hκ => ⟨hκ, ⟨_, xup_eq⟩, ?_⟩⟩
        refine kQ_x hK (show (2 : Int32) ≠ 0 by decide) hR KF.refl (Ext.new hq) hκ ?_
        rw [hx2]
        exact xup_eq
    · have hi2 := (bI_0 _).mp hi2
      rw [hi2, if_neg (by simp)] at hK
      refine kQ_x hK (by decide) hR KF.refl h3 h1 ?_
      rw [hx]; exact h2
  · rw [hi, if_neg (by simp)] at hK
    refine kQ_x hK (by decide) hR KF.refl h3 h1 ?_
    rw [hx]; exact h2
end H7
