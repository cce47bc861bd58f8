section FI
variable {κ A A' : Nat → Nat} {h h' h0 H : xH} {g : Nat → Int32} {s l r a b d n q k o T : Nat} {c bl : Nat → Nat} {W W' : Nat → Int32} {w : Nat × Nat} {m : Int32}
theorem mdm00 {k : Nat} (hk : mdm 0 0 k) : k < 6 := by
  unfold mdm lin at hk
  omega
theorem mOK.base (hA : mOK κ A s l) : mOK κ A 0 0 := ⟨fun k hk => hA.1 k (md (mdm00 hk)), fun k k' hk hk' => hA.2 k k' (md (mdm00 hk)) (md (mdm00 hk'))⟩
/-- the lines ride with the heap again -/
theorem mput_base (hA : mOK κ A s l) (hD : mD A s l h) : mput (mcut (mput h A s l g) A 0 0) A 0 0 g = mput h A s l g ∧ Ext h (mcut (mput h A s l g) A 0 0) :=
  ⟨mput_back hA.base (fun k hk => mput_k hA (md (mdm00 hk))), fun b e hb => by
    rw [mcut_in (fun k hk => hD.ne hb k (md (mdm00 hk)))]
    exact mput_in hD hb⟩
theorem cc_shapes (hM : MM κ A s l c W h0 n bl h) (hC : CI g T s l) (hT : T < 2 ^ 28) (x y : Int32) {c0 s0 : Nat} (hc : 90 ≤ c0) (hs : 50000 ≤ s0) (K : Int32 → xH → Prop) (KX : Nat → xH → Prop)
    (hK : ∀ s' l' A' h', x = nI s' → y = nI l' → (1 ≤ s' ∧ s' ≤ 4) → (1 ≤ l' ∧ l' ≤ 4) → (∀ j, j < 6 ∨ 38 ≤ j → A' j = A j) → MM κ A' s' l' c W h0 0 bl h' → K (n_wAll (0, g) l (s * l)).1 (mput h' A' s' l' (n_anew (n_wAll (0, g) l (s * l)).2 l')))
    (hX1 : m_in x 1 4 = false → ∀ q h', RF h' q 1 x none → h0 q = none → κ 0 ≤ q → Ext h0 h' → KX q h')
    (hX2 : m_in x 1 4 = true → m_in y 1 4 = false → ∀ q h', RF h' q 1 y none → h0 q = none → κ 0 ≤ q → Ext h0 h' → KX q h') : P_X2_shapes κ (A 5) x y (mput h A s l g, c0, s0) K KX := by
  have hA := hM.1.1
  have hE0 : Ext h0 (mput h A s l g) := hM.2.2.1.trans (mput_ext hM.1.2.1)
  unfold P_X2_shapes
  refine c_callX 1 9 (by omega) (by omega) (cc_checkRange (Nat.le_refl _) (Nat.le_refl _) _ _ (fun hi => ?_) (fun hi q h' k1 k2 k3 k4 => ⟨k3, k1.rc, hX1 hi q h' k1 (hE0.none k2) k3 (hE0.trans k4)⟩))
  refine c_callX 1 9 (by omega) (by omega) (cc_checkRange (Nat.le_refl _) (Nat.le_refl _) _ _ (fun hj => ?_) (fun hj q h' k1 k2 k3 k4 => ⟨k3, k1.rc, hX2 hi hj q h' k1 (hE0.none k2) k3 (hE0.trans k4)⟩))
  obtain ⟨s', rfl, hs1, hs4⟩ := m_inJ (u := 1) (c := 4) (by omega) (by omega) hi
  obtain ⟨l', rfl, hl1, hl4⟩ := m_inJ (u := 1) (c := 4) (by omega) (by omega) hj
  rw [n_rc hA, true_and]
  refine c_call 13 6004 (by omega) (by omega) (cc_writesAllBack hM.1 hC hT (Nat.le_refl _) (Nat.le_refl _) _ (fun h2 hE2 hD2 => ?_))
  have hM2 := hM.ext hE2 hD2
  obtain ⟨⟨-, -, hS, hs, hl, hκ2, F0, he2, hF0⟩, hI, hE, ⟨N, m, hL, hf1, hf2⟩, hbl, hn, hW, hF⟩ := hM2
  obtain ⟨hbk, hEx⟩ := mput_base (g := (n_wAll (0, g) l (s * l)).2) hA hD2
  rw [n_rc hA, true_and, ← hbk]
  obtain ⟨d0, m0, B, D, Ms, hS1, hS2⟩ := hS
  obtain ⟨f1, f2, mm, xx, dd, f3, f4, f5⟩ := hF
  have hdd : d0 = dd := by
    obtain ⟨N1, F1, x1, -⟩ := hS1
    rw [x1] at f3
    cases f3
    rfl
  refine c_call (c0 := c0 - 1 - 1 - 13) (s0 := s0 - 9 - 9 - 6004) 60 40000 (by omega) (by omega) (cc_shapesAnew hA.base mcut_D (fun k hk => ?_) hI (hE.trans hEx) hκ2 (hEx _ _ he2) hF0 (hS1.mono hEx) (by omega) f1 f2 (Or.inr (by rw [hdd]; exact f4)) (hL.mono hEx) hf1 hf2 hbl hn (hW.mono hEx) ⟨hs1, hs4⟩ ⟨hl1, hl4⟩ (Nat.le_refl _) (Nat.le_refl _) _ (fun A' h' hA' hM' => ?_))
  · exact hE.none (hD2 k (md hk))
  · exact hK s' l' A' h' rfl rfl ⟨hs1, hs4⟩ ⟨hl1, hl4⟩ hA' hM'
end FI
