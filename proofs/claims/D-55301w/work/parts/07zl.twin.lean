section FC
variable {κ : Nat → Nat} {h h' h0 H H' S0 : xH} {a a2 n n2 i j k x y p q r u t md it f : Nat} {N ky vA kA N2 ky2 vA2 kA2 Q QL QR : Nat → Nat} {v v2 : Nat → Value} {sz m m2 red col lev : Int32} {T T2 T' TL TR' : Nat → Nat → Option Nat} {cl cl2 cl' clL clR : Nat → Int32} {w : Nat × Nat} {lo hi lo2 hi2 loL hiL : Nat → Nat} {W : Nat → Int32} {x6 rL rR : Option Nat}
theorem TMo.keep2 (hT : TMo κ h a n N ky vA kA T lo hi cl m v) {fs : List Value} (e2 : h a2 = some (.inl (2, fs))) (hne : a ≠ a2) (hk : ∀ b e, h b = some e → b ≠ a2 → h' b = some e) : TMo κ h' a n N ky vA kA T lo hi cl m v := by
  obtain ⟨o1, o2, o3, o4, o5, o6, o7, es, e8, e9⟩ := hT
  have hkp : ∀ b e, h b = some e → (∀ fs, e ≠ .inl (2, fs)) → h' b = some e := fun b e hb k2 => hk b e hb (fun z => by rw [z, e2] at hb; exact k2 _ (Option.some.inj hb).symm)
  exact ⟨hk _ _ o1 hne, fun i hi' => hkp _ _ (o2 i hi') (fun fs z => by unfold tNd tN at z; cases z), o3, fun i hi' => ⟨hkp _ _ (o4 i hi').1 (fun fs z => by cases z), (o4 i hi').2⟩, o5, o6, o7, es, e8, fun b hb => hkp _ _ (e9 b hb) (fun fs z => by cases z)⟩
theorem cc_putAll (hS : TMo κ H a n N ky vA kA T lo hi cl m v) (hS2 : TMo κ H a2 0 N2 ky2 vA2 kA2 T2 lo2 hi2 cl2 m2 v2) (hne : a ≠ a2) (hn : n ≤ 64) {c0 s0 : Nat} (hc : 70 ≤ c0) (hs : 400 ≤ s0) (K : Unit → xH → Prop) (KX : Nat → xH → Prop)
    (hK : ∀ H' Q T' lo' hi' cl' m' v', TMo κ H' a n N ky vA kA T lo hi cl m v' → TMo κ H' a2 n Q ky vA kA T' lo' hi' cl' m' v2 → (∀ i, i < n → H (Q i) = none) → (∀ b e, H b = some e → b ≠ a → b ≠ a2 → H' b = some e) → (∀ k, k ≠ 6 → v' k = v k) → K () H') : P_J1_putAll κ a2 (some a) (H, c0, s0) K KX := by
  have e1 : H a = some (.inl (2, _)) := hS.1
  have hr2 : T2 3 0 = none := by
    cases e : T2 3 0 with
    | none => rfl
    | some j => have := (hS2.2.2.2.2.2.1.2.2.2.2.2.1 j e).1; omega
  have e2 : H a2 = some (.inl (2, [v2 0, v2 1, va_rf none, va_rf none, .int 0, .int m2, v2 6, v2 7, v2 8])) := by
    rw [hS2.1]
    unfold tMo
    rw [hr2, nI_0]
    rfl
  have hκ2 := hS2.2.2.1.2.2.1
  obtain ⟨es2, f8, f9⟩ := hS2.2.2.2.2.2.2.2
  unfold P_J1_putAll
  rw [t_nn, g_rc e1, true_and]
  refine c_pure (r := nI n) (fun w K hk => ?_) ?_
  · unfold P_J1_size
    rw [g_gi e1 rfl]
    exact hk
  rw [g_gi e2 rfl]
  refine ⟨fun _ => ⟨fun z => ?_, fun z => ?_⟩, fun z => absurd rfl z⟩
  · -- nothing to copy
    have hn0 : n = 0 := by
      rcases Nat.eq_zero_or_pos n with q | q
      · exact q
      · exact absurd z (nI_ne0 q (by omega))
    subst hn0
    rw [g_rc e2, true_and]
    refine c_call 70 400 hc hs ?_
    unfold P_J0_putAll
    rw [t_nn, g_rc e1, true_and]
    refine c_call 1 1 (by omega) (by omega) (cc_entrySet hS (Nat.le_refl _) (Nat.le_refl _) _ (fun q H1 v1 hq hS1 hv1 hf1 => ?_))
    show xnn (some q) _
    rw [t_nn, g_rc hq, true_and]
    refine c_call 1 4 (by omega) (by omega) (cc_iter19 hS1 hq (Nat.le_refl _) (Nat.le_refl _) _ (fun it H2 hit hκ hI hf2 => ?_))
    refine ⟨1, ?_⟩
    unfold xloop B_J0_putAll_12
    obtain ⟨lr, e⟩ := hI
    show xnn (some it) _
    rw [t_nn, g_rc e, true_and]
    refine c_pure (r := (0 : Int32)) (fun w K hk => ?_) ?_
    · unfold P_J20_hasNext
      rw [g_gq (r := none) e rfl]
      exact ⟨fun _ => hk, fun b z => (by cases z)⟩
    refine ⟨fun _ => ?_, fun z => absurd rfl z⟩
    have hX : Ext H1 H2 := fun b e hb => by rw [hf2 b (fun z => by rw [z, hit] at hb; cases hb)]; exact hb
    have hne1 : ∀ b e, H b = some e → (∀ fs, e ≠ .inl (2, fs)) → b ≠ a := fun b e hb k2 z => by rw [z, e1] at hb; exact k2 _ (Option.some.inj hb).symm
    refine hK H2 N2 T2 lo2 hi2 cl2 m2 v1 (hS1.mono hX) ⟨hX _ _ (hf1 _ _ hS2.1 (Ne.symm hne)), fun i hi' => absurd hi' (Nat.not_lt_zero _), hS2.2.2.1, fun i hi' => absurd hi' (Nat.not_lt_zero _), fun i j _ hi' => absurd hi' (Nat.not_lt_zero _), hS2.2.2.2.2.2.1, hS2.2.2.2.2.2.2.1, es2, f8, fun b hb => hX _ _ (hf1 _ _ (f9 b hb) (hne1 _ _ (f9 b hb) (fun fs z => by cases z)))⟩ (fun i hi' => absurd hi' (Nat.not_lt_zero _)) (fun b e hb b1 b2 => hX _ _ (hf1 _ _ hb b1)) hv1
  · have hn0 : 0 < n := by
      rcases Nat.eq_zero_or_pos n with q | q
      · rw [q] at z; exact absurd nI_0 z
      · exact q
    rw [g_rc e1, true_and]
    refine ⟨fun z => absurd z (by decide), fun _ => ?_⟩
    rw [g_gq (r := none) e2 rfl, true_and, true_and]
    refine c_pure (r := none) (fun w K hk => ?_) ?_
    · unfold P_J1_comparator
      rw [g_gq (r := none) e1 rfl]
      exact hk
    refine c_pure (r := (1 : Int32)) (fun w K hk => ?_) ?_
    · unfold P_J16_equals
      exact ⟨fun _ => hk, fun z => absurd rfl z⟩
    refine ⟨fun z => absurd z (by decide), fun _ => ?_⟩
    rw [g_gi e2 rfl, g_pi e2 hκ2 (by simp)]
    have hS1 : TMo κ (xup H a2 (.inl (2, [v2 0, v2 1, va_rf none, va_rf none, .int 0, .int (m2 + 1), v2 6, v2 7, v2 8]))) a n N ky vA kA T lo hi cl m v := hS.keep2 e2 hne (fun b e hb hba => by rw [xup_ne hba]; exact hb)
    show xrc (xup H a2 (.inl (2, [v2 0, v2 1, va_rf none, va_rf none, .int 0, .int (m2 + 1), v2 6, v2 7, v2 8])), c0, s0) a 2 ∧ _
    rw [g_rc ((xup_ne hne).trans e1), true_and]
    refine c_call 1 1 (by omega) (by omega) (cc_entrySet hS1 (Nat.le_refl _) (Nat.le_refl _) _ (fun q H2 v1 hq hS2' hv1 hf1 => ?_))
    show xnn (some q) _
    rw [t_nn, g_rc hq, true_and]
    refine c_call 1 4 (by omega) (by omega) (cc_iter19 hS2' hq (Nat.le_refl _) (Nat.le_refl _) _ (fun it H3 hit hκ hI hf2 => ?_))
    have e22 : H2 a2 = some (.inl (2, [v2 0, v2 1, va_rf none, va_rf none, .int 0, .int (m2 + 1), v2 6, v2 7, v2 8])) := hf1 _ _ xup_eq (Ne.symm hne)
    have d2 : a2 ≠ it := fun z => by rw [z, hit] at e22; cases e22
    show xrc (H3, _) a2 2 ∧ _
    rw [g_rc ((hf2 a2 d2).trans e22), true_and]
    refine c_call 64 384 (by omega) (by omega) (cc_buildFS hS2' hit hκ hn0 hn hI hf2 hκ2 hne e22 (Nat.le_refl _) (Nat.le_refl _) _ (fun H' Q T' lo' hi' cl' g1 g2 g3 g4 g5 => ?_))
    have hkp : ∀ b e, H2 b = some e → (∀ fs, e ≠ .inl (2, fs)) → H' b = some e := fun b e hb k2 => g5 b e hb (fun z => by rw [z, e22] at hb; exact k2 _ (Option.some.inj hb).symm)
    have hHH2 : ∀ b e, H b = some e → b ≠ a → b ≠ a2 → H2 b = some e := fun b e hb b1 b2 => hf1 b e (by rw [xup_ne b2]; exact hb) b1
    have hne1 : ∀ b e, H b = some e → (∀ fs, e ≠ .inl (2, fs)) → b ≠ a ∧ b ≠ a2 := fun b e hb k2 => ⟨fun z => by rw [z, e1] at hb; exact k2 _ (Option.some.inj hb).symm, fun z => by rw [z, e2] at hb; exact k2 _ (Option.some.inj hb).symm⟩
    refine hK H' Q T' lo' hi' cl' (m2 + 1) v1 (hS2'.keep2 e22 hne g5) ⟨g1, fun i hi' => (g2 i hi').1, ⟨g3, fun i hi' z => ?_, hκ2, fun i hi' => (g2 i hi').2.2.1⟩, fun i hi' => ⟨hkp _ _ (hS2'.2.2.2.1 i hi').1 (fun fs z => by cases z), (hS2'.2.2.2.1 i hi').2⟩, hS2'.2.2.2.2.1, g4, fun i hi' => (g2 i hi').2.2.2, es2, f8, fun b hb => ?_⟩ (fun i hi' => ?_) (fun b e hb b1 b2 => g5 _ _ (hHH2 b e hb b1 b2) b2) hv1
    · have := (g2 i hi').2.1
      rw [z, e22] at this
      cases this
    · have hh := hne1 _ _ (f9 b hb) (fun fs z => by cases z)
      exact hkp _ _ (hHH2 _ _ (f9 b hb) hh.1 hh.2) (fun fs z => by cases z)
    · cases hh : H (Q i) with
      | none => rfl
      | some e =>
        have b0 := (g2 i hi').2.1
        by_cases c1 : Q i = a
        · rw [c1, hS2'.1] at b0; cases b0
        · by_cases c2 : Q i = a2
          · rw [c2, e22] at b0; cases b0
          · rw [hHH2 _ _ hh c1 c2] at b0; cases b0
end FC
