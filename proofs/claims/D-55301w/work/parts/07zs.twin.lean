-- LinkedList.addAll into an empty list; a machine's bare parts
section FJ
variable {κ A A' : Nat → Nat} {h h' h0 H H0 X : xH} {g : Nat → Int32} {s l r a a2 b d n q k o T mach c1 s1 : Nat} {c bl : Nat → Nat} {W W' : Nat → Int32} {w : Nat × Nat} {m m2 : Int32} {N I : Nat → Nat}
theorem cc_toArray6 (hL : LL κ h a n N I m) (hn : n < 1000) (hI : ∀ i, i < n → ∃ fs, h (I i) = some (.inl (14, fs))) {c0 s0 : Nat} (hc : 1 ≤ c0) (hs : n ≤ s0) (K : Option Nat → xH → Prop) (hK : ∀ q h' F, h q = none → κ 0 ≤ q → h' q = some (oA n F) → (∀ i, i < n → F i = some (I i)) → (∀ b, b ≠ q → h' b = h b) → K (some q) h') : P_J6_toArray κ a (h, c0, s0) K := by
  obtain ⟨e1, e2, e3, e4, e5⟩ := hL
  unfold P_J6_toArray
  rw [g_gi e1 rfl]
  refine ⟨n, rfl, by omega, hc, hs, fun q hq hκ => ?_⟩
  have hq : h q = none := hq
  have haq : a ≠ q := fun z => by rw [z, hq] at e1; cases e1
  show xgq (xup h q _, _) a 4 2 _
  rw [g_gq (r := if n = 0 then none else some (N 0)) ((xup_ne haq).trans e1) rfl]
  refine x_for n (fun i v σ => v = (nI i, if i < n then some (N i) else none) ∧ i ≤ n ∧ ∃ X w' F, σ = (X, w') ∧ X q = some (oA n F) ∧ (∀ j, j < i → F j = some (I j)) ∧ ∀ b, b ≠ q → X b = h b) ?_ ?_ ⟨?_, Nat.zero_le _, _, _, _, rfl, xup_eq, fun j hj => absurd hj (Nat.not_lt_zero _), fun b hb => xup_ne hb⟩
  · rintro i v σ ⟨rfl, -, X, w', F, rfl, x1, x2, x3⟩ hi self hself
    unfold B_J6_toArray_15
    dsimp only
    rw [if_pos hi]
    refine ⟨fun z => (by cases z), fun b z => ?_⟩
    cases z
    have en0 := e2 i hi
    have hni : N i ≠ q := fun z => by rw [z, hq] at en0; cases en0
    have en : X (N i) = some (.inl (6, _)) := (x3 _ hni).trans en0
    obtain ⟨fs, eI⟩ := hI i hi
    rw [g_gq (r := some (I i)) en rfl, g_sq x1 hκ hi (by omega) (fun b z => by
      cases z
      exact ⟨14, fs, (x3 _ (fun z => by rw [z, hq] at eI; cases eI)).trans eI, rfl, by omega⟩), g_gq (r := if i + 1 < n then some (N (i + 1)) else none) ((xup_ne hni).trans en) rfl]
    refine hself _ _ ⟨by rw [nI_1], by omega, _, _, _, rfl, xup_eq, fun j hj => ?_, fun b hb => (xup_ne hb).trans (x3 b hb)⟩
    unfold va_up
    by_cases hji : j = i
    · rw [if_pos hji, hji]
    · rw [if_neg hji]; exact x2 j (by omega)
  · rintro v σ ⟨rfl, -, X, w', F, rfl, x1, x2, x3⟩ self
    unfold B_J6_toArray_15
    dsimp only
    rw [if_neg (by omega)]
    exact ⟨fun _ => hK q X F hq hκ x1 x2 x3, fun b z => (by cases z)⟩
  · by_cases h0 : n = 0
    · rw [if_pos h0, if_neg (by omega), nI_0]
    · rw [if_neg h0, if_pos (by omega), nI_0]
theorem cc_addAll6 {N2 I2 : Nat → Nat} (hL : LL κ h a n N I m) (hL2 : LL κ h a2 0 N2 I2 m2) (hn : n < 1000) (hne : a ≠ a2) (hI : ∀ i, i < n → ∃ fs, h (I i) = some (.inl (14, fs))) {c0 s0 : Nat} (hc : 1 + n ≤ c0) (hs : 4 * n ≤ s0) (K : Int32 → xH → Prop) (hK : ∀ v h' Q m', LL κ h' a2 n Q I m' → (∀ b e, h b = some e → b ≠ a2 → h' b = some e) → (∀ i, i < n → h (Q i) = none) → K v h') : P_J6_addAll κ a2 (some a) (h, c0, s0) K := by
  have hL0 := hL
  have hL20 := hL2
  obtain ⟨e1, e2, e3, e4, e5⟩ := hL
  obtain ⟨f1, -, -, f4, -⟩ := hL2
  have f1' : h a2 = some (.inl (4, [.int m2, .int 0, va_rf none, va_rf none])) := by rw [f1]; unfold lO; rw [nI_0]; rfl
  unfold P_J6_addAll
  rw [g_gi f1' rfl, g_rc f1', true_and]
  refine c_call c0 s0 (Nat.le_refl _) (Nat.le_refl _) ?_
  unfold P_J6_addAll_2
  rw [g_rc f1', true_and]
  refine c_pure (r := ()) (fun w K hk => ?_) ?_
  · unfold P_J6_checkPositionIndex
    rw [g_rc f1', true_and]
    refine c_pure (r := (1 : Int32)) (fun w K hk => ?_) ⟨fun z => absurd z (by decide), fun _ => hk⟩
    unfold P_J6_isPositionIndex
    refine ⟨fun z => absurd z (by decide), fun _ => ?_⟩
    rw [g_gi f1' rfl]
    exact ⟨fun z => absurd z (by decide), fun _ => hk⟩
  rw [t_nn, hL0.rc, true_and]
  refine c_call 1 n (by omega) (by omega) (cc_toArray6 hL0 hn hI (Nat.le_refl _) (Nat.le_refl _) _ (fun q h1 F hq hκ x1 x2 x3 => ?_))
  have d2 : a2 ≠ q := fun z => by rw [z, hq] at f1; cases f1
  have f1q : h1 a2 = some (.inl (4, [.int m2, .int 0, va_rf none, va_rf none])) := (x3 _ d2).trans f1'
  show xnn (some q) _
  rw [t_nn, g_an x1]
  refine ⟨fun z => ?_, fun z => ?_⟩
  · have hn0 : n = 0 := by
      rcases Nat.eq_zero_or_pos n with y | y
      · exact y
      · exact absurd z (nI_ne0 y (by show n < _; omega))
    subst hn0
    refine ⟨rfl, hK 0 h1 N2 m2 ⟨f1q.trans ?_, fun i hi => absurd hi (Nat.not_lt_zero _), fun i j hi => absurd hi (Nat.not_lt_zero _), f4, fun i hi => absurd hi (Nat.not_lt_zero _)⟩ (fun b e hb _ => ?_) (fun i hi => absurd hi (Nat.not_lt_zero _))⟩
    · unfold lO
      rw [nI_0]
      rfl
    · rw [x3 b (fun y => by rw [y, hq] at hb; cases hb)]
      exact hb
  · have hn0 : 0 < n := by
      rcases Nat.eq_zero_or_pos n with y | y
      · rw [y] at z; exact absurd nI_0 z
      · exact y
    rw [g_gi f1q rfl]
    refine ⟨fun _ => ?_, fun z => absurd rfl z⟩
    rw [g_gq (r := none) f1q rfl, g_an x1]
    show xwhile _ (none, (0 : Int32)) (h1, c0 - 1, s0 - n)
    refine x_for n (fun i v σ => ∃ (Q : Nat → Nat) (X : xH) (c1 s1 : Nat), v = ((if i = 0 then none else some (Q (i - 1))), nI i) ∧ σ = (X, c1, s1) ∧ X q = some (oA n F) ∧ (∀ j, j < i → X (Q j) = some (lND i Q I j) ∧ h1 (Q j) = none ∧ κ 0 ≤ Q j) ∧ (∀ j j', j < i → j' < i → j ≠ j' → Q j ≠ Q j') ∧ X a2 = some (.inl (4, [.int m2, .int 0, va_rf (if i = 0 then none else some (Q 0)), va_rf none])) ∧ (∀ b e, h1 b = some e → b ≠ a2 → X b = some e) ∧ c0 - 1 - i ≤ c1 ∧ s0 - n - 3 * i ≤ s1) ?_ ?_ ⟨fun _ => 0, h1, _, _, by rw [if_pos rfl, nI_0], rfl, x1, fun j hj => absurd hj (Nat.not_lt_zero _), fun j j' hj => absurd hj (Nat.not_lt_zero _), by rw [if_pos rfl]; exact f1q, fun b e hb _ => hb, by omega, by omega⟩
    · rintro i v σ ⟨Q, X, c1, s1, rfl, rfl, y1, y2, y3, y4, y5, hc1, hs1⟩ hi self hself
      unfold B_J6_addAll_2_68
      dsimp only
      have hnI : (h1 q = some (oA n F)) := x1
      show (nI n ≤ nI i → _) ∧ (¬ nI n ≤ nI i → _)
      refine ⟨fun z => absurd z (by rw [nI_leI (by omega) (by omega)]; omega), fun _ => ?_⟩
      rw [g_aq y1 hi (by omega), x2 i hi]
      refine ⟨by show 1 ≤ c1; omega, by show 3 ≤ s1; omega, fun p hp hκp => ?_⟩
      have hp : X p = none := hp
      refine ⟨0, 0, Nat.zero_le _, Nat.zero_le _, ?_⟩
      unfold P_J10_init
      show xpq κ (xup X p _, _) p 6 0 (some (I i)) _
      rw [g_pq xup_eq hκp (by simp), xup_xup, g_pq xup_eq hκp (by simp), xup_xup, g_pq xup_eq hκp (by simp), xup_xup]
      have hp1 : h1 p = none := by
        cases hh : h1 p with
        | none => rfl
        | some e =>
          by_cases hpa : p = a2
          · rw [hpa, y4] at hp; cases hp
          · rw [y5 p e hh hpa] at hp; cases hp
      have dpq : q ≠ p := fun z => by rw [z, hp] at y1; cases y1
      have dpa : a2 ≠ p := fun z => by rw [z, hp] at y4; cases y4
      have dpj : ∀ j, j < i → Q j ≠ p := fun j hj z => by
        have := (y2 j hj).1
        rw [z, hp] at this
        cases this
      by_cases h0 : i = 0
      · subst h0
        rw [if_pos rfl]
        refine ⟨fun _ => ?_, fun b z => (by cases z)⟩
        show xpq κ (xup X p (.inl (6, [.ref (I 0), va_rf none, va_rf none])), c1 - 1, s1 - 3) a2 4 2 (some p) _
        rw [g_pq ((xup_ne dpa).trans y4) f4 (by simp)]
        refine hself _ _ ⟨fun _ => p, _, _, _, by rw [if_neg (by omega), nI_1], rfl, (xup_ne (fun z => by rw [z, y4] at y1; cases y1)).trans ((xup_ne dpq).trans y1), fun j hj => ⟨?_, hp1, hκp⟩, fun j j' (hj : j < 0 + 1) (hj' : j' < 0 + 1) hjj => absurd (show j = j' by omega) hjj, by rw [xup_eq, if_neg (show ¬ 0 + 1 = 0 by omega)]; rfl, fun b e hb hba => ?_, by omega, by omega⟩
        · have : j = 0 := by omega
          subst this
          rw [xup_ne (Ne.symm dpa), xup_eq]
          rfl
        · rw [xup_ne hba, xup_ne (fun z => by rw [z, hp1] at hb; cases hb)]
          exact y5 b e hb hba
      · rw [if_neg h0]
        refine ⟨fun z => (by cases z), fun b z => ?_⟩
        cases z
        have hlast := (y2 (i - 1) (by omega))
        show xpq κ (xup X p (.inl (6, [.ref (I i), va_rf none, va_rf (some (Q (i - 1)))])), c1 - 1, s1 - 3) (Q (i - 1)) 6 1 (some p) _
        have el : X (Q (i - 1)) = some (.inl (6, _)) := hlast.1
        rw [g_pq ((xup_ne (dpj _ (by omega))).trans el) hlast.2.2 (by simp)]
        have hQ' : ∀ j, (if j = i then p else Q j) = if j = i then p else Q j := fun _ => rfl
        refine hself _ _ ⟨fun j => if j = i then p else Q j, _, _, _, by rw [if_neg (by omega), show i + 1 - 1 = i by omega, nI_1]; simp, rfl, ?_, fun j hj => ?_, fun j j' hj hj' hjj => ?_, ?_, fun b e hb hba => ?_, by omega, by omega⟩
        · rw [xup_ne (fun z => by rw [← z, y1] at el; cases el), xup_ne dpq]; exact y1
        · by_cases hji : j = i
          · subst hji
            dsimp only
            rw [if_pos rfl]
            refine ⟨?_, hp1, hκp⟩
            rw [xup_ne (Ne.symm (dpj _ (by omega))), xup_eq]
            unfold lND
            dsimp only
            rw [if_neg (show ¬ j + 1 < j + 1 by omega), if_neg h0, if_neg (show ¬ j - 1 = j by omega)]
          · dsimp only
            rw [if_neg hji]
            refine ⟨?_, (y2 j (by omega)).2⟩
            by_cases hjl : j = i - 1
            · subst hjl
              rw [xup_eq]
              unfold lND
              dsimp only
              have e9 : i - 1 + 1 = i := by omega
              rw [e9, if_pos (show i < i + 1 by omega), if_pos rfl]
              by_cases hz : i - 1 = 0
              · rw [if_pos hz]; simp [hz]
              · rw [if_neg hz, if_neg (show ¬ i - 1 - 1 = i by omega)]
                simp [hz]
            · rw [xup_ne (y3 j (i - 1) (by omega) (by omega) hjl), xup_ne (dpj j (by omega)), (y2 j (by omega)).1]
              unfold lND
              dsimp only
              rw [if_pos (show j + 1 < i by omega), if_pos (show j + 1 < i + 1 by omega), if_neg (show ¬ j + 1 = i by omega)]
              by_cases hz : j = 0
              · rw [if_pos hz]; simp [hz]
              · rw [if_neg hz, if_neg (show ¬ j - 1 = i by omega), if_neg hz]
        · by_cases hji : j = i
          · by_cases hji' : j' = i
            · omega
            · dsimp only
              rw [if_pos hji, if_neg hji']
              exact fun z => dpj j' (by omega) z.symm
          · by_cases hji' : j' = i
            · dsimp only
              rw [if_neg hji, if_pos hji']
              exact dpj j (by omega)
            · dsimp only
              rw [if_neg hji, if_neg hji']
              exact y3 j j' (by omega) (by omega) hjj
        · rw [xup_ne (fun z => by rw [← z, y4] at el; cases el), xup_ne dpa, y4]
          dsimp only
          rw [if_neg h0, if_neg (show ¬ i + 1 = 0 by omega), if_neg (show ¬ 0 = i by omega)]
        · rw [xup_ne (fun z => by rw [z, hlast.2.1] at hb; cases hb), xup_ne (fun z => by rw [z, hp1] at hb; cases hb)]
          exact y5 b e hb hba
    · rintro v σ ⟨Q, X, c1, s1, rfl, rfl, y1, y2, y3, y4, y5, hc1, hs1⟩ self
      unfold B_J6_addAll_2_68
      dsimp only
      show (nI n ≤ nI n → _) ∧ (¬ nI n ≤ nI n → _)
      refine ⟨fun _ => ?_, fun z => absurd (Int32.le_refl _) z⟩
      rw [if_neg (show ¬ n = 0 by omega)] at y4
      rw [if_neg (by omega), g_pq y4 f4 (by simp), g_gi xup_eq rfl, g_pi xup_eq f4 (by simp), xup_xup, g_gi xup_eq rfl, g_pi xup_eq f4 (by simp), xup_xup]
      have hQa : ∀ j, j < n → Q j ≠ a2 := fun j hj z => by
        have := (y2 j hj).1
        rw [z, y4] at this
        unfold lND at this
        cases this
      refine ⟨rfl, hK 1 (xup X a2 (.inl (4, [.int (m2 + 1), .int (0 + nI n), va_rf (some (Q 0)), va_rf (some (Q (n - 1)))]))) Q (m2 + 1) ⟨?_, fun i hi => ?_, y3, f4, fun i hi => (y2 i hi).2.2⟩ (fun b e hb hba => ?_) (fun i hi => ?_)⟩
      · rw [xup_eq]
        unfold lO
        rw [if_neg (by omega), if_neg (by omega), Int32.zero_add]
      · rw [xup_ne (hQa i hi)]
        exact (y2 i hi).1
      · rw [xup_ne hba]
        exact y5 b e (by rw [x3 b (fun y => by rw [y, hq] at hb; cases hb)]; exact hb) hba
      · have := (y2 i hi).2.1
        cases hh : h (Q i) with
        | none => rfl
        | some e =>
          rw [x3 _ (fun y => by rw [y, hq] at hh; cases hh), hh] at this
          cases this
end FJ
