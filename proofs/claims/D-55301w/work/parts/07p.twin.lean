/-- the PriorityQueue at a: array d, comparator b3, n elements, which are E's -/
def PQ (κ : Nat → Nat) (H : xH) (a d b3 n : Nat) (S : Nat → Prop) (rk : Nat → Nat) (E : Nat → Prop) : Prop := ∃ (N : Nat) (F : Nat → Option Nat) (q : Nat → Nat) (m : Int32), H a = some (.inl (27, [.ref d, .int (nI n), .ref b3, .int m])) ∧ H d = some (oA N F) ∧ (0 < N ∧ n ≤ N ∧ N ≤ 60) ∧ (κ 0 ≤ a ∧ κ 0 ≤ d) ∧ (∀ i, i < n → F i = some (q i)) ∧ (∀ i, n ≤ i → F i = none) ∧ PE q n E ∧ HP q n rk ∧ ∀ i, i < n → S (q i)
/-- S's elements are objects of class cS, the comparator an object -/
def SO (H : xH) (b3 cS : Nat) (S : Nat → Prop) : Prop := (∀ y, S y → ∃ fs, H y = some (.inl (cS, fs))) ∧ (cS ≠ 27 ∧ x_obj cS = true ∧ cS < 1000) ∧ ∃ cb fs, H b3 = some (.inl (cb, fs)) ∧ cb ≠ 27
section D8
variable {κ : Nat → Nat} {H H' h : xH} {a d b3 cS N n x : Nat} {q : Nat → Nat} {S E : Nat → Prop} {rk : Nat → Nat} {w : Nat × Nat} {F : Nat → Option Nat} {m : Int32}
theorem CM.same (hs : ∀ x, (S x ∨ x = b3) → H' x = H x) (h : CM κ H b3 S rk) : CM κ H' b3 S rk := by
  obtain ⟨cm, h1, h2⟩ := h
  exact ⟨cm, h1, fun H9 h9 => h2 H9 (fun x hx => (h9 x hx).trans (hs x hx))⟩
theorem SO.same (hs : ∀ x, (S x ∨ x = b3) → H' x = H x) (h : SO H b3 cS S) : SO H' b3 cS S := by
  obtain ⟨h1, h2, cb, fs, h3, h4⟩ := h
  refine ⟨fun y hy => ?_, h2, cb, fs, by rw [hs _ (Or.inr rfl)]; exact h3, h4⟩
  obtain ⟨fs, e⟩ := h1 y hy
  exact ⟨fs, by rw [hs _ (Or.inl hy)]; exact e⟩
theorem SO.ne {sz : List Value} {N : Nat} {F : Nat → Option Nat} (h : SO H b3 cS S) (ea : H a = some (.inl (27, sz))) (ed : H d = some (oA N F)) : ∀ y, (S y ∨ y = b3) → y ≠ a ∧ y ≠ d := by
  obtain ⟨h1, h2, cb, fs, h3, h4⟩ := h
  rintro y (hy | hy)
  · obtain ⟨fs, e⟩ := h1 y hy
    exact ⟨fun z => (by rw [z, ea] at e; cases e; exact h2.1 rfl), fun z => (by rw [z, ed] at e; cases e)⟩
  · subst hy
    exact ⟨fun z => (by rw [z, ea] at h3; cases h3; exact h4 rfl), fun z => (by rw [z, ed] at h3; cases h3)⟩
theorem SO.ok (h : SO H b3 cS S) : ∀ y, S y → oOK H (some y) := fun y hy b hb => by
  cases hb
  obtain ⟨fs, e⟩ := h.1 y hy
  exact ⟨cS, fs, e, h.2.1.2⟩
theorem PE.add {q : Nat → Nat} (h : PE q n E) (hx : ¬ E x) : PE (fun i => if i = n then x else q i) (n + 1) (fun y => y = x ∨ E y) := by
  have hqx : ∀ i, i < n → q i ≠ x := fun i hi z => hx ((h.2 x).mpr ⟨i, hi, z⟩)
  refine ⟨fun i j hi hj hij => ?_, fun y => ?_⟩
  · show (if i = n then x else q i) ≠ (if j = n then x else q j)
    by_cases h1 : i = n
    · rw [if_pos h1, if_neg (by omega)]
      exact (hqx j (by omega)).symm
    · rw [if_neg h1]
      by_cases h2 : j = n
      · rw [if_pos h2]
        exact hqx i (by omega)
      · rw [if_neg h2]
        exact h.1 i j (by omega) (by omega) hij
  · constructor
    · rintro (rfl | hy)
      · exact ⟨n, by omega, if_pos rfl⟩
      · obtain ⟨i, hi, e⟩ := (h.2 y).mp hy
        exact ⟨i, by omega, by show (if i = n then x else q i) = y; rw [if_neg (by omega)]; exact e⟩
    · rintro ⟨i, hi, e⟩
      have e : (if i = n then x else q i) = y := e
      by_cases h1 : i = n
      · rw [if_pos h1] at e
        exact Or.inl e.symm
      · rw [if_neg h1] at e
        exact Or.inr ((h.2 y).mpr ⟨i, by omega, e⟩)
theorem PQ.rc (h : PQ κ H a d b3 n S rk E) : xrc (H, w) a 27 ↔ True := by
  obtain ⟨N, F, q, m, e, -⟩ := h
  exact g_rc e
theorem cc_isEmpty42 (h : PQ κ H a d b3 n S rk E) (K : Int32 → xH → Prop) (hK : K (bI (decide (n = 0))) H) : P_J2_isEmpty κ a (H, w) K := by
  have hrc := h.rc (w := w)
  obtain ⟨N, F, q, m, e, -, ⟨h1, h2, h3⟩, -⟩ := h
  unfold P_J2_isEmpty
  rw [hrc, true_and]
  refine c_pure (r := nI n) (fun w K hk => ?_) ?_
  · unfold P_J42_size
    rw [g_gi e rfl]
    exact hk
  · rw [show nI n = 0 ↔ n = 0 from nI_eq (b := 0) (by omega) (by decide)]
    exact ⟨fun z => by simpa [z, bI] using hK, fun z => by simpa [z, bI] using hK⟩
theorem cc_add42 (h : PQ κ H a d b3 n S rk E) (hSO : SO H b3 cS S) (hCM : CM κ H b3 S rk) (hx : S x) (hxE : ¬ E x) (hn : n ≤ 20) {c0 s0 : Nat} (hc : 1 ≤ c0) (hs : 100 ≤ s0) (K : Int32 → xH → Prop)
    (hK : ∀ (H' : xH) (d' : Nat), PQ κ H' a d' b3 (n + 1) S rk (fun y => y = x ∨ E y) → (∀ b e, H b = some e → b ≠ a → b ≠ d → H' b = some e) → (d' = d ∨ H d' = none) → (∀ b, H' b = none → H b = none) → K 1 H') : P_J42_add κ a (some x) (H, c0, s0) K := by
  have hrc := h.rc (w := (c0, s0))
  obtain ⟨N, F, q, m, e1, e2, ⟨hN0, hnN, hN60⟩, ⟨hκa, hκd⟩, hF, hF2, hPE, hHP, hSq⟩ := h
  have hne := hSO.ne e1 e2
  have had : a ≠ d := fun z => by rw [z, e2] at e1; cases e1
  unfold P_J42_add
  rw [hrc, true_and]
  refine c_call c0 s0 (Nat.le_refl _) (Nat.le_refl _) ?_
  unfold P_J42_offer
  refine ⟨fun z => (by cases z), fun b1 z => ?_⟩
  cases z
  rw [g_gi e1 rfl, g_pi e1 hκa (by simp), show ([.ref d, .int (nI n), .ref b3, .int m] : List Value).set 3 (.int (m + 1)) = [.ref d, .int (nI n), .ref b3, .int (m + 1)] from rfl, g_gi xup_eq rfl, g_gq (r := some d) xup_eq rfl, t_nn]
  have hsame : ∀ y, (S y ∨ y = b3) → xup H a (.inl (27, [.ref d, .int (nI n), .ref b3, .int (m + 1)])) y = H y := fun y hy => xup_ne (hne y hy).1
  have yd : xup H a (.inl (27, [.ref d, .int (nI n), .ref b3, .int (m + 1)])) d = some (oA N F) := by rw [xup_ne had.symm]; exact e2
  have ya : xup H a (.inl (27, [.ref d, .int (nI n), .ref b3, .int (m + 1)])) a = some (.inl (27, [.ref d, .int (nI n), .ref b3, .int (m + 1)])) := xup_eq
  have hSO1 := hSO.same hsame
  have hCM1 := hCM.same hsame
  -- the sift into the array d' of the heap H1
  have sift : ∀ (H1 : xH) (d' N' : Nat) (F1 : Nat → Option Nat) (w : Nat × Nat), H1 a = some (.inl (27, [.ref d', .int (nI n), .ref b3, .int (m + 1)])) → H1 d' = some (oA N' F1) → κ 0 ≤ d' → n < N' → N' ≤ 60 → (∀ i, i < n → F1 i = some (q i)) → (∀ i, n ≤ i → F1 i = none) → SO H1 b3 cS S → CM κ H1 b3 S rk → (∀ b e, H b = some e → b ≠ a → b ≠ d → b ≠ d' → H1 b = some e) → (d' = d ∨ H d' = none) → (∀ b, H1 b = none → H b = none) →
      (xrc (H1, w) a 27 ∧ xcall (fun τ L => P_J42_siftUp κ a (nI n) (some x) τ L) (H1, w) fun _ σ8 => xpi κ σ8 a 27 1 (nI (n + 1)) fun σ9 => narrow .boolean (.int (1 : Int32)) = .int 1 ∧ K 1 σ9.1) := by
    intro H1 d' N' F1 w k1 k2 k3 k4 k5 k6 k7 k8 k9 k10 k11 k12
    have hne1 := k8.ne k1 k2
    have had' : a ≠ d' := fun z => by rw [z, k2] at k1; cases k1
    refine ⟨⟨_, k1⟩, ⟨0, 0, Nat.zero_le _, Nat.zero_le _, ?_⟩⟩
    unfold P_J42_siftUp
    show xgq (H1, 0, 0) a 27 2 _
    rw [g_gq (r := some b3) k1 rfl]
    refine ⟨fun z => (by cases z), fun b z => ?_⟩
    cases z
    rw [g_gq (r := some d') k1 rfl, g_gq (r := some b3) k1 rfl]
    have hq9 : ∀ i, i < n → (fun i => if i = n then x else q i) i = q i := fun i hi => by show (if i = n then x else q i) = q i; rw [if_neg (by omega)]
    refine ⟨0, 0, Nat.zero_le _, Nat.zero_le _, cc_siftUp (Q0 := fun i => if i = n then x else q i) (E := fun y => y = x ∨ E y) k2 k3 (by omega) k4 (fun i hi => (k6 i hi).trans (congrArg some (hq9 i hi).symm)) k7 (if_pos rfl) (fun i hi => ?_) (fun y hy => ⟨k8.ok y hy, (hne1 y (Or.inl hy)).2⟩) (hne1 b3 (Or.inr rfl)).2 k9 (hPE.add hxE) (fun i h0 hi => ?_) _ (fun F' q' g1 g2 g3 g4 g5 => ?_)⟩
    · show S (if i = n then x else q i)
      split
      · exact hx
      · exact hSq i (by omega)
    · have u1 := hq9 i hi
      have u2 := hq9 ((i - 1) / 2) (by omega)
      dsimp only at u1 u2 ⊢
      rw [u1, u2]
      exact hHP i h0 hi
    · show xpi κ (xup H1 d' (oA N' F'), _) a 27 1 (nI (n + 1)) _
      have za : xup H1 d' (oA N' F') a = some (.inl (27, [.ref d', .int (nI n), .ref b3, .int (m + 1)])) := by rw [xup_ne had']; exact k1
      rw [g_pi za hκa (by simp)]
      refine ⟨rfl, ?_⟩
      show K 1 (xup (xup H1 d' (oA N' F')) a _)
      refine hK _ d' ⟨N', F', q', m + 1, xup_eq, by rw [xup_ne had'.symm, xup_eq], ⟨by omega, by omega, k5⟩, ⟨hκa, k3⟩, g1, g2, g3, g4, fun i hi => g5 i (by omega)⟩ (fun b e hb hba hbd => ?_) k11 (fun b hb => k12 b (xup_none (xup_none hb).2).2)
      rcases k11 with k11 | k11
      · rw [xup_ne hba, xup_ne (by rw [k11]; exact hbd)]
        exact k10 b e hb hba hbd (by rw [k11]; exact hbd)
      · have hbd' : b ≠ d' := fun z => by rw [z, k11] at hb; cases hb
        rw [xup_ne hba, xup_ne hbd']
        exact k10 b e hb hba hbd hbd'
  rw [g_an yd]
  show (nI n < nI N → _) ∧ (¬ nI n < nI N → _)
  rw [nI_ltI (by omega) (by omega), nI_1]
  refine ⟨fun z => ?_, fun z => ?_⟩
  · obtain ⟨s1, s2⟩ := sift _ d N F (c0, s0) ya yd hκd z hN60 hF hF2 hSO1 hCM1 (fun b e hb hba _ _ => by rw [xup_ne hba]; exact hb) (Or.inl rfl) (fun b hb => (xup_none hb).2)
    exact ⟨s1, s2⟩
  · obtain rfl : n = N := by omega
    rw [g_rc ya, true_and]
    have hmin : min (n + max 1 (n + 2)) n = n := Nat.min_eq_right (by omega)
    have e64 : (64 : Int32) ≤ nI n ↔ 64 ≤ n := nI_leI (a := 64) (by decide) (by omega)
    refine c_call c0 s0 (Nat.le_refl _) (Nat.le_refl _) ?_
    unfold P_J42_grow
    rw [g_gq (r := some d) ya rfl, t_nn, g_an yd]
    show ((64 : Int32) ≤ nI n → _) ∧ (¬ (64 : Int32) ≤ nI n → _)
    rw [e64]
    refine ⟨fun y => absurd y (by omega), fun _ => ?_⟩
    show xcall (fun τ L => P_J7_newLength κ (nI n) (nI (n + 1) - nI n) (nI n + nI 2) τ L) (_, _, _) _
    rw [nI_sub (by omega), nI_add, show n + 1 - n = 1 by omega]
    refine c_pure (r := nI (n + max 1 (n + 2))) (fun w K hk => cc_newLength (by omega) (by omega) (by omega) (by omega) _ K hk) ?_
    rw [g_gq (r := some d) ya rfl]
    refine c_call c0 s0 (Nat.le_refl _) (Nat.le_refl _) (cc_copyOf yd hκd (by omega) (by omega) (by rw [hmin]; intro i hi; rw [hF i hi]; exact hSO1.ok _ (hSq i hi)) hc (by omega) _ (fun p hp hκp => ?_))
    rw [hmin]
    obtain ⟨hpa, hpn⟩ := xup_none hp
    have hpd : p ≠ d := fun y => by rw [y, e2] at hpn; cases hpn
    rw [g_pq (fs := [.ref d, .int (nI n), .ref b3, .int (m + 1)]) (by rw [xup_ne hpa.symm]; exact ya) hκa (by simp)]
    have hpS : ∀ y, (S y ∨ y = b3) → y ≠ p := fun y hy z => by
      rcases hy with hy | hy
      · obtain ⟨fs, e⟩ := hSO.1 y hy
        rw [z, hpn] at e; cases e
      · obtain ⟨cb, fs, e, -⟩ := hSO.2.2
        rw [← hy, z, hpn] at e; cases e
    have hsame2 : ∀ y, (S y ∨ y = b3) → xup (xup (xup H a (.inl (27, [.ref d, .int (nI n), .ref b3, .int (m + 1)]))) p (oA (n + max 1 (n + 2)) fun i => if i < n then F i else none)) a (.inl (27, [.ref p, .int (nI n), .ref b3, .int (m + 1)])) y = H y := fun y hy => by
      rw [xup_ne (hne y hy).1, xup_ne (hpS y hy), xup_ne (hne y hy).1]
    obtain ⟨s1, s2⟩ := sift (xup (xup (xup H a (.inl (27, [.ref d, .int (nI n), .ref b3, .int (m + 1)]))) p (oA (n + max 1 (n + 2)) fun i => if i < n then F i else none)) a (.inl (27, [.ref p, .int (nI n), .ref b3, .int (m + 1)]))) p (n + max 1 (n + 2)) _ _ xup_eq (by rw [xup_ne hpa, xup_eq]) hκp (by omega) (by omega) (fun i hi => by show (if i < n then F i else none) = _; rw [if_pos hi]; exact hF i hi) (fun i hi => by show (if i < n then F i else none) = _; rw [if_neg (by omega)]) (hSO.same hsame2) (hCM.same hsame2) (fun b e hb hba hbd hbp => by rw [xup_ne hba, xup_ne hbp, xup_ne hba]; exact hb) (Or.inr hpn) (fun b hb => (xup_none (xup_none (xup_none hb).2).2).2)
    exact ⟨s1, s2⟩
end D8
