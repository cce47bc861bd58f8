section D9
variable {κ : Nat → Nat} {H H' h : xH} {a d b3 cS N n x : Nat} {q : Nat → Nat} {S E : Nat → Prop} {rk : Nat → Nat} {w : Nat × Nat} {F : Nat → Option Nat} {m : Int32}
theorem PE.pop (h : PE q n E) (hn : 0 < n) : PE (fun i => if i = 0 then q (n - 1) else q i) (n - 1) (fun z => E z ∧ z ≠ q 0) := by
  refine ⟨fun i j hi hj hij => ?_, fun y => ?_⟩
  · show (if i = 0 then q (n - 1) else q i) ≠ (if j = 0 then q (n - 1) else q j)
    by_cases h1 : i = 0
    · rw [if_pos h1, if_neg (by omega)]
      exact h.1 _ _ (by omega) (by omega) (by omega)
    · rw [if_neg h1]
      by_cases h2 : j = 0
      · rw [if_pos h2]
        exact h.1 _ _ (by omega) (by omega) (by omega)
      · rw [if_neg h2]
        exact h.1 _ _ (by omega) (by omega) hij
  · constructor
    · rintro ⟨hy, hne⟩
      obtain ⟨i, hi, e⟩ := (h.2 y).mp hy
      have hi0 : i ≠ 0 := fun z => hne (by rw [← e, z])
      by_cases h1 : i = n - 1
      · exact ⟨0, by omega, by show (if 0 = 0 then q (n - 1) else q 0) = y; rw [if_pos rfl, ← h1]; exact e⟩
      · exact ⟨i, by omega, by show (if i = 0 then q (n - 1) else q i) = y; rw [if_neg hi0]; exact e⟩
    · rintro ⟨i, hi, e⟩
      have e : (if i = 0 then q (n - 1) else q i) = y := e
      by_cases h1 : i = 0
      · rw [if_pos h1] at e
        exact ⟨(h.2 y).mpr ⟨n - 1, by omega, e⟩, by rw [← e]; exact h.1 _ _ (by omega) (by omega) (by omega)⟩
      · rw [if_neg h1] at e
        exact ⟨(h.2 y).mpr ⟨i, by omega, e⟩, by rw [← e]; exact h.1 _ _ (by omega) (by omega) (by omega)⟩
theorem cc_remove42 (h : PQ κ H a d b3 n S rk E) (hSO : SO H b3 cS S) (hCM : CM κ H b3 S rk) (hn : 0 < n) (K : Option Nat → xH → Prop)
    (hK : ∀ (H' : xH) (y : Nat), E y → (∀ z, E z → rk y ≤ rk z) → S y → PQ κ H' a d b3 (n - 1) S rk (fun z => E z ∧ z ≠ y) → (∀ b e, H b = some e → b ≠ a → b ≠ d → H' b = some e) → (∀ b, H' b = none → H b = none) → K (some y) H') : P_J41_remove κ a (H, w) K := by
  have hrc := h.rc (w := w)
  obtain ⟨N, F, q, m, e1, e2, ⟨hN0, hnN, hN60⟩, ⟨hκa, hκd⟩, hF, hF2, hPE, hHP, hSq⟩ := h
  have hne := hSO.ne e1 e2
  have had : a ≠ d := fun z => by rw [z, e2] at e1; cases e1
  have hK2 : ∀ (H' : xH), PQ κ H' a d b3 (n - 1) S rk (fun z => E z ∧ z ≠ q 0) → (∀ b e, H b = some e → b ≠ a → b ≠ d → H' b = some e) → (∀ b, H' b = none → H b = none) → K (some (q 0)) H' := fun H' k1 k2 k3 => hK H' (q 0) ((hPE.2 _).mpr ⟨0, hn, rfl⟩) (fun z hz => by
    obtain ⟨i, hi, e⟩ := (hPE.2 z).mp hz
    rw [← e]
    exact hHP.min i hi) (hSq 0 hn) k1 k2 k3
  unfold P_J41_remove
  rw [hrc, true_and]
  refine ⟨w.1, w.2, Nat.le_refl _, Nat.le_refl _, ?_⟩
  show P_J42_poll κ a (H, w) _
  unfold P_J42_poll
  have e00 : (0 : Int32) = nI 0 := by decide
  rw [g_gq (r := some d) e1 rfl, t_nn, e00, g_aq (f := F) (C := "java/lang/Object") e2 (by omega) (by omega), hF 0 hn]
  refine ⟨fun z => (by cases z), fun b4 z => ?_⟩
  cases z
  rw [g_gi e1 rfl, g_pi e1 hκa (by simp), show ([.ref d, .int (nI n), .ref b3, .int m] : List Value).set 3 (.int (m + 1)) = [.ref d, .int (nI n), .ref b3, .int (m + 1)] from rfl, g_gi xup_eq rfl, g_pi xup_eq hκa (by simp), xup_xup, nI_m1 hn, show ([.ref d, .int (nI n), .ref b3, .int (m + 1)] : List Value).set 1 (.int (nI (n - 1))) = [.ref d, .int (nI (n - 1)), .ref b3, .int (m + 1)] from rfl]
  have yd : xup H a (.inl (27, [.ref d, .int (nI (n - 1)), .ref b3, .int (m + 1)])) d = some (oA N F) := by rw [xup_ne had.symm]; exact e2
  rw [g_aq (f := F) (C := "java/lang/Object") yd (by omega) (by omega), hF (n - 1) (by omega), g_sq yd hκd (by omega) (by omega) (fun b hb => by cases hb)]
  have hle : nI (n - 1) ≤ nI 0 ↔ n - 1 ≤ 0 := nI_leI (by omega) (by omega)
  rw [hle]
  refine ⟨fun z => ?_, fun z => ?_⟩
  · obtain rfl : n = 1 := by omega
    refine ⟨fun z => (by cases z), fun b3' z => ?_⟩
    cases z
    show K (some (q 0)) (xup (xup H a _) d _)
    refine hK2 _ ⟨N, va_up F (1 - 1) none, q, m + 1, by rw [xup_ne had, xup_eq], xup_eq, ⟨hN0, by omega, hN60⟩, ⟨hκa, hκd⟩, fun i hi => absurd hi (by omega), fun i hi => ?_, ⟨fun i j hi _ _ => absurd hi (by omega), fun y => ⟨fun hy => ?_, fun ⟨i, hi, _⟩ => absurd hi (by omega)⟩⟩, fun i h0 hi => absurd hi (by omega), fun i hi => absurd hi (by omega)⟩ (fun b e hb hba hbd => ?_) (fun b hb => (xup_none (xup_none hb).2).2)
    · unfold va_up
      by_cases h1 : i = 1 - 1
      · rw [if_pos h1]
      · rw [if_neg h1]
        exact hF2 i (by omega)
    · obtain ⟨i, hi, e⟩ := (hPE.2 y).mp hy.1
      obtain rfl : i = 0 := by omega
      exact absurd e.symm hy.2
    · show xup (xup H a _) d _ b = _
      rw [xup_ne hbd, xup_ne hba]
      exact hb
  · have ya : xup (xup H a (.inl (27, [.ref d, .int (nI (n - 1)), .ref b3, .int (m + 1)]))) d (oA N (va_up F (n - 1) none)) a = some (.inl (27, [.ref d, .int (nI (n - 1)), .ref b3, .int (m + 1)])) := by rw [xup_ne had, xup_eq]
    rw [g_gq (r := some b3) ya rfl]
    refine ⟨fun z => (by cases z), fun b12 z => ?_⟩
    cases z
    have hsame : ∀ y, (S y ∨ y = b3) → xup (xup H a (.inl (27, [.ref d, .int (nI (n - 1)), .ref b3, .int (m + 1)]))) d (oA N (va_up F (n - 1) none)) y = H y := fun y hy => by
      rw [xup_ne (hne y hy).2, xup_ne (hne y hy).1]
    have hSO1 := hSO.same hsame
    rw [← e00]
    have h0q : (fun i => if i = 0 then q (n - 1) else q i) 0 = q (n - 1) := rfl
    have hq9 : ∀ i, i ≠ 0 → (fun i => if i = 0 then q (n - 1) else q i) i = q i := fun i hi => by show (if i = 0 then q (n - 1) else q i) = q i; rw [if_neg hi]
    refine ⟨0, 0, Nat.zero_le _, Nat.zero_le _, cc_siftDown (Q0 := fun i => if i = 0 then q (n - 1) else q i) (E := fun z => E z ∧ z ≠ q 0) (S := S) (rk := rk) xup_eq hκd (by omega) (by omega) (by omega) (fun i hi hi0 => ?_) (fun i hi => ?_) h0q (fun i hi => ?_) (fun y hy => ⟨hSO1.ok y hy, (hne y (Or.inl hy)).2⟩) (hne b3 (Or.inr rfl)).2 (hCM.same hsame) (hPE.pop hn) (fun i h0 hi hp => ?_) _ (fun F' q' g1 g2 g3 g4 g5 => ?_)⟩
    · refine Eq.trans ?_ (congrArg some (hq9 i hi0).symm)
      unfold va_up
      rw [if_neg (by omega)]
      exact hF i (by omega)
    · unfold va_up
      by_cases h1 : i = n - 1
      · rw [if_pos h1]
      · rw [if_neg h1]
        exact hF2 i (by omega)
    · show S (if i = 0 then q (n - 1) else q i)
      split
      · exact hSq _ (by omega)
      · exact hSq _ (by omega)
    · have u1 := hq9 i (by omega)
      have u2 := hq9 ((i - 1) / 2) hp
      dsimp only at u1 u2 ⊢
      rw [u1, u2]
      exact hHP i h0 (by omega)
    · refine ⟨fun z => (by cases z), fun b9 z => ?_⟩
      cases z
      show K (some (q 0)) (xup (xup (xup H a _) d _) d (oA N F'))
      rw [xup_xup]
      refine hK2 _ ⟨N, F', q', m + 1, by rw [xup_ne had, xup_eq], xup_eq, ⟨hN0, by omega, hN60⟩, ⟨hκa, hκd⟩, g1, g2, g3, g4, g5⟩ (fun b e hb hba hbd => ?_) (fun b hb => (xup_none (xup_none hb).2).2)
      rw [xup_ne hbd, xup_ne hba]
      exact hb
theorem cc_init42 (e : H a = some (.inl (27, [va_rf none, .int 0, va_rf none, .int 0]))) (hκ : κ 0 ≤ a) {c0 s0 : Nat} (hc : 1 ≤ c0) (hs : 11 ≤ s0) (K : Unit → xH → Prop)
    (hK : ∀ (H' : xH) (d : Nat), H d = none → PQ κ H' a d b3 0 S rk (fun _ => False) → (∀ b e, H b = some e → b ≠ a → H' b = some e) → (∀ b, H' b = none → H b = none) → K () H') : P_J42_init κ a (some b3) (H, c0, s0) K := by
  unfold P_J42_init
  refine c_call c0 s0 (Nat.le_refl _) (Nat.le_refl _) ?_
  unfold P_J42_init_2
  refine c_pure (r := ()) (fun w K hk => ?_) ?_
  · unfold P_J41_init
    exact c_pure (r := ()) (fun w K hk => hk) hk
  · refine ⟨fun _ => ?_, fun z => absurd (by decide : (1 : Int32) ≤ 11) z⟩
    refine ⟨11, by decide, by omega, hc, hs, fun p hp hκp => ?_⟩
    have hp : H p = none := hp
    have hpa : p ≠ a := fun z => by rw [z, e] at hp; cases hp
    dsimp only
    rw [g_pq (fs := [va_rf none, .int 0, va_rf none, .int 0]) (by rw [xup_ne hpa.symm]; exact e) hκ (by simp), g_pq xup_eq hκ (by simp), xup_xup]
    refine hK _ p hp ⟨11, fun _ => none, fun _ => 0, 0, ?_, ?_, ⟨by omega, by omega, by omega⟩, ⟨hκ, hκp⟩, fun i hi => absurd hi (Nat.not_lt_zero _), fun i _ => rfl, ⟨fun i j hi _ _ => absurd hi (Nat.not_lt_zero _), fun y => ⟨fun hy => hy.elim, fun ⟨i, hi, _⟩ => absurd hi (Nat.not_lt_zero _)⟩⟩, fun i h0 hi => absurd hi (Nat.not_lt_zero _), fun i hi => absurd hi (Nat.not_lt_zero _)⟩ (fun b e' hb hba => ?_) (fun b hb => (xup_none (xup_none hb).2).2)
    · show xup _ a _ a = _
      rw [xup_eq, nI_0]
      rfl
    · show xup _ a _ p = _
      rw [xup_ne hpa, xup_eq]
    · show xup _ a _ b = _
      rw [xup_ne hba, xup_ne (fun z => by rw [z, hp] at hb; cases hb)]
      exact hb
end D9
