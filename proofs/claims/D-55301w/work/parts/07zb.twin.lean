section F2
variable {κ : Nat → Nat} {h h' : xH} {a n x k : Nat} {N kA vA lo hi : Nat → Nat} {lf rt pr : Nat → Option Nat} {root : Option Nat} {cl : Nat → Int32} {w : Nat × Nat}
theorem cc_leftmost (e2 : ∀ i, i < n → h (N i) = some (tN N kA vA lf rt pr cl i)) (hT : TS n lf rt pr lo hi root) (K : Option Nat → xH → Prop) : ∀ (f j : Nat), j < n → j ≤ lo j + f → K (some (N (lo j))) h → xloop (B_J1_successor_18 κ K) (f + 1) (some (N j)) (h, w) := by
  intro f
  induction f with
  | zero =>
    intro j hj hf hK
    obtain ⟨h1, hL, -⟩ := hT.1 j hj
    have en := e2 j hj
    unfold tN at en
    unfold xloop B_J1_successor_18
    rw [t_nn, g_gq (r := (lf j).map N) en rfl]
    rcases hL with ⟨g1, g2⟩ | ⟨j', g1, g2, g3, -⟩
    · rw [g1]
      rw [g2] at hK
      exact ⟨fun _ => hK, fun b z => (by cases z)⟩
    · omega
  | succ f ih =>
    intro j hj hf hK
    obtain ⟨h1, hL, -⟩ := hT.1 j hj
    have en := e2 j hj
    unfold tN at en
    unfold xloop B_J1_successor_18
    rw [t_nn, g_gq (r := (lf j).map N) en rfl]
    rcases hL with ⟨g1, g2⟩ | ⟨j', g1, g2, g3, g4, -⟩
    · rw [g1]
      rw [g2] at hK
      exact ⟨fun _ => hK, fun b z => (by cases z)⟩
    · rw [g1]
      refine ⟨fun z => (by cases z), fun b z => ?_⟩
      rw [g_gq (r := (lf j).map N) en rfl, g1]
      exact ih j' (by omega) (by omega) (by rw [g4]; exact hK)
theorem cc_successor {i : Nat} (e2 : ∀ i, i < n → h (N i) = some (tN N kA vA lf rt pr cl i)) (e3 : ∀ i j, i < n → j < n → i ≠ j → N i ≠ N j) (hT : TS n lf rt pr lo hi root) (hin : i < n) (K : Option Nat → xH → Prop) (hK : K (if i + 1 < n then some (N (i + 1)) else none) h) : P_J1_successor κ (some (N i)) (h, w) K := by
  have en := e2 i hin
  unfold tN at en
  obtain ⟨h1, -, hR⟩ := hT.1 i hin
  unfold P_J1_successor
  refine ⟨fun z => (by cases z), fun b z => ?_⟩
  cases z
  rw [g_gq (r := (rt i).map N) en rfl]
  rcases hR with ⟨g1, g2⟩ | ⟨j, g1, g2, g3, g4, g5, -⟩
  · rw [g1]
    refine ⟨fun _ => ?_, fun b z => (by cases z)⟩
    rw [g_gq (r := (pr i).map N) en rfl]
    have key : ∀ (f ch : Nat), ch < n → hi ch = i + 1 → n ≤ (hi ch - lo ch) + f → xloop (B_J1_successor_42 κ K) (f + 1) ((pr ch).map N, some (N ch)) (h, w) := by
      intro f
      induction f with
      | zero =>
        intro ch hc hh hf
        rcases hT.2.2 ch hc with ⟨q1, q2, q3⟩ | ⟨p, q1, q2, q3⟩
        · unfold xloop B_J1_successor_42
          rw [q1]
          rw [if_neg (by omega)] at hK
          exact ⟨fun _ => hK, fun b z => (by cases z)⟩
        · exfalso
          obtain ⟨p1, pL, pR⟩ := hT.1 p q2
          rcases q3 with q3 | q3
          · rcases pL with ⟨r1, -⟩ | ⟨j', r1, r2, r3, r4, r5, -⟩
            · rw [r1] at q3; cases q3
            · rw [r1] at q3; cases q3
              have := (hT.1 ch hc).1
              omega
          · rcases pR with ⟨r1, -⟩ | ⟨j', r1, r2, r3, r4, r5, -⟩
            · rw [r1] at q3; cases q3
            · rw [r1] at q3; cases q3
              have := (hT.1 ch hc).1
              omega
      | succ f ih =>
        intro ch hc hh hf
        unfold xloop B_J1_successor_42
        rcases hT.2.2 ch hc with ⟨q1, q2, q3⟩ | ⟨p, q1, q2, q3⟩
        · rw [q1]
          rw [if_neg (by omega)] at hK
          exact ⟨fun _ => hK, fun b z => (by cases z)⟩
        · rw [q1]
          refine ⟨fun z => (by cases z), fun b z => ?_⟩
          cases z
          have ep := e2 p q2
          unfold tN at ep
          obtain ⟨p1, pL, pR⟩ := hT.1 p q2
          have hc1 := (hT.1 ch hc).1
          rw [g_gq (r := (rt p).map N) ep rfl]
          rcases q3 with q3 | q3
          · -- from the left
            rcases pL with ⟨r1, -⟩ | ⟨j', r1, r2, r3, r4, r5, -⟩
            · rw [r1] at q3; cases q3
            · rw [r1] at q3
              cases q3
              refine ⟨fun z => ?_, fun _ => ?_⟩
              · exfalso
                rcases pR with ⟨s1, -⟩ | ⟨j2, s1, s2, s3, -⟩
                · rw [s1] at z; cases z
                · rw [s1] at z
                  exact e3 ch j2 hc (by omega) (by omega) (Option.some.inj z)
              · rw [if_pos (by omega)] at hK
                have : p = i + 1 := by omega
                rw [this]
                exact hK
          · rcases pR with ⟨r1, -⟩ | ⟨j', r1, r2, r3, r4, r5, -⟩
            · rw [r1] at q3; cases q3
            · rw [r1] at q3
              cases q3
              refine ⟨fun _ => ?_, fun z => absurd (by rw [r1]; rfl) z⟩
              rw [g_gq (r := (pr p).map N) ep rfl]
              exact ih p q2 (by omega) (by omega)
    exact ⟨n + 1, key n i hin g2 (by omega)⟩
  · rw [g1]
    refine ⟨fun z => (by cases z), fun b z => ?_⟩
    rw [g_gq (r := (rt i).map N) en rfl, g1]
    refine ⟨n + 1, cc_leftmost e2 hT K n j (by omega) (by omega) ?_⟩
    rw [if_pos (by omega)] at hK
    rw [g4]
    exact hK
end F2
