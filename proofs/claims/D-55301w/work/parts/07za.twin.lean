section F1
variable {κ : Nat → Nat} {h h' : xH} {a n x k : Nat} {N ky vA : Nat → Nat} {w : Nat × Nat}
theorem cc_compareTo {y : Nat} {u v : Nat} (hu : u < 2 ^ 30) (hv : v < 2 ^ 30) (hx : h x = some (.inl (14, [.int (nI u)]))) (hy : h y = some (.inl (14, [.int (nI v)]))) (K : Int32 → xH → Prop) (hK : K (if u < v then -1 else if u = v then 0 else 1) h) : P_J23_compareTo κ x (some y) (h, w) K := by
  unfold P_J23_compareTo
  rw [t_nn, g_rc hy, true_and, g_rc hx, true_and]
  refine c_pure (r := if u < v then -1 else if u = v then 0 else 1) (fun w K hk => ?_) hK
  unfold P_J23_compareTo_2
  rw [g_gi hx rfl, t_nn, g_gi hy rfl]
  refine c_pure (r := if u < v then -1 else if u = v then 0 else 1) (fun w K hk => ?_) hk
  unfold P_J23_compare
  rw [nI_leI (by omega) (by omega), nI_eq (by omega) (by omega)]
  refine ⟨fun z1 => ⟨fun z2 => ?_, fun z2 => ?_⟩, fun z1 => ?_⟩
  · rw [if_neg (by omega), if_pos z2] at hk; exact hk
  · rw [if_neg (by omega), if_neg z2] at hk; exact hk
  · rw [if_pos (by omega)] at hk; exact hk
theorem cc_getEntry (hT : TM κ h a n N ky vA) (hx : h x = some (.inl (14, [.int (nI k)]))) (hk : k < 64) (K : Option Nat → xH → Prop) (hK : K ((t_find n ky k).map N) h) : P_J1_getEntry κ a (some x) (h, w) K := by
  obtain ⟨kA, lf, rt, pr, lo, hi, root, cl, m, v0, v1, v6, v7, v8, e1, e2, e3, e4, e5, ⟨e6, e7, -⟩, e8, -⟩ := hT
  have found : ∀ i, i < n → ky i = k → t_find n ky k = some i := fun i hi' hki => by
    unfold t_find
    exact m_hit (fun j hj => by have := e5 j i hj hi'; simp; omega) hi' (by simp [hki])
  have none_ : (∀ i, i < n → ky i ≠ k) → t_find n ky k = none := fun hno => by
    unfold t_find
    rw [List.find?_eq_none]
    intro i hi'
    simp [hno i (List.mem_range.mp hi')]
  unfold P_J1_getEntry
  rw [g_gq (r := none) e1 rfl]
  refine ⟨fun _ => ?_, fun b z => (by cases z)⟩
  refine c_pure (r := some x) (fun w K hk' => ?_) ?_
  · unfold P_J16_requireNonNull
    refine ⟨fun z => (by cases z), fun b z => ?_⟩
    cases z
    exact hk'
  rw [t_nn, g_rc hx, true_and, g_gq (r := root.map N) e1 rfl]
  have key : ∀ (f : Nat) (cur : Option Nat) (u t : Nat), t ≤ u + f → (∀ i, i < n → ky i = k → u ≤ i ∧ i < t) → ((cur = none ∧ u = t) ∨ ∃ j, cur = some j ∧ j < n ∧ lo j = u ∧ hi j = t) → xloop (B_J1_getEntry_28 κ K x) (f + 1) (cur.map N) (h, w) := by
    intro f
    induction f with
    | zero =>
      intro cur u t hf hin hc
      rcases hc with ⟨rfl, hut⟩ | ⟨j, -, hj, h1, h2⟩
      · unfold xloop B_J1_getEntry_28
        refine ⟨fun _ => ?_, fun b z => (by cases z)⟩
        rw [none_ (fun i hi' hki => by have := hin i hi' hki; omega)] at hK
        exact hK
      · have := (e6 j hj).1
        omega
    | succ f ih =>
      intro cur u t hf hin hc
      unfold xloop B_J1_getEntry_28
      rcases hc with ⟨rfl, hut⟩ | ⟨j, rfl, hj, h1, h2⟩
      · refine ⟨fun _ => ?_, fun b z => (by cases z)⟩
        rw [none_ (fun i hi' hki => by have := hin i hi' hki; omega)] at hK
        exact hK
      · obtain ⟨hlo, hL, hR⟩ := e6 j hj
        refine ⟨fun z => (by cases z), fun b z => ?_⟩
        cases z
        have en := e2 j hj
        have ek := e4 j hj
        unfold tN at en
        rw [g_gq (r := some (kA j)) en rfl, g_rc hx, true_and]
        refine c_pure (r := if k < ky j then -1 else if k = ky j then 0 else 1) (fun w K hk' => cc_compareTo (by omega) (by omega) hx ek.1 K hk') ?_
        by_cases c1 : k < ky j
        · rw [if_pos c1]
          refine ⟨fun z => absurd z (by decide), fun _ => ?_⟩
          rw [g_gq (r := (lf j).map N) en rfl]
          refine ih (lf j) u j (by omega) (fun i hi' hki => ?_) ?_
          · have h3 := hin i hi' hki
            refine ⟨h3.1, ?_⟩
            rcases Nat.lt_trichotomy i j with q | q | q
            · exact q
            · rw [q] at hki; omega
            · have := e5 j i q hi'; omega
          · rcases hL with ⟨g1, g2⟩ | ⟨j', g1, g2, g3, g4, g5, -⟩
            · exact Or.inl ⟨g1, by omega⟩
            · exact Or.inr ⟨j', g1, by omega, by omega, g5⟩
        · rw [if_neg c1]
          by_cases c2 : k = ky j
          · rw [if_pos c2]
            refine ⟨fun _ => ⟨fun _ => ?_, fun z => absurd (by decide) z⟩, fun z => absurd (by decide) z⟩
            rw [found j hj c2.symm] at hK
            exact hK
          · rw [if_neg c2]
            refine ⟨fun _ => ⟨fun z => absurd z (by decide), fun _ => ?_⟩, fun z => absurd (by decide) z⟩
            rw [g_gq (r := (rt j).map N) en rfl]
            refine ih (rt j) (j + 1) t (by omega) (fun i hi' hki => ?_) ?_
            · have h3 := hin i hi' hki
              refine ⟨?_, h3.2⟩
              rcases Nat.lt_trichotomy i j with q | q | q
              · have := e5 i j q hj; omega
              · rw [q] at hki; omega
              · exact q
            · rcases hR with ⟨g1, g2⟩ | ⟨j', g1, g2, g3, g4, g5, -⟩
              · exact Or.inl ⟨g1, by omega⟩
              · exact Or.inr ⟨j', g1, by omega, g4, by omega⟩
  refine ⟨n + 1, key n root 0 n (by omega) (fun i hi' _ => ⟨Nat.zero_le _, hi'⟩) ?_⟩
  rcases e7 with ⟨g1, g2⟩ | ⟨j, g1, g2, g3, g4, -⟩
  · exact Or.inl ⟨g2, g1.symm⟩
  · exact Or.inr ⟨j, g1, g2, g3, g4⟩
theorem cc_containsKey (hT : TM κ h a n N ky vA) (hx : h x = some (.inl (14, [.int (nI k)]))) (hk : k < 64) (K : Int32 → xH → Prop) (hK : K (bI (t_find n ky k).isSome) h) : P_J1_containsKey κ a (some x) (h, w) K := by
  have hT0 := hT
  obtain ⟨kA, lf, rt, pr, lo, hi, root, cl, m, v0, v1, v6, v7, v8, e1, -⟩ := hT
  unfold P_J1_containsKey
  rw [g_rc e1, true_and]
  refine c_pure (r := (t_find n ky k).map N) (fun w K hk' => cc_getEntry hT0 hx hk K hk') ?_
  cases hf : t_find n ky k with
  | none => rw [hf] at hK; exact ⟨fun _ => hK, fun b z => (by cases z)⟩
  | some i => rw [hf] at hK; exact ⟨fun z => (by cases z), fun b z => hK⟩
theorem cc_getTM (hT : TM κ h a n N ky vA) (hx : h x = some (.inl (14, [.int (nI k)]))) (hk : k < 64) (K : Option Nat → xH → Prop) (hK : K ((t_find n ky k).map vA) h) : P_J1_get κ a (some x) (h, w) K := by
  have hT0 := hT
  obtain ⟨kA, lf, rt, pr, lo, hi, root, cl, m, v0, v1, v6, v7, v8, e1, e2, -⟩ := hT
  unfold P_J1_get
  rw [g_rc e1, true_and]
  refine c_pure (r := (t_find n ky k).map N) (fun w K hk' => cc_getEntry hT0 hx hk K hk') ?_
  cases hf : t_find n ky k with
  | none => rw [hf] at hK; exact ⟨fun _ => hK, fun b z => (by cases z)⟩
  | some i =>
    rw [hf] at hK
    refine ⟨fun z => (by cases z), fun b z => ?_⟩
    cases z
    have hi' : i < n := by
      unfold t_find at hf
      exact List.mem_range.mp (List.mem_of_find?_eq_some hf)
    have en := e2 i hi'
    unfold tN at en
    rw [g_gq (r := some (vA i)) en rfl]
    exact hK
end F1
