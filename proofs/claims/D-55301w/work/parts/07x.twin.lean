section E7
variable {W : Nat → Int32}
variable {κ A : Nat → Nat} {h h' h0 H : xH} {g : Nat → Int32} {s l r a b d n q k o T : Nat} {c bl : Nat → Nat} {w : Nat × Nat}
theorem CT.lin {y : Nat} (h1 : 1 ≤ s) (h4 : s ≤ 4) (hl4 : l ≤ 4) (h : CT A g s l r b (some y)) : ∃ a, lin s l a ∧ y = A (6 + a) ∧ a / 4 = b % s := by
  have hq : b % s < s := Nat.mod_lt _ (by omega)
  unfold CT at h
  split at h
  · rename_i k hk
    cases h
    have hk := (n_in_lt hk).1
    exact ⟨_, lin_q h4 hl4 hq hk, rfl, by omega⟩
  · rcases h with ⟨h, -⟩ | ⟨z, h, ⟨k, hk, -, e⟩, -⟩
    · cases h
    · cases h
      exact ⟨_, lin_q h4 hl4 hq hk, e, by omega⟩
/-- an access that hits line a / that brings block b into line a -/
def n_hit (g : Nat → Int32) (a b : Nat) : Nat → Int32 := n_accd (n_asked (m_hits g) b) a (g 0)
def n_miss (g : Nat → Int32) (a b cz : Nat) : Nat → Int32 := n_accd (n_asked (n_comes g b a (m_blk g a) cz (g 0)) b) a (g 0)
theorem cc_accesses (hM : MM κ A s l c W h0 n bl h) (hl : g 2 = nI l) (hr : r < 4) (hr3 : g 3 = nI r) (hb : b < 16) (hC : CI g T s l) (hT : T < 2 ^ 28) (hLN : ∀ a, lin s l a → m_canGive g a = true → LN g a) (hn16 : n_latN bl n b ≤ 16) {c0 s0 : Nat} (hc : 30 ≤ c0) (hs : 8100 ≤ s0) (K : Option Nat → xH → Prop) (KX : Nat → xH → Prop)
    (hK1 : ∀ j h', n_in g (b % s) l (nI b) = some j → MM κ A s l c W h0 (n_latN bl n b) (n_lat bl n b) h' → K (some (A (6 + (4 * (b % s) + j)))) (mput h' A s l (n_hit g (4 * (b % s) + j) b)))
    (hK2 : ∀ a h', n_in g (b % s) l (nI b) = none → CT A g s l r b (some (A (6 + a))) → lin s l a → a / 4 = b % s → MM κ A s l c W h0 (n_latN bl n b) (n_lat bl n b) h' → K (some (A (6 + a))) (mput h' A s l (n_miss g a b (n_cause g bl n b s l))))
    (hX : n_in g (b % s) l (nI b) = none → CT A g s l r b none → ∀ q h', RF h' q 2 (nI (b % s)) none → h0 q = none → κ 0 ≤ q → Ext h0 h' → KX q h') : P_X2_accesses κ (A 5) (nI b) (mput h A s l g, c0, s0) K KX := by
  have hA := hM.1.1
  have hD := hM.1.2.1
  have hS := hM.1.2.2.1
  obtain ⟨hs1, hs4⟩ := hM.1.2.2.2.1
  obtain ⟨hl1, hl4⟩ := hM.1.2.2.2.2.1
  have hq : b % s < s := Nat.mod_lt _ (by omega)
  unfold P_X2_accesses
  rw [n_gi_10 hA, n_rc hA, true_and]
  refine c_call 1 4 (by omega) (by omega) (cc_holder hA hD hS hs1 hs4 hl4 (by omega) (Nat.le_refl _) (Nat.le_refl _) _ (fun h2 hE2 hD2 => ?_))
  have hM2 := hM.ext hE2 hD2
  cases hin : n_in g (b % s) l (nI b) with
  | some j =>
    have hlin := lin_q hs4 hl4 hq (n_in_lt hin).1
    refine ⟨fun z => (by cases z), fun b4 z => ?_⟩
    cases z
    rw [n_gi_15 hA, n_pi_15 hA, n_gi_10 hA, n_pi_10 hA, n_rc hA, true_and]
    refine c_call 1 3 (by omega) (by omega) (cc_counts (g := m_hits g) hM2 hb hn16 (Nat.le_refl _) (Nat.le_refl _) _ (fun h3 hM3 => ?_))
    rw [l_rc hA hlin, true_and]
    exact ⟨0, 0, Nat.zero_le _, Nat.zero_le _, cc_isAccessed hA hlin (g 0) _ (hK1 j h3 hin hM3)⟩
  | none =>
    refine ⟨fun _ => ?_, fun b4 z => (by cases z)⟩
    rw [n_rc hA, true_and]
    refine c_call 21 8004 (by omega) (by omega) (cc_comesTo hM2.1 hr hr3 (by omega) hLN (Nat.le_refl _) (Nat.le_refl _) _ (fun h3 res hE3 hD3 hCT => ?_))
    have hM3 := hM2.ext hE3 hD3
    have hset : ∀ (w : Nat × Nat) (K : Int32 → xH → Prop), K (nI (b % s)) (mput h3 A s l g) → P_X2_setOf κ (A 5) (nI b) (mput h3 A s l g, w) K := fun w K hk => cc_setOf hA hD3 hM3.1.2.2.1 hs1 hs4 (by omega) K hk
    cases res with
    | none =>
      refine ⟨fun _ => ?_, fun b7 z => (by cases z)⟩
      rw [n_rc hA, true_and]
      refine c_pure (r := nI (b % s)) hset ?_
      refine c_callX 1 9 (by omega) (by omega) (cc_check false (Nat.le_refl _) (Nat.le_refl _) _ _ (fun z => (by cases z)) (fun _ q h' k1 k2 k3 k4 => ⟨k3, k1.rc, hX hin hCT q h' k1 ?_ k3 ?_⟩))
      · cases hh : h0 q with
        | none => rfl
        | some e => rw [mput_ext hD3 _ _ (hM3.2.2.1 _ _ hh)] at k2; cases k2
      · exact fun b e hb => k4 _ _ (mput_ext hD3 _ _ (hM3.2.2.1 _ _ hb))
    | some y =>
      obtain ⟨a, hlin, rfl, ha4⟩ := hCT.lin hs1 hs4 hl4
      refine ⟨fun z => (by cases z), fun b7 z => ?_⟩
      cases z
      rw [n_rc hA, true_and]
      refine c_pure (r := nI (b % s)) hset ?_
      refine c_callX 1 9 (by omega) (by omega) (cc_check true (Nat.le_refl _) (Nat.le_refl _) _ _ (fun _ => ?_) (fun z => (by cases z)))
      rw [n_rc hA, true_and]
      refine ⟨0, 0, Nat.zero_le _, Nat.zero_le _, cc_comes hM3 hl hlin hb hC.1 hT (hC.2 a hlin).1 (hC.2 a hlin).2 (g 0) _ ?_⟩
      dsimp only
      rw [n_rc hA, true_and]
      refine c_call 1 3 (by omega) (by omega) (cc_counts (g := n_comes g b a (m_blk g a) (n_cause g bl n b s l) (g 0)) hM3 hb hn16 (Nat.le_refl _) (Nat.le_refl _) _ (fun h4 hM4 => ?_))
      rw [l_rc hA hlin, true_and]
      exact ⟨0, 0, Nat.zero_le _, Nat.zero_le _, cc_isAccessed hA hlin (g 0) _ (hK2 a h4 hin hCT hlin ha4 hM4)⟩
end E7
