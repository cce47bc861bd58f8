section E9
variable {W : Nat → Int32}
variable {κ A : Nat → Nat} {h h' h0 H : xH} {g : Nat → Int32} {s l r a b d n q k o T : Nat} {c bl : Nat → Nat} {w : Nat × Nat}
theorem cc_checkHeld (hM : MM κ A s l c W h0 n bl h) (x : Int32) {c0 s0 : Nat} (hc : 3 ≤ c0) (hs : 30 ≤ s0) (K : Option Nat → xH → Prop) (KX : Nat → xH → Prop)
    (hK : ∀ k j h', x = nI k → k < 16 → n_in g (k % s) l (nI k) = some j → MM κ A s l c W h0 n bl h' → K (some (A (6 + (4 * (k % s) + j)))) (mput h' A s l g))
    (hX1 : m_in x 0 15 = false → ∀ q h', RF h' q 1 x none → h0 q = none → κ 0 ≤ q → Ext h0 h' → KX q h')
    (hX3 : ∀ k, x = nI k → k < 16 → n_in g (k % s) l (nI k) = none → ∀ q h', RF h' q 3 x none → h0 q = none → κ 0 ≤ q → Ext h0 h' → KX q h') : P_X2_checkHeld κ (A 5) x (mput h A s l g, c0, s0) K KX := by
  have hA := hM.1.1
  obtain ⟨hs1, hs4⟩ := hM.1.2.2.2.1
  obtain ⟨hl1, hl4⟩ := hM.1.2.2.2.2.1
  have hE0 : Ext h0 (mput h A s l g) := hM.2.2.1.trans (mput_ext hM.1.2.1)
  unfold P_X2_checkHeld
  refine c_callX 1 9 (by omega) (by omega) (cc_checkRange (Nat.le_refl _) (Nat.le_refl _) _ _ (fun hi => ?_) (fun hi q h' k1 k2 k3 k4 => ⟨k3, k1.rc, hX1 hi q h' k1 (hE0.none k2) k3 (hE0.trans k4)⟩))
  obtain ⟨k, rfl, hk⟩ := m_inI (c := 15) (by decide) hi
  rw [n_rc hA, true_and]
  refine c_call 1 4 (by omega) (by omega) (cc_holder hA hM.1.2.1 hM.1.2.2.1 hs1 hs4 hl4 (by omega) (Nat.le_refl _) (Nat.le_refl _) _ (fun h2 hE2 hD2 => ?_))
  have hM2 := hM.ext hE2 hD2
  have hE2' : Ext h0 (mput h2 A s l g) := hM2.2.2.1.trans (mput_ext hD2)
  cases hin : n_in g (k % s) l (nI k) with
  | none =>
    refine ⟨fun _ => ?_, fun b z => (by cases z)⟩
    exact c_callX 1 9 (by omega) (by omega) (cc_check false (Nat.le_refl _) (Nat.le_refl _) _ _ (fun z => (by cases z)) (fun _ q h' k1 k2 k3 k4 => ⟨k3, k1.rc, hX3 k rfl (by omega) hin q h' k1 (hE2'.none k2) k3 (hE2'.trans k4)⟩))
  | some j =>
    refine ⟨fun z => (by cases z), fun b z => ?_⟩
    cases z
    exact c_callX 1 9 (by omega) (by omega) (cc_check true (Nat.le_refl _) (Nat.le_refl _) _ _ (fun _ => hK k j h2 rfl (by omega) hin hM2) (fun z => (by cases z)))
theorem cc_pins (hM : MM κ A s l c W h0 n bl h) (x : Int32) {c0 s0 : Nat} (hc : 6 ≤ c0) (hs : 60 ≤ s0) (K : Int32 → xH → Prop) (KX : Nat → xH → Prop)
    (hK : ∀ k j h', x = nI k → k < 16 → n_in g (k % s) l (nI k) = some j → g (105 + (4 * (k % s) + j)) = 0 → MM κ A s l c W h0 n bl h' → K (n_pin (upd g (105 + (4 * (k % s) + j)) 1) (k % s) l) (mput h' A s l (upd g (105 + (4 * (k % s) + j)) 1)))
    (hX1 : m_in x 0 15 = false → ∀ q h', RF h' q 1 x none → h0 q = none → κ 0 ≤ q → Ext h0 h' → KX q h')
    (hX3 : ∀ k, x = nI k → k < 16 → n_in g (k % s) l (nI k) = none → ∀ q h', RF h' q 3 x none → h0 q = none → κ 0 ≤ q → Ext h0 h' → KX q h')
    (hX4 : ∀ k j, x = nI k → k < 16 → n_in g (k % s) l (nI k) = some j → ¬ g (105 + (4 * (k % s) + j)) = 0 → ∀ q h', RF h' q 4 (nI j) none → h0 q = none → κ 0 ≤ q → Ext h0 h' → KX q h') : P_X2_pins κ (A 5) x (mput h A s l g, c0, s0) K KX := by
  have hA := hM.1.1
  obtain ⟨hs1, hs4⟩ := hM.1.2.2.2.1
  obtain ⟨hl1, hl4⟩ := hM.1.2.2.2.2.1
  unfold P_X2_pins
  rw [n_rc hA, true_and]
  refine c_callX 3 30 (by omega) (by omega) (cc_checkHeld hM x (Nat.le_refl _) (Nat.le_refl _) _ _ (fun k j h2 ek hk hin hM2 => ?_) (fun hi q h' k1 k2 k3 k4 => ⟨k3, k1.rc, hX1 hi q h' k1 k2 k3 k4⟩) (fun k ek hk hin q h' k1 k2 k3 k4 => ⟨k3, k1.rc, hX3 k ek hk hin q h' k1 k2 k3 k4⟩))
  subst ek
  have hq : k % s < s := Nat.mod_lt _ (by omega)
  have hj := (n_in_lt hin).1
  have hlin := lin_q hs4 hl4 hq hj
  have hE2' : Ext h0 (mput h2 A s l g) := hM2.2.2.1.trans (mput_ext hM2.1.2.1)
  have ej : (4 * (k % s) + j) % 4 = j := by omega
  rw [t_nn, l_gi_4 hA hlin, l_gi_0 hA hlin, ej]
  refine ⟨fun z => ?_, fun z => ?_⟩
  · refine c_callX 1 9 (by omega) (by omega) (cc_check true (Nat.le_refl _) (Nat.le_refl _) _ _ (fun _ => ?_) (fun z => (by cases z)))
    rw [l_pi_4 hA hlin, n_rc hA, true_and]
    refine c_pure (r := nI (k % s)) (fun w K hk' => cc_setOf hA hM2.1.2.1 hM2.1.2.2.1 hs1 hs4 (by omega) K hk') ?_
    rw [n_rc hA, true_and]
    exact c_call 1 4 (by omega) (by omega) (cc_pinned hA hM2.1.2.1 hM2.1.2.2.1 hs4 hl4 hq (Nat.le_refl _) (Nat.le_refl _) _ (fun h3 hE3 hD3 => hK k j h3 rfl hk hin z (hM2.ext hE3 hD3)))
  · rw [l_gi_0 hA hlin, ej]
    refine c_callX (c0 := c0 - 3) (s0 := s0 - 30) 1 9 (by omega) (by omega) ?_
    refine cc_check (κ := κ) (h := mput h2 A s l g) false (Nat.le_refl _) (Nat.le_refl _) _ _ (fun z => (by cases z)) ?_
    intro _ q h' k1 k2 k3 k4
    exact ⟨k3, k1.rc, hX4 k j rfl hk hin z q h' k1 (hE2'.none k2) k3 (hE2'.trans k4)⟩
theorem cc_frees (hM : MM κ A s l c W h0 n bl h) (hp : ∀ a, lin s l a → g (105 + a) = 0 ∨ g (105 + a) = 1) (x : Int32) {c0 s0 : Nat} (hc : 6 ≤ c0) (hs : 60 ≤ s0) (K : Int32 → xH → Prop) (KX : Nat → xH → Prop)
    (hK : ∀ k j h', x = nI k → k < 16 → n_in g (k % s) l (nI k) = some j → g (105 + (4 * (k % s) + j)) = 1 → MM κ A s l c W h0 n bl h' → K (n_pin (upd g (105 + (4 * (k % s) + j)) 0) (k % s) l) (mput h' A s l (upd g (105 + (4 * (k % s) + j)) 0)))
    (hX1 : m_in x 0 15 = false → ∀ q h', RF h' q 1 x none → h0 q = none → κ 0 ≤ q → Ext h0 h' → KX q h')
    (hX3 : ∀ k, x = nI k → k < 16 → n_in g (k % s) l (nI k) = none → ∀ q h', RF h' q 3 x none → h0 q = none → κ 0 ≤ q → Ext h0 h' → KX q h')
    (hX5 : ∀ k j, x = nI k → k < 16 → n_in g (k % s) l (nI k) = some j → g (105 + (4 * (k % s) + j)) = 0 → ∀ q h', RF h' q 5 (nI j) none → h0 q = none → κ 0 ≤ q → Ext h0 h' → KX q h') : P_X2_frees κ (A 5) x (mput h A s l g, c0, s0) K KX := by
  have hA := hM.1.1
  obtain ⟨hs1, hs4⟩ := hM.1.2.2.2.1
  obtain ⟨hl1, hl4⟩ := hM.1.2.2.2.2.1
  unfold P_X2_frees
  rw [n_rc hA, true_and]
  refine c_callX 3 30 (by omega) (by omega) (cc_checkHeld hM x (Nat.le_refl _) (Nat.le_refl _) _ _ (fun k j h2 ek hk hin hM2 => ?_) (fun hi q h' k1 k2 k3 k4 => ⟨k3, k1.rc, hX1 hi q h' k1 k2 k3 k4⟩) (fun k ek hk hin q h' k1 k2 k3 k4 => ⟨k3, k1.rc, hX3 k ek hk hin q h' k1 k2 k3 k4⟩))
  subst ek
  have hq : k % s < s := Nat.mod_lt _ (by omega)
  have hj := (n_in_lt hin).1
  have hlin := lin_q hs4 hl4 hq hj
  have hE2' : Ext h0 (mput h2 A s l g) := hM2.2.2.1.trans (mput_ext hM2.1.2.1)
  have ej : (4 * (k % s) + j) % 4 = j := by omega
  rw [t_nn, l_gi_4 hA hlin, l_gi_0 hA hlin, ej]
  rcases hp _ hlin with z | z
  · rw [z]
    exact c_callX 1 9 (by omega) (by omega) (cc_check false (Nat.le_refl _) (Nat.le_refl _) _ _ (fun z => (by cases z)) (fun _ q h' k1 k2 k3 k4 => ⟨k3, k1.rc, hX5 k j rfl hk hin z q h' k1 (hE2'.none k2) k3 (hE2'.trans k4)⟩))
  · rw [z]
    refine c_callX 1 9 (by omega) (by omega) (cc_check true (Nat.le_refl _) (Nat.le_refl _) _ _ (fun _ => ?_) (fun z => (by cases z)))
    rw [l_pi_4 hA hlin, n_rc hA, true_and]
    refine c_pure (r := nI (k % s)) (fun w K hk' => cc_setOf hA hM2.1.2.1 hM2.1.2.2.1 hs1 hs4 (by omega) K hk') ?_
    rw [n_rc hA, true_and]
    exact c_call 1 4 (by omega) (by omega) (cc_pinned hA hM2.1.2.1 hM2.1.2.2.1 hs4 hl4 hq (Nat.le_refl _) (Nat.le_refl _) _ (fun h3 hE3 hD3 => hK k j h3 rfl hk hin z (hM2.ext hE3 hD3)))
end E9
