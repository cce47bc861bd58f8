/-- what an access to block b may leave: line a, numbers g' -/
def AC (A : Nat → Nat) (g : Nat → Int32) (s l r : Nat) (bl : Nat → Nat) (n b a : Nat) (g' : Nat → Int32) : Prop := lin s l a ∧ a / 4 = b % s ∧ ((n_in g (b % s) l (nI b) = some (a % 4) ∧ g' = n_hit g a b) ∨ (n_in g (b % s) l (nI b) = none ∧ CT A g s l r b (some (A (6 + a))) ∧ g' = n_miss g a b (n_cause g bl n b s l)))
section E8
variable {W : Nat → Int32}
variable {κ A : Nat → Nat} {h h' h0 H : xH} {g : Nat → Int32} {s l r a b d n q k o T : Nat} {c bl : Nat → Nat} {w : Nat × Nat}
theorem cc_acc (hM : MM κ A s l c W h0 n bl h) (hl : g 2 = nI l) (hr : r < 4) (hr3 : g 3 = nI r) (hb : b < 16) (hC : CI g T s l) (hT : T < 2 ^ 28) (hLN : ∀ a, lin s l a → m_canGive g a = true → LN g a) (hn16 : n_latN bl n b ≤ 16) {c0 s0 : Nat} (hc : 30 ≤ c0) (hs : 8100 ≤ s0) (K : Option Nat → xH → Prop) (KX : Nat → xH → Prop)
    (hK : ∀ a g' h', AC A g s l r bl n b a g' → MM κ A s l c W h0 (n_latN bl n b) (n_lat bl n b) h' → K (some (A (6 + a))) (mput h' A s l g'))
    (hX : n_in g (b % s) l (nI b) = none → CT A g s l r b none → ∀ q h', RF h' q 2 (nI (b % s)) none → h0 q = none → κ 0 ≤ q → Ext h0 h' → KX q h') : P_X2_accesses κ (A 5) (nI b) (mput h A s l g, c0, s0) K KX := by
  obtain ⟨hs1, hs4⟩ := hM.1.2.2.2.1
  obtain ⟨hl1, hl4⟩ := hM.1.2.2.2.2.1
  refine cc_accesses hM hl hr hr3 hb hC hT hLN hn16 hc hs K KX (fun j h' k1 k2 => hK _ _ h' ⟨lin_q hs4 hl4 (Nat.mod_lt _ (by omega)) (n_in_lt k1).1, ?_, Or.inl ⟨?_, rfl⟩⟩ k2) (fun a h' k1 k2 k3 k4 k5 => hK a _ h' ⟨k3, k4, Or.inr ⟨k1, k2, rfl⟩⟩ k5) hX
  · have := (n_in_lt k1).1
    omega
  · have := (n_in_lt k1).1
    rw [k1]
    congr 1
    omega
theorem Ext.none (hE : Ext h h') (hq : h' q = none) : h q = none := by
  cases hh : h q with
  | none => rfl
  | some e => rw [hE _ _ hh] at hq; cases hq
theorem cc_readsWord (hM : MM κ A s l c W h0 n bl h) (hl : g 2 = nI l) (hr : r < 4) (hr3 : g 3 = nI r) (hC : CI g T s l) (hT : T < 2 ^ 28) (hLN : ∀ a, lin s l a → m_canGive g a = true → LN g a) (hn16 : ∀ b, b < 16 → n_latN bl n b ≤ 16) (x : Int32) {c0 s0 : Nat} (hc : 40 ≤ c0) (hs : 8200 ≤ s0) (K : Int32 → xH → Prop) (KX : Nat → xH → Prop)
    (hK : ∀ k a g' h', x = nI k → k < 64 → AC A g s l r bl n (k / 4) a g' → MM κ A s l c W h0 (n_latN bl n (k / 4)) (n_lat bl n (k / 4)) h' → K (upd g' 283 (g' 283 + 1) (169 + 4 * a + k % 4)) (mput h' A s l (upd g' 283 (g' 283 + 1))))
    (hX1 : m_in x 0 63 = false → ∀ q h', RF h' q 1 x none → h0 q = none → κ 0 ≤ q → Ext h0 h' → KX q h')
    (hX2 : ∀ k, x = nI k → k < 64 → n_in g (k / 4 % s) l (nI (k / 4)) = none → CT A g s l r (k / 4) none → ∀ q h', RF h' q 2 (nI (k / 4 % s)) none → h0 q = none → κ 0 ≤ q → Ext h0 h' → KX q h') : P_X2_readsWord κ (A 5) x (mput h A s l g, c0, s0) K KX := by
  have hA := hM.1.1
  have hD := hM.1.2.1
  have hE0 : Ext h0 (mput h A s l g) := hM.2.2.1.trans (mput_ext hD)
  unfold P_X2_readsWord
  refine c_callX 1 9 (by omega) (by omega) (cc_checkAddress (Nat.le_refl _) (Nat.le_refl _) _ _ (fun hi => ?_) (fun hi q h' k1 k2 k3 k4 => ⟨k3, k1.rc, hX1 hi q h' k1 (hE0.none k2) k3 (hE0.trans k4)⟩))
  obtain ⟨k, rfl, hk⟩ := m_inI (c := 63) (by decide) hi
  rw [n_rc hA, true_and, m_div4 k (by omega)]
  refine c_callX 30 8100 (by omega) (by omega) (cc_acc hM hl hr hr3 (by omega) hC hT hLN (hn16 _ (by omega)) (Nat.le_refl _) (Nat.le_refl _) _ _ (fun a g' h' hac hM' => ?_) (fun k1 k2 q h' k3 k4 k5 k6 => ⟨k5, k3.rc, hX2 k rfl (by omega) k1 k2 q h' k3 k4 k5 k6⟩))
  have hlin := hac.1
  rw [n_gi_13 hA, n_pi_13 hA, t_nn, l_gq_1 hA hlin, t_nn, m_mod5 k (by omega), l_ai hA hlin (Nat.mod_lt _ (by decide))]
  exact hK k a g' h' rfl (by omega) hac hM'
theorem cc_waits (hM : MM κ A s l c W h0 n bl h) (x : Int32) {c0 s0 : Nat} (hc : 1 ≤ c0) (hs : 9 ≤ s0) (K : Int32 → xH → Prop) (KX : Nat → xH → Prop) (hK : m_in x 1 99 = true → K (g 0 + x) (mput h A s l (upd g 0 (g 0 + x))))
    (hX : m_in x 1 99 = false → ∀ q h', RF h' q 1 x none → h0 q = none → κ 0 ≤ q → Ext h0 h' → KX q h') : P_X2_waits κ (A 5) x (mput h A s l g, c0, s0) K KX := by
  have hA := hM.1.1
  have hE0 : Ext h0 (mput h A s l g) := hM.2.2.1.trans (mput_ext hM.1.2.1)
  unfold P_X2_waits
  refine c_callX c0 s0 (Nat.le_refl _) (Nat.le_refl _) (cc_checkRange hc hs _ _ (fun hi => ?_) (fun hi q h' k1 k2 k3 k4 => ⟨k3, k1.rc, hX hi q h' k1 (hE0.none k2) k3 (hE0.trans k4)⟩))
  rw [n_gi_10 hA, n_pi_10 hA, n_gi_10 hA, upd_eq]
  exact hK hi
theorem cc_flushes (hM : MM κ A s l c W h0 n bl h) (hC : CI g T s l) (hT : T < 2 ^ 28) {c0 s0 : Nat} (hc : 30 ≤ c0) (hs : 13000 ≤ s0) (K : Int32 → xH → Prop) (KX : Nat → xH → Prop) (hK : ¬ m_sum (fun i => m_ones (g (89 + n_at l i))) (s * l) ≤ 0 → ∀ h', MM κ A s l c W h0 n bl h' → K (n_wAll (0, g) l (s * l)).1 (mput h' A s l (n_wAll (0, g) l (s * l)).2))
    (hX : m_sum (fun i => m_ones (g (89 + n_at l i))) (s * l) ≤ 0 → ∀ q h', RF h' q 6 0 none → h0 q = none → κ 0 ≤ q → Ext h0 h' → KX q h') : P_X2_flushes κ (A 5) (mput h A s l g, c0, s0) K KX := by
  have hA := hM.1.1
  unfold P_X2_flushes
  rw [n_rc hA, true_and]
  refine c_call 13 6004 (by omega) (by omega) (cc_dirtyWords2 hM.1 hC (Nat.le_refl _) (Nat.le_refl _) _ (fun h2 hE2 hD2 => ?_))
  have hM2 := hM.ext hE2 hD2
  have hE0 : Ext h0 (mput h2 A s l g) := hM2.2.2.1.trans (mput_ext hD2)
  refine ⟨fun z => ?_, fun z => ?_⟩
  · refine c_callX 1 9 (by omega) (by omega) (cc_check false (Nat.le_refl _) (Nat.le_refl _) _ _ (fun z => (by cases z)) (fun _ q h' k1 k2 k3 k4 => ⟨k3, k1.rc, hX z q h' k1 (hE0.none k2) k3 (hE0.trans k4)⟩))
  · refine c_callX 1 9 (by omega) (by omega) (cc_check true (Nat.le_refl _) (Nat.le_refl _) _ _ (fun _ => ?_) (fun z => (by cases z)))
    rw [n_rc hA, true_and]
    exact c_call 13 6004 (by omega) (by omega) (cc_writesAllBack hM2.1 hC hT (Nat.le_refl _) (Nat.le_refl _) _ (fun h3 hE3 hD3 => hK z h3 (hM2.ext hE3 hD3)))
theorem cc_rules (hM : MM κ A s l c W h0 n bl h) (x : Int32) {c0 s0 : Nat} (hc : 1 ≤ c0) (hs : 9 ≤ s0) (K : Int32 → xH → Prop) (KX : Nat → xH → Prop) (hK : m_in x 0 3 = true → K (g 3) (mput h A s l (upd g 3 x)))
    (hX : m_in x 0 3 = false → ∀ q h', RF h' q 1 x none → h0 q = none → κ 0 ≤ q → Ext h0 h' → KX q h') : P_X2_rules κ (A 5) x (mput h A s l g, c0, s0) K KX := by
  have hA := hM.1.1
  have hE0 : Ext h0 (mput h A s l g) := hM.2.2.1.trans (mput_ext hM.1.2.1)
  unfold P_X2_rules
  refine c_callX c0 s0 (Nat.le_refl _) (Nat.le_refl _) (cc_checkRange hc hs _ _ (fun hi => ?_) (fun hi q h' k1 k2 k3 k4 => ⟨k3, k1.rc, hX hi q h' k1 (hE0.none k2) k3 (hE0.trans k4)⟩))
  rw [n_gi_11 hA, n_pi_11 hA]
  exact hK hi
end E8
