def n_store (g : Nat → Int32) (k : Nat) (u : Int32) : Nat → Int32 := upd (upd g (5 + k) u) 290 (upd g (5 + k) u 290 + 1)
def n_writes (g : Nat → Int32) (a k : Nat) (u : Int32) : Nat → Int32 :=
  if g 4 = 0 then n_takes (upd g 284 (g 284 + 1)) a (k % 4) u 1 else n_store (m_uses (n_takes (upd g 284 (g 284 + 1)) a (k % 4) u 0) (k / 4 % 4) 1) k u
def n_dev (g : Nat → Int32) (k : Nat) (u : Int32) : Nat → Int32 := upd (upd g (5 + k) u) 292 (upd g (5 + k) u 292 + 1)
theorem n_takes_o {g : Nat → Int32} {a k j : Nat} {u x : Int32} (h1 : j ≠ 169 + 4 * a + k) (h2 : j ≠ 89 + a) : n_takes g a k u x j = g j := by
  unfold n_takes
  split
  · rw [upd_ne h2, upd_ne h1]
  · rw [upd_ne h2, upd_ne h1]
section FE
variable {κ A : Nat → Nat} {h h' h0 H : xH} {g : Nat → Int32} {s l r a b d n q k o T : Nat} {c bl : Nat → Nat} {W W' : Nat → Int32} {w : Nat × Nat}
theorem cc_writesWord (hM : MM κ A s l c W h0 n bl h) (hl : g 2 = nI l) (hr : r < 4) (hr3 : g 3 = nI r) (hC : CI g T s l) (hT : T < 2 ^ 28) (hLN : ∀ a, lin s l a → m_canGive g a = true → LN g a) (hn16 : ∀ b, b < 16 → n_latN bl n b ≤ 16)
    (hAC : ∀ b a g', b < 16 → AC A g s l r bl n b a g' → g' (73 + a) = nI b ∧ ∃ T', T' < 2 ^ 29 ∧ GT g' T') (x u : Int32) {c0 s0 : Nat} (hc : 45 ≤ c0) (hs : 8300 ≤ s0) (K : Int32 → xH → Prop) (KX : Nat → xH → Prop)
    (hK : ∀ k a g' h', x = nI k → k < 64 → m_in u (-999) 999 = true → AC A g s l r bl n (k / 4) a g' → MM κ A s l c (upd W k u) h0 (n_latN bl n (k / 4)) (n_lat bl n (k / 4)) h' → K (n_writes g' a k u 0 - g 0) (mput h' A s l (n_writes g' a k u)))
    (hX1 : m_in x 0 63 = false → ∀ q h', RF h' q 1 x none → h0 q = none → κ 0 ≤ q → Ext h0 h' → KX q h')
    (hX1' : m_in x 0 63 = true → m_in u (-999) 999 = false → ∀ q h', RF h' q 1 u none → h0 q = none → κ 0 ≤ q → Ext h0 h' → KX q h')
    (hX2 : ∀ k, x = nI k → k < 64 → m_in u (-999) 999 = true → n_in g (k / 4 % s) l (nI (k / 4)) = none → CT A g s l r (k / 4) none → ∀ q h', RF h' q 2 (nI (k / 4 % s)) none → h0 q = none → κ 0 ≤ q → Ext h0 h' → KX q h') : P_X2_writesWord κ (A 5) x u (mput h A s l g, c0, s0) K KX := by
  have hA := hM.1.1
  have hD := hM.1.2.1
  have hE0 : Ext h0 (mput h A s l g) := hM.2.2.1.trans (mput_ext hD)
  unfold P_X2_writesWord
  refine c_callX 1 9 (by omega) (by omega) (cc_checkAddress (Nat.le_refl _) (Nat.le_refl _) _ _ (fun hi => ?_) (fun hi q h' k1 k2 k3 k4 => ⟨k3, k1.rc, hX1 hi q h' k1 (hE0.none k2) k3 (hE0.trans k4)⟩))
  refine c_callX 1 9 (by omega) (by omega) (cc_checkWord (Nat.le_refl _) (Nat.le_refl _) _ _ (fun hu => ?_) (fun hu q h' k1 k2 k3 k4 => ⟨k3, k1.rc, hX1' hi hu q h' k1 (hE0.none k2) k3 (hE0.trans k4)⟩))
  obtain ⟨k, rfl, hk⟩ := m_inI (c := 63) (by decide) hi
  rw [n_gi_10 hA, n_rc hA, true_and, m_div4 k (by omega)]
  refine c_callX 30 8100 (by omega) (by omega) (cc_acc hM hl hr hr3 (by omega) hC hT hLN (hn16 _ (by omega)) (Nat.le_refl _) (Nat.le_refl _) _ _ (fun a g' h' hac hM' => ?_) (fun k1 k2 q h' k3 k4 k5 k6 => ⟨k5, k3.rc, hX2 k rfl (by omega) hu k1 k2 q h' k3 k4 k5 k6⟩))
  have hlin := hac.1
  obtain ⟨h73, T', hT', hG'⟩ := hAC (k / 4) a g' (by omega) hac
  have ha16 := hlin.1
  rw [n_gi_14 hA, n_pi_14 hA, n_gi_12 hA, m_mod5 k (by omega)]
  have e4 : upd g' 284 (g' 284 + 1) 4 = g' 4 := upd_ne (by omega)
  rw [e4]
  have hfin := hK k a g' 
  unfold n_writes at hfin
  refine ⟨fun z => ?_, fun z => ?_⟩
  · rw [t_nn, l_rc hA hlin, true_and]
    refine ⟨0, 0, Nat.zero_le _, Nat.zero_le _, cc_takes hA hlin (Nat.mod_lt _ (by decide)) u 1 _ ?_⟩
    have e4' : n_takes (upd g' 284 (g' 284 + 1)) a (k % 4) u 1 4 = g' 4 := by rw [n_takes_o (by omega) (by omega), e4]
    dsimp only
    rw [n_gi_12 hA, e4']
    refine ⟨fun _ => ?_, fun z' => absurd z z'⟩
    refine cc_written hM' (by omega) u (by first | omega | (simp; omega)) (by first | omega | (simp; omega)) (fun h3 w3 hM3 => ?_)
    rw [n_gi_10 hA]
    have := hfin h3 rfl (by omega) hu hac hM3
    rw [if_pos z] at this
    exact this
  · rw [t_nn, l_rc hA hlin, true_and]
    refine ⟨0, 0, Nat.zero_le _, Nat.zero_le _, cc_takes hA hlin (Nat.mod_lt _ (by decide)) u 0 _ ?_⟩
    have e4' : n_takes (upd g' 284 (g' 284 + 1)) a (k % 4) u 0 4 = g' 4 := by rw [n_takes_o (by omega) (by omega), e4]
    dsimp only
    rw [n_gi_12 hA, e4']
    refine ⟨fun z' => absurd z' z, fun _ => ?_⟩
    have e73 : n_takes (upd g' 284 (g' 284 + 1)) a (k % 4) u 0 (73 + a) = nI (k / 4) := by rw [n_takes_o (by omega) (by omega), upd_ne (by omega), h73]
    have hG2 : GT (n_takes (upd g' 284 (g' 284 + 1)) a (k % 4) u 0) T' := hG'.of (by rw [n_takes_o (by omega) (by omega), upd_ne (by omega)]) (fun j hj => by rw [n_takes_o (by omega) (by omega), upd_ne (by omega)])
    rw [l_rc hA hlin, true_and]
    refine c_pure (r := nI (k / 4 % 4)) (fun w K hk' => cc_bank hA hlin (by omega) e73 K hk') ?_
    rw [n_rc hA, true_and]
    refine ⟨0, 0, Nat.zero_le _, Nat.zero_le _, cc_works hA hG2 hT' (Nat.mod_lt _ (by decide)) 1 _ ?_⟩
    dsimp only
    rw [n_gq_0 hA, t_nn, n_si_0 hA (by omega), n_gi_17 hA, n_pi_17 hA]
    refine cc_written hM' (by omega) u (by first | omega | (simp; omega)) (by first | omega | (simp; omega)) (fun h3 w3 hM3 => ?_)
    rw [n_gi_10 hA]
    have := hfin h3 rfl (by omega) hu hac hM3
    rw [if_neg z] at this
    exact this
theorem cc_deviceWrites (hM : MM κ A s l c W h0 n bl h) (hC : CI g T s l) (hT : T < 2 ^ 28) (x u : Int32) {c0 s0 : Nat} (hc : 10 ≤ c0) (hs : 60 ≤ s0) (K : Int32 → xH → Prop) (KX : Nat → xH → Prop)
    (hK0 : ∀ k h', x = nI k → k < 64 → m_in u (-999) 999 = true → n_in g (k / 4 % s) l (nI (k / 4)) = none → MM κ A s l c (upd W k u) h0 n bl h' → K 0 (mput h' A s l (n_dev g k u)))
    (hK1 : ∀ k j h', x = nI k → k < 64 → m_in u (-999) 999 = true → n_in g (k / 4 % s) l (nI (k / 4)) = some j → MM κ A s l c (upd W k u) h0 n bl h' → K (m_ones (g (89 + (4 * (k / 4 % s) + j)))) (mput h' A s l (n_dev (n_empty (m_wB g (4 * (k / 4 % s) + j) (k / 4)) (4 * (k / 4 % s) + j)) k u)))
    (hX1 : m_in x 0 63 = false → ∀ q h', RF h' q 1 x none → h0 q = none → κ 0 ≤ q → Ext h0 h' → KX q h')
    (hX1' : m_in x 0 63 = true → m_in u (-999) 999 = false → ∀ q h', RF h' q 1 u none → h0 q = none → κ 0 ≤ q → Ext h0 h' → KX q h') : P_X2_deviceWrites κ (A 5) x u (mput h A s l g, c0, s0) K KX := by
  have hA := hM.1.1
  have hD := hM.1.2.1
  obtain ⟨hs1, hs4⟩ := hM.1.2.2.2.1
  obtain ⟨hl1, hl4⟩ := hM.1.2.2.2.2.1
  have hE0 : Ext h0 (mput h A s l g) := hM.2.2.1.trans (mput_ext hD)
  unfold P_X2_deviceWrites
  refine c_callX 1 9 (by omega) (by omega) (cc_checkAddress (Nat.le_refl _) (Nat.le_refl _) _ _ (fun hi => ?_) (fun hi q h' k1 k2 k3 k4 => ⟨k3, k1.rc, hX1 hi q h' k1 (hE0.none k2) k3 (hE0.trans k4)⟩))
  refine c_callX 1 9 (by omega) (by omega) (cc_checkWord (Nat.le_refl _) (Nat.le_refl _) _ _ (fun hu => ?_) (fun hu q h' k1 k2 k3 k4 => ⟨k3, k1.rc, hX1' hi hu q h' k1 (hE0.none k2) k3 (hE0.trans k4)⟩))
  obtain ⟨k, rfl, hk⟩ := m_inI (c := 63) (by decide) hi
  rw [n_rc hA, true_and, m_div4 k (by omega)]
  refine c_call 1 4 (by omega) (by omega) (cc_holder hA hD hM.1.2.2.1 hs1 hs4 hl4 (by omega) (Nat.le_refl _) (Nat.le_refl _) _ (fun h2 hE2 hD2 => ?_))
  have hM2 := hM.ext hE2 hD2
  cases hin : n_in g (k / 4 % s) l (nI (k / 4)) with
  | none =>
    refine ⟨fun _ => ?_, fun b z => (by cases z)⟩
    rw [n_gq_0 hA, t_nn, n_si_0 hA (by omega)]
    refine cc_written hM2 (by omega) u (by first | omega | (simp; omega)) (by first | omega | (simp; omega)) (fun h3 w3 hM3 => ?_)
    rw [n_gi_19 hA, n_pi_19 hA]
    exact hK0 k h3 rfl (by omega) hu hin hM3
  | some j =>
    refine ⟨fun z => (by cases z), fun b z => ?_⟩
    cases z
    have hq : k / 4 % s < s := Nat.mod_lt _ (by omega)
    have hj := (n_in_lt hin).1
    have h73 := (n_in_lt hin).2
    have hlin := lin_q hs4 hl4 hq hj
    rw [n_rc hA, true_and]
    refine ⟨0, 0, Nat.zero_le _, Nat.zero_le _, cc_writesBack (b := k / 4) hA hlin hC.1 (by omega) (hC.2 _ hlin).1 (fun _ => ⟨by omega, h73⟩) _ ?_⟩
    dsimp only
    rw [l_rc hA hlin, true_and]
    refine ⟨0, 0, Nat.zero_le _, Nat.zero_le _, cc_becomesEmpty hA hlin _ ?_⟩
    dsimp only
    rw [n_gq_0 hA, t_nn, n_si_0 hA (by omega)]
    refine cc_written hM2 (by omega) u (by first | omega | (simp; omega)) (by first | omega | (simp; omega)) (fun h3 w3 hM3 => ?_)
    rw [n_gi_19 hA, n_pi_19 hA]
    exact hK1 k j h3 rfl (by omega) hu hin hM3
end FE
