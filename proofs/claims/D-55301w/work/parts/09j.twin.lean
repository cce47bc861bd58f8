-- the accounts
section I1
variable {κ c A An An' : Nat → Nat} {H H' H1 H2 h h' h0 : xH} {a s l n r s' l' r' hd dq dd sb ln xa oa Tm Tm' T N T' N' i M k b q o od : Nat} {p : Nat → Nat} {sv lt : Option Nat} {f bl : Nat → Nat} {t t' : Nat → Nat → Int32} {g g' gT gc W ch : Nat → Int32} {w : Nat × Nat} {x y z : Int32} {ex : Int32 → Nat}
theorem sum_skip {F : Nat → Int32} : ∀ m n, n ≤ m → (∀ a, n ≤ a → a < m → F a = 0) → m_sum F m = m_sum F n := by
  intro m
  induction m with
  | zero =>
    intro n h1 _
    have : n = 0 := by omega
    rw [this]
  | succ m ih =>
    intro n h1 h3
    by_cases e : n = m + 1
    · rw [e]
    · rw [m_sum, ih n (by omega) (fun a ha hb => h3 a ha (by omega)), h3 m (by omega) (by omega), Int32.add_zero]
/-- a sum over the lines is the sum over all places -/
theorem sum_lines (hs4 : s ≤ 4) (hl4 : l ≤ 4) {F : Nat → Int32} (off : ∀ a, a < 16 → ¬ lin s l a → F a = 0) : m_sum (fun i => F (n_at l i)) (s * l) = m_sum F 16 := by
  have row : ∀ q, q < s → m_sum (fun i => F (n_at l i)) (q * l) = m_sum F (4 * q) → ∀ k, k ≤ l → m_sum (fun i => F (n_at l i)) (q * l + k) = m_sum F (4 * q + k) := by
    intro q hq h0 k
    induction k with
    | zero => intro _; rw [Nat.add_zero, Nat.add_zero]; exact h0
    | succ k ih =>
      intro hk
      rw [show q * l + (k + 1) = q * l + k + 1 by omega, show 4 * q + (k + 1) = 4 * q + k + 1 by omega, m_sum, m_sum, ih (by omega), n_at_eq (by omega)]
  have all : ∀ q, q ≤ s → m_sum (fun i => F (n_at l i)) (q * l) = m_sum F (4 * q) := by
    intro q
    induction q with
    | zero => intro _; rw [Nat.zero_mul, Nat.mul_zero, m_sum, m_sum]
    | succ q ih =>
      intro hq
      rw [Nat.succ_mul, row q (by omega) (ih (by omega)) l (Nat.le_refl _)]
      exact (sum_skip (4 * (q + 1)) (4 * q + l) (by omega) (fun a h1 h2 => off a (by omega) (fun z => by have := z.2.2; omega))).symm
  rw [all s (Nat.le_refl _)]
  exact (sum_skip 16 (4 * s) (by omega) (fun a h1 h2 => off a h2 (fun z => by have := z.2.1; omega))).symm
theorem sum_cg {F G : Nat → Int32} : ∀ n, (∀ i, i < n → F i = G i) → m_sum F n = m_sum G n := by
  intro n
  induction n with
  | zero => intro _; rfl
  | succ n ih =>
    intro h
    rw [m_sum, m_sum, ih (fun i hi => h i (by omega)), h n (by omega)]
theorem allB_iff {P : Nat → Bool} : ∀ n, m_allB P n = true ↔ ∀ i, i < n → P i = true := by
  intro n
  induction n with
  | zero => exact ⟨fun _ i hi => absurd hi (Nat.not_lt_zero _), fun _ => rfl⟩
  | succ n ih =>
    rw [m_allB, Bool.and_eq_true, ih]
    constructor
    · intro ⟨h1, h2⟩ i hi
      by_cases e : i = n
      · rw [e]; exact h2
      · exact h1 i (by omega)
    · intro h
      exact ⟨fun i hi => h i (by omega), h n (by omega)⟩
theorem allB_lines (hs4 : s ≤ 4) (hl1 : 1 ≤ l) (hl4 : l ≤ 4) {P Q : Nat → Bool} (on : ∀ a, lin s l a → P a = Q a) (off : ∀ a, a < 16 → ¬ lin s l a → Q a = true) : m_allB (fun i => P (n_at l i)) (s * l) = m_allB Q 16 := by
  have hle : ∀ i, i < s * l → lin s l (n_at l i) := fun i hi => by
    have h1 : i / l < s := Nat.div_lt_of_lt_mul (by rw [Nat.mul_comm]; exact hi)
    exact lin_q hs4 hl4 h1 (Nat.mod_lt _ (by omega))
  rw [Bool.eq_iff_iff, allB_iff, allB_iff]
  constructor
  · intro h a ha
    by_cases hl : lin s l a
    · have e : n_at l (a / 4 * l + a % 4) = a := by
        rw [n_at_eq hl.2.2]
        omega
      have := h (a / 4 * l + a % 4) (by
        have h1 := hl.2.1
        have h2 := hl.2.2
        have : (a / 4 + 1) * l ≤ s * l := Nat.mul_le_mul_right l h1
        rw [Nat.succ_mul] at this
        omega)
      rw [e, on a hl] at this
      exact this
    · exact off a ha hl
  · intro h i hi
    rw [on _ (hle i hi)]
    exact h _ (hle i hi).1
theorem hold_sum : ∀ n, m_hold g n = m_sum (fun a => if g (73 + a) = -1 then 0 else 1) n := by
  intro n
  induction n with
  | zero => rfl
  | succ n ih => rw [m_hold, m_sum, ih]
/-- a walk over all lines: the state is v, the numbers stay -/
theorem cc_countHeld1 (hR : RR κ c H xa t Tm) (hG : GI (t 0) T N s l r) {c0 s0 : Nat} (hc : 100 ≤ c0) (hs : 8000 ≤ s0) (K : Int32 → xH → Prop) (hK : ∀ H', RR κ c H' xa t Tm → KF H H' → K (m_hold (t 0) 16) H') : P_X1_countHeld κ xa (H, c0, s0) K := by
  obtain ⟨A, gc, W, bl, h, h0, T', N', rfl, hM, hX, hG', hT', ⟨fs, ex2, hfs⟩, hk2⟩ := hR.ask hG
  have hM0 := hM.1
  obtain ⟨hA, hD, hS, ⟨hs1, hs4⟩, ⟨hl1, hl4⟩, hκ2, F0, he2, hF0⟩ := id hM0
  have hsl : s * l ≤ 16 := Nat.mul_le_mul hs4 hl4
  unfold P_X1_countHeld
  rw [g_gq (r := some (A 5)) ex2 rfl, t_nn, n_rc hA, true_and]
  refine c_call 12 6000 (by omega) (by omega) (cc_allLines hA hD hS hs4 hl1 hl4 hκ2 he2 hF0 (Nat.le_refl _) (Nat.le_refl _) _ (fun h2 q d m hE2 hD2 hqn hκq hL2 => ?_))
  rw [t_nn, (hL2.mono (mput_ext hD2)).rc, true_and]
  refine c_call 1 4 (by omega) (by omega) (cc_iterator (hL2.mono (mput_ext hD2)) (Nat.le_refl _) (Nat.le_refl _) _ (fun p hp hκp hI => ?_))
  obtain ⟨hpA, hpn⟩ := mput_none hA hp
  rw [mput_xup hA hpA]
  refine x_for (s * l) (fun i v σ => v = m_sum (fun i => if gc (73 + n_at l i) = -1 then 0 else 1) i ∧ i ≤ s * l ∧ ∃ (w : Nat × Nat) (h1 : xH), σ = (mput h1 A s l gc, w) ∧ Ext h2 h1 ∧ mD A s l h1 ∧ IT h1 p q i m) ?_ ?_ (v := (0 : Int32)) (σ := (mput (xup h2 p (itE 0 (-1) m q)) A s l gc, _)) ⟨rfl, Nat.zero_le _, _, _, rfl, Ext.new hpn, hD2.xup hpA, ⟨_, xup_eq⟩⟩
  · rintro i v σ ⟨rfl, -, w, h1, rfl, hE1, hD1, hI1⟩ hi self hself
    unfold B_X1_countHeld_15
    have hlin := n_at_lin hM0 hi
    refine x_it ((hL2.mono hE1).mono (mput_ext hD1)) (hI1.mono (mput_ext hD1)) hκp (by omega) (fun z => absurd z (by omega)) (fun _ hI2 => ?_)
    obtain ⟨j0, ej⟩ := hI1
    have hp1 := hD1.ne ej
    rw [mput_xup hA hp1]
    show xnn (some (A (6 + n_at l i))) _
    rw [t_nn, l_rc hA hlin, true_and, true_and]
    refine c_pure (r := bI (decide (gc (73 + n_at l i) = -1))) (fun w K hk => cc_isEmpty hA hlin K hk) ?_
    refine ⟨fun z => ?_, fun z => ?_⟩
    · have hz : ¬ gc (73 + n_at l i) = -1 := by simpa using (bI_0 _).mp z
      exact hself _ _ ⟨by rw [m_sum, if_neg hz], by omega, w, _, rfl, hE1.new2 hpn, hD1.xup hp1, ⟨_, xup_eq⟩⟩
    · have hz : gc (73 + n_at l i) = -1 := by simpa using bI_c z
      exact hself _ _ ⟨by rw [m_sum, if_pos hz], by omega, w, _, rfl, hE1.new2 hpn, hD1.xup hp1, ⟨_, xup_eq⟩⟩
  · rintro v σ ⟨rfl, -, w, h1, rfl, hE1, hD1, hI1⟩ self
    unfold B_X1_countHeld_15
    refine x_it ((hL2.mono hE1).mono (mput_ext hD1)) (hI1.mono (mput_ext hD1)) hκp (Nat.le_refl _) (fun _ => ?_) (fun z => absurd z (Nat.lt_irrefl _))
    obtain ⟨k8, k9⟩ := hk2 h1 (hE2.trans hE1)
    have e : m_sum (fun i => if gc (73 + n_at l i) = -1 then 0 else 1) (s * l) = m_hold (t 0) 16 := by
      rw [hold_sum, ← sum_lines (s := s) (l := l) hs4 hl4 (fun a ha ho => by rw [if_pos (hG'.off ha ho).1])]
      refine sum_cg _ (fun i hi => ?_)
      rw [(hX.1.2 _ (n_at_lin hM0 hi)).1]
    rw [e]
    exact hK _ k8 k9
theorem cc_countPinned1 (hR : RR κ c H xa t Tm) (hG : GI (t 0) T N s l r) {c0 s0 : Nat} (hc : 100 ≤ c0) (hs : 8000 ≤ s0) (K : Int32 → xH → Prop) (hK : ∀ H', RR κ c H' xa t Tm → KF H H' → K (m_sum (m_pinned (t 0)) 4) H') : P_X1_countPinned κ xa (H, c0, s0) K := by
  obtain ⟨A, gc, W, bl, h, h0, T', N', rfl, hM, hX, hG', hT', ⟨fs, ex2, hfs⟩, hk2⟩ := hR.ask hG
  obtain ⟨hA, hD, hS, ⟨hs1, hs4⟩, ⟨hl1, hl4⟩, hκ2, F0, he2, hF0⟩ := id hM.1
  unfold P_X1_countPinned
  obtain ⟨d0, m0, B, D, M, hS1, hS2⟩ := id hS
  refine x_for s (fun i v σ => v = (m_sum (fun q => n_pin gc q l) i, nI i) ∧ i ≤ s ∧ ∃ (c1 s1 : Nat) (h1 : xH), σ = (mput h1 A s l gc, c1, s1) ∧ Ext h h1 ∧ mD A s l h1 ∧ 10 ≤ c1 + i ∧ 100 ≤ s1 + 4 * i) ?_ ?_ ⟨rfl, by omega, c0, s0, h, rfl, Ext.rfl, hD, by omega, by omega⟩
  · rintro i v σ ⟨rfl, -, c1, s1, h1, rfl, hE1, hD1, hc1, hs1'⟩ hi self hself
    unfold B_X1_countPinned_4
    have ex3 := mput_mono (g := gc) hE1 hD _ _ ex2
    have hS1' := (hS1.mono hE1).mono (mput_ext (g := gc) hD1)
    rw [g_gq (r := some (A 5)) ex3 rfl, t_nn, n_gq_2 hA, t_nn, hS1'.rc, true_and]
    refine c_pure (r := nI s) (fun w K hk => cc_size4 hS1' K hk) ?_
    refine ⟨fun z => absurd ((nI_leI (by omega) (by omega)).mp z) (by omega), fun _ => ?_⟩
    rw [g_gq (r := some (A 5)) ex3 rfl, t_nn, n_rc hA, true_and]
    refine c_call 1 4 (by omega) (by omega) (cc_pinned hA hD1 (hS.mono hE1) hs4 hl4 hi (Nat.le_refl _) (Nat.le_refl _) _ (fun h3 hE3 hD3 => ?_))
    rw [(nI_succ i).symm]
    exact hself _ _ ⟨rfl, by omega, _, _, h3, rfl, hE1.trans hE3, hD3, by omega, by omega⟩
  · rintro v σ ⟨rfl, -, c1, s1, h1, rfl, hE1, hD1, hc1, hs1'⟩ self
    unfold B_X1_countPinned_4
    have ex3 := mput_mono (g := gc) hE1 hD _ _ ex2
    have hS1' := (hS1.mono hE1).mono (mput_ext (g := gc) hD1)
    rw [g_gq (r := some (A 5)) ex3 rfl, t_nn, n_gq_2 hA, t_nn, hS1'.rc, true_and]
    refine c_pure (r := nI s) (fun w K hk => cc_size4 hS1' K hk) ?_
    refine ⟨fun _ => ?_, fun z => absurd ((nI_leI (by omega) (by omega)).mpr (Nat.le_refl _)) z⟩
    obtain ⟨k8, k9⟩ := hk2 h1 hE1
    have e : m_sum (fun q => n_pin gc q l) s = m_sum (m_pinned (t 0)) 4 := by
      rw [sum_skip (F := m_pinned (t 0)) 4 s hs4 (fun q h1 h2 => ?_)]
      · refine sum_cg _ (fun q hq => ?_)
        unfold n_pin m_pinned
        rw [sum_skip (F := fun k => t 0 (105 + 4 * q + k)) 4 l hl4 (fun k h1 h2 => ?_)]
        · refine sum_cg _ (fun k hk => ?_)
          have hlin := lin_q hs4 hl4 hq hk
          rw [(hX.1.2 _ hlin).2.2.1, show 105 + 4 * q + k = 105 + (4 * q + k) by omega]
          rcases hG'.p01 hlin.1 with e | e
          · rw [if_pos e, e]
          · rw [if_neg (fun z => by rw [e] at z; exact absurd z (by decide)), e]
        · have := (hG'.off (a := 4 * q + k) (by omega) (fun z => by have := z.2.2; omega)).2.2
          rw [show 105 + 4 * q + k = 105 + (4 * q + k) by omega]
          exact this
      · unfold m_pinned
        rw [sum_skip (F := fun k => t 0 (105 + 4 * q + k)) 4 0 (by omega) (fun k _ h4 => ?_)]
        · rfl
        · have := (hG'.off (a := 4 * q + k) (by omega) (fun z => by have := z.2.1; omega)).2.2
          rw [show 105 + 4 * q + k = 105 + (4 * q + k) by omega]
          exact this
    rw [e]
    exact hK _ k8 k9
end I1
