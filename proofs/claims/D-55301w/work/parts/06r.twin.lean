section U9
variable {κ A : Nat → Nat} {h : xH} {t : Nat → Nat → Int32} {g : Nat → Int32} {w : Nat × Nat} {s l r c : Nat}
def m_cnt (p : Nat → Bool) : Nat → Nat
  | 0 => 0
  | n + 1 => m_cnt p n + (if p n then 1 else 0)
theorem m_cnt_le (p : Nat → Bool) (n : Nat) : m_cnt p n ≤ n := by
  induction n with
  | zero => exact Nat.le_refl _
  | succ n ih => simp only [m_cnt]; split <;> omega
theorem m_cnt_t {p : Nat → Bool} {n : Nat} (h : p n = true) : nI (m_cnt p n) + 1 = nI (m_cnt p (n + 1)) := by
  simp only [m_cnt, h, if_true]
  exact (nI_succ _).symm
theorem m_cnt_f {p : Nat → Bool} {n : Nat} (h : p n = false) : nI (m_cnt p n) + 0 = nI (m_cnt p (n + 1)) := by
  simp [m_cnt, h]
def m_ahd (g : Nat → Int32) (q k o : Nat) : Bool := decide (o ≠ k) && (m_canGive g (4 * q + o) && m_isAhead g (4 * q + o) (4 * q + k))
theorem bI_c {b : Bool} (h : ¬ bI b = 0) : b = true := by
  cases b with
  | false => exact absurd rfl h
  | true => rfl
theorem tc_givingIn (hA : tOK κ A) (hT : TI g s l r) {q k : Nat} (hq : q < 4) (hk : k < 4) (y : Int32) {L : Int32 → xS → Prop} (hL : ∀ w, L (nI (m_cnt (m_ahd g q k) l)) (tput h A (tg t g), w)) : xwhile (B_X4_giving_32 κ L (A 20) (nI q) y (nI k)) ((0 : Int32), (0 : Int32)) (tput h A (tg t g), w) := by
  obtain ⟨-, ⟨hs, h1, h4⟩, ⟨hl, hl4⟩, -⟩ := hT
  refine x_for l (fun i v σ => v = (nI (m_cnt (m_ahd g q k) i), nI i) ∧ i ≤ l ∧ ∃ w, σ = (tput h A (tg t g), w)) ?_ ?_ ⟨rfl, by omega, _, rfl⟩
  · rintro i v σ ⟨rfl, -, w, rfl⟩ hi self hself
    unfold B_X4_giving_32
    have no : m_ahd g q k i = false → self (nI (m_cnt (m_ahd g q k) i) + 0, nI i + 1) (tput h A (tg t g), w) := fun z => by
      rw [m_cnt_f z, (nI_succ i).symm]
      exact hself _ _ ⟨rfl, by omega, _, rfl⟩
    simp (disch := omega) only [t_gq_0 hA, t_nn, t_ag hA, t_sg hA, t_rc hA, vi_n, c_n, true_and, a_5, a_69, a_73, a_89, a_105, a_121, a_137, a_153, a_169, a_235, a_251, a_267, a_286, a_293, a_283, a_m4, nI_add, t_l0, i_0, l_1, i_1, l_2, i_2, l_3, i_3, l_4, i_4, l_5, i_5, l_6, i_6, l_16, i_16, l_233, i_233, l_234, i_234, l_235, i_235, l_283, i_283, l_284, i_284, l_285, i_285, l_289, i_289, l_290, i_290, l_291, i_291, l_292, i_292, hl, nI_eq]
    refine ⟨fun z => absurd ((nI_leI (by omega) (by omega)).mp z) (by omega), fun _ => ⟨fun z => no (by simp [m_ahd, z]), fun z => ?_⟩⟩
    refine t_call (t' := tg t g) (r := bI (m_canGive g (4 * q + i))) (fun w K hk => tc_canGive hA (by omega) K hk) ?_
    refine ⟨fun z1 => no (by simp [m_ahd, (bI_0 _).mp z1]), fun z1 => ?_⟩
    simp (disch := omega) only [t_gq_0 hA, t_nn, t_ag hA, t_sg hA, t_rc hA, vi_n, c_n, true_and, a_5, a_69, a_73, a_89, a_105, a_121, a_137, a_153, a_169, a_235, a_251, a_267, a_286, a_293, a_283, a_m4, nI_add, t_l0, i_0, l_1, i_1, l_2, i_2, l_3, i_3, l_4, i_4, l_5, i_5, l_6, i_6, l_16, i_16, l_233, i_233, l_234, i_234, l_235, i_235, l_283, i_283, l_284, i_284, l_285, i_285, l_289, i_289, l_290, i_290, l_291, i_291, l_292, i_292]
    refine t_call (t' := tg t g) (r := bI (m_isAhead g (4 * q + i) (4 * q + k))) (fun w K hk => tc_isAhead hA (by omega) (by omega) K hk) ?_
    refine ⟨fun z2 => no (by simp [m_ahd, (bI_0 _).mp z2]), fun z2 => ?_⟩
    rw [m_cnt_t (show m_ahd g q k i = true by simp [m_ahd, z, bI_c z1, bI_c z2]), (nI_succ i).symm]
    exact hself _ _ ⟨rfl, by omega, _, rfl⟩
  · rintro v σ ⟨rfl, -, w, rfl⟩ self
    unfold B_X4_giving_32
    simp (disch := omega) only [t_gq_0 hA, t_nn, t_ag hA, i_2, l_2, true_and, hl]
    exact ⟨fun _ => hL w, fun z => absurd ((nI_leI (by omega) (by omega)).mpr (Nat.le_refl _)) z⟩
def m_givP (g : Nat → Int32) (l q : Nat) (y : Int32) (k : Nat) : Bool := m_canGive g (4 * q + k) && decide (nI (m_cnt (m_ahd g q k) l) = y)
def m_giving (g : Nat → Int32) (s l : Nat) (x y : Int32) : Int32 × Int32 :=
  if m_in x 0 (nI (s - 1)) then (match (List.range l).find? (m_givP g l x.toNatClampNeg y) with | some k => (0, nI k) | none => (2, 0)) else (1, 0)
theorem tc_giving (hA : tOK κ A) (hT : TI g s l r) (x y : Int32) (K : Int32 → xH → Prop) (hK : qAns (m_giving g s l x y) t A h g K) : P_X4_giving κ (A 20) x y (tput h A (tg t g), w) K := by
  have hT0 := hT
  obtain ⟨-, ⟨hs, h1, h4⟩, ⟨hl, hl4⟩, -⟩ := hT
  unfold P_X4_giving
  unfold m_giving at hK
  simp only [t_rc hA, true_and]
  refine t_call (t' := tg t g) (r := bI (m_in x 0 (nI (s - 1)))) (fun w K hk => tc_isSet hA x K (by rw [hs, nI_m1 h1]; exact hk)) ?_
  cases hi : m_in x 0 (nI (s - 1)) with
  | false =>
    rw [hi] at hK
    exact ⟨fun _ => tc_qF hA K hK, fun z => absurd rfl z⟩
  | true =>
    rw [hi] at hK
    obtain ⟨q, rfl, hq⟩ := m_inI (by omega) hi
    simp only [if_true, c_n (show q < 2 ^ 31 by omega)] at hK
    refine ⟨fun z => absurd z (by decide), fun _ => ?_⟩
    refine x_for l (fun i v σ => v = nI i ∧ i ≤ l ∧ (∃ w, σ = (tput h A (tg t g), w)) ∧ ∀ j, j < i → m_givP g l q y j = false) ?_ ?_ ⟨rfl, by omega, ⟨_, rfl⟩, fun j hj => absurd hj (Nat.not_lt_zero _)⟩
    · rintro i v σ ⟨rfl, -, ⟨w, rfl⟩, hj⟩ hi self hself
      have nx : ∀ w, m_givP g l q y i = false → self (nI i + 1) (tput h A (tg t g), w) := fun w z => by
        rw [(nI_succ i).symm]
        refine hself _ _ ⟨rfl, by omega, ⟨_, rfl⟩, fun j hj' => ?_⟩
        rcases Nat.lt_succ_iff_lt_or_eq.mp hj' with h1 | h1
        · exact hj j h1
        · rw [h1]; exact z
      unfold B_X4_giving_16
      simp (disch := omega) only [t_gq_0 hA, t_nn, t_ag hA, i_2, l_2, true_and, hl]
      refine ⟨fun z => absurd ((nI_leI (by omega) (by omega)).mp z) (by omega), fun _ => ?_⟩
      refine tc_givingIn hA hT0 (by omega) (by omega) y (fun w => ?_)
      simp (disch := omega) only [t_gq_0 hA, t_nn, t_ag hA, t_sg hA, t_rc hA, vi_n, c_n, true_and, a_5, a_69, a_73, a_89, a_105, a_121, a_137, a_153, a_169, a_235, a_251, a_267, a_286, a_293, a_283, a_m4, nI_add, t_l0, i_0, l_1, i_1, l_2, i_2, l_3, i_3, l_4, i_4, l_5, i_5, l_6, i_6, l_16, i_16, l_233, i_233, l_234, i_234, l_235, i_235, l_283, i_283, l_284, i_284, l_285, i_285, l_289, i_289, l_290, i_290, l_291, i_291, l_292, i_292]
      refine t_call (t' := tg t g) (r := bI (m_canGive g (4 * q + i))) (fun w K hk => tc_canGive hA (by omega) K hk) ?_
      refine ⟨fun z1 => nx _ (by simp [m_givP, (bI_0 _).mp z1]), fun z1 => ⟨fun z2 => ?_, fun z2 => nx _ (by simp [m_givP, z2])⟩⟩
      rw [m_hit (i := i) hj hi (by simp [m_givP, bI_c z1, z2])] at hK
      exact tc_qD hA K hK
    · rintro v σ ⟨rfl, -, ⟨w, rfl⟩, hj⟩ self
      unfold B_X4_giving_16
      simp (disch := omega) only [t_gq_0 hA, t_nn, t_ag hA, i_2, l_2, true_and, hl]
      refine ⟨fun _ => ?_, fun z => absurd ((nI_leI (by omega) (by omega)).mpr (Nat.le_refl _)) z⟩
      rw [List.find?_eq_none.mpr (fun x hx => by rw [hj x (List.mem_range.mp hx)]; decide)] at hK
      exact tc_qF hA K hK
def m_rk (g : Nat → Int32) (b o : Nat) : Bool := decide (0 < g (251 + o) - g (251 + b)) || (decide (g (251 + o) - g (251 + b) = 0) && (decide (0 < g (267 + b) - g (267 + o)) || (decide (g (267 + b) - g (267 + o) = 0) && decide (o < b))))
def m_ranked (g : Nat → Int32) (y : Int32) : Int32 × Int32 := match (List.range 16).find? (fun b => decide (nI (m_cnt (m_rk g b) 16) = y)) with | some b => (0, nI b) | none => (1, 0)
theorem tc_rankedIn (hA : tOK κ A) {b : Nat} (hb : b < 16) (y : Int32) {L : Int32 → xS → Prop} (hL : ∀ w, L (nI (m_cnt (m_rk g b) 16)) (tput h A (tg t g), w)) : xwhile (B_X4_ranked_13 κ L (A 20) y (nI b)) ((0 : Int32), (0 : Int32)) (tput h A (tg t g), w) := by
  refine x_for 16 (fun i v σ => v = (nI (m_cnt (m_rk g b) i), nI i) ∧ i ≤ 16 ∧ ∃ w, σ = (tput h A (tg t g), w)) ?_ ?_ ⟨rfl, by omega, _, rfl⟩
  · rintro i v σ ⟨rfl, -, w, rfl⟩ hi self hself
    unfold B_X4_ranked_13
    have no : m_rk g b i = false → self (nI (m_cnt (m_rk g b) i) + 0, nI i + 1) (tput h A (tg t g), w) := fun z => by
      rw [m_cnt_f z, (nI_succ i).symm]
      exact hself _ _ ⟨rfl, by omega, _, rfl⟩
    have yes : m_rk g b i = true → self (nI (m_cnt (m_rk g b) i) + 1, nI i + 1) (tput h A (tg t g), w) := fun z => by
      rw [m_cnt_t z, (nI_succ i).symm]
      exact hself _ _ ⟨rfl, by omega, _, rfl⟩
    have e1 : nI b ≤ nI i ↔ b ≤ i := nI_leI (by omega) (by omega)
    refine ⟨fun z => absurd ((nI_leI (a := 16) (b := i) (by decide) (by omega)).mp z) (by omega), fun _ => ?_⟩
    simp (disch := omega) only [t_gq_0 hA, t_nn, t_ag hA, t_sg hA, t_rc hA, vi_n, c_n, true_and, a_5, a_69, a_73, a_89, a_105, a_121, a_137, a_153, a_169, a_235, a_251, a_267, a_286, a_293, a_283, a_m4, nI_add, t_l0, i_0, l_1, i_1, l_2, i_2, l_3, i_3, l_4, i_4, l_5, i_5, l_6, i_6, l_16, i_16, l_233, i_233, l_234, i_234, l_235, i_235, l_283, i_283, l_284, i_284, l_285, i_285, l_289, i_289, l_290, i_290, l_291, i_291, l_292, i_292, e1]
    refine ⟨fun z1 => yes (by simp [m_rk, z1]), fun z1 => ⟨fun z2 => ⟨fun z3 => yes (by simp [m_rk, z2, z3]), fun z3 => ⟨fun z4 => ⟨fun z5 => no (by simp [m_rk, z2, z4, z5]), fun z5 => yes (by simp [m_rk, z2, z4]; omega)⟩, fun z4 => no (by simp [m_rk, z2, z3, z4])⟩⟩, fun z2 => no (by simp [m_rk, z1, z2])⟩⟩
  · rintro v σ ⟨rfl, -, w, rfl⟩ self
    unfold B_X4_ranked_13
    exact ⟨fun _ => hL w, fun z => absurd ((nI_leI (a := 16) (b := 16) (by omega) (by omega)).mpr (Nat.le_refl _)) z⟩
theorem tc_ranked (hA : tOK κ A) (y : Int32) (K : Int32 → xH → Prop) (hK : qAns (m_ranked g y) t A h g K) : P_X4_ranked κ (A 20) y (tput h A (tg t g), w) K := by
  unfold P_X4_ranked
  unfold m_ranked at hK
  refine x_for 16 (fun i v σ => v = nI i ∧ i ≤ 16 ∧ (∃ w, σ = (tput h A (tg t g), w)) ∧ ∀ j, j < i → decide (nI (m_cnt (m_rk g j) 16) = y) = false) ?_ ?_ ⟨rfl, by omega, ⟨_, rfl⟩, fun j hj => absurd hj (Nat.not_lt_zero _)⟩
  · rintro i v σ ⟨rfl, -, ⟨w, rfl⟩, hj⟩ hi self hself
    unfold B_X4_ranked_2
    refine ⟨fun z => absurd ((nI_leI (a := 16) (b := i) (by decide) (by omega)).mp z) (by omega), fun _ => ?_⟩
    refine tc_rankedIn hA hi y (fun w => ⟨fun z => ?_, fun z => ?_⟩)
    · rw [m_hit (i := i) hj hi (by simp [z])] at hK
      exact tc_qD hA K hK
    · rw [(nI_succ i).symm]
      refine hself _ _ ⟨rfl, by omega, ⟨_, rfl⟩, fun j hj' => ?_⟩
      rcases Nat.lt_succ_iff_lt_or_eq.mp hj' with h1 | h1
      · exact hj j h1
      · rw [h1]; simp [z]
  · rintro v σ ⟨rfl, -, ⟨w, rfl⟩, hj⟩ self
    unfold B_X4_ranked_2
    refine ⟨fun _ => ?_, fun z => absurd ((nI_leI (a := 16) (b := 16) (by omega) (by omega)).mpr (Nat.le_refl _)) z⟩
    rw [List.find?_eq_none.mpr (fun x hx => by rw [hj x (List.mem_range.mp hx)]; decide)] at hK
    exact tc_qF hA K hK
def m_isDirty (g : Nat → Int32) (k : Nat) : Bool := match m_lw g (k / 4) with | none => false | some a => b_at (g (89 + a)) (k % 4)
def m_nextDirty (g : Nat → Int32) (x : Int32) : Int32 × Int32 := if m_in x 0 63 then (match (List.range 64).find? (fun k => decide (x.toNatClampNeg ≤ k) && m_isDirty g k) with | some k => (0, nI k) | none => (2, 0)) else (1, 0)
theorem tc_nextDirty (hA : tOK κ A) (x : Int32) (K : Int32 → xH → Prop) (hK : qAns (m_nextDirty g x) t A h g K) : P_X4_nextDirty κ (A 20) x (tput h A (tg t g), w) K := by
  unfold P_X4_nextDirty
  unfold m_nextDirty at hK
  refine t_pure (r := bI (m_in x 0 63)) (fun τ K hk => tc_isAddress x τ K hk) ?_
  cases hi : m_in x 0 63 with
  | false =>
    rw [hi] at hK
    exact ⟨fun _ => tc_qF hA K hK, fun z => absurd rfl z⟩
  | true =>
    rw [hi] at hK
    obtain ⟨k, rfl, hk⟩ := m_inI (c := 63) (by decide) hi
    simp only [if_true, c_n (show k < 2 ^ 31 by omega)] at hK
    refine ⟨fun z => absurd z (by decide), fun _ => ?_⟩
    refine x_for (64 - k) (fun i v σ => v = nI (k + i) ∧ i ≤ 64 - k ∧ (∃ w, σ = (tput h A (tg t g), w)) ∧ ∀ j, j < k + i → (decide (k ≤ j) && m_isDirty g j) = false) ?_ ?_ ⟨rfl, by omega, ⟨_, rfl⟩, fun j hj => by simp; omega⟩
    · rintro i v σ ⟨rfl, -, ⟨w, rfl⟩, hj⟩ hi self hself
      have nx : ∀ w, m_isDirty g (k + i) = false → self (nI (k + i) + 1) (tput h A (tg t g), w) := fun w z => by
        rw [(nI_succ (k + i)).symm]
        refine hself _ _ ⟨rfl, by omega, ⟨_, rfl⟩, fun j hj' => ?_⟩
        rcases Nat.lt_or_ge j (k + i) with h1 | h1
        · exact hj j h1
        · rw [show j = k + i by omega, z]; simp
      unfold B_X4_nextDirty_15
      refine ⟨fun z => absurd ((nI_leI (a := 64) (b := k + i) (by decide) (by omega)).mp z) (by omega), fun _ => ?_⟩
      simp only [t_rc hA, true_and, m_div4 (k + i) (by omega), m_mod4 (k + i) (by omega), m_mod5 (k + i) (by omega)]
      refine t_call (t' := tg t g) (r := m_lineWith g (nI ((k + i) / 4))) (fun w K hk => tc_lineWith hA _ K hk) ?_
      rw [m_lw_I]
      cases hq : m_lw g ((k + i) / 4) with
      | none => exact ⟨fun _ => nx _ (by simp [m_isDirty, hq]), fun z => absurd rfl z⟩
      | some a =>
        have ha : a < 16 := (m_lw_lt hq).1
        refine ⟨fun z => absurd z (nI_ne a (by omega)), fun _ => ?_⟩
        simp (disch := omega) only [t_gq_0 hA, t_nn, t_ag hA, a_89, vi_n, c_n, true_and, oI]
        refine ⟨fun z => ?_, fun z => nx _ (by simp [m_isDirty, hq, b_at]; exact z)⟩
        rw [m_hit (i := k + i) hj (by omega) (by simp [m_isDirty, hq, b_at]; exact z)] at hK
        exact tc_qD hA K hK
    · rintro v σ ⟨rfl, -, ⟨w, rfl⟩, hj⟩ self
      unfold B_X4_nextDirty_15
      have e : k + (64 - k) = 64 := by omega
      rw [e] at hj ⊢
      refine ⟨fun _ => ?_, fun z => absurd ((nI_leI (a := 64) (b := 64) (by omega) (by omega)).mpr (Nat.le_refl _)) z⟩
      rw [List.find?_eq_none.mpr (fun x hx => by rw [hj x (List.mem_range.mp hx)]; decide)] at hK
      exact tc_qF hA K hK
end U9
