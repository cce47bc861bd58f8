section C7
variable {κ A : Nat → Nat} {h h' h1 H : xH} {g g' : Nat → Int32} {s l k j a b d n i q : Nat} {f : Nat → Option Nat} {m : Int32} {w : Nat × Nat} {e : xE}
/-- how many lines of set q are pinned -/
def n_pin (g : Nat → Int32) (q l : Nat) : Int32 := m_sum (fun k => if g (105 + (4 * q + k)) = 0 then 0 else 1) l
theorem cc_pinned (hA : mOK κ A s l) (hD : mD A s l h) (hS : SA κ h A s l) (h4 : s ≤ 4) (hl4 : l ≤ 4) (hq : q < s) {c0 s0 : Nat} (hc : 1 ≤ c0) (hs : 4 ≤ s0) (K : Int32 → xH → Prop)
    (hK : ∀ h', Ext h h' → mD A s l h' → K (n_pin g q l) (mput h' A s l g)) : P_X2_pinned κ (A 5) (nI q) (mput h A s l g, c0, s0) K := by
  obtain ⟨d0, m0, B, D, M, hS1, hS2⟩ := hS
  have hE := mput_ext (g := g) hD
  unfold P_X2_pinned
  rw [n_gq_2 hA, t_nn, (hS1.mono hE).rc, true_and]
  refine c_pure (r := some (B q)) (fun w K hk => cc_get4 (hS1.mono hE) hq K hk) ?_
  rw [t_nn, ((hS2 _ hq).mono hE).rc, true_and, true_and]
  refine c_call 1 4 hc hs (cc_iterator ((hS2 _ hq).mono hE) (Nat.le_refl _) (Nat.le_refl _) _ (fun p hq0 hκ hI => ?_))
  obtain ⟨hqA, hqn⟩ := mput_none hA hq0
  rw [mput_xup hA hqA]
  have hD1 : mD A s l (xup h p (itE 0 (-1) (M q) (B q))) := hD.xup hqA
  refine x_for l (fun i v σ => v = m_sum (fun k => if g (105 + (4 * q + k)) = 0 then 0 else 1) i ∧ i ≤ l ∧ ∃ (w : Nat × Nat) (h1 : xH), σ = (mput h1 A s l g, w) ∧ Ext h h1 ∧ mD A s l h1 ∧ IT h1 p (B q) i (M q)) ?_ ?_ (v := (0 : Int32)) (σ := (mput (xup h p (itE 0 (-1) (M q) (B q))) A s l g, _)) ⟨rfl, Nat.zero_le _, _, _, rfl, Ext.new hqn, hD1, ⟨-1, xup_eq⟩⟩
  · rintro i v σ ⟨rfl, -, w, h1, rfl, hE1, hD1, hI1⟩ hi self hself
    unfold B_X2_pinned_21
    have hlin := lin_q h4 hl4 hq hi
    refine x_it (((hS2 q hq).mono hE1).mono (mput_ext hD1)) (hI1.mono (mput_ext hD1)) hκ (by omega) (fun z => absurd z (by omega)) (fun _ hI2 => ?_)
    obtain ⟨j0, ej⟩ := hI1
    have hq1 := hD1.ne ej
    rw [mput_xup hA hq1]
    rw [t_nn, l_rc hA hlin, true_and, l_gi_4 hA hlin]
    have hE2 : Ext h (xup h1 p (itE (i + 1) (nI i) (M q) (B q))) := hE1.new2 hqn
    refine ⟨fun z => ?_, fun z => ?_⟩
    · refine hself _ _ ⟨?_, by omega, w, _, rfl, hE2, hD1.xup hq1, ⟨_, xup_eq⟩⟩
      simp only [m_sum, if_pos z]
    · refine hself _ _ ⟨?_, by omega, w, _, rfl, hE2, hD1.xup hq1, ⟨_, xup_eq⟩⟩
      simp only [m_sum, if_neg z]
  · rintro v σ ⟨rfl, -, w, h1, rfl, hE1, hD1, hI1⟩ self
    unfold B_X2_pinned_21
    exact x_it (((hS2 q hq).mono hE1).mono (mput_ext hD1)) (hI1.mono (mput_ext hD1)) hκ (Nat.le_refl _) (fun _ => hK _ hE1 hD1) (fun z => absurd z (Nat.lt_irrefl _))
def n_word (g : Nat → Int32) (s l k : Nat) : Int32 := match n_in g (k / 4 % s) l (nI (k / 4)) with
  | none => g (5 + k)
  | some j => g (169 + 4 * (4 * (k / 4 % s) + j) + k % 4)
theorem n_in_lt {x : Int32} (hj : n_in g q l x = some j) : j < l ∧ g (73 + (4 * q + j)) = x := by
  unfold n_in at hj
  refine ⟨List.mem_range.mp (List.mem_of_find?_eq_some hj), ?_⟩
  have := List.find?_some hj
  simpa using this
theorem cc_wordAt (hA : mOK κ A s l) (hD : mD A s l h) (hS : SA κ h A s l) (h1 : 1 ≤ s) (h4 : s ≤ 4) (hl4 : l ≤ 4) (hk : k < 64) {c0 s0 : Nat} (hc : 1 ≤ c0) (hs : 4 ≤ s0) (K : Int32 → xH → Prop)
    (hK : ∀ h', Ext h h' → mD A s l h' → K (n_word g s l k) (mput h' A s l g)) : P_X2_wordAt κ (A 5) (nI k) (mput h A s l g, c0, s0) K := by
  unfold P_X2_wordAt
  unfold n_word at hK
  rw [n_rc hA, true_and, m_div4 k hk]
  refine c_call 1 4 hc hs (cc_holder hA hD hS h1 h4 hl4 (by omega) (Nat.le_refl _) (Nat.le_refl _) _ (fun h' hE hD' => ?_))
  have hK := hK h' hE hD'
  cases hi : n_in g (k / 4 % s) l (nI (k / 4)) with
  | none =>
    rw [hi] at hK
    refine ⟨fun _ => ?_, fun b z => (by cases z)⟩
    rw [n_gq_0 hA, t_nn, n_ai_0 hA hk]
    exact hK
  | some j =>
    rw [hi] at hK
    have hlin := lin_q h4 hl4 (Nat.mod_lt (k / 4) (by omega)) (n_in_lt hi).1
    refine ⟨fun z => (by cases z), fun b z => ?_⟩
    cases z
    rw [l_gq_1 hA hlin, t_nn, m_mod5 k hk, l_ai hA hlin (Nat.mod_lt _ (by decide))]
    exact hK
def n_dirty (g : Nat → Int32) (s l k : Nat) : Bool := match n_in g (k / 4 % s) l (nI (k / 4)) with
  | none => false
  | some j => b_at (g (89 + (4 * (k / 4 % s) + j))) (k % 4)
theorem cc_isDirty2 (hA : mOK κ A s l) (hD : mD A s l h) (hS : SA κ h A s l) (h1 : 1 ≤ s) (h4 : s ≤ 4) (hl4 : l ≤ 4) (hk : k < 64) {c0 s0 : Nat} (hc : 1 ≤ c0) (hs : 4 ≤ s0) (K : Int32 → xH → Prop)
    (hK : ∀ h', Ext h h' → mD A s l h' → K (bI (n_dirty g s l k)) (mput h' A s l g)) : P_X2_isDirty κ (A 5) (nI k) (mput h A s l g, c0, s0) K := by
  unfold P_X2_isDirty
  unfold n_dirty at hK
  rw [n_rc hA, true_and, m_div4 k hk]
  refine c_call 1 4 hc hs (cc_holder hA hD hS h1 h4 hl4 (by omega) (Nat.le_refl _) (Nat.le_refl _) _ (fun h' hE hD' => ?_))
  have hK := hK h' hE hD'
  cases hi : n_in g (k / 4 % s) l (nI (k / 4)) with
  | none =>
    rw [hi] at hK
    exact ⟨fun _ => hK, fun b z => (by cases z)⟩
  | some j =>
    rw [hi] at hK
    have hlin := lin_q h4 hl4 (Nat.mod_lt (k / 4) (by omega)) (n_in_lt hi).1
    refine ⟨fun z => (by cases z), fun b z => ?_⟩
    cases z
    rw [l_rc hA hlin, true_and, m_mod5 k hk]
    refine c_pure (r := bI (b_at (g (89 + (4 * (k / 4 % s) + j))) (k % 4))) (fun w K hk => cc_isDirty3 hA hlin K hk) ?_
    refine ⟨fun y => ?_, fun y => ?_⟩
    · simp only [(bI_0 _).mp y] at hK; exact hK
    · simp only [bI_c y] at hK; exact hK
theorem cc_sumOfWords (hA : mOK κ A s l) (hD : mD A s l h) (hS : SA κ h A s l) (h1 : 1 ≤ s) (h4 : s ≤ 4) (hl4 : l ≤ 4) {c0 s0 : Nat} (hc : 64 ≤ c0) (hs : 256 ≤ s0) (K : Int32 → xH → Prop)
    (hK : ∀ h', Ext h h' → mD A s l h' → K (m_sum (n_word g s l) 64) (mput h' A s l g)) : P_X2_sumOfWords κ (A 5) (mput h A s l g, c0, s0) K := by
  unfold P_X2_sumOfWords
  refine x_for 64 (fun i v σ => v = (m_sum (n_word g s l) i, nI i) ∧ i ≤ 64 ∧ ∃ (c s1 : Nat) (h1 : xH), σ = (mput h1 A s l g, c, s1) ∧ 64 ≤ c + i ∧ 256 ≤ s1 + 4 * i ∧ Ext h h1 ∧ mD A s l h1) ?_ ?_ ⟨rfl, by omega, _, _, _, rfl, by omega, by omega, Ext.rfl, hD⟩
  · rintro i v σ ⟨rfl, -, c, s1, h1', rfl, hc1, hs1, hE1, hD1⟩ hi self hself
    unfold B_X2_sumOfWords_4
    refine ⟨fun z => absurd ((nI_leI (a := 64) (b := i) (by decide) (by omega)).mp z) (by omega), fun _ => ?_⟩
    rw [n_rc hA, true_and]
    refine c_call 1 4 (by omega) (by omega) (cc_wordAt hA hD1 (hS.mono hE1) h1 h4 hl4 hi (Nat.le_refl _) (Nat.le_refl _) _ (fun h' hE hD' => ?_))
    rw [(nI_succ i).symm]
    exact hself _ _ ⟨rfl, by omega, _, _, _, rfl, by omega, by omega, hE1.trans hE, hD'⟩
  · rintro v σ ⟨rfl, -, c, s1, h1', rfl, hc1, hs1, hE1, hD1⟩ self
    unfold B_X2_sumOfWords_4
    exact ⟨fun _ => hK _ hE1 hD1, fun z => absurd ((nI_leI (a := 64) (b := 64) (by decide) (by omega)).mpr (Nat.le_refl _)) z⟩
end C7
