section U15
variable {κ A : Nat → Nat} {h : xH} {t : Nat → Nat → Int32} {g : Nat → Int32} {w : Nat × Nat} {s l r c n : Nat}
def m_hold (g : Nat → Int32) : Nat → Int32
  | 0 => 0
  | n + 1 => m_hold g n + (if g (73 + n) = -1 then 0 else 1)
theorem tc_holding (hA : tOK κ A) (K : Int32 → xH → Prop) (hK : K (m_hold g 16) (tput h A (tg t g))) : P_X4_holding κ (A 20) (tput h A (tg t g), w) K := by
  unfold P_X4_holding
  refine x_for 16 (fun i v σ => v = (m_hold g i, nI i) ∧ i ≤ 16 ∧ σ = (tput h A (tg t g), w)) ?_ ?_ ⟨rfl, by omega, rfl⟩
  · rintro i v σ ⟨rfl, -, rfl⟩ hi self hself
    unfold B_X4_holding_4
    refine ⟨fun z => absurd ((nI_leI (a := 16) (b := i) (by decide) (by omega)).mp z) (by omega), fun _ => ?_⟩
    simp (disch := omega) only [t_gq_0 hA, t_nn, t_ag hA, t_sg hA, t_rc hA, vi_n, c_n, true_and, a_5, a_69, a_73, a_89, a_105, a_121, a_137, a_153, a_169, a_235, a_251, a_267, a_286, a_293, a_283, a_m4, nI_add, t_l0, i_0, l_1, i_1, l_2, i_2, l_3, i_3, l_4, i_4, l_5, i_5, l_6, i_6, l_16, i_16, l_233, i_233, l_234, i_234, l_235, i_235, l_283, i_283, l_284, i_284, l_285, i_285, l_289, i_289, l_290, i_290, l_291, i_291, l_292, i_292]
    refine ⟨fun z => ?_, fun z => ?_⟩
    · rw [(nI_succ i).symm]
      refine hself _ _ ⟨?_, by omega, rfl⟩
      simp only [m_hold, if_pos z]
    · rw [(nI_succ i).symm]
      refine hself _ _ ⟨?_, by omega, rfl⟩
      simp only [m_hold, if_neg z]
  · rintro v σ ⟨rfl, -, rfl⟩ self
    unfold B_X4_holding_4
    exact ⟨fun _ => hK, fun z => absurd ((nI_leI (a := 16) (b := 16) (by decide) (by omega)).mpr (Nat.le_refl _)) z⟩
theorem tc_allPinned (hA : tOK κ A) (K : Int32 → xH → Prop) (hK : K (m_sum (m_pinned g) 4) (tput h A (tg t g))) : P_X4_allPinned κ (A 20) (tput h A (tg t g), w) K := by
  unfold P_X4_allPinned
  refine x_for 4 (fun i v σ => v = (m_sum (m_pinned g) i, nI i) ∧ i ≤ 4 ∧ ∃ w, σ = (tput h A (tg t g), w)) ?_ ?_ ⟨rfl, by omega, _, rfl⟩
  · rintro i v σ ⟨rfl, -, w, rfl⟩ hi self hself
    unfold B_X4_allPinned_4
    refine ⟨fun z => absurd ((nI_leI (a := 4) (b := i) (by decide) (by omega)).mp z) (by omega), fun _ => ?_⟩
    simp only [t_rc hA, true_and]
    refine t_call (t' := tg t g) (r := m_pinned g i) (fun w K hk => tc_pinnedIn hA hi K hk) ?_
    rw [(nI_succ i).symm]
    exact hself _ _ ⟨rfl, by omega, _, rfl⟩
  · rintro v σ ⟨rfl, -, w, rfl⟩ self
    unfold B_X4_allPinned_4
    exact ⟨fun _ => hK, fun z => absurd ((nI_leI (a := 4) (b := 4) (by decide) (by omega)).mpr (Nat.le_refl _)) z⟩
def m_all2 (g : Nat → Int32) : Int32 := g 283 + g 284
theorem tc_hitShare (hA : tOK κ A) (hN : vf_n32 (FP.fdiv (FP.i2f (g 285)) (FP.i2f (g 283 + g 284)))) (K : UInt32 → xH → Prop) (hK : if g 283 + g 284 = 0 then K FP.fconst0 (tput h A (tg (tset t 16 0 1) g)) else K (FP.fdiv (FP.i2f (g 285)) (FP.i2f (g 283 + g 284))) (tput h A (tg (tset t 16 0 0) g))) : P_X4_hitShare κ (A 20) (tput h A (tg t g), w) K := by
  unfold P_X4_hitShare
  simp only [t_gq_0 hA, t_nn, t_ag hA, i_283, l_283, i_284, l_284, i_285, l_285, true_and, t_pi_16 hA, tg_setk t g (show 16 ≠ 0 by decide)]
  refine ⟨fun z => ⟨fun _ => ?_, fun y => absurd z y⟩, fun z => ⟨fun y => absurd y z, fun _ => ⟨hN, ?_⟩⟩⟩
  · rw [if_pos z] at hK; exact hK
  · rw [if_neg z] at hK; exact hK
theorem tc_meanWord (hA : tOK κ A) (hN : vf_n64 (FP.ddiv (FP.i2d (m_sum (m_word g) 64)) (4634204016564240384 : UInt64))) (K : UInt64 → xH → Prop) (hK : K (FP.ddiv (FP.i2d (m_sum (m_word g) 64)) (4634204016564240384 : UInt64)) (tput h A (tg (tset t 16 0 0) g))) : P_X4_meanWord κ (A 20) (tput h A (tg t g), w) K := by
  unfold P_X4_meanWord
  rw [t_pi_16 hA, tg_setk _ _ (by decide)]
  refine x_for 64 (fun i v σ => v = (m_sum (m_word g) i, nI i) ∧ i ≤ 64 ∧ ∃ w, σ = (tput h A (tg (tset t 16 0 0) g), w)) ?_ ?_ ⟨rfl, by omega, _, rfl⟩
  · rintro i v σ ⟨rfl, -, w, rfl⟩ hi self hself
    unfold B_X4_meanWord_9
    refine ⟨fun z => absurd ((nI_leI (a := 64) (b := i) (by decide) (by omega)).mp z) (by omega), fun _ => ?_⟩
    simp only [t_rc hA, true_and]
    refine t_call (t' := tg (tset t 16 0 0) g) (r := m_word g i) (fun w K hk => tc_wordNow hA hi K hk) ?_
    rw [(nI_succ i).symm]
    exact hself _ _ ⟨rfl, by omega, _, rfl⟩
  · rintro v σ ⟨rfl, -, w, rfl⟩ self
    unfold B_X4_meanWord_9
    exact ⟨fun _ => ⟨hN, hK⟩, fun z => absurd ((nI_leI (a := 64) (b := 64) (by decide) (by omega)).mpr (Nat.le_refl _)) z⟩
def m_acct (t : Nat → Nat → Int32) (g : Nat → Int32) (x : Int32) : Int32 × Int32 :=
  if x = 0 then (0, g 0) else
  if x = 1 then (0, g 1) else
  if x = 2 then (0, g 2) else
  if x = 3 then (0, g 3) else
  if x = 4 then (0, g 4) else
  if x = 5 then (0, m_hold g 16) else
  if x = 6 then (0, m_sum (m_pinned g) 4) else
  if x = 7 then (0, m_dirty g) else
  if x = 8 then (0, g 283) else
  if x = 9 then (0, g 284) else
  if x = 10 then (0, g 285) else
  if x = 11 then (0, g 286) else
  if x = 12 then (0, g 287) else
  if x = 13 then (0, g 288) else
  if x = 14 then (0, g 289) else
  if x = 15 then (0, g 290) else
  if x = 16 then (0, g 291) else
  if x = 17 then (0, g 292) else
  if x = 18 then (0, t 8 0) else
  if x = 19 then (0, t 3 0) else
  (1, 0)
theorem tc_account (hA : tOK κ A) (x : Int32) (K : Int32 → xH → Prop) (hK : qAns (m_acct t g x) t A h g K) : P_X4_account κ (A 20) x (tput h A (tg t g), w) K := by
  unfold P_X4_account
  unfold m_acct at hK
  simp only [t_gi_8 hA, t_gi_3 hA, tg_o 8 0 (by decide), tg_o 3 0 (by decide)]
  refine ⟨fun z => ?_, fun z0 => ?_⟩
  · rw [if_pos z] at hK
    subst z; rw [t_gq_0 hA, t_nn, t_ag hA]; exact ⟨by unfold vp_in; decide, tc_qD hA K hK⟩
  refine ⟨fun z => ?_, fun z1 => ?_⟩
  · rw [if_neg z0, if_pos z] at hK
    subst z; rw [t_gq_0 hA, t_nn, t_ag hA]; exact ⟨by unfold vp_in; decide, tc_qD hA K hK⟩
  refine ⟨fun z => ?_, fun z2 => ?_⟩
  · rw [if_neg z0, if_neg z1, if_pos z] at hK
    subst z; rw [t_gq_0 hA, t_nn, t_ag hA]; exact ⟨by unfold vp_in; decide, tc_qD hA K hK⟩
  refine ⟨fun z => ?_, fun z3 => ?_⟩
  · rw [if_neg z0, if_neg z1, if_neg z2, if_pos z] at hK
    subst z; rw [t_gq_0 hA, t_nn, t_ag hA]; exact ⟨by unfold vp_in; decide, tc_qD hA K hK⟩
  refine ⟨fun z => ?_, fun z4 => ?_⟩
  · rw [if_neg z0, if_neg z1, if_neg z2, if_neg z3, if_pos z] at hK
    subst z; rw [t_gq_0 hA, t_nn, t_ag hA]; exact ⟨by unfold vp_in; decide, tc_qD hA K hK⟩
  refine ⟨fun z => ?_, fun z5 => ?_⟩
  · rw [if_neg z0, if_neg z1, if_neg z2, if_neg z3, if_neg z4, if_pos z] at hK
    simp only [t_rc hA, true_and]; exact t_call (t' := tg t g) (fun w K hk => tc_holding hA K hk) (tc_qD hA K hK)
  refine ⟨fun z => ?_, fun z6 => ?_⟩
  · rw [if_neg z0, if_neg z1, if_neg z2, if_neg z3, if_neg z4, if_neg z5, if_pos z] at hK
    simp only [t_rc hA, true_and]; exact t_call (t' := tg t g) (fun w K hk => tc_allPinned hA K hk) (tc_qD hA K hK)
  refine ⟨fun z => ?_, fun z7 => ?_⟩
  · rw [if_neg z0, if_neg z1, if_neg z2, if_neg z3, if_neg z4, if_neg z5, if_neg z6, if_pos z] at hK
    simp only [t_rc hA, true_and]; exact t_call (t' := tg t g) (fun w K hk => tc_dirtyWords hA K hk) (tc_qD hA K hK)
  refine ⟨fun z => ?_, fun z8 => ?_⟩
  · rw [if_neg z0, if_neg z1, if_neg z2, if_neg z3, if_neg z4, if_neg z5, if_neg z6, if_neg z7, if_pos z] at hK
    subst z; rw [t_gq_0 hA, t_nn, t_ag hA, show (283 : Int32) + 8 - 8 = nI 283 by decide]; exact ⟨nI_in (by omega) (by decide), by rw [c_n (by omega)]; exact tc_qD hA K hK⟩
  refine ⟨fun z => ?_, fun z9 => ?_⟩
  · rw [if_neg z0, if_neg z1, if_neg z2, if_neg z3, if_neg z4, if_neg z5, if_neg z6, if_neg z7, if_neg z8, if_pos z] at hK
    subst z; rw [t_gq_0 hA, t_nn, t_ag hA, show (283 : Int32) + 9 - 8 = nI 284 by decide]; exact ⟨nI_in (by omega) (by decide), by rw [c_n (by omega)]; exact tc_qD hA K hK⟩
  refine ⟨fun z => ?_, fun z10 => ?_⟩
  · rw [if_neg z0, if_neg z1, if_neg z2, if_neg z3, if_neg z4, if_neg z5, if_neg z6, if_neg z7, if_neg z8, if_neg z9, if_pos z] at hK
    subst z; rw [t_gq_0 hA, t_nn, t_ag hA, show (283 : Int32) + 10 - 8 = nI 285 by decide]; exact ⟨nI_in (by omega) (by decide), by rw [c_n (by omega)]; exact tc_qD hA K hK⟩
  refine ⟨fun z => ?_, fun z11 => ?_⟩
  · rw [if_neg z0, if_neg z1, if_neg z2, if_neg z3, if_neg z4, if_neg z5, if_neg z6, if_neg z7, if_neg z8, if_neg z9, if_neg z10, if_pos z] at hK
    subst z; rw [t_gq_0 hA, t_nn, t_ag hA, show (283 : Int32) + 11 - 8 = nI 286 by decide]; exact ⟨nI_in (by omega) (by decide), by rw [c_n (by omega)]; exact tc_qD hA K hK⟩
  refine ⟨fun z => ?_, fun z12 => ?_⟩
  · rw [if_neg z0, if_neg z1, if_neg z2, if_neg z3, if_neg z4, if_neg z5, if_neg z6, if_neg z7, if_neg z8, if_neg z9, if_neg z10, if_neg z11, if_pos z] at hK
    subst z; rw [t_gq_0 hA, t_nn, t_ag hA, show (283 : Int32) + 12 - 8 = nI 287 by decide]; exact ⟨nI_in (by omega) (by decide), by rw [c_n (by omega)]; exact tc_qD hA K hK⟩
  refine ⟨fun z => ?_, fun z13 => ?_⟩
  · rw [if_neg z0, if_neg z1, if_neg z2, if_neg z3, if_neg z4, if_neg z5, if_neg z6, if_neg z7, if_neg z8, if_neg z9, if_neg z10, if_neg z11, if_neg z12, if_pos z] at hK
    subst z; rw [t_gq_0 hA, t_nn, t_ag hA, show (283 : Int32) + 13 - 8 = nI 288 by decide]; exact ⟨nI_in (by omega) (by decide), by rw [c_n (by omega)]; exact tc_qD hA K hK⟩
  refine ⟨fun z => ?_, fun z14 => ?_⟩
  · rw [if_neg z0, if_neg z1, if_neg z2, if_neg z3, if_neg z4, if_neg z5, if_neg z6, if_neg z7, if_neg z8, if_neg z9, if_neg z10, if_neg z11, if_neg z12, if_neg z13, if_pos z] at hK
    subst z; rw [t_gq_0 hA, t_nn, t_ag hA, show (283 : Int32) + 14 - 8 = nI 289 by decide]; exact ⟨nI_in (by omega) (by decide), by rw [c_n (by omega)]; exact tc_qD hA K hK⟩
  refine ⟨fun z => ?_, fun z15 => ?_⟩
  · rw [if_neg z0, if_neg z1, if_neg z2, if_neg z3, if_neg z4, if_neg z5, if_neg z6, if_neg z7, if_neg z8, if_neg z9, if_neg z10, if_neg z11, if_neg z12, if_neg z13, if_neg z14, if_pos z] at hK
    subst z; rw [t_gq_0 hA, t_nn, t_ag hA, show (283 : Int32) + 15 - 8 = nI 290 by decide]; exact ⟨nI_in (by omega) (by decide), by rw [c_n (by omega)]; exact tc_qD hA K hK⟩
  refine ⟨fun z => ?_, fun z16 => ?_⟩
  · rw [if_neg z0, if_neg z1, if_neg z2, if_neg z3, if_neg z4, if_neg z5, if_neg z6, if_neg z7, if_neg z8, if_neg z9, if_neg z10, if_neg z11, if_neg z12, if_neg z13, if_neg z14, if_neg z15, if_pos z] at hK
    subst z; rw [t_gq_0 hA, t_nn, t_ag hA, show (283 : Int32) + 16 - 8 = nI 291 by decide]; exact ⟨nI_in (by omega) (by decide), by rw [c_n (by omega)]; exact tc_qD hA K hK⟩
  refine ⟨fun z => ?_, fun z17 => ?_⟩
  · rw [if_neg z0, if_neg z1, if_neg z2, if_neg z3, if_neg z4, if_neg z5, if_neg z6, if_neg z7, if_neg z8, if_neg z9, if_neg z10, if_neg z11, if_neg z12, if_neg z13, if_neg z14, if_neg z15, if_neg z16, if_pos z] at hK
    subst z; rw [t_gq_0 hA, t_nn, t_ag hA, show (283 : Int32) + 17 - 8 = nI 292 by decide]; exact ⟨nI_in (by omega) (by decide), by rw [c_n (by omega)]; exact tc_qD hA K hK⟩
  refine ⟨fun z => ?_, fun z18 => ?_⟩
  · rw [if_neg z0, if_neg z1, if_neg z2, if_neg z3, if_neg z4, if_neg z5, if_neg z6, if_neg z7, if_neg z8, if_neg z9, if_neg z10, if_neg z11, if_neg z12, if_neg z13, if_neg z14, if_neg z15, if_neg z16, if_neg z17, if_pos z] at hK
    exact tc_qD hA K hK
  refine ⟨fun z => ?_, fun z19 => ?_⟩
  · rw [if_neg z0, if_neg z1, if_neg z2, if_neg z3, if_neg z4, if_neg z5, if_neg z6, if_neg z7, if_neg z8, if_neg z9, if_neg z10, if_neg z11, if_neg z12, if_neg z13, if_neg z14, if_neg z15, if_neg z16, if_neg z17, if_neg z18, if_pos z] at hK
    exact tc_qD hA K hK
  rw [if_neg z0, if_neg z1, if_neg z2, if_neg z3, if_neg z4, if_neg z5, if_neg z6, if_neg z7, if_neg z8, if_neg z9, if_neg z10, if_neg z11, if_neg z12, if_neg z13, if_neg z14, if_neg z15, if_neg z16, if_neg z17, if_neg z18, if_neg z19] at hK
  exact tc_qF hA K hK
def m_allB (p : Nat → Bool) : Nat → Bool
  | 0 => true
  | n + 1 => m_allB p n && p n
/-- line a, which holds block b: a word that is not dirty is the store's -/
def m_cleanW (g : Nat → Int32) (a b k : Nat) : Bool := b_at (g (89 + a)) k || decide (g (169 + 4 * a + k) = g (5 + 4 * b + k))
theorem bI_nar' (b : Bool) : narrow .boolean (.int (bI b)) = .int (bI b) := bI_nar b
theorem tc_isLineRight (hA : tOK κ A) (hLI : LI g) {a : Nat} (ha : a < 16) (K : Int32 → xH → Prop) (hK : K (bI (decide (g (73 + a) = -1) || m_allB (m_cleanW g a (m_blk g a)) 4)) (tput h A (tg t g))) : P_X4_isLineRight κ (A 20) (nI a) (tput h A (tg t g), w) K := by
  unfold P_X4_isLineRight
  rcases (hLI a ha).1 with z0 | ⟨hb, hb2⟩
  · refine xw_go 1 ?_
    unfold xloop B_X4_isLineRight_4
    refine ⟨fun z => absurd z (by show ¬ (4 : Int32) ≤ 0; decide), fun _ => ?_⟩
    simp (disch := omega) only [t_gq_0 hA, t_nn, t_ag hA, t_sg hA, t_rc hA, vi_n, c_n, true_and, a_5, a_69, a_73, a_89, a_105, a_121, a_137, a_153, a_169, a_235, a_251, a_267, a_286, a_293, a_283, a_m4, nI_add, t_l0, i_0, l_1, i_1, l_2, i_2, l_3, i_3, l_4, i_4, l_5, i_5, l_6, i_6, l_16, i_16, l_233, i_233, l_234, i_234, l_235, i_235, l_283, i_283, l_284, i_284, l_285, i_285, l_289, i_289, l_290, i_290, l_291, i_291, l_292, i_292]
    rw [z0] at hK
    exact ⟨fun _ => ⟨rfl, hK⟩, fun z => absurd z0 z⟩
  · have hne : ¬ g (73 + a) = -1 := by rw [hb2]; exact nI_ne _ (by omega)
    generalize m_blk g a = b at hK hb hb2
    have hK : K (bI (m_allB (m_cleanW g a b) 4)) (tput h A (tg t g)) := by simpa [hne] using hK
    refine x_for 4 (fun i v σ => v = (bI (m_allB (m_cleanW g a b) i), nI i) ∧ i ≤ 4 ∧ σ = (tput h A (tg t g), w)) ?_ ?_ ⟨rfl, by omega, rfl⟩
    · rintro i v σ ⟨rfl, -, rfl⟩ hi self hself
      unfold B_X4_isLineRight_4
      have nx : ∀ x : Bool, m_allB (m_cleanW g a b) (i + 1) = x → self (bI x, nI i + 1) (tput h A (tg t g), w) := fun x hx => by
        rw [(nI_succ i).symm, ← hx]
        exact hself _ _ ⟨rfl, by omega, rfl⟩
      have n0 : m_allB (m_cleanW g a b) (i + 1) = false → self (0, nI i + 1) (tput h A (tg t g), w) := nx false
      have n1 : m_allB (m_cleanW g a b) (i + 1) = true → self (1, nI i + 1) (tput h A (tg t g), w) := nx true
      refine ⟨fun z => absurd ((nI_leI (a := 4) (b := i) (by decide) (by omega)).mp z) (by omega), fun _ => ?_⟩
      simp (disch := omega) only [t_gq_0 hA, t_nn, t_ag hA, t_sg hA, t_rc hA, vi_n, c_n, true_and, a_5, a_69, a_73, a_89, a_105, a_121, a_137, a_153, a_169, a_235, a_251, a_267, a_286, a_293, a_283, a_m4, nI_add, t_l0, i_0, l_1, i_1, l_2, i_2, l_3, i_3, l_4, i_4, l_5, i_5, l_6, i_6, l_16, i_16, l_233, i_233, l_234, i_234, l_235, i_235, l_283, i_283, l_284, i_284, l_285, i_285, l_289, i_289, l_290, i_290, l_291, i_291, l_292, i_292, hb2, bI_0]
      refine ⟨fun z => absurd z (nI_ne b (by omega)), fun _ => ⟨fun z => ⟨fun y => n0 (by simp [m_allB, y]), fun y => ⟨fun u => absurd u (by decide), fun _ => n1 (by simp [m_allB, m_cleanW, b_at, z]; simpa using y)⟩⟩, fun z => ⟨fun y => n0 (by simp [m_allB, y]), fun y => ⟨fun _ => ⟨fun u => n1 (by simp [m_allB, m_cleanW, u]; simpa using y), fun u => n0 (by simp [m_allB, m_cleanW, b_at, z, u])⟩, fun u => absurd trivial u⟩⟩⟩⟩
    · rintro v σ ⟨rfl, -, rfl⟩ self
      unfold B_X4_isLineRight_4
      exact ⟨fun _ => ⟨bI_nar _, hK⟩, fun z => absurd ((nI_leI (a := 4) (b := 4) (by decide) (by omega)).mpr (Nat.le_refl _)) z⟩
def m_balP (g : Nat → Int32) (a : Nat) : Bool := (decide (g (73 + a) = -1) || m_allB (m_cleanW g a (m_blk g a)) 4) && (decide (g (73 + a) = -1) || decide (m_lineWith g (g (73 + a)) = nI a))
def m_balanced (g : Nat → Int32) : Bool := decide (g 283 + g 284 = ((g 285 + g 286) + g 287) + g 288) && m_allB (m_balP g) 16
theorem tc_balGo (hA : tOK κ A) (hLI : LI g) (b : Bool) (K : Int32 → xH → Prop) (hK : K (bI (b && m_allB (m_balP g) 16)) (tput h A (tg t g))) : xwhile (B_X4_isBalanced_68 κ K (A 20)) (bI b, (0 : Int32)) (tput h A (tg t g), w) := by
  refine x_for 16 (fun i v σ => v = (bI (b && m_allB (m_balP g) i), nI i) ∧ i ≤ 16 ∧ ∃ w, σ = (tput h A (tg t g), w)) ?_ ?_ ⟨by simp [m_allB, nI_0], by omega, _, rfl⟩
  · rintro i v σ ⟨rfl, -, w, rfl⟩ hi self hself
    unfold B_X4_isBalanced_68
    have nx : ∀ (x : Bool) (w : Nat × Nat), (b && m_allB (m_balP g) (i + 1)) = x → self (bI x, nI i + 1) (tput h A (tg t g), w) := fun x w hx => by
      rw [(nI_succ i).symm, ← hx]
      exact hself _ _ ⟨rfl, by omega, _, rfl⟩
    have n0 : ∀ w, (b && m_allB (m_balP g) (i + 1)) = false → self (0, nI i + 1) (tput h A (tg t g), w) := nx false
    have n1 : ∀ w, (b && m_allB (m_balP g) (i + 1)) = true → self (1, nI i + 1) (tput h A (tg t g), w) := nx true
    refine ⟨fun z => absurd ((nI_leI (a := 16) (b := i) (by decide) (by omega)).mp z) (by omega), fun _ => ⟨fun y => n0 _ ?_, fun y => ?_⟩⟩
    · have y := (bI_0 _).mp y
      simp only [m_allB, ← Bool.and_assoc, y, Bool.false_and]
    · have y := bI_c y
      simp only [m_allB, ← Bool.and_assoc, y, Bool.true_and] at n0 n1
      unfold m_balP at n0 n1
      simp only [t_rc hA, true_and]
      refine t_call (t' := tg t g) (r := bI (decide (g (73 + i) = -1) || m_allB (m_cleanW g i (m_blk g i)) 4)) (fun w K hk => tc_isLineRight hA hLI hi K hk) ?_
      refine ⟨fun x => n0 _ (by rw [(bI_0 _).mp x, Bool.false_and]), fun x => ?_⟩
      have x := bI_c x
      rw [x, Bool.true_and] at n0 n1
      simp (disch := omega) only [t_gq_0 hA, t_nn, t_ag hA, t_sg hA, t_rc hA, vi_n, c_n, true_and, a_5, a_69, a_73, a_89, a_105, a_121, a_137, a_153, a_169, a_235, a_251, a_267, a_286, a_293, a_283, a_m4, nI_add, t_l0, i_0, l_1, i_1, l_2, i_2, l_3, i_3, l_4, i_4, l_5, i_5, l_6, i_6, l_16, i_16, l_233, i_233, l_234, i_234, l_235, i_235, l_283, i_283, l_284, i_284, l_285, i_285, l_289, i_289, l_290, i_290, l_291, i_291, l_292, i_292]
      refine ⟨fun u => n1 _ (by simp [u]), fun u => ?_⟩
      refine t_call (t' := tg t g) (r := m_lineWith g (g (73 + i))) (fun w K hk => tc_lineWith hA _ K hk) ?_
      exact ⟨fun v => n1 _ (by simp [v]), fun v => n0 _ (by simp [u, v])⟩
  · rintro v σ ⟨rfl, -, w, rfl⟩ self
    unfold B_X4_isBalanced_68
    exact ⟨fun _ => ⟨bI_nar _, hK⟩, fun z => absurd ((nI_leI (a := 16) (b := 16) (by decide) (by omega)).mpr (Nat.le_refl _)) z⟩
theorem tc_isBalanced (hA : tOK κ A) (hLI : LI g) (K : Int32 → xH → Prop) (hK : K (bI (m_balanced g)) (tput h A (tg (tset t 16 0 0) g))) : P_X4_isBalanced κ (A 20) (tput h A (tg t g), w) K := by
  unfold P_X4_isBalanced
  unfold m_balanced at hK
  have i6 : vp_in (286 : Int32) 357 ↔ True := iff_true_intro (by unfold vp_in; decide)
  have i7 : vp_in (287 : Int32) 357 ↔ True := iff_true_intro (by unfold vp_in; decide)
  have i8 : vp_in (288 : Int32) 357 ↔ True := iff_true_intro (by unfold vp_in; decide)
  have l6 : ((286 : Int32)).toNatClampNeg = 286 := by decide
  have l7 : ((287 : Int32)).toNatClampNeg = 287 := by decide
  have l8 : ((288 : Int32)).toNatClampNeg = 288 := by decide
  rw [t_pi_16 hA, tg_setk _ _ (by decide)]
  simp only [t_gq_0 hA, t_nn, t_ag hA, i_283, l_283, i_284, l_284, i_285, l_285, i6, i7, i8, l6, l7, l8, true_and]
  refine ⟨fun z => ?_, fun z => ?_⟩
  · exact tc_balGo hA hLI true K (by simpa [z] using hK)
  · exact tc_balGo hA hLI false K (by simpa [z] using hK)
/-- the last copy, back -/
def m_undo (t : Nat → Nat → Int32) (c : Nat) : Nat → Int32 := fun j => if j < 357 then t 2 (c * 357 + j) else 0
theorem tc_undo (hA : tOK κ A) (hz : z357 g) (h3 : t 3 0 = nI c) (hc8 : c ≤ 8) (K : Int32 → xH → Prop) (hK : if c = 0 then qAns (1, 0) t A h g K else K (nI (c - 1)) (tput h A (tg (tset (tset t 3 0 (nI (c - 1))) 16 0 0) (m_undo t (c - 1))))) : P_X4_undo κ (A 20) (tput h A (tg t g), w) K := by
  unfold P_X4_undo
  have e3 : tg t g 3 0 = nI c := h3
  have e0 : nI c = 0 ↔ c = 0 := nI_eq (b := 0) (by omega) (by decide)
  rw [t_gi_3 hA, t_gi_3 hA, e3, e0]
  refine ⟨fun z => ?_, fun z => ?_⟩
  · rw [if_pos z] at hK; exact tc_qF hA K hK
  · rw [if_neg z] at hK
    have e4 : tg (tset t 3 0 (nI (c - 1))) g 3 0 = nI (c - 1) := by simp [tg, tset]
    have e5 : nI (c - 1) * (357 : Int32) = nI ((c - 1) * 357) := nI_mul _ 357
    rw [nI_m1 (by omega), t_pi_3 hA, tg_setk _ _ (by decide), t_gq_2 hA, t_gi_3 hA, t_gq_0 hA, e4, e5]
    refine t_call (t' := tg (tset t 3 0 (nI (c - 1))) (m_undo t (c - 1))) (r := ()) (fun w K hk => tc_copyG (o1 := (c - 1) * 357) (o2 := 0) (na := 2856) (nb := 357) (fun t w i K => t_ai_2 hA) (fun t w i v K => t_si_0 hA) (by decide) (by omega) (by decide) (by decide) (by decide) K ?_) ?_
    · have e : tcp (tg (tset t 3 0 (nI (c - 1))) g) 2 0 ((c - 1) * 357) 0 357 = tg (tset t 3 0 (nI (c - 1))) (m_undo t (c - 1)) := by
        funext k j
        simp only [tcp, tg, m_undo]
        by_cases h1 : k = 0
        · by_cases h2 : j < 357
          · simp [h1, h2, tset, m_undo]
          · simp [h1, h2, hz j (by omega), m_undo]
        · simp [h1]
      rw [e]
      exact hk
    · have e6 : tg (tset t 3 0 (nI (c - 1))) (m_undo t (c - 1)) 3 0 = nI (c - 1) := by simp [tg, tset]
      rw [t_gi_3 hA, e6]
      exact tc_qD hA K hK
theorem tc_save (hA : tOK κ A) (hz : z357 g) (hz4 : z357 (t 4)) (K : Int32 → xH → Prop) (hK : qAns (0, g 0) (tset (tsk t 4 g) 5 0 1) A h g K) : P_X4_save κ (A 20) (tput h A (tg t g), w) K := by
  unfold P_X4_save
  rw [t_gq_0 hA, t_gq_4 hA]
  refine t_call (r := ()) (fun w K hk => tc_copyG (o1 := 0) (o2 := 0) (na := 357) (nb := 357) (fun t w i K => t_ai_0 hA) (fun t w i v K => t_si_4 hA) (by decide) (by decide) (by decide) (by decide) (by decide) K hk) ?_
  rw [tcp_all (by exact hz) (by exact hz4), tsk_tg (by decide), t_pi_5 hA, tg_setk _ _ (by decide), t_gq_0 hA, t_nn, t_ag hA, t_l0]
  exact ⟨t_i0, tc_qD hA K hK⟩
theorem tc_restore (hA : tOK κ A) (hz : z357 g) (hz4 : z357 (t 4)) (K : Int32 → xH → Prop) (hK : if t 5 0 = 0 then qAns (1, 0) t A h g K else qAns (0, t 4 0) (tset t 3 0 0) A h (t 4) K) : P_X4_restore κ (A 20) (tput h A (tg t g), w) K := by
  unfold P_X4_restore
  rw [t_gi_5 hA, tg_o _ _ (by decide)]
  refine ⟨fun z => ?_, fun z => ?_⟩
  · rw [if_pos z] at hK; exact tc_qF hA K hK
  · rw [if_neg z] at hK
    rw [t_gq_4 hA, t_gq_0 hA]
    refine t_call (r := ()) (fun w K hk => tc_copyG (o1 := 0) (o2 := 0) (na := 357) (nb := 357) (fun t w i K => t_ai_4 hA) (fun t w i v K => t_si_0 hA) (by decide) (by decide) (by decide) (by decide) (by decide) K hk) ?_
    rw [tcp_all (by exact hz4) (by exact hz), tsk_tg0, t_pi_3 hA, tg_setk _ _ (by decide), t_gq_0 hA, t_nn, t_ag hA, t_l0]
    exact ⟨t_i0, tc_qD hA K hK⟩
end U15
