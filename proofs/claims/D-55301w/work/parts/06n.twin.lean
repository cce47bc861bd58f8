section U5
variable {κ A : Nat → Nat} {h : xH} {t : Nat → Nat → Int32} {g : Nat → Int32} {w : Nat × Nat} {s l r : Nat}
def m_sum (f : Nat → Int32) : Nat → Int32
  | 0 => 0
  | n + 1 => m_sum f n + f n
def m_pinned (g : Nat → Int32) (q : Nat) : Int32 := m_sum (fun k => g (105 + 4 * q + k)) 4
theorem tc_pinnedIn (hA : tOK κ A) {q : Nat} (hq : q < 4) (K : Int32 → xH → Prop) (hK : K (m_pinned g q) (tput h A (tg t g))) : P_X4_pinnedIn κ (A 20) (nI q) (tput h A (tg t g), w) K := by
  unfold P_X4_pinnedIn
  refine x_for 4 (fun i v σ => v = (m_sum (fun k => g (105 + 4 * q + k)) i, nI i) ∧ i ≤ 4 ∧ σ = (tput h A (tg t g), w)) ?_ ?_ ⟨rfl, by omega, rfl⟩
  · rintro i v σ ⟨rfl, -, rfl⟩ hi self hself
    unfold B_X4_pinnedIn_4
    refine ⟨fun z => absurd ((nI_leI (a := 4) (b := i) (by decide) (by omega)).mp z) (by omega), fun _ => ?_⟩
    simp (disch := omega) only [t_gq_0 hA, t_nn, t_ag hA, t_sg hA, t_rc hA, vi_n, c_n, true_and, a_5, a_69, a_73, a_89, a_105, a_121, a_137, a_153, a_169, a_235, a_251, a_267, a_286, a_293, a_283, a_m4, nI_add, t_l0, i_0, l_1, i_1, l_2, i_2, l_3, i_3, l_4, i_4, l_5, i_5, l_6, i_6, l_16, i_16, l_233, i_233, l_234, i_234, l_235, i_235, l_283, i_283, l_284, i_284, l_285, i_285, l_289, i_289, l_290, i_290, l_291, i_291, l_292, i_292]
    rw [(nI_succ i).symm]
    exact hself _ _ ⟨rfl, by omega, rfl⟩
  · rintro v σ ⟨rfl, -, rfl⟩ self
    unfold B_X4_pinnedIn_4
    exact ⟨fun _ => hK, fun z => absurd ((nI_leI (a := 4) (b := 4) (by decide) (by omega)).mpr (Nat.le_refl _)) z⟩
def m_pins (g : Nat → Int32) (x is : Int32) : mO :=
  if m_in x 0 15 then match m_lw g x.toNatClampNeg with
    | none => .inl (3, x)
    | some a => if g (105 + a) = is then .inl (if is = 1 then 4 else 5, nI (a % 4)) else .inr (m_pinned (upd g (105 + a) is) (a / 4), upd g (105 + a) is)
  else .inl (1, x)
theorem tc_pins (hA : tOK κ A) (x is : Int32) (K : Int32 → xH → Prop) (hK : mAns (m_pins g x is) t A h g K) : P_X4_pins κ (A 20) x is (tput h A (tg t g), w) K := by
  unfold P_X4_pins
  unfold m_pins at hK
  refine t_pure (r := bI (m_in x 0 15)) (fun τ K hk => tc_isBlock x τ K hk) ?_
  cases hi : m_in x 0 15 with
  | false =>
    rw [hi] at hK
    refine ⟨fun _ => ?_, fun z => absurd rfl z⟩
    simp only [t_rc hA, true_and]
    exact t_call (t' := tg (tRef t 1 x) g) (r := 0) (fun w K hk => tc_refused hA _ _ K hk) hK
  | true =>
    rw [hi] at hK
    obtain ⟨k, rfl, hk⟩ := m_inI (c := 15) (by decide) hi
    refine ⟨fun z => absurd z (by decide), fun _ => ?_⟩
    simp only [if_true, c_n (show k < 2 ^ 31 by omega)] at hK
    simp only [t_rc hA, true_and]
    refine t_call (t' := tg t g) (r := m_lineWith g (nI k)) (fun w K hk => tc_lineWith hA _ K hk) ?_
    rw [m_lw_I]
    cases hq : m_lw g k with
    | none =>
      rw [hq] at hK
      refine ⟨fun _ => ?_, fun z => absurd rfl z⟩
      simp only [t_rc hA, true_and]
      exact t_call (t' := tg (tRef t 3 (nI k)) g) (r := 0) (fun w K hk => tc_refused hA _ _ K hk) hK
    | some a =>
      rw [hq] at hK
      have ha : a < 16 := (m_lw_lt hq).1
      refine ⟨fun z => absurd z (nI_ne a (by omega)), fun _ => ?_⟩
      simp (disch := omega) only [t_gq_0 hA, t_nn, t_ag hA, t_sg hA, t_rc hA, vi_n, c_n, true_and, a_5, a_69, a_73, a_89, a_105, a_121, a_137, a_153, a_169, a_235, a_251, a_267, a_286, a_293, a_283, a_m4, nI_add, t_l0, i_0, l_1, i_1, l_2, i_2, l_3, i_3, l_4, i_4, l_5, i_5, l_6, i_6, l_16, i_16, l_233, i_233, l_234, i_234, l_235, i_235, l_283, i_283, l_284, i_284, l_285, i_285, l_289, i_289, l_290, i_290, l_291, i_291, l_292, i_292, oI, m_mod4 a (by omega), m_mod5 a (by omega), m_div4 a (by omega)]
      refine ⟨fun h1 => ?_, fun h1 => ?_⟩
      · simp only [h1, if_true] at hK
        refine ⟨fun h2 => ?_, fun h2 => ?_⟩
        · simp only [h2, if_true] at hK
          exact t_call (r := 0) (fun w K hk => tc_refused hA _ _ K hk) hK
        · simp only [h2, if_false] at hK
          exact t_call (r := 0) (fun w K hk => tc_refused hA _ _ K hk) hK
      · simp only [h1, if_false] at hK
        refine t_call (t' := tg t (upd g (105 + a) is)) (r := m_pinned (upd g (105 + a) is) (a / 4)) (fun w K hk => tc_pinnedIn hA (by omega) K hk) ?_
        simp only [t_rc hA, true_and]
        exact t_call (t' := tg (tset t 16 0 0) _) (fun w K hk => tc_done hA _ K hk) hK
def m_dirty (g : Nat → Int32) : Int32 := m_sum (fun a => m_ones (g (89 + a))) 16
theorem tc_dirtyWords (hA : tOK κ A) (K : Int32 → xH → Prop) (hK : K (m_dirty g) (tput h A (tg t g))) : P_X4_dirtyWords κ (A 20) (tput h A (tg t g), w) K := by
  unfold P_X4_dirtyWords
  refine x_for 16 (fun i v σ => v = (m_sum (fun a => m_ones (g (89 + a))) i, nI i) ∧ i ≤ 16 ∧ σ = (tput h A (tg t g), w)) ?_ ?_ ⟨rfl, by omega, rfl⟩
  · rintro i v σ ⟨rfl, -, rfl⟩ hi self hself
    unfold B_X4_dirtyWords_4
    refine ⟨fun z => absurd ((nI_leI (a := 16) (b := i) (by decide) (by omega)).mp z) (by omega), fun _ => ?_⟩
    simp (disch := omega) only [t_gq_0 hA, t_nn, t_ag hA, t_sg hA, t_rc hA, vi_n, c_n, true_and, a_5, a_69, a_73, a_89, a_105, a_121, a_137, a_153, a_169, a_235, a_251, a_267, a_286, a_293, a_283, a_m4, nI_add, t_l0, i_0, l_1, i_1, l_2, i_2, l_3, i_3, l_4, i_4, l_5, i_5, l_6, i_6, l_16, i_16, l_233, i_233, l_234, i_234, l_235, i_235, l_283, i_283, l_284, i_284, l_285, i_285, l_289, i_289, l_290, i_290, l_291, i_291, l_292, i_292]
    refine t_pure (r := m_ones (g (89 + i))) (fun τ K hk => tc_ones _ τ K hk) ?_
    rw [(nI_succ i).symm]
    exact hself _ _ ⟨rfl, by omega, rfl⟩
  · rintro v σ ⟨rfl, -, rfl⟩ self
    unfold B_X4_dirtyWords_4
    exact ⟨fun _ => hK, fun z => absurd ((nI_leI (a := 16) (b := 16) (by decide) (by omega)).mpr (Nat.le_refl _)) z⟩
def m_wA (p : Int32 × (Nat → Int32)) (a : Nat) : Int32 × (Nat → Int32) := (p.1 + m_ones (p.2 (89 + a)), m_wB p.2 a (m_blk p.2 a))
def m_wAin (p : Int32 × (Nat → Int32)) (q : Nat) : Nat → Int32 × (Nat → Int32)
  | 0 => p
  | k + 1 => m_wA (m_wAin p q k) (4 * q + k)
def m_wAll (p : Int32 × (Nat → Int32)) (l : Nat) : Nat → Int32 × (Nat → Int32)
  | 0 => p
  | q + 1 => m_wAin (m_wAll p l q) q l
theorem m_ones0 : m_ones 0 = 0 := by decide
theorem m_wb_89 (g : Nat → Int32) (a o : Nat) : m_wb g a o (89 + a) = 0 ∨ a = 200 := by
  by_cases ha : a = 200
  · exact Or.inr ha
  · left
    simp only [m_wb]
    rw [upd_ne (by omega), upd_eq]
theorem TI_wB {a : Nat} (ha : a < 16) (hT : TI g s l r) : TI (m_wB g a (m_blk g a)) s l r := by
  obtain ⟨⟨hr, hr16⟩, ⟨hs, h1, h4⟩, ⟨hl, hl4⟩, hB⟩ := hT
  have o := fun j => m_wB_o g a (m_blk g a) j (fun z => (hB a ha z).1)
  refine ⟨⟨by rw [o _ (by omega) (by omega) (by omega) (by omega)]; exact hr, hr16⟩, ⟨by rw [m_wB_low _ _ _ _ (by omega) (by omega)]; exact hs, h1, h4⟩, ⟨by rw [m_wB_low _ _ _ _ (by omega) (by omega)]; exact hl, hl4⟩, fun c hc hn => ?_⟩
  have e : m_wB g a (m_blk g a) (73 + c) = g (73 + c) := o _ (by omega) (by omega) (by omega) (by omega)
  have e2 : m_blk (m_wB g a (m_blk g a)) c = m_blk g c := by show (m_wB g a (m_blk g a) (73 + c)).toNatClampNeg = _; rw [e]; rfl
  rw [e, e2]
  refine hB c hc ?_
  by_cases hac : c = a
  · subst hac
    by_cases h0 : m_ones (g (89 + c)) = 0
    · unfold m_wB at hn
      rw [if_pos h0] at hn
      exact hn
    · exact h0
  · rw [o _ (by omega) (by omega) (by omega) (by omega)] at hn
    exact hn
theorem TI_wA {a : Nat} {p : Int32 × (Nat → Int32)} (ha : a < 16) (hT : TI p.2 s l r) : TI (m_wA p a).2 s l r := TI_wB ha hT
theorem TI_wAin {q : Nat} (hq : q < 4) {p : Int32 × (Nat → Int32)} (hT : TI p.2 s l r) : ∀ k, k ≤ 4 → TI (m_wAin p q k).2 s l r := by
  intro k
  induction k with
  | zero => intro _; exact hT
  | succ k ih => intro hk; exact TI_wA (by omega) (ih (by omega))
theorem TI_wAll {p : Int32 × (Nat → Int32)} (hT : TI p.2 s l r) : ∀ q, q ≤ 4 → TI (m_wAll p l q).2 s l r := by
  intro q
  induction q with
  | zero => intro _; exact hT
  | succ q ih => intro hq; exact TI_wAin (by omega) (ih (by omega)) l hT.2.2.1.2
theorem tc_writesAllBack (hA : tOK κ A) (hT : TI g s l r) (K : Int32 → xH → Prop) (hK : K (m_wAll (0, g) l s).1 (tput h A (tg t (m_wAll (0, g) l s).2))) : P_X4_writesAllBack κ (A 20) (tput h A (tg t g), w) K := by
  have h4 := hT.2.1.2.2
  have hl4 := hT.2.2.1.2
  unfold P_X4_writesAllBack
  refine x_for s (fun q v σ => v = ((m_wAll (0, g) l q).1, nI q) ∧ q ≤ s ∧ ∃ w, σ = (tput h A (tg t (m_wAll (0, g) l q).2), w)) ?_ ?_ ⟨rfl, by omega, _, rfl⟩
  · rintro q v σ ⟨rfl, -, w, rfl⟩ hq self hself
    have hT' : TI (m_wAll (0, g) l q).2 s l r := TI_wAll (p := (0, g)) hT q (by omega)
    unfold B_X4_writesAllBack_4
    simp only [t_gq_0 hA, t_nn, t_ag hA, i_1, l_1, true_and, hT'.2.1.1]
    refine ⟨fun z => absurd ((nI_leI (by omega) (by omega)).mp z) (by omega), fun _ => ?_⟩
    refine x_for l (fun k v σ => v = ((m_wAin (m_wAll (0, g) l q) q k).1, nI k) ∧ k ≤ l ∧ ∃ w, σ = (tput h A (tg t (m_wAin (m_wAll (0, g) l q) q k).2), w)) ?_ ?_ ⟨rfl, by omega, _, rfl⟩
    · rintro k v σ ⟨rfl, -, w, rfl⟩ hk self2 hself2
      have hT2 : TI (m_wAin (m_wAll (0, g) l q) q k).2 s l r := TI_wAin (by omega) hT' k (by omega)
      unfold B_X4_writesAllBack_16
      simp (disch := omega) only [t_gq_0 hA, t_nn, t_ag hA, t_sg hA, t_rc hA, vi_n, c_n, true_and, a_5, a_69, a_73, a_89, a_105, a_121, a_137, a_153, a_169, a_235, a_251, a_267, a_286, a_293, a_283, a_m4, nI_add, t_l0, i_0, l_1, i_1, l_2, i_2, l_3, i_3, l_4, i_4, l_5, i_5, l_6, i_6, l_16, i_16, l_233, i_233, l_234, i_234, l_235, i_235, l_283, i_283, l_284, i_284, l_285, i_285, l_289, i_289, l_290, i_290, l_291, i_291, l_292, i_292, hT2.2.2.1.1]
      refine ⟨fun z => absurd ((nI_leI (by omega) (by omega)).mp z) (by omega), fun _ => ?_⟩
      refine t_call (r := m_ones ((m_wAin (m_wAll (0, g) l q) q k).2 (89 + (4 * q + k)))) (fun w K hk => tc_writesBack hA (by omega) (hT2.2.2.2 _ (by omega)) K hk) ?_
      rw [(nI_succ k).symm]
      exact hself2 _ _ ⟨rfl, by omega, _, rfl⟩
    · rintro v σ ⟨rfl, -, w, rfl⟩ self2
      have hT2 : TI (m_wAin (m_wAll (0, g) l q) q l).2 s l r := TI_wAin (by omega) hT' l (by omega)
      unfold B_X4_writesAllBack_16
      simp only [t_gq_0 hA, t_nn, t_ag hA, i_2, l_2, true_and, hT2.2.2.1.1]
      refine ⟨fun _ => ?_, fun z => absurd ((nI_leI (by omega) (by omega)).mpr (Nat.le_refl _)) z⟩
      rw [(nI_succ q).symm]
      exact hself _ _ ⟨rfl, by omega, _, rfl⟩
  · rintro v σ ⟨rfl, -, w, rfl⟩ self
    have hT' : TI (m_wAll (0, g) l s).2 s l r := TI_wAll (p := (0, g)) hT s (by omega)
    unfold B_X4_writesAllBack_4
    simp only [t_gq_0 hA, t_nn, t_ag hA, i_1, l_1, true_and, hT'.2.1.1]
    exact ⟨fun _ => hK, fun z => absurd ((nI_leI (by omega) (by omega)).mpr (Nat.le_refl _)) z⟩
def m_flushes (g : Nat → Int32) (s l : Nat) : mO := if m_dirty g = 0 then .inl (6, 0) else .inr (m_wAll (0, g) l s)
theorem tc_flushes (hA : tOK κ A) (hT : TI g s l r) (K : Int32 → xH → Prop) (hK : mAns (m_flushes g s l) t A h g K) : P_X4_flushes κ (A 20) (tput h A (tg t g), w) K := by
  unfold P_X4_flushes
  unfold m_flushes at hK
  simp only [t_rc hA, true_and]
  refine t_call (t' := tg t g) (r := m_dirty g) (fun w K hk => tc_dirtyWords hA K hk) ?_
  refine ⟨fun h1 => ?_, fun h1 => ?_⟩
  · simp only [h1, if_true] at hK
    simp only [t_rc hA, true_and]
    exact t_call (r := 0) (fun w K hk => tc_refused hA _ _ K hk) hK
  · simp only [h1, if_false] at hK
    simp only [t_rc hA, true_and]
    refine t_call (t' := tg t (m_wAll (0, g) l s).2) (r := (m_wAll (0, g) l s).1) (fun w K hk => tc_writesAllBack hA hT K hk) ?_
    simp only [t_rc hA, true_and]
    exact t_call (t' := tg (tset t 16 0 0) _) (fun w K hk => tc_done hA _ K hk) hK
end U5
