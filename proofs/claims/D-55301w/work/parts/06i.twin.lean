section T9
variable {κ A : Nat → Nat} {h : xH} {t : Nat → Nat → Int32} {g : Nat → Int32} {w : Nat × Nat}
/-- the store's block b into line a -/
def m_load (g : Nat → Int32) (a b : Nat) : Nat → (Nat → Int32)
  | 0 => g
  | k + 1 => upd (m_load g a b k) (169 + 4 * a + k) (g (5 + 4 * b + k))
theorem m_load_lo (g : Nat → Int32) (a b k j : Nat) (hj : j < 169) : m_load g a b k j = g j := by
  induction k with
  | zero => rfl
  | succ k ih => rw [m_load, upd_ne (by omega)]; exact ih
def m_miss0 (g : Nat → Int32) (b c : Nat) : Nat → Int32 :=
  let g1 := upd g (286 + c) (g (286 + c) + 1)
  upd g1 (267 + b) (g1 (267 + b) + 1)
/-- a miss: block b comes into line a, which holds block o; c: the cause -/
def m_misses (g : Nat → Int32) (b a o c : Nat) : Nat → Int32 :=
  let g2 := m_miss0 g b c
  let g3 := m_uses (m_wB g2 a o) (b % 4) 5
  let g4 := upd (upd (m_emptiesLine g3 a) (73 + a) (nI b)) (137 + a) (g2 0)
  let g5 := m_load g4 a b 4
  upd g5 233 (g5 233 ||| (1 <<< (nI b &&& 31)))
theorem m_miss0_o (g : Nat → Int32) (b c j : Nat) (h1 : j ≠ 286 + c) (h2 : j ≠ 267 + b) : m_miss0 g b c j = g j := by
  simp only [m_miss0]
  rw [upd_ne h2, upd_ne h1]
theorem tc_misses (hA : tOK κ A) {b a o r s l : Nat} (hb : b < 16) (ha : a < 16) (hr : g 234 = nI r) (hr16 : r ≤ 16) (hs : g 1 = nI s) (h4 : s ≤ 4) (hl : g 2 = nI l) (hl4 : l ≤ 4) (hB : ¬ m_ones (g (89 + a)) = 0 → o < 16 ∧ g (73 + a) = nI o) (K : Unit → xH → Prop) (hK : K () (tput h A (tg t (m_misses g b a o (m_cause g b r s l))))) : P_X4_misses κ (A 20) (nI b) (nI a) (tput h A (tg t g), w) K := by
  have hc := m_cause_lt g b r s l
  unfold P_X4_misses
  simp only [t_gq_0 hA, t_rc hA, true_and]
  refine t_call (t' := tg t g) (r := nI (m_cause g b r s l)) (fun w K hk => tc_causeBy hA hr hr16 hs h4 hl hl4 K (by rw [m_cause_eq]; exact hk)) ?_
  generalize m_cause g b r s l = c at hc hK
  simp (disch := omega) only [t_gq_0 hA, t_nn, t_ag hA, t_sg hA, a_286, a_267, vi_n, c_n, t_l0, t_i0, true_and, t_rc hA]
  have e2 : upd (upd g (286 + c) (g (286 + c) + 1)) (267 + b) (upd g (286 + c) (g (286 + c) + 1) (267 + b) + 1) = m_miss0 g b c := rfl
  rw [e2]
  have hd : m_miss0 g b c (89 + a) = g (89 + a) := m_miss0_o g b c _ (by omega) (by omega)
  have hk : m_miss0 g b c (73 + a) = g (73 + a) := m_miss0_o g b c _ (by omega) (by omega)
  refine t_call (t' := tg t (m_wB (m_miss0 g b c) a o)) (fun w K hk' => tc_writesBack hA ha (by rw [hd, hk]; exact hB) K hk') ?_
  simp only [t_rc hA, true_and]
  refine t_call (t' := tg t (m_uses (m_wB (m_miss0 g b c) a o) (b % 4) 5)) (r := ()) (fun w K hk' => tc_uses hA hb 5 K hk') ?_
  simp only [t_rc hA, true_and]
  refine t_call (t' := tg t (m_emptiesLine (m_uses (m_wB (m_miss0 g b c) a o) (b % 4) 5) a)) (r := ()) (fun w K hk' => tc_emptiesLine hA ha K hk') ?_
  simp (disch := omega) only [t_gq_0 hA, t_nn, t_ag hA, t_sg hA, a_73, a_137, vi_n, c_n, true_and]
  simp only [m_misses] at hK
  generalize upd (upd (m_emptiesLine (m_uses (m_wB (m_miss0 g b c) a o) (b % 4) 5) a) (73 + a) (nI b)) (137 + a) (m_miss0 g b c 0) = g4 at hK
  refine x_for 4 (fun i v σ => v = nI i ∧ i ≤ 4 ∧ σ = (tput h A (tg t (m_load g4 a b i)), w)) ?_ ?_ ⟨rfl, by omega, rfl⟩
  · rintro i v σ ⟨rfl, -, rfl⟩ hi self hself
    unfold B_X4_misses_81
    refine ⟨fun z => absurd ((nI_leI (a := 4) (b := i) (by decide) (by omega)).mp z) (by omega), fun _ => ?_⟩
    simp (disch := omega) only [t_gq_0 hA, t_nn, t_ag hA, t_sg hA, a_m4, a_5, a_169, nI_add, vi_n, c_n, true_and, m_load_lo]
    rw [(nI_succ i).symm]
    exact hself _ _ ⟨rfl, by omega, rfl⟩
  · rintro v σ ⟨rfl, -, rfl⟩ self
    unfold B_X4_misses_81
    refine ⟨fun _ => ?_, fun z => absurd ((nI_leI (a := 4) (b := 4) (by decide) (by omega)).mpr (Nat.le_refl _)) z⟩
    simp (disch := omega) only [t_gq_0 hA, t_nn, t_ag hA, t_sg hA, i_233, l_233, true_and]
    exact hK
end T9
