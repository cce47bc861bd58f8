-- reading rules with indices in the form nI k, side conditions by omega
theorem vi_n {k N : Nat} (h : k < N) (hN : N < 2 ^ 31) : vp_in (nI k) N ↔ True := iff_true_intro (nI_in h hN)
theorem c_n {k : Nat} (h : k < 2 ^ 31) : (nI k).toNatClampNeg = k := nI_clamp h
theorem a_1 (k : Nat) : (1 : Int32) = nI 1 := by decide
theorem a_5 (k : Nat) : (5 : Int32) + nI k = nI (5 + k) := nI_add 5 k
theorem a_73 (k : Nat) : (73 : Int32) + nI k = nI (73 + k) := nI_add 73 k
theorem a_89 (k : Nat) : (89 : Int32) + nI k = nI (89 + k) := nI_add 89 k
theorem a_105 (k : Nat) : (105 : Int32) + nI k = nI (105 + k) := nI_add 105 k
theorem a_121 (k : Nat) : (121 : Int32) + nI k = nI (121 + k) := nI_add 121 k
theorem a_137 (k : Nat) : (137 : Int32) + nI k = nI (137 + k) := nI_add 137 k
theorem a_153 (k : Nat) : (153 : Int32) + nI k = nI (153 + k) := nI_add 153 k
theorem a_169 (k : Nat) : (169 : Int32) + nI k = nI (169 + k) := nI_add 169 k
theorem a_235 (k : Nat) : (235 : Int32) + nI k = nI (235 + k) := nI_add 235 k
theorem a_251 (k : Nat) : (251 : Int32) + nI k = nI (251 + k) := nI_add 251 k
theorem a_267 (k : Nat) : (267 : Int32) + nI k = nI (267 + k) := nI_add 267 k
theorem a_286 (k : Nat) : (286 : Int32) + nI k = nI (286 + k) := nI_add 286 k
theorem a_293 (k : Nat) : (293 : Int32) + nI k = nI (293 + k) := nI_add 293 k
theorem a_m4 (k : Nat) : (4 : Int32) * nI k = nI (4 * k) := (Int32.ofNat_mul 4 k).symm
theorem l_289 : ((289 : Int32)).toNatClampNeg = 289 := by decide
theorem l_3 : ((3 : Int32)).toNatClampNeg = 3 := by decide
theorem i_289 : vp_in (289 : Int32) 357 ↔ True := iff_true_intro (by unfold vp_in; decide)
theorem i_3 : vp_in (3 : Int32) 357 ↔ True := iff_true_intro (by unfold vp_in; decide)
section T4
variable {κ A : Nat → Nat} {h : xH} {t : Nat → Nat → Int32} {g : Nat → Int32} {w : Nat × Nat}
def m_later (g : Nat → Int32) (c a b : Nat) : Bool := decide (¬ g (c + b) ≤ g (c + a))
def m_less (d : Int32) (l : Bool) : Bool := decide (d < 0) || (decide (d = 0) && l)
def m_isAhead (g : Nat → Int32) (a b : Nat) : Bool :=
  if g 3 = 0 then m_later g 121 a b else if g 3 = 1 then m_later g 137 a b
  else if g 3 = 2 then m_less (g (153 + a) - g (153 + b)) (m_later g 121 a b) else m_less (m_ones (g (89 + a)) - m_ones (g (89 + b))) (m_later g 121 a b)
theorem tc_isAhead (hA : tOK κ A) {a b : Nat} (ha : a < 16) (hb : b < 16) (K : Int32 → xH → Prop) (hK : K (bI (m_isAhead g a b)) (tput h A (tg t g))) : P_X4_isAhead κ (A 20) (nI a) (nI b) (tput h A (tg t g), w) K := by
  unfold P_X4_isAhead
  unfold m_isAhead m_later m_less at hK
  simp (disch := omega) only [t_gq_0 hA, t_nn, t_ag hA, a_121, a_137, a_153, a_89, vi_n, c_n, l_3, i_3, true_and]
  refine ⟨fun h0 => ?_, fun h0 => ⟨fun h1 => ?_, fun h1 => ⟨fun h2 => ?_, fun h2 => ?_⟩⟩⟩
  · simp only [h0, if_true] at hK
    refine ⟨fun z => absurd z (by decide), fun _ => ⟨fun _ => ⟨fun h3 => ?_, fun h3 => ?_⟩, fun z => absurd trivial z⟩⟩
    · simpa [bI, h3] using hK
    · simpa [bI, h3] using hK
  · simp only [h0, h1, if_true, if_false] at hK
    refine ⟨fun h3 => ?_, fun h3 => ?_⟩
    · simpa [bI, h3] using hK
    · simpa [bI, h3] using hK
  · simp only [h0, h1, h2, if_true, if_false] at hK
    refine ⟨fun h3 => ?_, fun h3 => ⟨fun h4 => ⟨fun h5 => ?_, fun h5 => ?_⟩, fun h4 => ?_⟩⟩
    · simpa [bI, h3] using hK
    · simpa [bI, h3, h4, h5] using hK
    · simpa [bI, h3, h4, h5] using hK
    · simpa [bI, h3, h4] using hK
  · simp only [h0, h1, h2, if_false] at hK
    refine t_pure (r := m_ones (g (89 + a))) (fun τ K hk => tc_ones _ τ K hk) ?_
    simp (disch := omega) only [t_gq_0 hA, t_nn, t_ag hA, a_121, a_137, a_153, a_89, vi_n, c_n, l_3, i_3, true_and]
    refine t_pure (r := m_ones (g (89 + b))) (fun τ K hk => tc_ones _ τ K hk) ?_
    simp (disch := omega) only [t_gq_0 hA, t_nn, t_ag hA, a_121, a_137, a_153, a_89, vi_n, c_n, l_3, i_3, true_and]
    refine ⟨fun h3 => ?_, fun h3 => ⟨fun h4 => ⟨fun h5 => ?_, fun h5 => ?_⟩, fun h4 => ?_⟩⟩
    · simpa [bI, h3] using hK
    · simpa [bI, h3, h4, h5] using hK
    · simpa [bI, h3, h4, h5] using hK
    · simpa [bI, h3, h4] using hK
def b_at (d : Int32) (k : Nat) : Bool := decide ((d >>> (nI k &&& 31)) &&& 1 = 1)
/-- the words of line a that d marks, put into the store at block b -/
def m_back (g : Nat → Int32) (a b : Nat) (d : Int32) : Nat → (Nat → Int32)
  | 0 => g
  | k + 1 => if b_at d k then upd (m_back g a b d k) (5 + 4 * b + k) (m_back g a b d k (169 + 4 * a + k)) else m_back g a b d k
theorem m_back_hi (g : Nat → Int32) (a b : Nat) (hb : b < 16) (d : Int32) (k : Nat) (hk : k ≤ 4) (j : Nat) (hj : 69 ≤ j) : m_back g a b d k j = g j := by
  induction k with
  | zero => rfl
  | succ k ih =>
    unfold m_back
    split
    · rw [upd_ne (by omega)]
      exact ih (by omega)
    · exact ih (by omega)
def m_wb (g : Nat → Int32) (a b : Nat) : Nat → Int32 :=
  let n := m_ones (g (89 + a))
  let g1 := m_uses g (b % 4) n
  let g2 := m_back g1 a b (g (89 + a)) 4
  let g3 := upd g2 (89 + a) 0
  upd g3 289 (g3 289 + n)
theorem m_uses_hi (g : Nat → Int32) (k : Nat) (hk : k < 4) (n : Int32) (j : Nat) (hj : 73 ≤ j) (h1 : j ≠ 291) : m_uses g k n j = g j := by
  simp only [m_uses]
  rw [upd_ne (by omega), upd_ne (by omega)]
  split
  · rfl
  · rw [upd_ne (by omega), upd_ne (by omega)]
/-- writesBack of a clean line: nothing -/
theorem tc_writesBack0 (hA : tOK κ A) {a : Nat} (ha : a < 16) (h0 : m_ones (g (89 + a)) = 0) (K : Int32 → xH → Prop) (hK : K 0 (tput h A (tg t g))) : P_X4_writesBack κ (A 20) (nI a) (tput h A (tg t g), w) K := by
  unfold P_X4_writesBack
  simp (disch := omega) only [t_gq_0 hA, t_nn, t_ag hA, a_89, vi_n, c_n, true_and]
  refine t_pure (r := m_ones (g (89 + a))) (fun τ K hk => tc_ones _ τ K hk) ?_
  exact ⟨fun _ => hK, fun h => absurd h0 h⟩
theorem tc_writesBack1 (hA : tOK κ A) {a b : Nat} (ha : a < 16) (hb : b < 16) (hB : g (73 + a) = nI b) (h0 : ¬ m_ones (g (89 + a)) = 0) (K : Int32 → xH → Prop) (hK : K (m_ones (g (89 + a))) (tput h A (tg t (m_wb g a b)))) : P_X4_writesBack κ (A 20) (nI a) (tput h A (tg t g), w) K := by
  unfold P_X4_writesBack
  simp (disch := omega) only [t_gq_0 hA, t_nn, t_ag hA, a_89, vi_n, c_n, true_and]
  refine t_pure (r := m_ones (g (89 + a))) (fun τ K hk => tc_ones _ τ K hk) ?_
  refine ⟨fun h => absurd h h0, fun _ => ?_⟩
  simp (disch := omega) only [t_gq_0 hA, t_nn, t_ag hA, a_73, vi_n, c_n, true_and, t_rc hA, hB]
  refine t_call (t' := tg t (m_uses g (b % 4) (m_ones (g (89 + a))))) (r := ()) (fun w K hk => tc_uses hA hb _ K hk) ?_
  refine x_for 4 (fun i v σ => v = nI i ∧ i ≤ 4 ∧ σ = (tput h A (tg t (m_back (m_uses g (b % 4) (m_ones (g (89 + a)))) a b (g (89 + a)) i)), w)) ?_ ?_ ⟨rfl, by omega, rfl⟩
  · rintro i v σ ⟨rfl, -, rfl⟩ hi self hself
    unfold B_X4_writesBack_35
    refine ⟨fun z => absurd ((nI_leI (a := 4) (b := i) (by decide) (by omega)).mp z) (by omega), fun _ => ?_⟩
    simp (disch := omega) only [t_gq_0 hA, t_nn, t_ag hA, t_sg hA, a_89, a_73, a_m4, a_169, a_5, nI_add, vi_n, c_n, true_and, m_back_hi _ _ _ hb, m_uses_hi _ (b % 4) (Nat.mod_lt _ (by decide)), hB]
    refine ⟨fun h1 => ?_, fun h1 => ?_⟩
    · rw [(nI_succ i).symm]
      exact hself _ _ ⟨rfl, by omega, by rw [m_back, if_pos (by simpa [b_at] using h1), m_back_hi _ _ _ hb _ _ (by omega) _ (by omega), m_uses_hi _ (b % 4) (Nat.mod_lt _ (by decide)) _ _ (by omega) (by omega)]⟩
    · rw [(nI_succ i).symm]
      exact hself _ _ ⟨rfl, by omega, by rw [m_back, if_neg (by simpa [b_at] using h1)]⟩
  · rintro v σ ⟨rfl, -, rfl⟩ self
    unfold B_X4_writesBack_35
    refine ⟨fun _ => ?_, fun z => absurd ((nI_leI (a := 4) (b := 4) (by decide) (by omega)).mpr (Nat.le_refl _)) z⟩
    simp (disch := omega) only [t_gq_0 hA, t_nn, t_ag hA, t_sg hA, a_89, vi_n, c_n, l_289, i_289, true_and]
    exact hK
end T4
