section U8
variable {κ A : Nat → Nat} {h : xH} {t : Nat → Nat → Int32} {g : Nat → Int32} {w : Nat × Nat} {s l r c : Nat}
/-- a question's answer: thrown, value -/
def qAns (q : Int32 × Int32) (t : Nat → Nat → Int32) (A : Nat → Nat) (h : xH) (g : Nat → Int32) (K : Int32 → xH → Prop) : Prop := K q.2 (tput h A (tg (tset t 16 0 q.1) g))
theorem tc_qF (hA : tOK κ A) {n : Int32} (K : Int32 → xH → Prop) (hK : qAns (n, 0) t A h g K) : (xrc (tput h A (tg t g), w) (A 20) 10 ∧ xcall (fun τ L => P_X4_fails κ (A 20) n τ L) (tput h A (tg t g), w) fun v3 σ4 => K v3 σ4.1) := by
  simp only [t_rc hA, true_and]
  exact t_call (t' := tg (tset t 16 0 n) g) (r := 0) (fun w K hk => tc_fails hA _ K hk) hK
theorem tc_qD (hA : tOK κ A) {v : Int32} (K : Int32 → xH → Prop) (hK : qAns (0, v) t A h g K) : (xrc (tput h A (tg t g), w) (A 20) 10 ∧ xcall (fun τ L => P_X4_done κ (A 20) v τ L) (tput h A (tg t g), w) fun v3 σ4 => K v3 σ4.1) := by
  simp only [t_rc hA, true_and]
  exact t_call (t' := tg (tset t 16 0 0) g) (r := v) (fun w K hk => tc_done hA _ K hk) hK
def m_word (g : Nat → Int32) (k : Nat) : Int32 := match m_lw g (k / 4) with
  | none => g (5 + k)
  | some a => g (169 + 4 * a + k % 4)
theorem tc_wordNow (hA : tOK κ A) {k : Nat} (hk : k < 64) (K : Int32 → xH → Prop) (hK : K (m_word g k) (tput h A (tg t g))) : P_X4_wordNow κ (A 20) (nI k) (tput h A (tg t g), w) K := by
  unfold P_X4_wordNow
  unfold m_word at hK
  simp only [t_rc hA, true_and, m_div4 k hk]
  refine t_call (t' := tg t g) (r := m_lineWith g (nI (k / 4))) (fun w K hk => tc_lineWith hA _ K hk) ?_
  rw [m_lw_I]
  cases hq : m_lw g (k / 4) with
  | none =>
    rw [hq] at hK
    refine ⟨fun _ => ?_, fun z => absurd rfl z⟩
    simp (disch := omega) only [t_gq_0 hA, t_nn, t_ag hA, t_sg hA, t_rc hA, vi_n, c_n, true_and, a_5, a_69, a_73, a_89, a_105, a_121, a_137, a_153, a_169, a_235, a_251, a_267, a_286, a_293, a_283, a_m4, nI_add, t_l0, i_0, l_1, i_1, l_2, i_2, l_3, i_3, l_4, i_4, l_5, i_5, l_6, i_6, l_16, i_16, l_233, i_233, l_234, i_234, l_235, i_235, l_283, i_283, l_284, i_284, l_285, i_285, l_289, i_289, l_290, i_290, l_291, i_291, l_292, i_292]
    exact hK
  | some a =>
    rw [hq] at hK
    have ha : a < 16 := (m_lw_lt hq).1
    refine ⟨fun z => absurd z (nI_ne a (by omega)), fun _ => ?_⟩
    simp (disch := omega) only [t_gq_0 hA, t_nn, t_ag hA, t_sg hA, t_rc hA, vi_n, c_n, true_and, a_5, a_69, a_73, a_89, a_105, a_121, a_137, a_153, a_169, a_235, a_251, a_267, a_286, a_293, a_283, a_m4, nI_add, t_l0, i_0, l_1, i_1, l_2, i_2, l_3, i_3, l_4, i_4, l_5, i_5, l_6, i_6, l_16, i_16, l_233, i_233, l_234, i_234, l_235, i_235, l_283, i_283, l_284, i_284, l_285, i_285, l_289, i_289, l_290, i_290, l_291, i_291, l_292, i_292, oI, m_mod4 k hk, m_mod5 k hk]
    exact hK
def m_wordAt (g : Nat → Int32) (x : Int32) : Int32 × Int32 := if m_in x 0 63 then (0, m_word g x.toNatClampNeg) else (1, 0)
theorem tc_wordAt (hA : tOK κ A) (x : Int32) (K : Int32 → xH → Prop) (hK : qAns (m_wordAt g x) t A h g K) : P_X4_wordAt κ (A 20) x (tput h A (tg t g), w) K := by
  unfold P_X4_wordAt
  unfold m_wordAt at hK
  refine t_pure (r := bI (m_in x 0 63)) (fun τ K hk => tc_isAddress x τ K hk) ?_
  cases hi : m_in x 0 63 with
  | false =>
    rw [hi] at hK
    exact ⟨fun _ => tc_qF hA K hK, fun z => absurd rfl z⟩
  | true =>
    rw [hi] at hK
    obtain ⟨k, rfl, hk⟩ := m_inI (c := 63) (by decide) hi
    simp only [if_true, c_n (show k < 2 ^ 31 by omega)] at hK
    refine ⟨fun z => absurd z (by decide), fun _ => ?_⟩
    simp only [t_rc hA, true_and]
    refine t_call (t' := tg t g) (r := m_word g k) (fun w K hk' => tc_wordNow hA (by omega) K hk') ?_
    exact tc_qD hA K hK
def m_stored (o : Nat) (g : Nat → Int32) (x : Int32) : Int32 × Int32 := if m_in x 0 63 then (0, g (o + x.toNatClampNeg)) else (1, 0)
theorem tc_wordAgain (hA : tOK κ A) (x : Int32) (K : Int32 → xH → Prop) (hK : qAns (m_stored 293 g x) t A h g K) : P_X4_wordAgain κ (A 20) x (tput h A (tg t g), w) K := by
  unfold P_X4_wordAgain
  unfold m_stored at hK
  refine t_pure (r := bI (m_in x 0 63)) (fun τ K hk => tc_isAddress x τ K hk) ?_
  cases hi : m_in x 0 63 with
  | false =>
    rw [hi] at hK
    exact ⟨fun _ => tc_qF hA K hK, fun z => absurd rfl z⟩
  | true =>
    rw [hi] at hK
    obtain ⟨k, rfl, hk⟩ := m_inI (c := 63) (by decide) hi
    simp only [if_true, c_n (show k < 2 ^ 31 by omega)] at hK
    refine ⟨fun z => absurd z (by decide), fun _ => ?_⟩
    simp (disch := omega) only [t_gq_0 hA, t_nn, t_ag hA, a_293, vi_n, c_n, true_and]
    exact tc_qD hA K hK
theorem tc_stored (hA : tOK κ A) (x : Int32) (K : Int32 → xH → Prop) (hK : qAns (m_stored 5 g x) t A h g K) : P_X4_stored κ (A 20) x (tput h A (tg t g), w) K := by
  unfold P_X4_stored
  unfold m_stored at hK
  refine t_pure (r := bI (m_in x 0 63)) (fun τ K hk => tc_isAddress x τ K hk) ?_
  cases hi : m_in x 0 63 with
  | false =>
    rw [hi] at hK
    exact ⟨fun _ => tc_qF hA K hK, fun z => absurd rfl z⟩
  | true =>
    rw [hi] at hK
    obtain ⟨k, rfl, hk⟩ := m_inI (c := 63) (by decide) hi
    simp only [if_true, c_n (show k < 2 ^ 31 by omega)] at hK
    refine ⟨fun z => absurd z (by decide), fun _ => ?_⟩
    simp (disch := omega) only [t_gq_0 hA, t_nn, t_ag hA, a_5, vi_n, c_n, true_and]
    exact tc_qD hA K hK
theorem nI_m1 {n : Nat} (h : 1 ≤ n) : nI n - 1 = nI (n - 1) := by
  obtain ⟨k, rfl⟩ : ∃ k, n = k + 1 := ⟨n - 1, by omega⟩
  exact nI_pred k
def m_lineOf (g : Nat → Int32) (s l : Nat) (x y z : Int32) : Int32 × Int32 :=
  if m_in x 0 (nI (s - 1)) then if m_in y 0 (nI (l - 1)) then if m_in z 0 5 then
    (0, if g (73 + (4 * x.toNatClampNeg + y.toNatClampNeg)) = -1 ∧ 2 < z.toNatClampNeg then -1 else g (73 + 16 * z.toNatClampNeg + (4 * x.toNatClampNeg + y.toNatClampNeg)))
  else (2, 0) else (1, 0) else (1, 0)
theorem tc_lineOf (hA : tOK κ A) (hT : TI g s l r) (hl1 : 1 ≤ l) (x y z : Int32) (K : Int32 → xH → Prop) (hK : qAns (m_lineOf g s l x y z) t A h g K) : P_X4_lineOf κ (A 20) x y z (tput h A (tg t g), w) K := by
  obtain ⟨-, ⟨hs, h1, h4⟩, ⟨hl, hl4⟩, -⟩ := hT
  unfold P_X4_lineOf
  unfold m_lineOf at hK
  simp only [t_rc hA, true_and]
  refine t_call (t' := tg t g) (r := bI (m_in x 0 (nI (s - 1)))) (fun w K hk => tc_isSet hA x K (by rw [hs, nI_m1 h1]; exact hk)) ?_
  cases hi : m_in x 0 (nI (s - 1)) with
  | false =>
    rw [hi] at hK
    exact ⟨fun _ => tc_qF hA K hK, fun z => absurd rfl z⟩
  | true =>
    rw [hi] at hK
    obtain ⟨q, rfl, hq⟩ := m_inI (by omega) hi
    simp only [if_true, c_n (show q < 2 ^ 31 by omega)] at hK
    refine ⟨fun z => absurd z (by decide), fun _ => ?_⟩
    simp only [t_gq_0 hA, t_nn, t_ag hA, i_2, l_2, true_and, hl, nI_m1 hl1]
    refine t_pure (r := bI (m_in y 0 (nI (l - 1)))) (fun τ K hk => tc_in y _ _ τ K hk) ?_
    cases hj : m_in y 0 (nI (l - 1)) with
    | false =>
      rw [hj] at hK
      exact ⟨fun _ => tc_qF hA K hK, fun z => absurd rfl z⟩
    | true =>
      rw [hj] at hK
      obtain ⟨k, rfl, hk⟩ := m_inI (by omega) hj
      simp only [if_true, c_n (show k < 2 ^ 31 by omega)] at hK
      refine ⟨fun z => absurd z (by decide), fun _ => ?_⟩
      refine t_pure (r := bI (m_in z 0 5)) (fun τ K hk => tc_in z _ _ τ K hk) ?_
      cases hn : m_in z 0 5 with
      | false =>
        rw [hn] at hK
        exact ⟨fun _ => tc_qF hA K hK, fun z => absurd rfl z⟩
      | true =>
        rw [hn] at hK
        obtain ⟨n, rfl, hn'⟩ := m_inI (c := 5) (by decide) hn
        simp only [if_true, c_n (show n < 2 ^ 31 by omega)] at hK
        refine ⟨fun z => absurd z (by decide), fun _ => ?_⟩
        have e16 : (16 : Int32) * nI n = nI (16 * n) := nI_mul 16 n
        have e2 : nI n ≤ (2 : Int32) ↔ n ≤ 2 := nI_leI (b := 2) (by omega) (by decide)
        simp (disch := omega) only [t_gq_0 hA, t_nn, t_ag hA, t_sg hA, t_rc hA, vi_n, c_n, true_and, a_5, a_69, a_73, a_89, a_105, a_121, a_137, a_153, a_169, a_235, a_251, a_267, a_286, a_293, a_283, a_m4, nI_add, t_l0, i_0, l_1, i_1, l_2, i_2, l_3, i_3, l_4, i_4, l_5, i_5, l_6, i_6, l_16, i_16, l_233, i_233, l_234, i_234, l_235, i_235, l_283, i_283, l_284, i_284, l_285, i_285, l_289, i_289, l_290, i_290, l_291, i_291, l_292, i_292, e16, e2]
        refine ⟨fun h1 => ⟨fun z => absurd z (by decide), fun _ => ⟨fun h2 => ?_, fun h2 => ?_⟩⟩, fun h1 => ⟨fun _ => ?_, fun z => absurd trivial z⟩⟩
        · rw [if_neg (by omega)] at hK
          exact t_call (t' := tg (tset t 16 0 0) g) (fun w K hk => tc_done hA _ K hk) hK
        · rw [if_pos ⟨h1, by omega⟩] at hK
          exact t_call (t' := tg (tset t 16 0 0) g) (fun w K hk => tc_done hA _ K hk) hK
        · rw [if_neg (fun z => h1 z.1)] at hK
          exact t_call (t' := tg (tset t 16 0 0) g) (fun w K hk => tc_done hA _ K hk) hK
def m_holder (g : Nat → Int32) (x : Int32) : Int32 × Int32 := if m_in x 0 15 then (match m_lw g x.toNatClampNeg with | none => (2, 0) | some a => (0, nI (a % 4))) else (1, 0)
theorem tc_holder (hA : tOK κ A) (x : Int32) (K : Int32 → xH → Prop) (hK : qAns (m_holder g x) t A h g K) : P_X4_holder κ (A 20) x (tput h A (tg t g), w) K := by
  unfold P_X4_holder
  unfold m_holder at hK
  refine t_pure (r := bI (m_in x 0 15)) (fun τ K hk => tc_isBlock x τ K hk) ?_
  cases hi : m_in x 0 15 with
  | false =>
    rw [hi] at hK
    exact ⟨fun _ => tc_qF hA K hK, fun z => absurd rfl z⟩
  | true =>
    rw [hi] at hK
    obtain ⟨k, rfl, hk⟩ := m_inI (c := 15) (by decide) hi
    simp only [if_true, c_n (show k < 2 ^ 31 by omega)] at hK
    refine ⟨fun z => absurd z (by decide), fun _ => ?_⟩
    simp only [t_rc hA, true_and]
    refine t_call (t' := tg t g) (r := m_lineWith g (nI k)) (fun w K hk => tc_lineWith hA _ K hk) ?_
    rw [m_lw_I]
    cases hq : m_lw g k with
    | none =>
      rw [hq] at hK
      exact ⟨fun _ => tc_qF hA K hK, fun z => absurd rfl z⟩
    | some a =>
      rw [hq] at hK
      have ha : a < 16 := (m_lw_lt hq).1
      refine ⟨fun z => absurd z (nI_ne a (by omega)), fun _ => ?_⟩
      simp only [oI, m_mod4 a (by omega)]
      exact tc_qD hA K hK
def m_comesTo (g : Nat → Int32) (s l : Nat) (x : Int32) : Int32 × Int32 := if m_in x 0 15 then (match m_lw g x.toNatClampNeg with | some _ => (2, 0) | none => match m_lineFor g x.toNatClampNeg s l with | none => (2, 0) | some a => (0, nI (a % 4))) else (1, 0)
theorem tc_comesTo (hA : tOK κ A) (hT : TI g s l r) (x : Int32) (K : Int32 → xH → Prop) (hK : qAns (m_comesTo g s l x) t A h g K) : P_X4_comesTo κ (A 20) x (tput h A (tg t g), w) K := by
  obtain ⟨-, ⟨hs, h1, h4⟩, ⟨hl, hl4⟩, -⟩ := hT
  unfold P_X4_comesTo
  unfold m_comesTo at hK
  refine t_pure (r := bI (m_in x 0 15)) (fun τ K hk => tc_isBlock x τ K hk) ?_
  cases hi : m_in x 0 15 with
  | false =>
    rw [hi] at hK
    exact ⟨fun _ => tc_qF hA K hK, fun z => absurd rfl z⟩
  | true =>
    rw [hi] at hK
    obtain ⟨k, rfl, hk⟩ := m_inI (c := 15) (by decide) hi
    simp only [if_true, c_n (show k < 2 ^ 31 by omega)] at hK
    refine ⟨fun z => absurd z (by decide), fun _ => ?_⟩
    simp only [t_rc hA, true_and]
    refine t_call (t' := tg t g) (r := m_lineWith g (nI k)) (fun w K hk => tc_lineWith hA _ K hk) ?_
    rw [m_lw_I]
    cases hq : m_lw g k with
    | some a =>
      rw [hq] at hK
      have ha : a < 16 := (m_lw_lt hq).1
      refine ⟨fun z => absurd z (nI_ne a (by omega)), fun _ => ⟨fun _ => tc_qF hA K hK, fun z => absurd trivial z⟩⟩
    | none =>
      rw [hq] at hK
      refine ⟨fun _ => ?_, fun z => absurd rfl z⟩
      simp only [t_rc hA, true_and]
      refine t_call (t' := tg t g) (r := oI (m_lineFor g k s l)) (fun w K hk' => tc_lineFor hA (by omega) hs h1 h4 hl hl4 K hk') ?_
      cases hf : m_lineFor g k s l with
      | none =>
        rw [hf] at hK
        exact ⟨fun _ => tc_qF hA K hK, fun z => absurd rfl z⟩
      | some a =>
        rw [hf] at hK
        have ha : a < 16 := m_lineFor_lt h1 h4 hl4 hf
        refine ⟨fun z => absurd z (nI_ne a (by omega)), fun _ => ?_⟩
        simp only [oI, m_mod4 a (by omega)]
        exact tc_qD hA K hK
def m_causeOf (g : Nat → Int32) (s l r : Nat) (x : Int32) : Int32 × Int32 := if m_in x 0 15 then (match m_lw g x.toNatClampNeg with | some _ => (2, 0) | none => (0, nI (m_cause g x.toNatClampNeg r s l))) else (1, 0)
theorem tc_causeOf (hA : tOK κ A) (hT : TI g s l r) (x : Int32) (K : Int32 → xH → Prop) (hK : qAns (m_causeOf g s l r x) t A h g K) : P_X4_causeOf κ (A 20) x (tput h A (tg t g), w) K := by
  obtain ⟨⟨hr, hr16⟩, ⟨hs, h1, h4⟩, ⟨hl, hl4⟩, -⟩ := hT
  unfold P_X4_causeOf
  unfold m_causeOf at hK
  refine t_pure (r := bI (m_in x 0 15)) (fun τ K hk => tc_isBlock x τ K hk) ?_
  cases hi : m_in x 0 15 with
  | false =>
    rw [hi] at hK
    exact ⟨fun _ => tc_qF hA K hK, fun z => absurd rfl z⟩
  | true =>
    rw [hi] at hK
    obtain ⟨k, rfl, hk⟩ := m_inI (c := 15) (by decide) hi
    simp only [if_true, c_n (show k < 2 ^ 31 by omega)] at hK
    refine ⟨fun z => absurd z (by decide), fun _ => ?_⟩
    simp only [t_rc hA, true_and]
    refine t_call (t' := tg t g) (r := m_lineWith g (nI k)) (fun w K hk => tc_lineWith hA _ K hk) ?_
    rw [m_lw_I]
    cases hq : m_lw g k with
    | some a =>
      rw [hq] at hK
      have ha : a < 16 := (m_lw_lt hq).1
      exact ⟨fun z => absurd z (nI_ne a (by omega)), fun _ => tc_qF hA K hK⟩
    | none =>
      rw [hq] at hK
      refine ⟨fun _ => ?_, fun z => absurd rfl z⟩
      simp only [t_rc hA, true_and]
      refine t_call (t' := tg t g) (r := nI (m_cause g k r s l)) (fun w K hk' => tc_causeBy hA hr hr16 hs h4 hl hl4 K (by rw [m_cause_eq]; exact hk')) ?_
      exact tc_qD hA K hK
def m_freeIn (g : Nat → Int32) (x : Int32) : Int32 × Int32 := if m_in x 0 3 then (0, if g (69 + x.toNatClampNeg) ≤ g 0 then 0 else g (69 + x.toNatClampNeg) - g 0) else (1, 0)
theorem tc_freeIn (hA : tOK κ A) (x : Int32) (K : Int32 → xH → Prop) (hK : qAns (m_freeIn g x) t A h g K) : P_X4_freeIn κ (A 20) x (tput h A (tg t g), w) K := by
  unfold P_X4_freeIn
  unfold m_freeIn at hK
  refine t_pure (r := bI (m_in x 0 3)) (fun τ K hk => tc_in x _ _ τ K hk) ?_
  cases hi : m_in x 0 3 with
  | false =>
    rw [hi] at hK
    exact ⟨fun _ => tc_qF hA K hK, fun z => absurd rfl z⟩
  | true =>
    rw [hi] at hK
    obtain ⟨k, rfl, hk⟩ := m_inI (c := 3) (by decide) hi
    simp only [if_true, c_n (show k < 2 ^ 31 by omega)] at hK
    refine ⟨fun z => absurd z (by decide), fun _ => ?_⟩
    simp (disch := omega) only [t_gq_0 hA, t_nn, t_ag hA, t_sg hA, t_rc hA, vi_n, c_n, true_and, a_5, a_69, a_73, a_89, a_105, a_121, a_137, a_153, a_169, a_235, a_251, a_267, a_286, a_293, a_283, a_m4, nI_add, t_l0, i_0, l_1, i_1, l_2, i_2, l_3, i_3, l_4, i_4, l_5, i_5, l_6, i_6, l_16, i_16, l_233, i_233, l_234, i_234, l_235, i_235, l_283, i_283, l_284, i_284, l_285, i_285, l_289, i_289, l_290, i_290, l_291, i_291, l_292, i_292]
    refine ⟨fun h1 => ?_, fun h1 => ?_⟩
    · rw [if_pos h1] at hK
      exact t_call (t' := tg (tset t 16 0 0) g) (fun w K hk => tc_done hA _ K hk) hK
    · rw [if_neg h1] at hK
      exact t_call (t' := tg (tset t 16 0 0) g) (fun w K hk => tc_done hA _ K hk) hK
def m_latestQ (g : Nat → Int32) (r : Nat) (x : Int32) : Int32 × Int32 := if m_in x 0 (nI r - 1) then (0, g (235 + x.toNatClampNeg)) else (1, 0)
theorem tc_latest (hA : tOK κ A) (hT : TI g s l r) (x : Int32) (K : Int32 → xH → Prop) (hK : qAns (m_latestQ g r x) t A h g K) : P_X4_latest κ (A 20) x (tput h A (tg t g), w) K := by
  obtain ⟨⟨hr, hr16⟩, -⟩ := hT
  unfold P_X4_latest
  unfold m_latestQ at hK
  simp only [t_gq_0 hA, t_nn, t_ag hA, i_234, l_234, true_and, hr]
  refine t_pure (r := bI (m_in x 0 (nI r - 1))) (fun τ K hk => tc_in x _ _ τ K hk) ?_
  cases hi : m_in x 0 (nI r - 1) with
  | false =>
    rw [hi] at hK
    exact ⟨fun _ => tc_qF hA K hK, fun z => absurd rfl z⟩
  | true =>
    rw [hi] at hK
    have hr1 : 1 ≤ r := by
      rcases Nat.eq_zero_or_pos r with z | z
      · subst z
        unfold m_in at hi
        simp only [Bool.and_eq_true, decide_eq_true_eq] at hi
        have e : nI 0 - 1 = -1 := by decide
        rw [e] at hi
        obtain ⟨k, hk1, hk⟩ := nI_of hi.1
        rw [hk] at hi
        exact absurd (Int32.lt_of_lt_of_le (by decide : (-1 : Int32) < 0) (nI_pos' hk1)) hi.2
      · exact z
    rw [nI_m1 hr1] at hi
    obtain ⟨k, rfl, hk⟩ := m_inI (by omega) hi
    simp only [if_true, c_n (show k < 2 ^ 31 by omega)] at hK
    refine ⟨fun z => absurd z (by decide), fun _ => ?_⟩
    simp (disch := omega) only [t_gq_0 hA, t_nn, t_ag hA, a_235, vi_n, c_n, true_and]
    exact tc_qD hA K hK
end U8
