section U14
variable {κ A : Nat → Nat} {h : xH} {t : Nat → Nat → Int32} {g : Nat → Int32} {w : Nat × Nat} {s l r c n : Nat}
theorem tg_o (k i : Nat) (hk : k ≠ 0) : tg t g k i = t k i := by simp [tg, hk]
theorem tc_thrown (hA : tOK κ A) (K : Int32 → xH → Prop) (hK : K (t 16 0) (tput h A t)) : P_X4_thrown κ (A 20) (tput h A t, w) K := by
  unfold P_X4_thrown
  rw [t_gi_16 hA]
  exact hK
theorem tc_faultPosition (hA : tOK κ A) (K : Int32 → xH → Prop) (hK : qAns (if t 9 0 = -1 then (1, 0) else (0, t 9 0)) t A h g K) : P_X4_faultPosition κ (A 20) (tput h A (tg t g), w) K := by
  unfold P_X4_faultPosition
  rw [t_gi_9 hA, t_gi_9 hA, tg_o _ _ (by decide)]
  refine ⟨fun z => ?_, fun z => ?_⟩
  · rw [if_pos z] at hK; exact tc_qF hA K hK
  · rw [if_neg z] at hK; exact tc_qD hA K hK
def m_reason (t : Nat → Nat → Int32) (x y : Int32) : Int32 × Int32 :=
  if t 10 0 = 0 then (1, 0) else if x = 0 then (0, if y = 0 then t 10 0 else t 11 0) else if t 12 0 = 0 then (1, 0) else (0, if y = 0 then t 12 0 else t 13 0)
theorem tc_reason (hA : tOK κ A) (x y : Int32) (K : Int32 → xH → Prop) (hK : qAns (m_reason t x y) t A h g K) : P_X4_reason κ (A 20) x y (tput h A (tg t g), w) K := by
  unfold P_X4_reason
  unfold m_reason at hK
  simp only [t_gi_10 hA, t_gi_11 hA, t_gi_12 hA, t_gi_13 hA, tg_o 10 _ (by decide), tg_o 11 _ (by decide), tg_o 12 _ (by decide), tg_o 13 _ (by decide)]
  refine ⟨fun z => ?_, fun z => ⟨fun z1 => ⟨fun z2 => ⟨fun z3 => ?_, fun z3 => ?_⟩, fun z2 => absurd z1 z2⟩, fun z1 => ⟨fun z2 => ?_, fun z2 => ⟨fun z3 => absurd z3 z1, fun _ => ⟨fun z3 => ?_, fun z3 => ?_⟩⟩⟩⟩⟩
  · rw [if_pos z] at hK; exact tc_qF hA K hK
  · rw [if_neg z, if_pos z1, if_pos z3] at hK; exact tc_qD hA K hK
  · rw [if_neg z, if_pos z1, if_neg z3] at hK; exact tc_qD hA K hK
  · rw [if_neg z, if_neg z1, if_pos z2] at hK; exact tc_qF hA K hK
  · rw [if_neg z, if_neg z1, if_neg z2, if_pos z3] at hK; exact tc_qD hA K hK
  · rw [if_neg z, if_neg z1, if_neg z2, if_neg z3] at hK; exact tc_qD hA K hK
theorem tc_feed (hA : tOK κ A) (h8 : t 8 0 = nI n) (hn : n < 60) (x : Int32) (K : Int32 → xH → Prop) (hK : K (nI (n + 1)) (tput h A (tset (tset (tset t 7 n (vp_nar .char x)) 8 0 (nI (n + 1))) 16 0 0))) : P_X4_feed κ (A 20) x (tput h A t, w) K := by
  unfold P_X4_feed
  have e60 : nI n = (60 : Int32) ↔ n = 60 := nI_eq (b := 60) (by omega) (by decide)
  have e1 : tset t 7 n (vp_nar .char x) 8 0 = nI n := by simp [tset]; exact h8
  rw [t_gi_8 hA, h8, e60]
  refine ⟨fun z => absurd z (by omega), fun _ => ?_⟩
  rw [t_gq_7 hA, t_gi_8 hA, h8, t_nn, t_si_7 hA, c_n (by omega)]
  refine ⟨nI_in hn (by decide), ?_⟩
  have e2 : tset (tset t 7 n (vp_nar .char x)) 8 0 (nI (n + 1)) 8 0 = nI (n + 1) := by simp [tset]
  rw [t_gi_8 hA, e1, nI_1, t_pi_8 hA, t_gi_8 hA, e2, t_rc hA, true_and]
  refine t_call (t' := tset (tset (tset t 7 n (vp_nar .char x)) 8 0 (nI (n + 1))) 16 0 0) (r := nI (n + 1)) (fun w K hk => ?_) hK
  unfold P_X4_done
  rw [t_pi_16 hA]
  exact hk
/-- what was told: n characters -/
def tL (t : Nat → Nat → Int32) (L : List Nat) : Nat → Nat → Int32 := fun k j => if k = 15 then (if j = 0 then nI L.length else t 15 j) else if k = 14 then (if j < L.length then nI (L.getD j 0) else t 14 j) else t k j
theorem ch_nar : ∀ c, c < 128 → vp_nar .char (((nI c).toUInt32 % 65536).toInt32) = nI c := by decide +kernel
theorem tL_tg {L : List Nat} : tL (tg t g) L = tg (tL t L) g := by
  funext k j
  simp only [tL, tg]
  by_cases h1 : k = 0 <;> by_cases h2 : k = 15 <;> by_cases h3 : k = 14 <;> simp [h1, h2, h3, tL]
theorem tc_writesSign (hA : tOK κ A) {L : List Nat} {c : Nat} (hL : L.length < 60) (hc : c < 128) (K : Unit → xH → Prop) (hK : K () (tput h A (tg (tL t (L ++ [c])) g))) : P_X4_writesSign κ (A 20) (nI c) (tput h A (tg (tL t L) g), w) K := by
  unfold P_X4_writesSign
  have e15 : tg (tL t L) g 15 0 = nI L.length := rfl
  have e15' : ∀ v, tset (tg (tL t L) g) 14 L.length v 15 0 = nI L.length := fun v => rfl
  rw [t_gq_14 hA, t_gi_15 hA, e15, t_nn, t_si_14 hA, c_n (by omega)]
  refine ⟨nI_in hL (by decide), ?_⟩
  rw [t_gi_15 hA, e15', nI_1, t_pi_15 hA, ch_nar c hc]
  have e : tset (tset (tg (tL t L) g) 14 L.length (nI c)) 15 0 (nI (L.length + 1)) = tg (tL t (L ++ [c])) g := by
    rw [← tL_tg, ← tL_tg]
    funext k j
    simp only [tset, tL]
    by_cases h1 : k = 15
    · by_cases h2 : j = 0 <;> simp [h1, h2]
    · by_cases h3 : k = 14
      · subst h3
        by_cases h4 : j = L.length
        · subst h4; simp [List.getD_eq_getElem?_getD]
        · by_cases h5 : j < L.length
          · simp [h4, h5, Nat.lt_succ_of_lt h5, List.getD_eq_getElem?_getD, List.getElem?_append_left h5]
          · have : ¬ j < L.length + 1 := by omega
            simp [h4, h5, this]
      · simp [h1, h3]
  rw [e]
  exact hK
/-- what the walk of tell needs -/
def LI (g : Nat → Int32) : Prop := ∀ a, a < 16 → (g (73 + a) = -1 ∨ (m_blk g a < 16 ∧ g (73 + a) = nI (m_blk g a))) ∧ ∃ d, d < 16 ∧ g (89 + a) = nI d
theorem m_pop : ∀ d, d < 16 → m_ones (nI d) = nI (m_ones (nI d)).toNatClampNeg ∧ (m_ones (nI d)).toNatClampNeg ≤ 4 := by decide +kernel
def m_sgn (g : Nat → Int32) (a : Nat) : List Nat := if g (73 + a) = -1 then [45] else (if 9 < m_blk g a then [49] else []) ++ [48 + m_blk g a % 10] ++ List.replicate (m_ones (g (89 + a))).toNatClampNeg 42 ++ (if g (105 + a) = 1 then [33] else [])
theorem m_sgn_len (hL : LI g) {a : Nat} (ha : a < 16) : (m_sgn g a).length ≤ 7 := by
  obtain ⟨-, d, hd, hd2⟩ := hL a ha
  have := (m_pop d hd).2
  unfold m_sgn
  split
  · decide
  · rw [hd2]
    simp only [List.length_append, List.length_replicate, List.length_singleton]
    split <;> split <;> simp <;> omega
theorem m_d10 : ∀ b, b < 16 → (48 : Int32) + (nI b - nI b / (10 : Int32) * (10 : Int32)) = nI (48 + b % 10) := by decide +kernel
theorem tc_stars (hA : tOK κ A) (hLI : LI g) {a : Nat} (ha : a < 16) {L : List Nat} (hL : L.length ≤ 50) (K : Unit → xS → Prop) (hK : ∀ w, K () (tput h A (tg (tL t (L ++ List.replicate (m_ones (g (89 + a))).toNatClampNeg 42)) g), w)) : xwhile (B_X4_writesLine_47 κ K (A 20) (nI a)) (0 : Int32) (tput h A (tg (tL t L) g), w) := by
  obtain ⟨-, d, hd, hd2⟩ := hLI a ha
  obtain ⟨p1, p2⟩ := m_pop d hd
  rw [hd2] at hK
  generalize hm : (m_ones (nI d)).toNatClampNeg = m at hK p1 p2
  refine x_for m (fun i v σ => v = nI i ∧ i ≤ m ∧ ∃ w, σ = (tput h A (tg (tL t (L ++ List.replicate i 42)) g), w)) ?_ ?_ ⟨rfl, by omega, w, by simp⟩
  · rintro i v σ ⟨rfl, -, w, rfl⟩ hi self hself
    unfold B_X4_writesLine_47
    simp (disch := omega) only [t_gq_0 hA, t_nn, t_ag hA, a_89, vi_n, c_n, true_and, hd2]
    refine t_pure (r := nI m) (fun τ K hk => tc_ones _ τ K (by rw [p1]; exact hk)) ?_
    refine ⟨fun z => absurd ((nI_leI (by omega) (by omega)).mp z) (by omega), fun _ => ?_⟩
    simp only [t_rc hA, true_and]
    refine t_call (r := ()) (fun w K hk => tc_writesSign hA (c := 42) (by simp; omega) (by decide) K hk) ?_
    rw [(nI_succ i).symm]
    exact hself _ _ ⟨rfl, by omega, _, by rw [List.append_assoc, ← List.replicate_succ']⟩
  · rintro v σ ⟨rfl, -, w, rfl⟩ self
    unfold B_X4_writesLine_47
    simp (disch := omega) only [t_gq_0 hA, t_nn, t_ag hA, a_89, vi_n, c_n, true_and, hd2]
    refine t_pure (r := nI m) (fun τ K hk => tc_ones _ τ K (by rw [p1]; exact hk)) ?_
    exact ⟨fun _ => hK w, fun z => absurd ((nI_leI (by omega) (by omega)).mpr (Nat.le_refl _)) z⟩
theorem tc_writesLine (hA : tOK κ A) (hLI : LI g) {a : Nat} (ha : a < 16) {L : List Nat} (hL : L.length ≤ 40) (K : Unit → xH → Prop) (hK : K () (tput h A (tg (tL t (L ++ m_sgn g a)) g))) : P_X4_writesLine κ (A 20) (nI a) (tput h A (tg (tL t L) g), w) K := by
  unfold P_X4_writesLine
  unfold m_sgn at hK
  simp (disch := omega) only [t_gq_0 hA, t_nn, t_ag hA, a_73, a_105, vi_n, c_n, true_and]
  refine ⟨fun z => ?_, fun z => ?_⟩
  · rw [if_pos z] at hK
    simp only [t_rc hA, true_and]
    exact t_call (r := ()) (fun w K hk => tc_writesSign hA (c := 45) (by omega) (by decide) K hk) hK
  · rw [if_neg z] at hK
    rcases (hLI a ha).1 with z0 | ⟨hb, hb2⟩
    · exact absurd z0 z
    generalize m_blk g a = b at hK hb hb2
    have e9 : nI b ≤ (9 : Int32) ↔ b ≤ 9 := nI_leI (b := 9) (by omega) (by decide)
    -- behind the stars
    have fin : ∀ (L' : List Nat) (w : Nat × Nat), L'.length ≤ 50 → K () (tput h A (tg (tL t (L' ++ (if g (105 + a) = 1 then [33] else []))) g)) → (xgq (tput h A (tg (tL t L') g), w) (A 20) 10 0 fun v8 => xnn v8 fun b9 => xai .int (tput h A (tg (tL t L') g), w) b9 (nI (105 + a)) fun v10 => ((v10 = (1 : Int32) → (xrc (tput h A (tg (tL t L') g), w) (A 20) 10 ∧ xcall (fun τ L => P_X4_writesSign κ (A 20) (33 : Int32) τ L) (tput h A (tg (tL t L') g), w) fun _ σ11 => K () σ11.1)) ∧ (¬ v10 = (1 : Int32) → (K () (tput h A (tg (tL t L') g)))))) := by
      intro L' w hL' hk
      simp (disch := omega) only [t_gq_0 hA, t_nn, t_ag hA, a_105, vi_n, c_n, true_and]
      refine ⟨fun y => ?_, fun y => ?_⟩
      · rw [if_pos y] at hk
        simp only [t_rc hA, true_and]
        exact t_call (r := ()) (fun w K hk => tc_writesSign hA (c := 33) (by omega) (by decide) K hk) hk
      · rw [if_neg y, List.append_nil] at hk
        exact hk
    obtain ⟨-, d, hd, hd2⟩ := hLI a ha
    have hm := (m_pop d hd).2
    rw [hb2, e9, m_d10 b hb]
    refine ⟨fun y => ?_, fun y => ?_⟩
    · rw [if_neg (by omega), List.nil_append] at hK
      simp only [t_rc hA, true_and]
      refine t_call (r := ()) (fun w K hk => tc_writesSign hA (c := 48 + b % 10) (by omega) (by omega) K hk) ?_
      refine tc_stars hA hLI ha (by simp; omega) _ (fun w => ?_)
      refine fin _ _ ?_ ?_
      · rw [hd2]; simp; omega
      · simpa only [List.append_assoc] using hK
    · rw [if_pos (by omega)] at hK
      simp only [t_rc hA, true_and]
      refine t_call (r := ()) (fun w K hk => tc_writesSign hA (c := 49) (by omega) (by decide) K hk) ?_
      simp only [t_rc hA, true_and]
      refine t_call (r := ()) (fun w K hk => tc_writesSign hA (c := 48 + b % 10) (by simp; omega) (by omega) K hk) ?_
      refine tc_stars hA hLI ha (by simp; omega) _ (fun w => ?_)
      refine fin _ _ ?_ ?_
      · rw [hd2]; simp; omega
      · simpa only [List.append_assoc] using hK
def m_tellL (g : Nat → Int32) (q : Nat) : Nat → List Nat
  | 0 => []
  | k + 1 => m_tellL g q k ++ ((if 0 < k then [32] else []) ++ m_sgn g (4 * q + k))
theorem m_tellL_len (hLI : LI g) {q : Nat} (hq : q < 4) : ∀ k, k ≤ 4 → (m_tellL g q k).length ≤ 8 * k := by
  intro k
  induction k with
  | zero => intro _; exact Nat.le_refl _
  | succ k ih =>
    intro hk
    have h1 := ih (by omega)
    have h2 := m_sgn_len hLI (a := 4 * q + k) (by omega)
    simp only [m_tellL, List.length_append]
    split <;> simp <;> omega
def m_tell (g : Nat → Int32) (s l : Nat) (x : Int32) : Option (List Nat) := if m_in x 0 (nI (s - 1)) then some (m_tellL g x.toNatClampNeg l) else none
theorem tc_tell (hA : tOK κ A) (hT : TI g s l r) (hLI : LI g) (x : Int32) (K : Int32 → xH → Prop) (hK : match m_tell g s l x with | none => qAns (1, 0) t A h g K | some L => L.length ≤ 32 → qAns (0, nI L.length) (tL t L) A h g K) : P_X4_tell κ (A 20) x (tput h A (tg t g), w) K := by
  obtain ⟨-, ⟨hs, h1, h4⟩, ⟨hl, hl4⟩, -⟩ := hT
  unfold P_X4_tell
  unfold m_tell at hK
  simp only [t_rc hA, true_and]
  refine t_call (t' := tg t g) (r := bI (m_in x 0 (nI (s - 1)))) (fun w K hk => tc_isSet hA x K (by rw [hs, nI_m1 h1]; exact hk)) ?_
  cases hi : m_in x 0 (nI (s - 1)) with
  | false =>
    rw [hi] at hK
    exact ⟨fun _ => tc_qF hA K hK, fun z => absurd rfl z⟩
  | true =>
    rw [hi] at hK
    obtain ⟨q, rfl, hq⟩ := m_inI (by omega) hi
    simp only [if_true, c_n (show q < 2 ^ 31 by omega)] at hK
    have hK := hK (by have := m_tellL_len hLI (q := q) (by omega) l hl4; omega)
    refine ⟨fun z => absurd z (by decide), fun _ => ?_⟩
    rw [t_pi_15 hA]
    have e0 : tset (tg t g) 15 0 0 = tg (tL t []) g := by
      rw [← tL_tg]
      funext k j
      simp only [tset, tL]
      by_cases h1 : k = 15 <;> by_cases h2 : j = 0 <;> by_cases h3 : k = 14 <;> simp [h1, h2, h3, nI_0]
    rw [e0]
    refine x_for l (fun i v σ => v = nI i ∧ i ≤ l ∧ ∃ w, σ = (tput h A (tg (tL t (m_tellL g q i)) g), w)) ?_ ?_ ⟨rfl, by omega, w, rfl⟩
    · rintro i v σ ⟨rfl, -, w, rfl⟩ hi self hself
      have hlen := m_tellL_len hLI (q := q) (by omega) i (by omega)
      unfold B_X4_tell_21
      simp (disch := omega) only [t_gq_0 hA, t_nn, t_ag hA, i_2, l_2, true_and, hl, a_m4, nI_add, t_rc hA]
      refine ⟨fun z => absurd ((nI_leI (by omega) (by omega)).mp z) (by omega), fun _ => ⟨fun z => ?_, fun z => ?_⟩⟩
      · have hi0 : i = 0 := by
          have := (nI_leI (a := i) (b := 0) (by omega) (by omega)).mp z
          omega
        subst hi0
        refine t_call (r := ()) (fun w K hk => tc_writesLine hA hLI (by omega) (by omega) K hk) ?_
        rw [(nI_succ 0).symm]
        exact hself _ _ ⟨rfl, by omega, _, rfl⟩
      · have hi0 : 0 < i := by
          have : ¬ i ≤ 0 := fun y => z ((nI_leI (a := i) (b := 0) (by omega) (by omega)).mpr y)
          omega
        refine t_call (r := ()) (fun w K hk => tc_writesSign hA (c := 32) (by omega) (by decide) K hk) ?_
        simp only [t_rc hA, true_and]
        refine t_call (r := ()) (fun w K hk => tc_writesLine hA hLI (by omega) (by simp; omega) K hk) ?_
        rw [(nI_succ i).symm]
        have e : m_tellL g q i ++ [32] ++ m_sgn g (4 * q + i) = m_tellL g q (i + 1) := by simp only [m_tellL, if_pos hi0, List.append_assoc]
        rw [e]
        exact hself _ _ ⟨rfl, by omega, _, rfl⟩
    · rintro v σ ⟨rfl, -, w, rfl⟩ self
      unfold B_X4_tell_21
      have e15 : tg (tL t (m_tellL g q l)) g 15 0 = nI (m_tellL g q l).length := rfl
      simp (disch := omega) only [t_gq_0 hA, t_nn, t_ag hA, i_2, l_2, true_and, hl, t_gi_15 hA, e15]
      exact ⟨fun _ => tc_qD hA K hK, fun z => absurd ((nI_leI (by omega) (by omega)).mpr (Nat.le_refl _)) z⟩
def m_char (t : Nat → Nat → Int32) (n : Nat) (x : Int32) : Int32 × Int32 := if m_in x 0 (nI n - 1) then (0, t 14 x.toNatClampNeg) else (1, 0)
theorem m_inI' {x : Int32} {n : Nat} (hn : n ≤ 900) (h : m_in x 0 (nI n - 1) = true) : ∃ k : Nat, x = nI k ∧ k < n := by
  have hr1 : 1 ≤ n := by
    rcases Nat.eq_zero_or_pos n with z | z
    · subst z
      unfold m_in at h
      simp only [Bool.and_eq_true, decide_eq_true_eq] at h
      have e : nI 0 - 1 = -1 := by decide
      rw [e] at h
      obtain ⟨k, hk1, hk⟩ := nI_of h.1
      rw [hk] at h
      exact absurd (Int32.lt_of_lt_of_le (by decide : (-1 : Int32) < 0) (nI_pos' hk1)) h.2
    · exact z
  rw [nI_m1 hr1] at h
  obtain ⟨k, e, hk⟩ := m_inI (by omega) h
  exact ⟨k, e, by omega⟩
theorem tc_character (hA : tOK κ A) (h15 : t 15 0 = nI n) (hn : n ≤ 59) (h14 : ∀ i, i < n → narrow .char (.int (t 14 i)) = .int (t 14 i)) (x : Int32) (K : Int32 → xH → Prop) (hK : qAns (m_char t n x) t A h g K) : P_X4_character κ (A 20) x (tput h A (tg t g), w) K := by
  unfold P_X4_character
  unfold m_char at hK
  have h15' : tg t g 15 0 = nI n := h15
  rw [t_gi_15 hA, h15']
  refine t_pure (r := bI (m_in x 0 (nI n - 1))) (fun τ K hk => tc_in x _ _ τ K hk) ?_
  cases hi : m_in x 0 (nI n - 1) with
  | false =>
    rw [hi] at hK
    refine ⟨fun _ => ?_, fun z => absurd rfl z⟩
    rw [t_pi_16 hA, tg_setk _ _ (by decide), t_gi_16 hA]
    have e : tg (tset t 16 0 1) g 16 0 = 1 := by simp [tg, tset]
    rw [e]
    exact ⟨fun z => absurd z (by decide), fun _ => ⟨rfl, hK⟩⟩
  | true =>
    rw [hi] at hK
    obtain ⟨k, rfl, hk⟩ := m_inI' (by omega) hi
    simp only [if_true, c_n (show k < 2 ^ 31 by omega)] at hK
    refine ⟨fun z => absurd z (by decide), fun _ => ?_⟩
    rw [t_pi_16 hA, tg_setk _ _ (by decide), t_gi_16 hA]
    have e : tg (tset t 16 0 0) g 16 0 = 0 := by simp [tg, tset]
    rw [e]
    refine ⟨fun _ => ?_, fun z => absurd rfl z⟩
    rw [t_gq_14 hA, t_nn, t_ai_14 hA, c_n (by omega)]
    exact ⟨nI_in (by omega) (by decide), h14 k hk, hK⟩
end U14
