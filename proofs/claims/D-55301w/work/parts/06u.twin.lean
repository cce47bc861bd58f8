section U11
variable {κ A : Nat → Nat} {h : xH} {t : Nat → Nat → Int32} {w : Nat × Nat} {n : Nat} {q : Nat × Bool} {D : Nat → Int32}
theorem r_here_m1 (f : Nat → Int32) {p : Nat} (hp : ¬ p < n) : r_dig f n p = false := by
  unfold r_dig r_here
  rw [if_neg hp]
  decide
theorem r_digit_le (f : Nat → Int32) (hq : q.1 ≤ n) : (r_digit f n q).2.1 ≤ n := by
  unfold r_digit
  split
  · exact hq
  · rename_i z
    by_cases hp : q.1 < n
    · exact hp
    · rw [r_here_m1 f hp] at z
      simp at z
theorem tc_digit (hA : tOK κ A) (h8 : t 8 0 = nI n) (hn : n ≤ 59) (hp : q.1 ≤ 60) (K : Int32 → xH → Prop) (hK : K (r_digit (t 7) n q).1 (tput h A (tQ t (r_digit (t 7) n q).2 D))) : P_X4_digit κ (A 20) (tput h A (tQ t q D), w) K := by
  unfold P_X4_digit
  unfold r_digit r_dig at hK
  obtain ⟨p, wr⟩ := q
  rw [t_gi_18 hA, tQ_18]
  refine ⟨fun z => ?_, fun z => ?_⟩
  · have hw : wr = false := (bI_0 _).mp z
    subst hw
    simp only [t_rc hA, true_and]
    refine t_call (t' := tQ t (p, false) D) (r := r_here (t 7) n p) (fun w K hk => tc_here hA h8 hn hp K hk) ?_
    refine t_pure (r := bI (m_in (r_here (t 7) n p) 48 57)) (fun τ K hk => tc_in _ _ _ τ K hk) ?_
    refine ⟨fun y => ?_, fun y => ?_⟩
    · have y := (bI_0 _).mp y
      simp only [t_pi_18 hA, tQ_s181, t_gi_17 hA, t_gi_18 hA, tQ_17, tQ_18]
      refine ⟨fun x => absurd x (by decide), fun _ => ⟨fun x => absurd x (by decide), fun _ => ?_⟩⟩
      simp only [t_pi_17 hA, Int32.add_zero, tQ_s17]
      simpa [y] using hK
    · have y := bI_c y
      simp only [t_pi_18 hA, tQ_s180, t_gi_17 hA, t_gi_18 hA, tQ_17, tQ_18, t_rc hA, true_and]
      refine ⟨fun _ => ?_, fun x => absurd rfl x⟩
      refine t_call (t' := tQ t (p, false) D) (r := r_here (t 7) n p) (fun w K hk => tc_here hA h8 hn hp K hk) ?_
      simp only [t_gi_17 hA, t_gi_18 hA, tQ_17, tQ_18]
      refine ⟨fun _ => ?_, fun x => absurd rfl x⟩
      simp only [t_pi_17 hA, nI_1, tQ_s17]
      simpa [y] using hK
  · have hw : wr = true := bI_c z
    subst hw
    simp only [t_pi_18 hA, tQ_s181, t_gi_17 hA, t_gi_18 hA, tQ_17, tQ_18]
    refine ⟨fun x => absurd x (by decide), fun _ => ⟨fun x => absurd x (by decide), fun _ => ?_⟩⟩
    simp only [t_pi_17 hA, Int32.add_zero, tQ_s17]
    simpa using hK
theorem tc_isDigit (hA : tOK κ A) (h8 : t 8 0 = nI n) (hn : n ≤ 59) (hp : q.1 ≤ 60) (K : Int32 → xH → Prop) (hK : K (bI (r_isD (t 7) n q)) (tput h A (tQ t q D))) : P_X4_isDigit κ (A 20) (tput h A (tQ t q D), w) K := by
  unfold P_X4_isDigit
  unfold r_isD r_dig at hK
  obtain ⟨p, wr⟩ := q
  rw [t_gi_18 hA, tQ_18]
  refine ⟨fun z => ?_, fun z => ?_⟩
  · have hw : wr = false := (bI_0 _).mp z
    subst hw
    simp only [t_rc hA, true_and]
    refine t_call (t' := tQ t (p, false) D) (r := r_here (t 7) n p) (fun w K hk => tc_here hA h8 hn hp K hk) ?_
    refine t_pure (r := bI (m_in (r_here (t 7) n p) 48 57)) (fun τ K hk => tc_in _ _ _ τ K hk) ?_
    refine ⟨fun y => ?_, fun y => ?_⟩
    · simpa [(bI_0 _).mp y, bI] using hK
    · simpa [bI_c y, bI] using hK
  · have hw : wr = true := bI_c z
    subst hw
    simpa [bI] using hK
theorem r_more_le (f : Nat → Int32) {v : Int32 × (Nat × Bool)} (hq : v.2.1 ≤ n) : (r_more f n v).2.1 ≤ n := by
  unfold r_more
  split
  · exact r_digit_le f hq
  · exact hq
theorem r_number_le (f : Nat → Int32) (hq : q.1 ≤ n) : (r_number f n q).2.1 ≤ n := r_more_le f (r_more_le f (r_digit_le f hq))
theorem tc_number (hA : tOK κ A) (h8 : t 8 0 = nI n) (hn : n ≤ 59) (hp : q.1 ≤ n) (K : Int32 → xH → Prop) (hK : K (r_number (t 7) n q).1 (tput h A (tQ t (r_number (t 7) n q).2 D))) : P_X4_number κ (A 20) (tput h A (tQ t q D), w) K := by
  unfold P_X4_number
  unfold r_number at hK
  have h1 := r_digit_le (t 7) hp
  simp only [t_rc hA, true_and]
  refine t_call (r := (r_digit (t 7) n q).1) (fun w K hk => tc_digit hA h8 hn (by omega) K hk) ?_
  generalize r_digit (t 7) n q = v at hK h1 ⊢
  simp only [t_rc hA, true_and]
  refine t_call (t' := tQ t v.2 D) (r := bI (r_isD (t 7) n v.2)) (fun w K hk => tc_isDigit hA h8 hn (by omega) K hk) ?_
  refine ⟨fun z => ?_, fun z => ?_⟩
  · have z := (bI_0 _).mp z
    have e : r_more (t 7) n v = v := by unfold r_more; rw [z]; simp
    rw [e, e] at hK
    simp only [t_rc hA, true_and]
    refine t_call (t' := tQ t v.2 D) (r := bI (r_isD (t 7) n v.2)) (fun w K hk => tc_isDigit hA h8 hn (by omega) K hk) ?_
    rw [z]
    exact ⟨fun _ => hK, fun x => absurd rfl x⟩
  · have z := bI_c z
    have e : r_more (t 7) n v = ((10 : Int32) * v.1 + (r_digit (t 7) n v.2).1, (r_digit (t 7) n v.2).2) := by unfold r_more; rw [z]; simp
    rw [e] at hK
    have h2 := r_digit_le (t 7) h1
    simp only [t_rc hA, true_and]
    refine t_call (r := (r_digit (t 7) n v.2).1) (fun w K hk => tc_digit hA h8 hn (by omega) K hk) ?_
    generalize r_digit (t 7) n v.2 = u at hK h2 ⊢
    simp only [t_rc hA, true_and]
    refine t_call (t' := tQ t u.2 D) (r := bI (r_isD (t 7) n u.2)) (fun w K hk => tc_isDigit hA h8 hn (by omega) K hk) ?_
    refine ⟨fun y => ?_, fun y => ?_⟩
    · have y := (bI_0 _).mp y
      have e : r_more (t 7) n ((10 : Int32) * v.1 + u.1, u.2) = ((10 : Int32) * v.1 + u.1, u.2) := by unfold r_more; simp only [y]; simp
      rw [e] at hK
      exact hK
    · have y := bI_c y
      have e : r_more (t 7) n ((10 : Int32) * v.1 + u.1, u.2) = ((10 : Int32) * ((10 : Int32) * v.1 + u.1) + (r_digit (t 7) n u.2).1, (r_digit (t 7) n u.2).2) := by unfold r_more; simp only [y]; simp
      rw [e] at hK
      simp only [t_rc hA, true_and]
      exact t_call (r := (r_digit (t 7) n u.2).1) (fun w K hk => tc_digit hA h8 hn (by omega) K hk) hK
theorem r_signed_le (f : Nat → Int32) (hq : q.1 ≤ n) : (r_signed f n q).2.1 ≤ n := by
  unfold r_signed
  split
  · rename_i z
    refine r_number_le f ?_
    by_cases hp : q.1 < n
    · exact hp
    · unfold r_here at z
      rw [if_neg hp] at z
      simp at z
  · exact r_number_le f hq
theorem tc_signedNumber (hA : tOK κ A) (h8 : t 8 0 = nI n) (hn : n ≤ 59) (hp : q.1 ≤ n) (K : Int32 → xH → Prop) (hK : K (r_signed (t 7) n q).1 (tput h A (tQ t (r_signed (t 7) n q).2 D))) : P_X4_signedNumber κ (A 20) (tput h A (tQ t q D), w) K := by
  unfold P_X4_signedNumber
  unfold r_signed at hK
  obtain ⟨p, wr⟩ := q
  rw [t_gi_18 hA, tQ_18]
  refine ⟨fun z => ?_, fun z => ?_⟩
  · have hw : wr = false := (bI_0 _).mp z
    subst hw
    simp only [t_rc hA, true_and]
    refine t_call (t' := tQ t (p, false) D) (r := r_here (t 7) n p) (fun w K hk => tc_here hA h8 hn (by show p ≤ 60; have : p ≤ n := hp; omega) K hk) ?_
    refine ⟨fun y => ?_, fun y => ?_⟩
    · have hp' : p + 1 ≤ n := by
        by_cases hp : p < n
        · exact hp
        · unfold r_here at y
          rw [if_neg hp] at y
          exact absurd y (by decide)
      simp only [t_gi_17 hA, tQ_17]
      refine ⟨fun x => absurd x (by decide), fun _ => ?_⟩
      simp only [t_pi_17 hA, nI_1, tQ_s17, t_rc hA, true_and]
      simp only [y] at hK
      refine t_call (r := (r_number (t 7) n (p + 1, false)).1) (fun w K hk => tc_number hA h8 hn hp' K hk) ?_
      refine ⟨fun x => absurd x (by decide), fun _ => ?_⟩
      simpa using hK
    · simp only [t_gi_17 hA, tQ_17]
      refine ⟨fun _ => ?_, fun x => absurd trivial x⟩
      simp only [t_pi_17 hA, Int32.add_zero, tQ_s17, t_rc hA, true_and]
      simp only [y] at hK
      refine t_call (r := (r_number (t 7) n (p, false)).1) (fun w K hk => tc_number hA h8 hn hp K hk) ?_
      refine ⟨fun _ => ?_, fun x => absurd trivial x⟩
      simpa using hK
  · have hw : wr = true := bI_c z
    subst hw
    simp only [t_gi_17 hA, tQ_17]
    refine ⟨fun _ => ?_, fun x => absurd trivial x⟩
    simp only [t_pi_17 hA, Int32.add_zero, tQ_s17, t_rc hA, true_and]
    refine t_call (r := (r_number (t 7) n (p, true)).1) (fun w K hk => tc_number hA h8 hn hp K hk) ?_
    refine ⟨fun _ => ?_, fun x => absurd trivial x⟩
    simpa using hK
theorem r_w_lt (f : Nat → Int32) (p : Nat) : r_w f n p < 7 := by
  unfold r_w
  split
  · rename_i k hk
    have := List.mem_range.mp (List.mem_of_find?_eq_some hk)
    omega
  · omega
theorem r_needsL_le (f : Nat → Int32) : ∀ (l : List Nat) (q : Nat × Bool), (∀ x ∈ l, nI x ≠ -1) → q.1 ≤ n → (r_needsL f n l q).1 ≤ n := by
  intro l
  induction l with
  | nil => intro q _ hq; exact hq
  | cons c l ih =>
    intro q hl hq
    simp only [r_needsL]
    exact ih _ (fun x hx => hl x (List.mem_cons_of_mem _ hx)) (r_needs_le f _ (hl c (List.mem_cons_self ..)) hq)
theorem m_W_ne' (k : Nat) : ∀ x ∈ m_W k, nI x ≠ -1 := by
  unfold m_W
  split <;> decide
theorem r_order_le (f : Nat → Int32) (D : Nat → Int32) (k : Nat) (hq : q.1 ≤ n) : (r_order f n q D k).1.1 ≤ n := by
  have h1 := r_needsL_le f (m_W (r_w f n q.1)) q (m_W_ne' _) hq
  simp only [r_order]
  split
  · exact h1
  · split
    · exact r_signed_le f (r_needs_le f _ (by decide) (r_number_le f h1))
    · exact r_number_le f h1
theorem tc_readsOrder (hA : tOK κ A) (hW : ∀ t, kW κ (tput h A t)) (h8 : t 8 0 = nI n) (hn : n ≤ 59) (hp : q.1 ≤ n) {k : Nat} (hk : k + 2 < 180) (K : Unit → xH → Prop) (hK : K () (tput h A (tQ t (r_order (t 7) n q D k).1 (r_order (t 7) n q D k).2))) : P_X4_readsOrder κ (A 20) (nI k) (tput h A (tQ t q D), w) K := by
  unfold P_X4_readsOrder
  simp only [r_order] at hK
  have hw7 := r_w_lt (n := n) (t 7) q.1
  simp only [t_rc hA, true_and]
  refine t_call (t' := tQ t (r_needsL (t 7) n (m_W (r_w (t 7) n q.1)) q) D) (r := nI (r_w (t 7) n q.1)) (fun w K hk => tc_readsWord hA hW h8 hn hp K (fun _ => hk)) ?_
  have h1 := r_needsL_le (t 7) (m_W (r_w (t 7) n q.1)) q (m_W_ne' _) hp
  generalize r_needsL (t 7) n (m_W (r_w (t 7) n q.1)) q = q1 at hK h1 ⊢
  generalize r_w (t 7) n q.1 = z at hK hw7 ⊢
  have e4 : nI z = (4 : Int32) ↔ z = 4 := nI_eq (b := 4) (by omega) (by omega)
  have e1 : nI z = (1 : Int32) ↔ z = 1 := nI_eq (b := 1) (by omega) (by omega)
  have e5 : nI z = (5 : Int32) ↔ z = 5 := nI_eq (b := 5) (by omega) (by omega)
  have v1 : nI k + (1 : Int32) = nI (k + 1) := nI_1 k
  have v2 : nI k + (2 : Int32) = nI (k + 2) := nI_add k 2
  have i0 : vp_in (nI k) 180 := nI_in (by omega) (by decide)
  have i1 : vp_in (nI (k + 1)) 180 := nI_in (by omega) (by decide)
  have i2 : vp_in (nI (k + 2)) 180 := nI_in (by omega) (by decide)
  simp (disch := omega) only [t_gq_19 hA, t_nn, t_si_19 hA, i0, c_n, true_and, tQ_s19, e4, e1, e5, v1, v2]
  refine ⟨fun y => ?_, fun y => ?_⟩
  · rw [if_pos y] at hK; exact hK
  · rw [if_neg y] at hK
    simp only [t_rc hA, true_and]
    refine t_call (r := (r_number (t 7) n q1).1) (fun w K hk => tc_number hA h8 hn h1 K hk) ?_
    have h2 := r_number_le (t 7) h1
    generalize r_number (t 7) n q1 = v at hK h2 ⊢
    simp (disch := omega) only [t_si_19 hA, i1, c_n, true_and, tQ_s19]
    have go : (z = 1 ∨ z = 5) → ∀ w, (xrc (tput h A (tQ t v.2 (upd (upd D k (nI z)) (k + 1) v.1)), w) (A 20) 10 ∧ xcall (fun τ L => P_X4_needs κ (A 20) (61 : Int32) τ L) (tput h A (tQ t v.2 (upd (upd D k (nI z)) (k + 1) v.1)), w) fun _ σ11 => xgq σ11 (A 20) 10 19 fun v12 => xrc σ11 (A 20) 10 ∧ xcall (fun τ L => P_X4_signedNumber κ (A 20) τ L) σ11 fun v13 σ14 => xnn v12 fun b15 => xsi κ .int σ14 b15 (nI (k + 2)) v13 fun σ16 => K () σ16.1) := by
      intro y w
      rw [if_pos y] at hK
      simp only [t_rc hA, true_and]
      refine t_call (r := ()) (fun w K hk => tc_needs hA h8 hn (by omega) _ K hk) ?_
      have h3 := r_needs_le (q := v.2) (n := n) (t 7) 61 (by decide) h2
      simp only [t_gq_19 hA, t_rc hA, true_and]
      refine t_call (r := (r_signed (t 7) n (r_needs (t 7) n 61 v.2)).1) (fun w K hk => tc_signedNumber hA h8 hn h3 K hk) ?_
      simp (disch := omega) only [t_nn, t_si_19 hA, i2, c_n, true_and, tQ_s19]
      exact hK
    refine ⟨fun x => go (Or.inl x) _, fun x => ⟨fun u => go (Or.inr u) _, fun u => ?_⟩⟩
    rw [if_neg (by omega)] at hK
    exact hK
end U11
