section U12
variable {κ A : Nat → Nat} {h : xH} {t : Nat → Nat → Int32} {w : Nat × Nat} {n : Nat} {q : Nat × Bool} {D : Nat → Int32}
theorem r_needs_ge (f : Nat → Int32) (c : Int32) : q.1 ≤ (r_needs f n c q).1 := by
  unfold r_needs
  split
  · exact Nat.le_refl _
  · exact Nat.le_succ _
theorem r_needsL_ge (f : Nat → Int32) : ∀ (l : List Nat) (q : Nat × Bool), q.1 ≤ (r_needsL f n l q).1 := by
  intro l
  induction l with
  | nil => intro q; exact Nat.le_refl _
  | cons c l ih => intro q; exact Nat.le_trans (r_needs_ge f _) (ih _)
theorem r_digit_ge (f : Nat → Int32) : q.1 ≤ (r_digit f n q).2.1 := by
  unfold r_digit
  split
  · exact Nat.le_refl _
  · exact Nat.le_succ _
theorem r_more_ge (f : Nat → Int32) (v : Int32 × (Nat × Bool)) : v.2.1 ≤ (r_more f n v).2.1 := by
  unfold r_more
  split
  · exact r_digit_ge f
  · exact Nat.le_refl _
theorem r_number_ge (f : Nat → Int32) : q.1 ≤ (r_number f n q).2.1 := Nat.le_trans (r_digit_ge f) (Nat.le_trans (r_more_ge f _) (r_more_ge f _))
theorem r_signed_ge (f : Nat → Int32) : q.1 ≤ (r_signed f n q).2.1 := by
  unfold r_signed
  split
  · exact Nat.le_trans (Nat.le_succ _) (r_number_ge (q := (q.1 + 1, q.2)) f)
  · exact r_number_ge f
theorem r_order_ge (f : Nat → Int32) (D : Nat → Int32) (k : Nat) : q.1 ≤ (r_order f n q D k).1.1 := by
  have h1 := r_needsL_ge (n := n) f (m_W (r_w f n q.1)) q
  simp only [r_order]
  split
  · exact h1
  · split
    · exact Nat.le_trans h1 (Nat.le_trans (r_number_ge f) (Nat.le_trans (r_needs_ge f _) (r_signed_ge f)))
    · exact Nat.le_trans h1 (r_number_ge f)
def r_T (f : Nat → Int32) (n : Nat) (D : Nat → Int32) : Nat × (Nat × Bool) × (Nat → Int32) := r_text f n 60 0 (0, false) D
/-- what reading leaves: place, isWrong, told, typed -/
def t_read (t : Nat → Nat → Int32) (n : Nat) : Nat → Nat → Int32 :=
  let o := r_T (t 7) n (t 19)
  tset (tQ t (o.2.1.1, o.2.1.2 || decide (o.2.1.1 < n)) o.2.2) 8 0 0
theorem tQ_start : tset (tset t 17 0 0) 18 0 0 = tQ t (0, false) (t 19) := by
  funext k j
  simp only [tQ, tset]
  by_cases h1 : k = 17 <;> by_cases h2 : k = 18 <;> by_cases h3 : k = 19 <;> by_cases h4 : j = 0 <;> simp [h1, h2, h3, h4, bI, nI_0]
theorem tc_readsText (hA : tOK κ A) (hW : ∀ t, kW κ (tput h A t)) (h8 : t 8 0 = nI n) (hn : n ≤ 59) (K : Int32 → xH → Prop) (hK : (r_T (t 7) n (t 19)).1 ≤ 60 → K (nI (r_T (t 7) n (t 19)).1) (tput h A (t_read t n))) : P_X4_readsText κ (A 20) (tput h A t, w) K := by
  unfold P_X4_readsText
  simp only [t_pi_17 hA, t_pi_18 hA, tQ_start]
  unfold t_read at hK
  generalize hT : r_T (t 7) n (t 19) = o at hK
  unfold r_T at hT
  refine xwhile_of (fun v σ => ∃ (w : Nat × Nat) (m : Nat) (q : Nat × Bool) (D : Nat → Int32), σ = (tput h A (tQ t q D), w) ∧ ((v = (nI m, 1) ∧ m ≤ q.1 ∧ q.1 ≤ n ∧ q.2 = false ∧ r_text (t 7) n (60 - m) m q D = o) ∨ (v = (nI m, 0) ∧ m ≤ 60 ∧ q.1 ≤ n ∧ (m, q, D) = o))) (fun v _ => 2 * (100 - v.1.toNatClampNeg) + v.2.toNatClampNeg) ?_ ⟨w, 0, (0, false), t 19, rfl, Or.inl ⟨rfl, Nat.le_refl _, Nat.zero_le _, rfl, hT⟩⟩
  rintro v σ ⟨w, m, q, D, rfl, hI⟩ self hself
  unfold B_X4_readsText_14
  rcases hI with ⟨rfl, hm, hq, hwr, hR⟩ | ⟨rfl, hm, hq, hR⟩
  · refine ⟨fun z => absurd (show (1 : Int32) = 0 from z) (by decide), fun _ => ?_⟩
    have hm2 : m ≤ 59 := by omega
    rw [show 60 - m = (60 - (m + 1)) + 1 by omega] at hR
    simp only [r_text] at hR
    have e3 : (3 : Int32) * nI m = nI (3 * m) := nI_mul 3 m
    simp only [t_rc hA, true_and, e3]
    refine t_call (r := ()) (fun w K hk => tc_readsOrder hA hW h8 hn hq (by omega) K hk) ?_
    have hp1 := r_order_le (n := n) (t 7) D (3 * m) hq
    have hge := r_order_ge (n := n) (q := q) (t 7) D (3 * m)
    generalize r_order (t 7) n q D (3 * m) = u at hR hp1 hge ⊢
    obtain ⟨⟨p1, wr1⟩, D1⟩ := u
    have hp1 : p1 ≤ n := hp1
    have hge : q.1 ≤ p1 := hge
    rw [t_gi_18 hA, tQ_18]
    have hstop : (!wr1 && decide (r_here (t 7) n p1 = 59)) = false → ∀ w, self (nI m + 1, 0) (tput h A (tQ t (p1, wr1) D1), w) := by
      intro z w
      rw [(nI_succ m).symm]
      simp only [z] at hR
      refine hself _ _ ⟨w, m + 1, (p1, wr1), D1, rfl, Or.inr ⟨rfl, by omega, hp1, hR⟩⟩ ?_
      show 2 * (100 - (nI (m + 1)).toNatClampNeg) + (0 : Int32).toNatClampNeg < 2 * (100 - (nI m).toNatClampNeg) + (1 : Int32).toNatClampNeg
      rw [nI_clamp (by omega), nI_clamp (by omega)]
      have : (0 : Int32).toNatClampNeg = 0 := by decide
      have : (1 : Int32).toNatClampNeg = 1 := by decide
      omega
    refine ⟨fun z => ?_, fun z => ?_⟩
    · have hw : wr1 = false := (bI_0 _).mp z
      subst hw
      simp only [t_rc hA, true_and]
      refine t_call (t' := tQ t (p1, false) D1) (r := r_here (t 7) n p1) (fun w K hk => tc_here hA h8 hn (by show p1 ≤ 60; omega) K hk) ?_
      refine ⟨fun y => ?_, fun y => ?_⟩
      · simp only [t_gi_17 hA, tQ_17]
        refine ⟨fun x => absurd x (by decide), fun _ => ?_⟩
        simp only [t_pi_17 hA, nI_1, tQ_s17]
        have hlt : p1 < n := by
          by_cases hp : p1 < n
          · exact hp
          · unfold r_here at y
            rw [if_neg hp] at y
            exact absurd y (by decide)
        simp only [y] at hR
        have hR : r_text (t 7) n (60 - (m + 1)) (m + 1) (p1 + 1, false) D1 = o := by simpa using hR
        have hmp : m ≤ p1 := by
          -- an order that is right moves on or stays
          exact Nat.le_trans hm hge
        refine hself _ _ ⟨_, m + 1, (p1 + 1, false), D1, rfl, Or.inl ⟨rfl, by show m + 1 ≤ p1 + 1; omega, hlt, rfl, hR⟩⟩ ?_
        show 2 * (100 - (nI (m + 1)).toNatClampNeg) + (1 : Int32).toNatClampNeg < 2 * (100 - (nI m).toNatClampNeg) + (1 : Int32).toNatClampNeg
        rw [nI_clamp (by omega), nI_clamp (by omega)]
        omega
      · simp only [t_gi_17 hA, tQ_17]
        refine ⟨fun _ => ?_, fun x => absurd trivial x⟩
        simp only [t_pi_17 hA, Int32.add_zero, tQ_s17]
        exact hstop (by simp [y]) _
    · have hw : wr1 = true := bI_c z
      subst hw
      simp only [t_gi_17 hA, tQ_17]
      refine ⟨fun _ => ?_, fun x => absurd trivial x⟩
      simp only [t_pi_17 hA, Int32.add_zero, tQ_s17]
      exact hstop rfl _
  · refine ⟨fun _ => ?_, fun x => absurd rfl x⟩
    subst hR
    have hK := hK hm
    have e : nI n ≤ nI q.1 ↔ n ≤ q.1 := nI_leI (by omega) (by omega)
    rw [t_gi_18 hA, tQ_18]
    refine ⟨fun z => ?_, fun z => ?_⟩
    · have z := (bI_0 _).mp z
      simp only [t_gi_17 hA, t_gi_8 hA, tQ_17, tQ_8, h8, e]
      refine ⟨fun y => ?_, fun y => ?_⟩
      · simp only [t_pi_18 hA, tQ_s180, t_pi_8 hA]
        simpa [z, show ¬ q.1 < n by omega] using hK
      · simp only [t_pi_18 hA, tQ_s181, t_pi_8 hA]
        simpa [z, show q.1 < n by omega] using hK
    · have z := bI_c z
      simp only [t_pi_18 hA, tQ_s181, t_pi_8 hA]
      simpa [z] using hK
end U12
