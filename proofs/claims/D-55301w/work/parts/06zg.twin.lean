section U23
variable {κ A : Nat → Nat} {h H : xH} {a : Nat}
theorem xup_swap {q : Nat} {e o o' : xE} (hq : q ≠ a) : xup (xup (xup H a o) q e) a o' = xup (xup H q e) a o' := by
  funext b
  simp only [xup]
  by_cases h1 : b = a
  · simp [h1]
  · by_cases h2 : b = q <;> simp [h1, h2]
theorem xup_none {q : Nat} {e : xE} (h1 : xup H a e q = none) : q ≠ a ∧ H q = none := by
  unfold xup at h1
  by_cases hq : q = a
  · rw [if_pos hq] at h1; cases h1
  · rw [if_neg hq] at h1; exact ⟨hq, h1⟩
/-- an array made and put into a field of the object at a -/
theorem t_mk {ci k N c s : Nat} {fs : List Value} {ty : FieldType} {n : Int32} {x : Nat → vp_A} {K : xS → Prop} (hn : n = nI N) (hN : N ≤ 67108864) (hc : 1 ≤ c) (hs : N ≤ s) (hk : k < fs.length) (hκ : κ 0 ≤ a) (hK : ∀ q : Nat, H q = none → q ≠ a → κ 0 ≤ q → K (xup (xup H q (.inr (ty, x N))) a (.inl (ci, fs.set k (.ref q))), c - 1, s - N)) :
    xnea κ (xup H a (.inl (ci, fs)), c, s) ty n x fun q σ2 => xpq κ σ2 a ci k (some q) K := by
  refine ⟨N, hn, hN, hc, hs, fun q hq hκq => ?_⟩
  obtain ⟨hqa, hq0⟩ := xup_none hq
  have e : xup (xup H a (.inl (ci, fs))) q (.inr (ty, x N)) a = some (.inl (ci, fs)) := by
    rw [xup_ne (Ne.symm hqa), xup_eq]
  refine ⟨fs, e, hκ, hk, ?_⟩
  have := hK q hq0 hqa hκq
  rw [← xup_swap (o := .inl (ci, fs)) hqa] at this
  exact this
theorem xup_xup {e e' : xE} : xup (xup H a e) a e' = xup H a e' := by
  funext b
  simp only [xup]
  by_cases h1 : b = a <;> simp [h1]
def t0 : Nat → Nat → Int32 := fun k j => if k = 9 ∧ j = 0 then -1 else 0
def g0 : Nat → Int32 := m_empties (upd (upd (fun _ => 0) 1 2) 2 2) 16
theorem xup_self {e : xE} (he : h a = some e) : xup h a e = h := by
  funext b
  unfold xup
  by_cases hb : b = a
  · rw [if_pos hb, hb, he]
  · rw [if_neg hb]
theorem tc_init (ha : h a = some (.inl (10, [va_rf none, va_rf none, va_rf none, .int 0, va_rf none, .int 0, va_rf none, va_rf none, .int 0, .int 0, .int 0, .int 0, .int 0, .int 0, va_rf none, .int 0, .int 0, .int 0, .int 0, va_rf none]))) (hκ : κ 0 ≤ a) {c0 s0 : Nat} (hc : 8 ≤ c0) (hs : 5000 ≤ s0) (K : Unit → xH → Prop) (hK : ∀ A : Nat → Nat, A 20 = a → tOK κ A → (∀ k, (k = 0 ∨ k = 1 ∨ k = 2 ∨ k = 4 ∨ k = 6 ∨ k = 7 ∨ k = 14 ∨ k = 19) → h (A k) = none) → K () (tput h A (tg t0 g0))) : P_X4_init κ a (h, c0, s0) K := by
  unfold P_X4_init
  rw [← xup_self ha]
  refine t_mk (N := 357) (by decide) (by decide) (by omega) (by omega) (by simp) hκ (fun q0 n0 d0 k0 => ?_)
  simp only [List.set_cons_succ, List.set_cons_zero]
  refine t_mk (N := 357) (by decide) (by decide) (by omega) (by omega) (by simp) hκ (fun q1 n1 d1 k1 => ?_)
  simp only [List.set_cons_succ, List.set_cons_zero]
  refine t_mk (N := 2856) (by decide) (by decide) (by omega) (by omega) (by simp) hκ (fun q2 n2 d2 k2 => ?_)
  simp only [List.set_cons_succ, List.set_cons_zero]
  refine t_mk (N := 357) (by decide) (by decide) (by omega) (by omega) (by simp) hκ (fun q3 n3 d3 k3 => ?_)
  simp only [List.set_cons_succ, List.set_cons_zero]
  refine t_mk (N := 357) (by decide) (by decide) (by omega) (by omega) (by simp) hκ (fun q4 n4 d4 k4 => ?_)
  simp only [List.set_cons_succ, List.set_cons_zero]
  refine t_mk (N := 60) (by decide) (by decide) (by omega) (by omega) (by simp) hκ (fun q5 n5 d5 k5 => ?_)
  simp only [List.set_cons_succ, List.set_cons_zero]
  rw [g_pi xup_eq hκ (by simp), xup_xup]
  refine t_mk (N := 60) (by decide) (by decide) (by omega) (by omega) (by simp) hκ (fun q6 n6 d6 k6 => ?_)
  simp only [List.set_cons_succ, List.set_cons_zero]
  refine t_mk (N := 180) (by decide) (by decide) (by omega) (by omega) (by simp) hκ (fun q7 n7 d7 k7 => ?_)
  simp only [List.set_cons_succ, List.set_cons_zero]
  obtain ⟨e0_1, n1⟩ := xup_none n1
  obtain ⟨e1_2, n2⟩ := xup_none n2
  obtain ⟨e0_2, n2⟩ := xup_none n2
  obtain ⟨e2_3, n3⟩ := xup_none n3
  obtain ⟨e1_3, n3⟩ := xup_none n3
  obtain ⟨e0_3, n3⟩ := xup_none n3
  obtain ⟨e3_4, n4⟩ := xup_none n4
  obtain ⟨e2_4, n4⟩ := xup_none n4
  obtain ⟨e1_4, n4⟩ := xup_none n4
  obtain ⟨e0_4, n4⟩ := xup_none n4
  obtain ⟨e4_5, n5⟩ := xup_none n5
  obtain ⟨e3_5, n5⟩ := xup_none n5
  obtain ⟨e2_5, n5⟩ := xup_none n5
  obtain ⟨e1_5, n5⟩ := xup_none n5
  obtain ⟨e0_5, n5⟩ := xup_none n5
  obtain ⟨e5_6, n6⟩ := xup_none n6
  obtain ⟨e4_6, n6⟩ := xup_none n6
  obtain ⟨e3_6, n6⟩ := xup_none n6
  obtain ⟨e2_6, n6⟩ := xup_none n6
  obtain ⟨e1_6, n6⟩ := xup_none n6
  obtain ⟨e0_6, n6⟩ := xup_none n6
  obtain ⟨e6_7, n7⟩ := xup_none n7
  obtain ⟨e5_7, n7⟩ := xup_none n7
  obtain ⟨e4_7, n7⟩ := xup_none n7
  obtain ⟨e3_7, n7⟩ := xup_none n7
  obtain ⟨e2_7, n7⟩ := xup_none n7
  obtain ⟨e1_7, n7⟩ := xup_none n7
  obtain ⟨e0_7, n7⟩ := xup_none n7
  obtain ⟨A, hAk⟩ : ∃ A : Nat → Nat, A = (fun k => if k = 0 then q0 else if k = 1 then q1 else if k = 2 then q2 else if k = 4 then q3 else if k = 6 then q4 else if k = 7 then q5 else if k = 14 then q6 else if k = 19 then q7 else a) := ⟨_, rfl⟩
  have a0 : A 0 = q0 := by rw [hAk]; simp
  have a1 : A 1 = q1 := by rw [hAk]; simp
  have a2 : A 2 = q2 := by rw [hAk]; simp
  have a4 : A 4 = q3 := by rw [hAk]; simp
  have a6 : A 6 = q4 := by rw [hAk]; simp
  have a7 : A 7 = q5 := by rw [hAk]; simp
  have a14 : A 14 = q6 := by rw [hAk]; simp
  have a19 : A 19 = q7 := by rw [hAk]; simp
  have a20 : A 20 = a := by rw [hAk]; simp
  have hOK : tOK κ A := by
    unfold tOK
    rw [a0, a1, a2, a4, a6, a7, a14, a19, a20]
    exact ⟨⟨k0, k1, k2, k3, k4, k5, k6, k7, hκ⟩, Ne.symm e0_1, Ne.symm e0_2, Ne.symm e0_3, Ne.symm e0_4, Ne.symm e0_5, Ne.symm e0_6, Ne.symm e0_7, d0, Ne.symm e1_2, Ne.symm e1_3, Ne.symm e1_4, Ne.symm e1_5, Ne.symm e1_6, Ne.symm e1_7, d1, Ne.symm e2_3, Ne.symm e2_4, Ne.symm e2_5, Ne.symm e2_6, Ne.symm e2_7, d2, Ne.symm e3_4, Ne.symm e3_5, Ne.symm e3_6, Ne.symm e3_7, d3, Ne.symm e4_5, Ne.symm e4_6, Ne.symm e4_7, d4, Ne.symm e5_6, Ne.symm e5_7, d5, Ne.symm e6_7, d6, d7⟩
  have hH : xup (xup (xup (xup (xup (xup (xup (xup (xup h q0 (.inr (.int, 357, .inl fun _ => 0))) q1 (.inr (.int, 357, .inl fun _ => 0))) q2 (.inr (.int, 2856, .inl fun _ => 0))) q3 (.inr (.int, 357, .inl fun _ => 0))) q4 (.inr (.int, 357, .inl fun _ => 0))) q5 (.inr (.char, 60, .inl fun _ => 0))) q6 (.inr (.char, 60, .inl fun _ => 0))) q7 (.inr (.int, 180, .inl fun _ => 0))) a (.inl (10, [.ref q0, .ref q1, .ref q2, .int 0, .ref q3, .int 0, .ref q4, .ref q5, .int 0, .int (-1), .int 0, .int 0, .int 0, .int 0, .ref q6, .int 0, .int 0, .int 0, .int 0, .ref q7])) = tput h A t0 := by
    funext b
    unfold tput
    rw [a0, a1, a2, a4, a6, a7, a14, a19, a20]
    simp only [xup]
    by_cases b0 : b = q0
    · subst b0
      simp [d0, e0_1, Ne.symm e0_1, e0_2, Ne.symm e0_2, e0_3, Ne.symm e0_3, e0_4, Ne.symm e0_4, e0_5, Ne.symm e0_5, e0_6, Ne.symm e0_6, e0_7, Ne.symm e0_7, tE]
      funext j; simp [t0]
    by_cases b1 : b = q1
    · subst b1
      simp [d1, e1_2, Ne.symm e1_2, e1_3, Ne.symm e1_3, e1_4, Ne.symm e1_4, e1_5, Ne.symm e1_5, e1_6, Ne.symm e1_6, e1_7, Ne.symm e1_7, e0_1, Ne.symm e0_1, tE]
      funext j; simp [t0]
    by_cases b2 : b = q2
    · subst b2
      simp [d2, e2_3, Ne.symm e2_3, e2_4, Ne.symm e2_4, e2_5, Ne.symm e2_5, e2_6, Ne.symm e2_6, e2_7, Ne.symm e2_7, e0_2, Ne.symm e0_2, e1_2, Ne.symm e1_2, tE]
      funext j; simp [t0]
    by_cases b3 : b = q3
    · subst b3
      simp [d3, e3_4, Ne.symm e3_4, e3_5, Ne.symm e3_5, e3_6, Ne.symm e3_6, e3_7, Ne.symm e3_7, e0_3, Ne.symm e0_3, e1_3, Ne.symm e1_3, e2_3, Ne.symm e2_3, tE]
      funext j; simp [t0]
    by_cases b4 : b = q4
    · subst b4
      simp [d4, e4_5, Ne.symm e4_5, e4_6, Ne.symm e4_6, e4_7, Ne.symm e4_7, e0_4, Ne.symm e0_4, e1_4, Ne.symm e1_4, e2_4, Ne.symm e2_4, e3_4, Ne.symm e3_4, tE]
      funext j; simp [t0]
    by_cases b5 : b = q5
    · subst b5
      simp [d5, e5_6, Ne.symm e5_6, e5_7, Ne.symm e5_7, e0_5, Ne.symm e0_5, e1_5, Ne.symm e1_5, e2_5, Ne.symm e2_5, e3_5, Ne.symm e3_5, e4_5, Ne.symm e4_5, tE]
      funext j; simp [t0]
    by_cases b6 : b = q6
    · subst b6
      simp [d6, e6_7, Ne.symm e6_7, e0_6, Ne.symm e0_6, e1_6, Ne.symm e1_6, e2_6, Ne.symm e2_6, e3_6, Ne.symm e3_6, e4_6, Ne.symm e4_6, e5_6, Ne.symm e5_6, tE]
      funext j; simp [t0]
    by_cases b7 : b = q7
    · subst b7
      simp [d7, e0_7, Ne.symm e0_7, e1_7, Ne.symm e1_7, e2_7, Ne.symm e2_7, e3_7, Ne.symm e3_7, e4_7, Ne.symm e4_7, e5_7, Ne.symm e5_7, e6_7, Ne.symm e6_7, tE]
      funext j; simp [t0]
    by_cases ba : b = a
    · subst ba
      simp [Ne.symm d0, Ne.symm d1, Ne.symm d2, Ne.symm d3, Ne.symm d4, Ne.symm d5, Ne.symm d6, Ne.symm d7, tE, tFs, t0, a0, a1, a2, a4, a6, a7, a14, a19]
    · simp [ba, b0, b1, b2, b3, b4, b5, b6, b7]
  have hKA := hK A a20 hOK (by
    rintro k (rfl | rfl | rfl | rfl | rfl | rfl | rfl | rfl)
    · rw [a0]; exact n0
    · rw [a1]; exact n1
    · rw [a2]; exact n2
    · rw [a4]; exact n3
    · rw [a6]; exact n4
    · rw [a7]; exact n5
    · rw [a14]; exact n6
    · rw [a19]; exact n7)
  rw [hH]
  have hz : t0 0 = fun _ => 0 := by funext j; simp [t0]
  rw [← a20, ← tg_self t0, hz, t_gq_0 hOK, t_nn, t_sg hOK, t_gq_0 hOK, t_nn, t_sg hOK, i_1, i_2, true_and, true_and, t_rc hOK, true_and, l_1, l_2]
  exact t_call (t' := tg t0 g0) (r := ()) (fun w K hk => tc_empties hOK K hk) hKA
end U23
