-- Integer's cache, LinkedList
/-- the cached Integers of 0 .. 127 -/
def IC (κ : Nat → Nat) (h : xH) (c : Nat → Nat) : Prop := (∃ (C : String) (f : Nat → Option Nat), h (κ 1) = some (.inr (.object C, 256, .inr (.inr (.inr (.inr f))))) ∧ (∀ b, b < 128 → f (b + 128) = some (c b)) ∧ ∀ j, j < 128 → ∃ q : Nat, f j = some q ∧ h q = some (.inl (14, [.int (nI j - 128)]))) ∧ ∀ b, b < 128 → h (c b) = some (.inl (14, [.int (nI b)]))
def lO (n : Nat) (N : Nat → Nat) (m : Int32) : xE := .inl (4, [.int m, .int (nI n), va_rf (if n = 0 then none else some (N 0)), va_rf (if n = 0 then none else some (N (n - 1)))])
def lND (n : Nat) (N I : Nat → Nat) (i : Nat) : xE := .inl (6, [.ref (I i), va_rf (if i + 1 < n then some (N (i + 1)) else none), va_rf (if i = 0 then none else some (N (i - 1)))])
/-- the LinkedList at a: nodes N, items I -/
def LL (κ : Nat → Nat) (h : xH) (a n : Nat) (N I : Nat → Nat) (m : Int32) : Prop := h a = some (lO n N m) ∧ (∀ i, i < n → h (N i) = some (lND n N I i)) ∧ (∀ i j, i < n → j < n → i ≠ j → N i ≠ N j) ∧ κ 0 ≤ a ∧ ∀ i, i < n → κ 0 ≤ N i
section D3
variable {κ : Nat → Nat} {h h' : xH} {a n i b : Nat} {N I : Nat → Nat} {c bl : Nat → Nat} {m : Int32} {w : Nat × Nat}
theorem cc_valueOf (hI : IC κ h c) (hb : b < 128) (K : Option Nat → xH → Prop) (hK : K (some (c b)) h) : P_J23_valueOf κ (nI b) (h, w) K := by
  obtain ⟨⟨C, f, e, hf, -⟩, -⟩ := hI
  unfold P_J23_valueOf
  have e127 : (127 : Int32) = nI 127 := by decide
  refine ⟨fun z => absurd (Int32.lt_trans z (by decide : (-128 : Int32) < 0)) (nI_pos (by omega)), fun _ => ⟨fun z => ?_, fun _ => ?_⟩⟩
  · rw [e127] at z
    exact absurd ((nI_ltI (by omega) (by omega)).mp z) (by omega)
  · have e1 : nI b + (128 : Int32) = nI (b + 128) := nI_add b 128
    rw [e1, g_aq e (by omega) (by omega), hf b hb]
    exact hK
theorem cc_equals23 {x y : Nat} {u v : Int32} (hx : h x = some (.inl (14, [.int u]))) (hy : h y = some (.inl (14, [.int v]))) (K : Int32 → xH → Prop) (hK : K (bI (decide (u = v))) h) : P_J23_equals κ x (some y) (h, w) K := by
  unfold P_J23_equals
  rw [t_nn, g_rc hy, true_and]
  refine ⟨fun z => absurd z (by decide), fun _ => ?_⟩
  rw [g_gi hx rfl, true_and, true_and]
  refine c_pure (r := v) (fun w K hk => ?_) ?_
  · unfold P_J23_intValue
    rw [g_gi hy rfl]
    exact hk
  · exact ⟨fun z => by simpa [z, bI] using hK, fun z => by simpa [z, bI] using hK⟩
theorem LL.rc (hL : LL κ h a n N I m) : xrc (h, w) a 4 ↔ True := g_rc hL.1
theorem LL.na (hL : LL κ h a n N I m) (hi : i < n) : N i ≠ a := fun z => by
  have h1 := hL.2.1 i hi
  rw [z, hL.1] at h1
  cases h1
def n_idx (bl : Nat → Nat) (n b : Nat) : Option Nat := (List.range n).find? (fun i => decide (bl i = b))
theorem cc_indexOf (hI : IC κ h c) (hL : LL κ h a n N (fun i => c (bl i)) m) (hn : n < 1000) (hbl : ∀ i, i < n → bl i < 128) (hb : b < 128) (K : Int32 → xH → Prop) (hK : K (oI (n_idx bl n b)) h) : P_J6_indexOf κ a (some (c b)) (h, w) K := by
  unfold P_J6_indexOf
  refine ⟨fun z => (by cases z), fun b1 z => ?_⟩
  cases z
  rw [g_gq (r := if n = 0 then none else some (N 0)) hL.1 rfl]
  refine x_for n (fun i v σ => v = (nI i, if i < n then some (N i) else none) ∧ i ≤ n ∧ σ = (h, w) ∧ ∀ j, j < i → bl j ≠ b) ?_ ?_ ⟨?_, by omega, rfl, fun j hj => absurd hj (Nat.not_lt_zero _)⟩
  · rintro i v σ ⟨rfl, -, rfl, hj⟩ hi self hself
    unfold B_J6_indexOf_43
    refine ⟨fun z => (by simp [hi] at z), fun p z => ?_⟩
    have z : some (N i) = some p := by simpa [hi] using z
    cases z
    rw [g_gq (r := some (c (bl i))) (hL.2.1 i hi) rfl, g_rc (hI.2 b hb), true_and]
    refine c_pure (r := bI (decide (nI b = nI (bl i)))) (fun w K hk => cc_equals23 (hI.2 b hb) (hI.2 _ (hbl i hi)) K hk) ?_
    have e : (nI b = nI (bl i)) ↔ b = bl i := nI_eq (by omega) (by have := hbl i hi; omega)
    refine ⟨fun z => ?_, fun z => ?_⟩
    · have z := (bI_0 _).mp z
      simp only [decide_eq_false_iff_not, e] at z
      rw [g_gq (r := if i + 1 < n then some (N (i + 1)) else none) (hL.2.1 i hi) rfl, (nI_succ i).symm]
      refine hself _ _ ⟨rfl, by omega, rfl, fun j hj' => ?_⟩
      rcases Nat.lt_succ_iff_lt_or_eq.mp hj' with h1 | h1
      · exact hj j h1
      · rw [h1]; exact fun y => z y.symm
    · have z := bI_c z
      simp only [decide_eq_true_eq, e] at z
      unfold n_idx at hK
      rw [m_hit (i := i) (fun j hj' => by simp [hj j hj']) hi (by simp [z])] at hK
      exact hK
  · rintro v σ ⟨rfl, -, rfl, hj⟩ self
    unfold B_J6_indexOf_43
    refine ⟨fun _ => ?_, fun p z => (by simp at z)⟩
    unfold n_idx at hK
    rw [List.find?_eq_none.mpr (fun x hx => by simp [hj x (List.mem_range.mp hx)])] at hK
    exact hK
  · by_cases h0 : n = 0
    · simp [h0, nI_0]
    · simp [h0, nI_0, Nat.pos_of_ne_zero h0]
theorem cc_size6 (hL : LL κ h a n N I m) (K : Int32 → xH → Prop) (hK : K (nI n) h) : P_J6_size κ a (h, w) K := by
  unfold P_J6_size
  rw [g_gi hL.1 rfl]
  exact hK
theorem cc_get6 (hL : LL κ h a n N I m) (hn : n < 1000) (hi : i < n) (K : Option Nat → xH → Prop) (hK : K (some (I i)) h) : P_J6_get κ a (nI i) (h, w) K := by
  unfold P_J6_get
  rw [hL.rc, true_and]
  refine c_pure (r := ()) (fun w K hk => ?_) ?_
  · unfold P_J6_checkElementIndex
    rw [hL.rc, true_and]
    refine c_pure (r := 1) (fun w K hk => ?_) ⟨fun z => absurd z (by decide), fun _ => hk⟩
    unfold P_J6_isElementIndex
    refine ⟨fun z => absurd z (nI_pos (by omega)), fun _ => ?_⟩
    rw [g_gi hL.1 rfl]
    exact ⟨fun z => absurd ((nI_leI (by omega) (by omega)).mp z) (by omega), fun _ => hk⟩
  · rw [hL.rc, true_and]
    refine c_pure (r := some (N i)) (fun w K hk => ?_) ?_
    · unfold P_J6_node
      rw [g_gi hL.1 rfl, nI_half n (by omega), nI_leI (by omega) (by omega)]
      have h0 : n ≠ 0 := by omega
      refine ⟨fun _ => ?_, fun _ => ?_⟩
      · rw [g_gq (r := if n = 0 then none else some (N (n - 1))) hL.1 rfl, g_gi hL.1 rfl, if_neg h0, nI_m1 (by omega)]
        refine x_for (n - 1 - i) (fun j v σ => v = (some (N (n - 1 - j)), nI (n - 1 - j)) ∧ j ≤ n - 1 - i ∧ σ = (h, w)) ?_ ?_ ⟨rfl, by omega, rfl⟩
        · rintro j v σ ⟨rfl, -, rfl⟩ hj self hself
          unfold B_J6_node_47
          refine ⟨fun z => absurd ((nI_leI (by omega) (by omega)).mp z) (by omega), fun _ => ?_⟩
          rw [t_nn, g_gq (r := if n - 1 - j = 0 then none else some (N (n - 1 - j - 1))) (hL.2.1 (n - 1 - j) (by omega)) rfl, if_neg (by omega)]
          have e : nI (n - 1 - j) + (-1) = nI (n - 1 - (j + 1)) := by
            obtain ⟨q, hq⟩ : ∃ q, n - 1 - j = q + 1 := ⟨n - 1 - j - 1, by omega⟩
            rw [hq, nI_dec]
            congr 1
            omega
          show self (some (N (n - 1 - j - 1)), nI (n - 1 - j) + (-1)) (h, w)
          rw [e]
          exact hself _ _ ⟨by rw [show n - 1 - (j + 1) = n - 1 - j - 1 by omega], by omega, rfl⟩
        · rintro v σ ⟨rfl, -, rfl⟩ self
          unfold B_J6_node_47
          rw [show n - 1 - (n - 1 - i) = i by omega]
          exact ⟨fun _ => hk, fun z => absurd ((nI_leI (by omega) (by omega)).mpr (Nat.le_refl _)) z⟩
      · rw [g_gq (r := if n = 0 then none else some (N 0)) hL.1 rfl, if_neg h0]
        refine x_for i (fun j v σ => v = (some (N j), nI j) ∧ j ≤ i ∧ σ = (h, w)) ?_ ?_ ⟨by rw [nI_0], by omega, rfl⟩
        · rintro j v σ ⟨rfl, -, rfl⟩ hj self hself
          unfold B_J6_node_17
          refine ⟨fun z => absurd ((nI_leI (by omega) (by omega)).mp z) (by omega), fun _ => ?_⟩
          rw [t_nn, g_gq (r := if j + 1 < n then some (N (j + 1)) else none) (hL.2.1 j (by omega)) rfl, if_pos (by omega), (nI_succ j).symm]
          exact hself _ _ ⟨rfl, by omega, rfl⟩
        · rintro v σ ⟨rfl, -, rfl⟩ self
          unfold B_J6_node_17
          exact ⟨fun _ => hk, fun z => absurd ((nI_leI (by omega) (by omega)).mpr (Nat.le_refl _)) z⟩
    · rw [t_nn, g_gq (r := some (I i)) (hL.2.1 i hi) rfl]
      exact hK
theorem cc_addFirst (hL : LL κ h a n N I m) {x : Nat} {c0 s0 : Nat} (hc : 1 ≤ c0) (hs : 3 ≤ s0) (K : Unit → xH → Prop)
    (hK : ∀ (h' : xH) (q : Nat), h q = none → LL κ h' a (n + 1) (fun i => if i = 0 then q else N (i - 1)) (fun i => if i = 0 then x else I (i - 1)) (m + 1) → (∀ b e, h b = some e → b ≠ a → (∀ i, i < n → N i ≠ b) → h' b = some e) → (∀ b, h' b = none → h b = none) → K () h') : P_J6_addFirst κ a (some x) (h, c0, s0) K := by
  unfold P_J6_addFirst
  rw [hL.rc, true_and]
  refine c_call 1 3 hc hs ?_
  unfold P_J6_linkFirst
  rw [g_gq (r := if n = 0 then none else some (N 0)) hL.1 rfl]
  refine ⟨Nat.le_refl _, Nat.le_refl _, fun q hq hκq => ?_⟩
  have hq : h q = none := hq
  have hqa : q ≠ a := fun z => by rw [z, hL.1] at hq; cases hq
  have hqN : ∀ i, i < n → N i ≠ q := fun i hi z => by have := hL.2.1 i hi; rw [z, hq] at this; cases this
  have hNa : ∀ i, i < n → N i ≠ a := fun i hi => hL.na hi
  obtain ⟨e1, e2, e3, e4, e5⟩ := hL
  refine c_call 0 0 (Nat.zero_le _) (Nat.zero_le _) ?_
  unfold P_J10_init
  show xpq κ (xup h q _, _) q 6 0 (some x) _
  rw [g_pq xup_eq hκq (by simp), xup_xup, g_pq xup_eq hκq (by simp), xup_xup, g_pq xup_eq hκq (by simp), xup_xup]
  show xpq κ (xup h q (.inl (6, [.ref x, va_rf (if n = 0 then none else some (N 0)), va_rf none])), _) a 4 2 (some q) _
  rw [g_pq (fs := [.int m, .int (nI n), va_rf (if n = 0 then none else some (N 0)), va_rf (if n = 0 then none else some (N (n - 1)))]) (by rw [xup_ne (Ne.symm hqa)]; exact e1) e4 (by simp)]
  by_cases h0 : n = 0
  · subst h0
    refine ⟨fun _ => ?_, fun b z => (by simp at z)⟩
    rw [g_pq xup_eq e4 (by simp), xup_xup, g_gi xup_eq rfl, g_pi xup_eq e4 (by simp), xup_xup, g_gi xup_eq rfl, g_pi xup_eq e4 (by simp), xup_xup]
    show K () (xup (xup h q (.inl (6, [.ref x, va_rf none, va_rf none]))) a (.inl (4, [.int (m + 1), .int (nI 0 + 1), .ref q, .ref q])))
    rw [nI_1]
    refine hK _ q hq ⟨xup_eq, fun i hi => ?_, fun i j hi hj hij => by omega, e4, fun i hi => ?_⟩ (fun b e hb hba _ => ?_) (fun b hb => (xup_none (xup_none hb).2).2)
    · obtain rfl : i = 0 := by omega
      show xup (xup h q _) a _ q = _
      rw [xup_ne hqa, xup_eq]
      rfl
    · obtain rfl : i = 0 := by omega
      exact hκq
    · rw [xup_ne hba, xup_ne (fun z => by rw [z, hq] at hb; cases hb)]
      exact hb
  · refine ⟨fun z => (by simp [h0] at z), fun b z => ?_⟩
    have z : some (N 0) = some b := by simpa [h0] using z
    cases z
    have hn0 : 0 < n := by omega
    have hN0 : xup (xup h q (.inl (6, [.ref x, va_rf (if n = 0 then none else some (N 0)), va_rf none]))) a (.inl (4, [.int m, .int (nI n), .ref q, va_rf (if n = 0 then none else some (N (n - 1)))])) (N 0) = some (lND n N I 0) := by
      rw [xup_ne (hNa 0 hn0), xup_ne (hqN 0 hn0)]
      exact e2 0 hn0
    show xpq κ (xup (xup h q (.inl (6, [.ref x, va_rf (if n = 0 then none else some (N 0)), va_rf none]))) a (.inl (4, [.int m, .int (nI n), .ref q, va_rf (if n = 0 then none else some (N (n - 1)))])), _) (N 0) 6 2 (some q) _
    rw [g_pq hN0 (e5 0 hn0) (by simp), show ([.ref (I 0), va_rf (if 0 + 1 < n then some (N (0 + 1)) else none), va_rf (if 0 = 0 then none else some (N (0 - 1)))] : List Value).set 2 (va_rf (some q)) = [.ref (I 0), va_rf (if 0 + 1 < n then some (N (0 + 1)) else none), .ref q] from rfl]
    have ha2 : xup (xup (xup h q (.inl (6, [.ref x, va_rf (if n = 0 then none else some (N 0)), va_rf none]))) a (.inl (4, [.int m, .int (nI n), .ref q, va_rf (if n = 0 then none else some (N (n - 1)))]))) (N 0) (.inl (6, [.ref (I 0), va_rf (if 0 + 1 < n then some (N (0 + 1)) else none), .ref q])) a = some (.inl (4, [.int m, .int (nI n), .ref q, va_rf (if n = 0 then none else some (N (n - 1)))])) := by
      rw [xup_ne (Ne.symm (hNa 0 hn0)), xup_eq]
    show xgi (xup (xup (xup h q (.inl (6, [.ref x, va_rf (if n = 0 then none else some (N 0)), va_rf none]))) a (.inl (4, [.int m, .int (nI n), .ref q, va_rf (if n = 0 then none else some (N (n - 1)))]))) (N 0) (.inl (6, [.ref (I 0), va_rf (if 0 + 1 < n then some (N (0 + 1)) else none), .ref q])), _) a 4 1 _
    rw [g_gi ha2 rfl, g_pi ha2 e4 (by simp), g_gi xup_eq rfl, g_pi xup_eq e4 (by simp), xup_xup, nI_1]
    refine hK _ q hq ⟨?_, fun i hi => ?_, fun i j hi hj hij => ?_, e4, fun i hi => ?_⟩ (fun b e hb hba hbN => ?_) (fun b hb => (xup_none (xup_none (xup_none (xup_none hb).2).2).2).2)
    · show xup _ a _ a = _
      rw [xup_eq]
      unfold lO
      simp only [h0, Nat.succ_ne_zero, if_false, if_true, Nat.add_sub_cancel]
      rfl
    · by_cases hi0 : i = 0
      · subst hi0
        show xup (xup (xup (xup h q _) a _) (N 0) _) a _ q = _
        rw [xup_ne hqa, xup_ne (Ne.symm (hqN 0 hn0)), xup_ne hqa, xup_eq]
        unfold lND
        simp [h0, hn0]
      · have hi1 : i - 1 < n := by omega
        show xup (xup (xup (xup h q _) a _) (N 0) _) a _ (if i = 0 then q else N (i - 1)) = _
        rw [if_neg hi0, xup_ne (hNa _ hi1)]
        by_cases hi2 : i - 1 = 0
        · rw [hi2, xup_eq]
          have : i = 1 := by omega
          subst this
          unfold lND
          have y : (1 + 1 < n + 1) = (0 + 1 < n) := by apply propext; omega
          simp only [y]
          rfl
        · rw [xup_ne (e3 _ _ hi1 hn0 hi2), xup_ne (hNa _ hi1), xup_ne (hqN _ hi1), e2 _ hi1]
          unfold lND
          have x1 : i - 1 + 1 = i := by omega
          have x2 : (i + 1 < n + 1) = (i < n) := by apply propext; omega
          have x3 : i + 1 - 1 = i := by omega
          have x4 : ¬ i - 1 = 0 := hi2
          simp only [x1, x2, x3, hi0, x4, if_false, Nat.succ_ne_zero]
    · show (if i = 0 then q else N (i - 1)) ≠ (if j = 0 then q else N (j - 1))
      by_cases hi0 : i = 0
      · rw [if_pos hi0, if_neg (by omega)]
        exact (hqN _ (by omega)).symm
      · rw [if_neg hi0]
        by_cases hj0 : j = 0
        · rw [if_pos hj0]
          exact hqN _ (by omega)
        · rw [if_neg hj0]
          exact e3 _ _ (by omega) (by omega) (by omega)
    · show κ 0 ≤ (if i = 0 then q else N (i - 1))
      split
      · exact hκq
      · exact e5 _ (by omega)
    · show xup (xup (xup (xup h q _) a _) (N 0) _) a _ b = some e
      rw [xup_ne hba, xup_ne (fun z => hbN 0 hn0 z.symm), xup_ne hba, xup_ne (fun z => by rw [z, hq] at hb; cases hb)]
      exact hb
end D3
