-- ArrayList and its iterator
/-- the ArrayList at a (its array d) holds n references f -/
def AL (κ : Nat → Nat) (h : xH) (a d n : Nat) (f : Nat → Option Nat) (m : Int32) : Prop := ∃ (N : Nat) (F : Nat → Option Nat), h a = some (.inl (3, [.int m, .ref d, .int (nI n)])) ∧ h d = some (oA N F) ∧ n ≤ N ∧ N ≤ 1000 ∧ (∀ i, i < n → F i = f i) ∧ (∀ i, n ≤ i → F i = none) ∧ ((N = 0 ∧ d = κ 2) ∨ (0 < N ∧ κ 0 ≤ d))
def IT (h : xH) (q a i : Nat) (m : Int32) : Prop := ∃ j : Int32, h q = some (.inl (21, [.int (nI i), .int j, .int m, .ref a]))
section C5
variable {κ : Nat → Nat} {h h' : xH} {a d n i q : Nat} {f f' : Nat → Option Nat} {m : Int32} {w : Nat × Nat}
theorem AL.same (h1 : h' a = h a) (h2 : h' d = h d) (hL : AL κ h a d n f m) : AL κ h' a d n f m := by
  obtain ⟨N, F, e1, e2, e3⟩ := hL
  exact ⟨N, F, by rw [h1]; exact e1, by rw [h2]; exact e2, e3⟩
theorem AL.mono (hm : ∀ b e, h b = some e → h' b = some e) (hL : AL κ h a d n f m) : AL κ h' a d n f m := by
  obtain ⟨N, F, e1, e2, e3⟩ := hL
  exact ⟨N, F, hm _ _ e1, hm _ _ e2, e3⟩
theorem AL.ne (hL : AL κ h a d n f m) : a ≠ d := by
  obtain ⟨N, F, e1, e2, -⟩ := hL
  intro z
  rw [z, e2] at e1
  cases e1
theorem AL.rc (hL : AL κ h a d n f m) : xrc (h, w) a 3 ↔ True := by
  obtain ⟨N, F, e1, -⟩ := hL
  exact g_rc e1
theorem AL.it_ne (hL : AL κ h a d n f m) {j : Nat} {m' : Int32} {b : Nat} (hI : IT h q b j m') : q ≠ a ∧ q ≠ d := by
  obtain ⟨N, F, e1, e2, -⟩ := hL
  obtain ⟨_, e3⟩ := hI
  exact ⟨fun z => (by rw [z, e1] at e3; cases e3), fun z => (by rw [z, e2] at e3; cases e3)⟩
theorem cc_size4 (hL : AL κ h a d n f m) (K : Int32 → xH → Prop) (hK : K (nI n) h) : P_J4_size κ a (h, w) K := by
  obtain ⟨N, F, e1, -⟩ := hL
  unfold P_J4_size
  rw [g_gi e1 rfl]
  exact hK
theorem cc_isEmpty4 (hL : AL κ h a d n f m) (K : Int32 → xH → Prop) (hK : K (bI (decide (n = 0))) h) : P_J4_isEmpty κ a (h, w) K := by
  obtain ⟨N, F, e1, -, e3, e4, -⟩ := hL
  unfold P_J4_isEmpty
  rw [g_gi e1 rfl, show nI n = 0 ↔ n = 0 from nI_eq (b := 0) (by omega) (by decide)]
  exact ⟨fun z => by simpa [z, bI] using hK, fun z => by simpa [z, bI] using hK⟩
theorem cc_get4 (hL : AL κ h a d n f m) (hi : i < n) (K : Option Nat → xH → Prop) (hK : K (f i) h) : P_J4_get κ a (nI i) (h, w) K := by
  obtain ⟨N, F, e1, e2, e3, e4, e5, -⟩ := hL
  unfold P_J4_get
  rw [g_gi e1 rfl]
  refine t_pure (r := nI i) (fun τ K hk => ?_) ?_
  · unfold P_J16_checkIndex
    exact t_pure (r := nI i) (fun τ K hk => cc_checkIndex24 hi (by omega) K hk) hk
  · rw [g_rc e1, true_and]
    refine c_pure (r := f i) (fun w K hk => ?_) hK
    unfold P_J4_elementData
    rw [g_gq (r := some d) e1 rfl, t_nn, g_aq e2 (by omega) (by omega), e5 i hi]
    exact hk
theorem cc_iterator (hL : AL κ h a d n f m) {c0 s0 : Nat} (hc : 1 ≤ c0) (hs : 4 ≤ s0) (K : Option Nat → xH → Prop) (hK : ∀ q, h q = none → κ 0 ≤ q → IT (xup h q (.inl (21, [.int 0, .int (-1), .int m, .ref a]))) q a 0 m → K (some q) (xup h q (.inl (21, [.int 0, .int (-1), .int m, .ref a])))) : P_J4_iterator κ a (h, c0, s0) K := by
  obtain ⟨N, F, e1, -⟩ := hL
  unfold P_J4_iterator
  refine ⟨hc, hs, fun q hq hκ => ?_⟩
  have hq : h q = none := hq
  have hqa : a ≠ q := fun z => by rw [z, hq] at e1; cases e1
  refine ⟨0, 0, Nat.zero_le _, Nat.zero_le _, ?_⟩
  unfold P_J35_init
  show xpq κ (xup h q (.inl (21, [.int 0, .int 0, .int 0, va_rf none])), _) q 21 3 (some a) _
  rw [g_pq xup_eq hκ (by simp), xup_xup, g_pi xup_eq hκ (by simp), xup_xup, g_gq (r := some a) xup_eq rfl, t_nn, g_gi (fs := [.int m, .ref d, .int (nI n)]) (by rw [xup_ne hqa]; exact e1) rfl, g_pi xup_eq hκ (by simp), xup_xup]
  exact hK q hq hκ ⟨_, xup_eq⟩
theorem cc_hasNext (hL : AL κ h a d n f m) (hI : IT h q a i m) (hi : i ≤ n) (K : Int32 → xH → Prop) (hK : K (bI (decide (i ≠ n))) h) : P_J35_hasNext κ q (h, w) K := by
  obtain ⟨N, F, e1, -, e3, e4, -⟩ := hL
  obtain ⟨j, e⟩ := hI
  unfold P_J35_hasNext
  rw [g_gi e rfl, g_gq (r := some a) e rfl, t_nn, g_gi e1 rfl, nI_eq (by omega) (by omega)]
  exact ⟨fun z => by simpa [z, bI] using hK, fun z => by simpa [z, bI] using hK⟩
theorem cc_next (hL : AL κ h a d n f m) (hI : IT h q a i m) (hκ : κ 0 ≤ q) (hi : i < n) (K : Option Nat → xH → Prop) (hK : IT (xup h q (.inl (21, [.int (nI (i + 1)), .int (nI i), .int m, .ref a]))) q a (i + 1) m → K (f i) (xup h q (.inl (21, [.int (nI (i + 1)), .int (nI i), .int m, .ref a])))) : P_J35_next κ q (h, w) K := by
  obtain ⟨hqa, hqd⟩ := hL.it_ne hI
  obtain ⟨N, F, e1, e2, e3, e4, e5, -⟩ := hL
  obtain ⟨j, e⟩ := hI
  unfold P_J35_next
  rw [g_rc e, true_and]
  refine c_pure (r := ()) (fun w K hk => ?_) ?_
  · unfold P_J35_checkForComodification
    rw [g_gq (r := some a) e rfl, t_nn, g_gi e1 rfl, g_gi e rfl]
    exact ⟨fun _ => hk, fun z => absurd rfl z⟩
  · rw [g_gi e rfl, g_gq (r := some a) e rfl, t_nn, g_gi e1 rfl]
    refine ⟨fun _ => ?_, fun z => absurd (nI_lt hi (by omega)) z⟩
    rw [g_gq (r := some a) e rfl, t_nn, g_gq (r := some d) e1 rfl, t_nn, g_an e2]
    refine ⟨fun _ => ?_, fun z => absurd (nI_lt (by show i < N; omega) (by show N < _; omega)) z⟩
    rw [g_pi e hκ (by simp), nI_1, g_pi xup_eq hκ (by simp), xup_xup, g_aq (n := N) (f := F) (C := "java/lang/Object") (by rw [xup_ne (Ne.symm hqd)]; exact e2) (by omega) (by omega), e5 i hi]
    exact hK ⟨_, xup_eq⟩
theorem cc_init3 {c : Nat} {fs : List Value} (e : h a = some (.inl (3, [.int 0, va_rf none, .int 0]))) (hκ : κ 0 ≤ a) (K : Unit → xH → Prop) (hK : K () (xup h a (.inl (3, [.int 0, .ref (κ 2), .int 0])))) : P_J4_init κ a (h, w) K := by
  unfold P_J4_init
  refine ⟨0, 0, Nat.zero_le _, Nat.zero_le _, ?_⟩
  unfold P_J3_init
  refine t_pure (r := ()) (fun τ K hk => hk) ?_
  rw [g_pi e hκ (by simp)]
  show xpq κ (xup h a (.inl (3, [.int 0, va_rf none, .int 0])), _) a 3 1 (some (κ 2)) _
  rw [g_pq xup_eq hκ (by simp), xup_xup]
  exact hK
/-- an object that a list may hold -/
def oOK (h : xH) (r : Option Nat) : Prop := ∀ b : Nat, r = some b → ∃ ci fs, h b = some (.inl (ci, fs)) ∧ x_obj ci = true ∧ ci < 1000
theorem nI_half : ∀ n, n < 1002 → nI n >>> ((1 : Int32) &&& 31) = nI (n / 2) := by decide +kernel
theorem cc_newLength {N : Nat} (hN : N < 2000) (hx : n < 2000) (hy : i < 2000) (h0 : 0 < N + max n i) (σ : xS) (K : Int32 → xH → Prop) (hK : K (nI (N + max n i)) σ.1) : P_J7_newLength κ (nI N) (nI n) (nI i) σ K := by
  unfold P_J7_newLength
  have e : (if nI n < nI i then nI i else nI n) = nI (max n i) := by
    by_cases hc : n < i
    · rw [if_pos (nI_lt hc (by omega)), Nat.max_eq_right (by omega)]
    · rw [if_neg (fun z => hc ((nI_ltI (by omega) (by omega)).mp z)), Nat.max_eq_left (by omega)]
  rw [e, nI_add]
  have e2 : (2147483639 : Int32) = nI 2147483639 := by decide
  have hb : N + max n i < 4000 := by omega
  refine ⟨fun z => absurd z (nI_nle h0 (by omega)), fun _ => ⟨fun z => ?_, fun _ => hK⟩⟩
  rw [e2] at z
  exact absurd ((nI_ltI (by omega) (by omega)).mp z) (by omega)
theorem cc_add (hL : AL κ h a d n f m) (hκ : κ 0 ≤ a) {x : Option Nat} (hx : oOK h x) (hf : ∀ i, i < n → oOK h (f i)) (hn : n ≤ 60) {c0 s0 : Nat} (hc : 1 ≤ c0) (hs : 1500 ≤ s0) (K : Int32 → xH → Prop)
    (hK : ∀ (h' : xH) (d' : Nat), AL κ h' a d' (n + 1) (fun i => if i = n then x else f i) (m + 1) → (∀ b, b ≠ a → b ≠ d' → h' b = h b) → (d' = d ∨ (h d' = none ∧ κ 0 ≤ d')) → K 1 h') : P_J4_add κ a x (h, c0, s0) K := by
  have hne := hL.ne
  have hL0 := hL
  obtain ⟨N, F, e1, e2, e3, e4, e5, e6, e7⟩ := hL
  -- types: what is no list object stays
  have obj : ∀ (h' : xH), (∀ b, b ≠ a → b ≠ d → h b ≠ none → h' b = h b) → (∃ m' d' n', h' a = some (.inl (3, [.int m', .ref d', .int n']))) → ∀ r, oOK h r → oOK h' r := by
    rintro h' h1 ⟨m', d', n', h2⟩ r hr b hb
    obtain ⟨ci, fs, z1, z2, z3⟩ := hr b hb
    by_cases hba : b = a
    · subst hba
      rw [e1] at z1
      cases z1
      exact ⟨3, _, h2, z2, z3⟩
    · by_cases hbd : b = d
      · subst hbd
        rw [e2] at z1
        cases z1
      · exact ⟨ci, fs, by rw [h1 b hba hbd (by rw [z1]; exact Option.some_ne_none _)]; exact z1, z2, z3⟩
  unfold P_J4_add
  rw [g_gi e1 rfl, g_pi e1 hκ (by simp), g_gq (r := some d) xup_eq rfl, g_gi xup_eq rfl, g_rc xup_eq, true_and]
  refine c_call c0 s0 (Nat.le_refl _) (Nat.le_refl _) ?_
  show P_J4_add_2 κ a x (some d) (nI n) (xup h a (.inl (3, [.int (m + 1), .ref d, .int (nI n)])), c0, s0) _
  have ed : xup h a (.inl (3, [.int (m + 1), .ref d, .int (nI n)])) d = some (oA N F) := by rw [xup_ne (Ne.symm hne)]; exact e2
  unfold P_J4_add_2
  rw [t_nn, g_an ed]
  show (nI n = nI N → _) ∧ (¬ nI n = nI N → _)
  rw [nI_eq (by omega) (by omega)]
  refine ⟨fun z => ?_, fun z => ?_⟩
  · subst z
    rw [g_rc xup_eq, true_and]
    -- a new array
    have grown : ∀ (q N' : Nat), xup h a (.inl (3, [.int (m + 1), .ref d, .int (nI n)])) q = none → κ 0 ≤ q → n < N' → N' ≤ 1000 → ∀ (w : Nat × Nat) (G : Nat → Option Nat), (∀ i, i < n → G i = F i) → (∀ i, n ≤ i → G i = none) →
        (xnn (some q) fun b5 => xsq κ (xup (xup (xup h a (.inl (3, [.int (m + 1), .ref d, .int (nI n)]))) q (oA N' G)) a (.inl (3, [.int (m + 1), .ref q, .int (nI n)])), w) b5 (nI n) x fun σ6 => xpi κ σ6 a 3 2 (nI (n + 1)) fun σ7 => K 1 σ7.1) := by
      intro q N' hq hκq h1 h2 w G hG1 hG2
      obtain ⟨hqa, hq0⟩ := xup_none hq
      have hqd : q ≠ d := fun z => by rw [z, e2] at hq0; cases hq0
      have eq1 : xup (xup (xup h a (.inl (3, [.int (m + 1), .ref d, .int (nI n)]))) q (oA N' G)) a (.inl (3, [.int (m + 1), .ref q, .int (nI n)])) q = some (oA N' G) := by rw [xup_ne hqa, xup_eq]
      rw [t_nn, g_sq eq1 hκq h1 (by omega)]
      · have ea : xup (xup (xup (xup h a (.inl (3, [.int (m + 1), .ref d, .int (nI n)]))) q (oA N' G)) a (.inl (3, [.int (m + 1), .ref q, .int (nI n)]))) q (oA N' (va_up G n x)) a = some (.inl (3, [.int (m + 1), .ref q, .int (nI n)])) := by rw [xup_ne (Ne.symm hqa), xup_eq]
        rw [g_pi ea hκ (by simp)]
        show K 1 (xup _ a _)
        refine hK _ q ⟨N', va_up G n x, xup_eq, ?_, by omega, h2, fun i hi => ?_, fun i hi => ?_, Or.inr ⟨by omega, hκq⟩⟩ (fun b hb hbq => ?_) (Or.inr ⟨hq0, hκq⟩)
        · rw [xup_ne hqa, xup_eq]
        · show va_up G n x i = if i = n then x else f i
          unfold va_up
          by_cases hin : i = n
          · rw [if_pos hin, if_pos hin]
          · rw [if_neg hin, if_neg hin, hG1 i (by omega)]
            exact e5 i (by omega)
        · unfold va_up
          rw [if_neg (by omega)]
          exact hG2 i (by omega)
        · rw [xup_ne hb, xup_ne hbq, xup_ne hb, xup_ne hbq, xup_ne hb]
      · exact obj _ (fun b hba hbd hbn => by rw [xup_ne hba, xup_ne (fun z => hbn (by rw [z]; exact hq0)), xup_ne hba]) ⟨m + 1, q, nI n, xup_eq⟩ x hx
    refine c_call c0 s0 (Nat.le_refl _) (Nat.le_refl _) ?_
    unfold P_J4_grow
    rw [g_gi xup_eq rfl, g_rc xup_eq, true_and, nI_1]
    refine c_call c0 s0 (Nat.le_refl _) (Nat.le_refl _) ?_
    unfold P_J4_grow_2
    rw [g_gq (r := some d) xup_eq rfl, t_nn, g_an ed]
    have hcopy : 0 < n → ∀ (K2 : Option Nat → xS → Prop), (∀ (q : Nat) (w : Nat × Nat) (N' : Nat), xup h a (.inl (3, [.int (m + 1), .ref d, .int (nI n)])) q = none → κ 0 ≤ q → n < N' → N' ≤ 1000 → ∀ G : Nat → Option Nat, (∀ i, i < n → G i = F i) → (∀ i, n ≤ i → G i = none) → K2 (some q) (xup (xup (xup h a (.inl (3, [.int (m + 1), .ref d, .int (nI n)]))) q (oA N' G)) a (.inl (3, [.int (m + 1), .ref q, .int (nI n)])), w)) →
        (xcall (fun τ L => P_J7_newLength κ (nI n) (nI (n + 1) - nI n) (nI n >>> ((1 : Int32) &&& 31)) τ L) (xup h a (.inl (3, [.int (m + 1), .ref d, .int (nI n)])), c0, s0) fun v4 σ5 => xgq σ5 a 3 1 fun v6 => xcall (fun τ L => P_J9_copyOf κ v6 v4 τ L) σ5 fun v7 σ8 => xpq κ σ8 a 3 1 v7 fun σ9 => K2 v7 σ9) := by
      intro hn0 K2 hK2
      rw [nI_half n (by omega), nI_sub (by omega), show n + 1 - n = 1 by omega]
      refine c_pure (r := nI (n + max 1 (n / 2))) (fun w K hk => cc_newLength (by omega) (by omega) (by omega) (by omega) _ K hk) ?_
      rw [g_gq (r := some d) xup_eq rfl]
      have hmx : n + max 1 (n / 2) ≤ 1000 := by omega
      have hmn : n < n + max 1 (n / 2) := by omega
      generalize n + max 1 (n / 2) = N' at hmx hmn
      refine c_call c0 s0 (Nat.le_refl _) (Nat.le_refl _) ?_
      unfold P_J9_copyOf
      have hdκ : κ 0 ≤ d := by omega
      rw [t_nn]
      refine ⟨⟨hdκ, _, ed⟩, c_call c0 s0 (Nat.le_refl _) (Nat.le_refl _) ?_⟩
      unfold P_J9_copyOf_2
      refine ⟨fun _ => ?_, fun z => absurd rfl z⟩
      refine ⟨N', rfl, by omega, hc, by show N' ≤ s0; omega, fun q hq hκq => ?_⟩
      have hq : xup h a (.inl (3, [.int (m + 1), .ref d, .int (nI n)])) q = none := hq
      obtain ⟨hqa, hq0⟩ := xup_none hq
      have hqd : q ≠ d := fun z => by rw [z, e2] at hq0; cases hq0
      have ed2 : xup (xup h a (.inl (3, [.int (m + 1), .ref d, .int (nI n)]))) q (oA N' fun _ => none) d = some (oA n F) := by rw [xup_ne (Ne.symm hqd)]; exact ed
      dsimp only
      rw [t_nn, g_an ed2]
      have emin : (if nI N' < nI n then nI N' else nI n) = nI n := if_neg (fun z => by have := (nI_ltI (by omega) (by omega)).mp z; omega)
      show xcpq κ (_, _) d 0 q 0 (if nI N' < nI n then nI N' else nI n) _
      rw [emin]
      have c0' : (0 : Int32).toNatClampNeg = 0 := by decide
      have cn : (nI n).toNatClampNeg = n := nI_clamp (by omega)
      refine ⟨n, F, N', fun _ => none, ed2, xup_eq, hκq, by decide, by decide, nI_pos (by omega), by rw [c0', cn]; omega, by rw [c0', cn]; omega, fun i hi => ?_, ?_⟩
      · rw [c0', Nat.zero_add]
        rw [cn] at hi
        rw [e5 i hi]
        exact obj (xup (xup h a (.inl (3, [.int (m + 1), .ref d, .int (nI n)]))) q (oA N' fun _ => none)) (fun b hba hbd hbn => by rw [xup_ne (fun z => hbn (by rw [z]; exact hq0)), xup_ne hba]) ⟨m + 1, d, nI n, by rw [xup_ne (Ne.symm hqa), xup_eq]⟩ _ (hf i hi)
      · rw [c0', cn]
        show xpq κ (xup (xup (xup h a (.inl (3, [.int (m + 1), .ref d, .int (nI n)]))) q (oA N' fun _ => none)) q (oA N' (va_cpy F (fun _ => none) 0 0 n)), _) a 3 1 (some q) _
        rw [xup_xup, g_pq (fs := [.int (m + 1), .ref d, .int (nI n)]) (by rw [xup_ne (Ne.symm hqa), xup_eq]) hκ (by simp)]
        refine hK2 q _ N' hq hκq hmn hmx _ (fun i hi => ?_) (fun i hi => ?_)
        · unfold va_cpy
          rw [if_pos (by omega)]
          congr 1
          omega
        · unfold va_cpy
          rw [if_neg (by omega)]
    show (0 < nI n → _) ∧ (¬ 0 < nI n → _)
    have h0n : (0 : Int32) < nI n ↔ 0 < n := by
      have := nI_ltI (a := 0) (b := n) (by omega) (by omega)
      rwa [nI_0] at this
    rw [h0n]
    refine ⟨fun z => hcopy z _ (fun q w N' g1 g2 g3 g4 G g5 g6 => grown q N' g1 g2 g3 g4 _ G g5 g6), fun z => ?_⟩
    obtain rfl : n = 0 := by omega
    have hd2 : d = κ 2 := by omega
    rw [g_gq (r := some d) xup_eq rfl]
    refine ⟨fun _ => ?_, fun y => absurd (by rw [hd2]) y⟩
    have e10 : (if (10 : Int32) < nI (0 + 1) then nI (0 + 1) else 10) = nI 10 := by decide
    rw [e10]
    refine ⟨10, rfl, by omega, hc, by show 10 ≤ s0; omega, fun q hq hκq => ?_⟩
    have hq : xup h a (.inl (3, [.int (m + 1), .ref d, .int (nI 0)])) q = none := hq
    obtain ⟨hqa, hq0⟩ := xup_none hq
    dsimp only
    rw [g_pq (fs := [.int (m + 1), .ref d, .int (nI 0)]) (by rw [xup_ne (Ne.symm hqa), xup_eq]) hκ (by simp)]
    exact grown q 10 hq hκq (by omega) (by omega) _ (fun _ => none) (fun i hi => absurd hi (Nat.not_lt_zero _)) (fun i _ => rfl)
  · have hnN : n < N := by omega
    have hdκ : κ 0 ≤ d := by omega
    rw [g_sq ed hdκ hnN (by omega)]
    · rw [g_pi (fs := [.int (m + 1), .ref d, .int (nI n)]) (by rw [xup_ne hne, xup_eq]) hκ (by simp), nI_1]
      show K 1 (xup _ a _)
      refine hK _ d ⟨N, va_up F n x, xup_eq, ?_, by omega, e4, fun i hi => ?_, fun i hi => ?_, e7⟩ (fun b hb hbd => ?_) (Or.inl rfl)
      · rw [xup_ne (Ne.symm hne), xup_eq]
      · show va_up F n x i = if i = n then x else f i
        unfold va_up
        by_cases hin : i = n
        · rw [if_pos hin, if_pos hin]
        · rw [if_neg hin, if_neg hin]
          exact e5 i (by omega)
      · unfold va_up
        rw [if_neg (by omega)]
        exact e6 i (by omega)
      · rw [xup_ne hb, xup_ne hbd, xup_ne hb]
    · exact obj _ (fun b hba hbd hbn => by rw [xup_ne hba]) ⟨m + 1, d, nI n, xup_eq⟩ x hx
end C5
