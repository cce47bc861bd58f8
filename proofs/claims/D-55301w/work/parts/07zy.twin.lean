-- ArrayDeque (17 places, never more than 16 in it)
/-- the ArrayDeque at a: n elements f, from place hd of the array d -/
def AD (κ : Nat → Nat) (h : xH) (a d n hd : Nat) (f : Nat → Nat) : Prop := h a = some (.inl (7, [.ref d, .int (nI hd), .int (nI ((hd + n) % 17))])) ∧ (∃ F, h d = some (oA 17 F) ∧ (∀ i, i < n → F ((hd + i) % 17) = some (f i)) ∧ ∀ j, (∃ i, i < n ∧ j = (hd + i) % 17) ∨ F j = none) ∧ hd < 17 ∧ n ≤ 16 ∧ κ 0 ≤ a ∧ κ 0 ≤ d
section FP
variable {κ : Nat → Nat} {h h' : xH} {a d n hd x : Nat} {f : Nat → Nat} {w : Nat × Nat}
theorem AD.mono (hE : Ext h h') (hA : AD κ h a d n hd f) : AD κ h' a d n hd f := by
  obtain ⟨e1, ⟨F, e2, e3⟩, e4⟩ := hA
  exact ⟨hE _ _ e1, ⟨F, hE _ _ e2, e3⟩, e4⟩
theorem AD.rc (hA : AD κ h a d n hd f) : xrc (h, w) a 7 ↔ True := g_rc hA.1
theorem nI_dif {x y : Nat} (hx : x < 2 ^ 30) (hy : y < 2 ^ 30) : (0 ≤ nI x - nI y ↔ y ≤ x) := by
  have h1 := (nI_diff hx hy).1
  constructor
  · intro z
    by_cases c : y ≤ x
    · exact c
    · have h2 := h1.mpr (by omega)
      exact absurd z (by rw [Int32.not_le]; exact h2)
  · intro c
    rw [← Int32.not_lt]
    intro z
    have := h1.mp z
    omega
theorem cc_size11 (hA : AD κ h a d n hd f) (K : Int32 → xH → Prop) (hK : K (nI n) h) : P_J11_size κ a (h, w) K := by
  obtain ⟨e1, ⟨F, e2, e3, e8⟩, e4, e5, e6⟩ := hA
  unfold P_J11_size
  rw [g_gi e1 rfl, g_gi e1 rfl, g_gq (r := some d) e1 rfl, t_nn, g_an e2]
  refine c_pure (r := nI n) (fun w K hk => ?_) hK
  unfold P_J11_sub
  show (0 ≤ nI ((hd + n) % 17) - nI hd → K (nI ((hd + n) % 17) - nI hd) h) ∧ (¬ 0 ≤ nI ((hd + n) % 17) - nI hd → K ((nI ((hd + n) % 17) - nI hd) + nI 17) h)
  rw [nI_dif (by omega) (by omega)]
  refine ⟨fun z => ?_, fun z => ?_⟩
  · rw [nI_sub z, show (hd + n) % 17 - hd = n by omega]
    exact hk
  · have e : nI ((hd + n) % 17) - nI hd + nI 17 = nI n := by
      rw [Int32.sub_eq_add_neg, Int32.add_assoc, Int32.add_comm (-nI hd), ← Int32.add_assoc, ← Int32.sub_eq_add_neg, nI_add, nI_sub (by omega)]
      congr 1
      omega
    rw [e]
    exact hk
theorem cc_isEmpty11 (hA : AD κ h a d n hd f) (K : Int32 → xH → Prop) (hK : K (bI (decide (n = 0))) h) : P_J11_isEmpty κ a (h, w) K := by
  obtain ⟨e1, ⟨F, e2, e3, e8⟩, e4, e5, e6⟩ := hA
  unfold P_J11_isEmpty
  rw [g_gi e1 rfl, g_gi e1 rfl, nI_eq (by omega) (by omega)]
  refine ⟨fun z => ?_, fun z => ?_⟩
  · have : n = 0 := by omega
    simpa [this, bI] using hK
  · have : n ≠ 0 := by omega
    simpa [this, bI] using hK
theorem cc_inc11 {i : Nat} (hi : i < 17) (K : Int32 → xH → Prop) (hK : K (nI ((i + 1) % 17)) h) : P_J11_inc κ (nI i) (nI 17) (h, w) K := by
  unfold P_J11_inc
  rw [nI_1, nI_ltI (by omega) (by omega)]
  refine ⟨fun z => ?_, fun z => ?_⟩
  · rw [show (i + 1) % 17 = i + 1 by omega] at hK
    exact hK
  · rw [show (i + 1) % 17 = 0 by omega, nI_0] at hK
    exact hK
theorem cc_addLast11 (hA : AD κ h a d n hd f) (hn : n < 16) (hx : oOK h (some x)) (K : Unit → xH → Prop) (hK : ∀ h', AD κ h' a d (n + 1) hd (fun i => if i = n then x else f i) → (∀ b, b ≠ a → b ≠ d → h' b = h b) → K () h') : P_J11_addLast κ a (some x) (h, w) K := by
  obtain ⟨e1, ⟨F, e2, e3, e8⟩, e4, e5, e6, e7⟩ := hA
  have hne : a ≠ d := fun z => by rw [z, e2] at e1; cases e1
  unfold P_J11_addLast
  refine ⟨fun z => (by cases z), fun b z => ?_⟩
  cases z
  rw [g_gq (r := some d) e1 rfl, g_gi e1 rfl, t_nn, g_sq e2 e7 (by omega) (by omega) hx]
  have e1' : xup h d (oA 17 (va_up F ((hd + n) % 17) (some x))) a = some (.inl (7, [.ref d, .int (nI hd), .int (nI ((hd + n) % 17))])) := (xup_ne hne).trans e1
  rw [g_gi e1' rfl, g_gi e1' rfl, g_an xup_eq]
  refine c_pure (r := nI (((hd + n) % 17 + 1) % 17)) (fun w K hk => cc_inc11 (by omega) K hk) ?_
  rw [g_pi e1' e6 (by simp)]
  refine ⟨fun z => ?_, fun z => ?_⟩
  · have := (nI_eq (by omega) (by omega)).mp z
    omega
  · refine hK (xup (xup h d (oA 17 (va_up F ((hd + n) % 17) (some x)))) a (.inl (7, [.ref d, .int (nI hd), .int (nI (((hd + n) % 17 + 1) % 17))]))) ⟨?_, ⟨_, (xup_ne (Ne.symm hne)).trans xup_eq, fun i hi => ?_, fun j => ?_⟩, e4, by omega, e6, e7⟩ (fun b b1 b2 => (xup_ne b1).trans (xup_ne b2))
    · rw [xup_eq, show (hd + (n + 1)) % 17 = ((hd + n) % 17 + 1) % 17 by omega]
    · unfold va_up
      dsimp only
      by_cases hin : i = n
      · rw [hin, if_pos rfl, if_pos rfl]
      · rw [if_neg hin, if_neg (by omega)]
        exact e3 i (by omega)
    · unfold va_up
      by_cases hj : j = (hd + n) % 17
      · exact Or.inl ⟨n, by omega, hj⟩
      · rw [if_neg hj]
        rcases e8 j with ⟨i, hi, hji⟩ | z
        · exact Or.inl ⟨i, by omega, hji⟩
        · exact Or.inr z
theorem cc_removeFirst11 (hA : AD κ h a d n hd f) (hn : 0 < n) (K : Option Nat → xH → Prop) (hK : ∀ h', AD κ h' a d (n - 1) ((hd + 1) % 17) (fun i => f (i + 1)) → (∀ b, b ≠ a → b ≠ d → h' b = h b) → K (some (f 0)) h') : P_J11_removeFirst κ a (h, w) K := by
  obtain ⟨e1, ⟨F, e2, e3, e8⟩, e4, e5, e6, e7⟩ := hA
  have hne : a ≠ d := fun z => by rw [z, e2] at e1; cases e1
  unfold P_J11_removeFirst
  rw [g_rc e1, true_and]
  refine ⟨0, 0, Nat.zero_le _, Nat.zero_le _, ?_⟩
  unfold P_J11_pollFirst
  show xgq (h, _) a 7 0 _
  rw [g_gq (r := some d) e1 rfl, g_gi e1 rfl]
  have e30 : F hd = some (f 0) := by
    have := e3 0 hn
    rwa [Nat.add_zero, Nat.mod_eq_of_lt e4] at this
  refine c_pure (r := some (f 0)) (fun w K hk => ?_) ?_
  · unfold P_J11_elementAt
    rw [t_nn, g_aq e2 e4 (by omega), e30]
    exact hk
  refine ⟨fun z => (by cases z), fun b z => ?_⟩
  cases z
  rw [t_nn, g_sq e2 e7 e4 (by omega) (fun b z => by cases z), g_an xup_eq]
  refine c_pure (r := nI ((hd + 1) % 17)) (fun w K hk => cc_inc11 e4 K hk) ?_
  rw [g_pi ((xup_ne hne).trans e1) e6 (by simp)]
  refine ⟨fun z => (by cases z), fun b z => ?_⟩
  cases z
  refine hK (xup (xup h d (oA 17 (va_up F hd none))) a (.inl (7, [.ref d, .int (nI ((hd + 1) % 17)), .int (nI ((hd + n) % 17))]))) ⟨?_, ⟨_, (xup_ne (Ne.symm hne)).trans xup_eq, fun i hi => ?_, fun j => ?_⟩, by omega, by omega, e6, e7⟩ (fun b b1 b2 => (xup_ne b1).trans (xup_ne b2))
  · rw [xup_eq, show ((hd + 1) % 17 + (n - 1)) % 17 = (hd + n) % 17 by omega]
  · unfold va_up
    rw [if_neg (by omega)]
    have := e3 (i + 1) (by omega)
    rw [← this]
    congr 1
    omega
  · unfold va_up
    by_cases hj : j = hd
    · rw [if_pos hj]; exact Or.inr rfl
    · rw [if_neg hj]
      rcases e8 j with ⟨i, hi, hji⟩ | z
      · have hi0 : i ≠ 0 := fun z => by
          rw [z, Nat.add_zero, Nat.mod_eq_of_lt e4] at hji
          exact hj hji
        exact Or.inl ⟨i - 1, by omega, by omega⟩
      · exact Or.inr z
theorem cc_removeLast11 (hA : AD κ h a d n hd f) (hn : 0 < n) (K : Option Nat → xH → Prop) (hK : ∀ h', AD κ h' a d (n - 1) hd f → (∀ b, b ≠ a → b ≠ d → h' b = h b) → K (some (f (n - 1))) h') : P_J11_removeLast κ a (h, w) K := by
  obtain ⟨e1, ⟨F, e2, e3, e8⟩, e4, e5, e6, e7⟩ := hA
  have hne : a ≠ d := fun z => by rw [z, e2] at e1; cases e1
  unfold P_J11_removeLast
  rw [g_rc e1, true_and]
  refine ⟨0, 0, Nat.zero_le _, Nat.zero_le _, ?_⟩
  unfold P_J11_pollLast
  show xgq (h, _) a 7 0 _
  rw [g_gq (r := some d) e1 rfl, g_gi e1 rfl, t_nn, g_an e2]
  refine c_pure (r := nI ((hd + n - 1) % 17)) (fun w K hk => ?_) ?_
  · unfold P_J11_dec
    have hsb : nI ((hd + n) % 17) + (-1 : Int32) = nI ((hd + n) % 17) - 1 := (Int32.sub_eq_add_neg _ _).symm
    rw [hsb]
    show (0 ≤ nI ((hd + n) % 17) - 1 → K (nI ((hd + n) % 17) - 1) h) ∧ (¬ 0 ≤ nI ((hd + n) % 17) - 1 → K (nI 17 - 1) h)
    have h1 : (0 ≤ nI ((hd + n) % 17) - 1 ↔ 1 ≤ (hd + n) % 17) := nI_dif (y := 1) (by omega) (by omega)
    rw [h1]
    refine ⟨fun z => ?_, fun z => ?_⟩
    · have : nI ((hd + n) % 17) - 1 = nI ((hd + n) % 17 - 1) := nI_sub (y := 1) z
      rw [this, show (hd + n) % 17 - 1 = (hd + n - 1) % 17 by omega]
      exact hk
    · have : nI 17 - 1 = nI (17 - 1) := nI_sub (y := 1) (by omega)
      rw [this, show 17 - 1 = (hd + n - 1) % 17 by omega]
      exact hk
  have e30 : F ((hd + n - 1) % 17) = some (f (n - 1)) := by
    have := e3 (n - 1) (by omega)
    rwa [show hd + (n - 1) = hd + n - 1 by omega] at this
  refine c_pure (r := some (f (n - 1))) (fun w K hk => ?_) ?_
  · unfold P_J11_elementAt
    rw [t_nn, g_aq e2 (by omega) (by omega), e30]
    exact hk
  refine ⟨fun z => (by cases z), fun b z => ?_⟩
  cases z
  rw [g_pi e1 e6 (by simp), g_sq ((xup_ne (Ne.symm hne)).trans e2) e7 (by omega) (by omega) (fun b z => by cases z)]
  refine ⟨fun z => (by cases z), fun b z => ?_⟩
  cases z
  refine hK (xup (xup h a (.inl (7, [.ref d, .int (nI hd), .int (nI ((hd + n - 1) % 17))]))) d (oA 17 (va_up F ((hd + n - 1) % 17) none))) ⟨?_, ⟨_, xup_eq, fun i hi => ?_, fun j => ?_⟩, e4, by omega, e6, e7⟩ (fun b b1 b2 => (xup_ne b2).trans (xup_ne b1))
  · rw [xup_ne hne, xup_eq, show (hd + (n - 1)) % 17 = (hd + n - 1) % 17 by omega]
  · unfold va_up
    rw [if_neg (by omega)]
    exact e3 i (by omega)
  · unfold va_up
    by_cases hj : j = (hd + n - 1) % 17
    · rw [if_pos hj]; exact Or.inr rfl
    · rw [if_neg hj]
      rcases e8 j with ⟨i, hi, hji⟩ | z
      · have hi0 : i ≠ n - 1 := fun z => by
          rw [z, show hd + (n - 1) = hd + n - 1 by omega] at hji
          exact hj hji
        exact Or.inl ⟨i, by omega, hji⟩
      · exact Or.inr z
theorem cc_init11 (e : h a = some (.inl (7, [va_rf none, .int 0, .int 0]))) (hκ : κ 0 ≤ a) {c0 s0 : Nat} (hc : 1 ≤ c0) (hs : 17 ≤ s0) (f : Nat → Nat) (K : Unit → xH → Prop) (hK : ∀ h' d, AD κ h' a d 0 0 f → h d = none → (∀ b, b ≠ a → b ≠ d → h' b = h b) → K () h') : P_J11_init κ a (h, c0, s0) K := by
  unfold P_J11_init
  refine c_pure (r := ()) (fun w K hk => hk) ?_
  refine ⟨17, rfl, by omega, hc, hs, fun d hd hκd => ?_⟩
  have hd : h d = none := hd
  have hne : a ≠ d := fun z => by rw [z, hd] at e; cases e
  show xpq κ (xup h d _, _) a 7 0 (some d) _
  rw [g_pq ((xup_ne hne).trans e) hκ (by simp)]
  refine hK (xup (xup h d (oA 17 (fun _ => none))) a (.inl (7, [.ref d, .int 0, .int 0]))) d ⟨by rw [xup_eq, nI_0], ⟨_, (xup_ne (Ne.symm hne)).trans xup_eq, fun i hi => absurd hi (Nat.not_lt_zero _), fun j => Or.inr rfl⟩, by omega, by omega, hκ, hκd⟩ hd (fun b b1 b2 => (xup_ne b1).trans (xup_ne b2))
/-- places i .. y - 1 are emptied -/
theorem cc_clrGo {d y : Nat} {B : ((Int32 × Int32) → xS → Prop) → (Int32 × Int32) → xS → Prop} (hκd : κ 0 ≤ d) (hy : y ≤ 17)
    (hB : ∀ (self : (Int32 × Int32) → xS → Prop) (i : Nat) (σ : xS), i < y → xsq κ σ d (nI i) none (fun σ' => self (nI i + 1, nI y) σ') → B self (nI i, nI y) σ) :
    ∀ (k i : Nat) (X : xH) (w : Nat × Nat) (F : Nat → Option Nat) (m : Nat), i + k = y → X d = some (oA 17 F) → (∀ (X' : xH) (w' : Nat × Nat), X' d = some (oA 17 (fun j => if i ≤ j ∧ j < y then none else F j)) → (∀ b, b ≠ d → X' b = X b) → xloop B m (nI y, nI y) (X', w')) → xloop B (m + k) (nI i, nI y) (X, w) := by
  intro k
  induction k with
  | zero =>
    intro i X w F m hik hX hE
    have : i = y := by omega
    subst this
    refine hE X w ?_ (fun b _ => rfl)
    rw [hX]
    congr 2
    funext j
    rw [if_neg (by omega)]
  | succ k ih =>
    intro i X w F m hik hX hE
    show B (xloop B (m + k)) (nI i, nI y) (X, w)
    refine hB _ i _ (by omega) ?_
    rw [g_sq hX hκd (by omega) (by omega) (fun b z => by cases z), nI_1]
    refine ih (i + 1) _ _ _ m (by omega) xup_eq (fun X' w' hX' hfr => hE X' w' ?_ (fun b hb => (hfr b hb).trans (xup_ne hb)))
    rw [hX']
    congr 2
    funext j
    unfold va_up
    by_cases hj : i ≤ j ∧ j < y
    · rw [if_pos hj]
      by_cases hj2 : i + 1 ≤ j ∧ j < y
      · rw [if_pos hj2]
      · rw [if_neg hj2, if_pos (by omega)]
    · rw [if_neg hj, if_neg (by omega), if_neg (by omega)]
theorem cc_clear11 (hA : AD κ h a d n hd f) (K : Unit → xH → Prop) (hK : ∀ h', AD κ h' a d 0 0 f → (∀ b, b ≠ a → b ≠ d → h' b = h b) → K () h') : P_J11_clear κ a (h, w) K := by
  obtain ⟨e1, ⟨F, e2, e3, e8⟩, e4, e5, e6, e7⟩ := hA
  have hne : a ≠ d := fun z => by rw [z, e2] at e1; cases e1
  unfold P_J11_clear
  rw [g_gq (r := some d) e1 rfl, g_gi e1 rfl, g_gi e1 rfl]
  -- behind the emptying
  have fin : ∀ (X : xH) (F' : Nat → Option Nat), X d = some (oA 17 F') → (∀ j, F' j = none) → (∀ b, b ≠ d → X b = h b) → ∀ w' : Nat × Nat, xpi κ (X, w') a 7 2 0 fun σ5 => xpi κ σ5 a 7 1 0 fun σ6 => K () σ6.1 := fun X F' hX hN hfr w' => by
    rw [g_pi ((hfr a hne).trans e1) e6 (by simp), g_pi xup_eq e6 (by simp), xup_xup]
    exact hK (xup X a (.inl (7, [.ref d, .int 0, .int 0]))) ⟨by rw [xup_eq, nI_0], ⟨F', (xup_ne (Ne.symm hne)).trans hX, fun i hi => absurd hi (Nat.not_lt_zero _), fun j => Or.inr (hN j)⟩, by omega, by omega, e6, e7⟩ (fun b b1 b2 => (xup_ne b1).trans (hfr b b2))
  refine ⟨0, 0, Nat.zero_le _, Nat.zero_le _, ?_⟩
  unfold P_J11_circularClear
  show (nI ((hd + n) % 17) < nI hd → xnn (some d) fun b1 => xan (h, 0, 0) b1 fun v2 => xwhile _ (nI hd, v2) (h, 0, 0)) ∧ (¬ nI ((hd + n) % 17) < nI hd → xwhile _ (nI hd, nI ((hd + n) % 17)) (h, 0, 0))
  rw [nI_ltI (by omega) (by omega)]
  refine ⟨fun z => ?_, fun z => ?_⟩
  · rw [t_nn, g_an e2]
    show xwhile _ (nI hd, nI 17) (h, 0, 0)
    refine ⟨((((hd + n) % 17 + 1) + (hd + n) % 17) + 1) + (17 - hd), cc_clrGo e7 (by omega) (fun self i σ hi hk => ?_) (17 - hd) hd h _ F _ (by omega) e2 (fun X' w' hX' hfr => ?_)⟩
    · unfold B_J11_circularClear_12
      exact ⟨fun y => absurd y (by rw [nI_leI (by omega) (by omega)]; omega), fun _ => hk⟩
    · show B_J11_circularClear_12 κ _ d (nI ((hd + n) % 17)) _ (nI 17, nI 17) (X', w')
      unfold B_J11_circularClear_12
      refine ⟨fun _ => ⟨fun y => ?_, fun _ => ?_⟩, fun y => absurd (Int32.le_refl _) y⟩
      · have := (nI_eq (by omega) (by omega)).mp y
        omega
      · have := cc_clrGo (B := B_J11_circularClear_12 κ (fun r h => (fun x σ4 => xpi κ σ4 a 7 2 0 fun σ5 => xpi κ σ5 a 7 1 0 fun σ6 => K () σ6.1) r (h, w.1 - 0, w.2 - 0)) d (nI ((hd + n) % 17))) (y := (hd + n) % 17) e7 (by omega) (fun self i σ hi hk => by
          unfold B_J11_circularClear_12
          exact ⟨fun y => absurd y (by rw [nI_leI (by omega) (by omega)]; omega), fun _ => hk⟩) ((hd + n) % 17) 0 X' w' _ ((hd + n) % 17 + 1) (by omega) hX' (fun X2 w2 hX2 hfr2 => by
          show B_J11_circularClear_12 κ _ d (nI ((hd + n) % 17)) _ (nI ((hd + n) % 17), nI ((hd + n) % 17)) (X2, w2)
          unfold B_J11_circularClear_12
          refine ⟨fun _ => ⟨fun _ => fin X2 _ hX2 (fun j => ?_) (fun b hb => (hfr2 b hb).trans (hfr b hb)) _, fun y => absurd rfl y⟩, fun y => absurd (Int32.le_refl _) y⟩
          by_cases c1 : 0 ≤ j ∧ j < (hd + n) % 17
          · rw [if_pos c1]
          · rw [if_neg c1]
            by_cases c2 : hd ≤ j ∧ j < 17
            · rw [if_pos c2]
            · rw [if_neg c2]
              rcases e8 j with ⟨i, hi, hji⟩ | z
              · omega
              · exact z)
        rw [nI_0] at this
        exact this
  · refine ⟨1 + ((hd + n) % 17 - hd), cc_clrGo e7 (by omega) (fun self i σ hi hk => ?_) ((hd + n) % 17 - hd) hd h _ F _ (by omega) e2 (fun X' w' hX' hfr => ?_)⟩
    · unfold B_J11_circularClear_12_1
      refine ⟨fun y => absurd y (by rw [nI_leI (by omega) (by omega)]; omega), fun _ => ?_⟩
      rw [t_nn]
      exact hk
    · show B_J11_circularClear_12_1 κ _ (some d) (nI ((hd + n) % 17)) _ (nI ((hd + n) % 17), nI ((hd + n) % 17)) (X', w')
      unfold B_J11_circularClear_12_1
      refine ⟨fun _ => ⟨fun _ => fin X' _ hX' (fun j => ?_) hfr _, fun y => absurd rfl y⟩, fun y => absurd (Int32.le_refl _) y⟩
      by_cases c1 : hd ≤ j ∧ j < (hd + n) % 17
      · rw [if_pos c1]
      · rw [if_neg c1]
        rcases e8 j with ⟨i, hi, hji⟩ | z
        · omega
        · exact z
end FP
