-- PriorityQueue: the two sifts, over a comparator's rank
def cP (κ : Nat → Nat) (b : Nat) (x y : Option Nat) (τ : xS) (L : Int32 → xH → Prop) : Prop := ((xrc τ b 28 ∧ P_X7_compare_2 κ b x y τ L) ∨ ((xrc τ b 29 ∧ P_X8_compare κ b x y τ L) ∨ ((xrc τ b 30 ∧ P_X9_compare κ b x y τ L) ∨ ((xrc τ b 31 ∧ P_X10_compare κ b x y τ L) ∨ (xrc τ b 34 ∧ P_X11_compare κ b x y τ L)))))
/-- the comparator at b answers cm on S, whose order rk is -/
def CM (κ : Nat → Nat) (H : xH) (b : Nat) (S : Nat → Prop) (rk : Nat → Nat) : Prop := ∃ cm : Nat → Nat → Int32, (∀ x y, S x → S y → (cm x y < 0 ↔ rk x < rk y) ∧ (0 < cm x y ↔ rk y < rk x)) ∧ ∀ H' : xH, (∀ x, (S x ∨ x = b) → H' x = H x) → ∀ x y, S x → S y → ∀ (w : Nat × Nat) (K : Int32 → xH → Prop), K (cm x y) H' → cP κ b (some x) (some y) (H', w) K
/-- q lists E's elements, each once -/
def PE (q : Nat → Nat) (n : Nat) (E : Nat → Prop) : Prop := (∀ i j, i < n → j < n → i ≠ j → q i ≠ q j) ∧ ∀ y, E y ↔ ∃ i, i < n ∧ q i = y
def HP (q : Nat → Nat) (n : Nat) (rk : Nat → Nat) : Prop := ∀ i, 0 < i → i < n → rk (q ((i - 1) / 2)) ≤ rk (q i)
theorem nI_ushr : ∀ k, k < 1000 → ((nI k).toUInt32 >>> ((1 : Int32).toUInt32 &&& Int32.toUInt32 31)).toInt32 = nI (k / 2) := by decide +kernel
section D6
variable {κ : Nat → Nat} {H : xH} {d b3 N n x : Nat} {q : Nat → Nat} {S E : Nat → Prop} {rk : Nat → Nat} {w : Nat × Nat} {F : Nat → Option Nat}
def sx (k p i : Nat) : Nat := if i = k then p else if i = p then k else i
def sw (Q : Nat → Nat) (k p : Nat) : Nat → Nat := fun i => Q (sx k p i)
theorem sx_lt {k p i : Nat} (hk : k < n) (hp : p < n) (hi : i < n) : sx k p i < n := by
  unfold sx
  split
  · exact hp
  · split
    · exact hk
    · exact hi
theorem sx_inj {k p i j : Nat} (h : sx k p i = sx k p j) : i = j := by
  unfold sx at h
  split at h <;> split at h <;> (try split at h) <;> (try split at h) <;> omega
theorem sx_sx (k p i : Nat) : sx k p (sx k p i) = i := by
  unfold sx
  by_cases h1 : i = k
  · rw [if_pos h1]
    by_cases h2 : p = k
    · rw [if_pos h2]; omega
    · rw [if_neg h2, if_pos rfl]; exact h1.symm
  · rw [if_neg h1]
    by_cases h2 : i = p
    · rw [if_pos h2, if_pos rfl]; exact h2.symm
    · rw [if_neg h2, if_neg h1, if_neg h2]
theorem PE.sw {Q : Nat → Nat} {k p : Nat} (hk : k < n) (hp : p < n) (h : PE Q n E) : PE (sw Q k p) n E := by
  refine ⟨fun i j hi hj hij z => h.1 _ _ (sx_lt hk hp hi) (sx_lt hk hp hj) (fun y => hij (sx_inj y)) z, fun y => ?_⟩
  rw [h.2 y]
  constructor
  · rintro ⟨i, hi, e⟩
    refine ⟨sx k p i, sx_lt hk hp hi, ?_⟩
    show Q (sx k p (sx k p i)) = y
    rw [sx_sx]
    exact e
  · rintro ⟨i, hi, e⟩
    exact ⟨sx k p i, sx_lt hk hp hi, e⟩
theorem sw_k (Q : Nat → Nat) (k p : Nat) : sw Q k p k = Q p := by unfold sw sx; rw [if_pos rfl]
theorem sw_p (Q : Nat → Nat) {k p : Nat} (h : p ≠ k) : sw Q k p p = Q k := by unfold sw sx; rw [if_neg h, if_pos rfl]
theorem sw_o (Q : Nat → Nat) {k p i : Nat} (h1 : i ≠ k) (h2 : i ≠ p) : sw Q k p i = Q i := by unfold sw sx; rw [if_neg h1, if_neg h2]
theorem HP.min (h : HP q n rk) : ∀ i, i < n → rk (q 0) ≤ rk (q i) := by
  intro i
  induction i using Nat.strongRecOn with
  | ind i ih =>
    intro hi
    rcases Nat.eq_zero_or_pos i with z | z
    · rw [z]; exact Nat.le_refl _
    · exact Nat.le_trans (ih ((i - 1) / 2) (by omega) (by omega)) (h i z hi)
theorem cc_siftUp {Q0 : Nat → Nat} (hd : H d = some (oA N F)) (hκ : κ 0 ≤ d) (hN : N ≤ 900) (hn : n < N) (hF : ∀ i, i < n → F i = some (Q0 i)) (hF2 : ∀ i, n ≤ i → F i = none) (hx : Q0 n = x) (hS : ∀ i, i ≤ n → S (Q0 i)) (hSo : ∀ y, S y → oOK H (some y) ∧ y ≠ d) (hb3 : b3 ≠ d) (hCM : CM κ H b3 S rk) (hP : PE Q0 (n + 1) E) (hH : HP Q0 n rk) (K : Unit → xH → Prop)
    (hK : ∀ (F' : Nat → Option Nat) (q' : Nat → Nat), (∀ i, i < n + 1 → F' i = some (q' i)) → (∀ i, n + 1 ≤ i → F' i = none) → PE q' (n + 1) E → HP q' (n + 1) rk → (∀ i, i ≤ n → S (q' i)) → K () (xup H d (oA N F'))) : P_J42_siftUpUsingComparator κ (nI n) (some x) (some d) (some b3) (H, w) K := by
  obtain ⟨cm, hcm, hCM⟩ := hCM
  unfold P_J42_siftUpUsingComparator
  have hob : ∀ (G : Nat → Option Nat) (y : Nat), S y → xob2 (xup H d (oA N G), w) (some y) := fun G y hy b hb => by
    cases hb
    obtain ⟨⟨ci, fs, z1, z2⟩, z3⟩ := And.intro ((hSo y hy).1 y rfl) (hSo y hy).2
    exact ⟨ci, fs, by show xup H d _ y = _; rw [xup_ne z3]; exact z1, z2⟩
  refine xwhile_of (fun v σ => ∃ (k : Nat) (G : Nat → Option Nat) (Q : Nat → Nat), v = nI k ∧ σ = (xup H d (oA N G), w) ∧ k ≤ n ∧ Q k = x ∧ (∀ i, i ≤ n → i ≠ k → G i = some (Q i)) ∧ (∀ i, n < i → G i = none) ∧ PE Q (n + 1) E ∧ (∀ i, i ≤ n → S (Q i)) ∧ (∀ i, 0 < i → i ≤ n → i ≠ k → rk (Q ((i - 1) / 2)) ≤ rk (Q i)) ∧ (∀ c, 0 < c → c ≤ n → (c - 1) / 2 = k → 0 < k → rk (Q ((k - 1) / 2)) ≤ rk (Q c))) (fun v _ => v.toNatClampNeg) ?_ ⟨n, F, Q0, rfl, by rw [xup_self hd], Nat.le_refl _, hx, fun i hi hin => hF i (by omega), fun i hi => hF2 i (by omega), hP, hS, fun i h0 hi hin => hH i h0 (by omega), fun c h0 hc he h => absurd he (by omega)⟩
  rintro v σ ⟨k, G, Q, rfl, rfl, hk, hQk, hG, hG2, hPQ, hSQ, h1, h2⟩ self hself
  unfold B_J42_siftUpUsingComparator_0
  have hxS : S x := hQk ▸ hSQ k hk
  have hdG : xup H d (oA N G) d = some (oA N G) := xup_eq
  -- x put at k
  have put : ∀ (w : Nat × Nat), (0 < k → rk (Q ((k - 1) / 2)) ≤ rk x) → K () (xup (xup H d (oA N G)) d (oA N (va_up G k (some x)))) := fun w hle => by
    rw [xup_xup]
    refine hK _ Q (fun i hi => ?_) (fun i hi => ?_) hPQ (fun i h0 hi => ?_) hSQ
    · unfold va_up
      by_cases hik : i = k
      · rw [if_pos hik, hik, hQk]
      · rw [if_neg hik]; exact hG i (by omega) hik
    · unfold va_up
      rw [if_neg (by omega)]
      exact hG2 i (by omega)
    · by_cases hik : i = k
      · subst hik
        rw [hQk]
        exact hle h0
      · exact h1 i h0 (by omega) hik
  have e0 : nI k ≤ 0 ↔ k = 0 := by
    have := nI_leI (a := k) (b := 0) (by omega) (by omega)
    rw [nI_0] at this
    rw [this]
    omega
  rw [e0]
  refine ⟨fun z => ?_, fun z => ?_⟩
  · rw [t_nn, g_sq hdG hκ (by omega) (by omega) (hob G x hxS)]
    exact put w (fun h => absurd z (by omega))
  · have hp : (k - 1) / 2 < k := by omega
    rw [nI_m1 (by omega), nI_ushr _ (by omega), t_nn, g_aq (f := G) (C := "java/lang/Object") hdG (show (k - 1) / 2 < N by omega) (by omega), hG _ (by omega) (by omega)]
    generalize hpe : (k - 1) / 2 = p at *
    rw [t_nn]
    have hSp : S (Q p) := hSQ p (by omega)
    refine c_pure (r := cm x (Q p)) (fun w K hk => hCM (xup H d (oA N G)) (fun y hy => xup_ne (by rcases hy with hy | hy; exact (hSo y hy).2; rw [hy]; exact hb3)) x (Q p) hxS hSp w K hk) ?_
    show (cm x (Q p) < 0 → _) ∧ (¬ cm x (Q p) < 0 → _)
    rw [(hcm x (Q p) hxS hSp).1]
    refine ⟨fun y => ?_, fun y => ?_⟩
    · rw [g_sq hdG hκ (by omega) (by omega) (hob G _ hSp), xup_xup]
      refine hself _ _ ⟨p, _, sw Q k p, rfl, rfl, by omega, by rw [sw_p Q (by omega)]; exact hQk, fun i hi hip => ?_, fun i hi => ?_, hPQ.sw (by omega) (by omega), fun i hi => hSQ _ (by have := sx_lt (n := n + 1) (k := k) (p := p) (i := i) (by omega) (by omega) (by omega); omega), fun i h0 hi hip => ?_, fun c h0 hc he h => ?_⟩ ?_
      · unfold va_up
        by_cases hik : i = k
        · rw [if_pos hik, hik, sw_k]
        · rw [if_neg hik, sw_o Q hik hip]
          exact hG i hi hik
      · unfold va_up
        rw [if_neg (by omega)]
        exact hG2 i hi
      · by_cases hik : i = k
        · rw [hik, sw_k, hpe, sw_p Q (by omega), hQk]
          omega
        · rw [sw_o Q hik hip]
          by_cases hiq : (i - 1) / 2 = k
          · rw [hiq, sw_k]
            exact h2 i h0 hi hiq (by omega)
          · by_cases hiq2 : (i - 1) / 2 = p
            · rw [hiq2, sw_p Q (by omega), hQk]
              have := h1 i h0 hi hik
              rw [hiq2] at this
              omega
            · rw [sw_o Q hiq hiq2]
              exact h1 i h0 hi hik
      · have hpp : (p - 1) / 2 < p := by omega
        have hbase := h1 p h (by omega) (by omega)
        rw [sw_o Q (show (p - 1) / 2 ≠ k by omega) (show (p - 1) / 2 ≠ p by omega)]
        by_cases hck : c = k
        · rw [hck, sw_k]
          exact hbase
        · rw [sw_o Q hck (by omega)]
          have := h1 c h0 hc hck
          rw [he] at this
          omega
      · rw [nI_clamp (by omega), nI_clamp (by omega)]
        omega
    · rw [g_sq hdG hκ (by omega) (by omega) (hob G x hxS)]
      exact put w (fun _ => by omega)
end D6
