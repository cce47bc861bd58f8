section D7
variable {κ : Nat → Nat} {H : xH} {d b3 N n x : Nat} {q : Nat → Nat} {S E : Nat → Prop} {rk : Nat → Nat} {w : Nat × Nat} {F : Nat → Option Nat}
theorem cc_siftDown {Q0 : Nat → Nat} (hd : H d = some (oA N F)) (hκ : κ 0 ≤ d) (hN : N ≤ 900) (hn0 : 0 < n) (hn : n ≤ N) (hF : ∀ i, i < n → i ≠ 0 → F i = some (Q0 i)) (hF2 : ∀ i, n ≤ i → F i = none) (hx : Q0 0 = x) (hS : ∀ i, i < n → S (Q0 i)) (hSo : ∀ y, S y → oOK H (some y) ∧ y ≠ d) (hb3 : b3 ≠ d) (hCM : CM κ H b3 S rk) (hP : PE Q0 n E) (hH : ∀ i, 0 < i → i < n → (i - 1) / 2 ≠ 0 → rk (Q0 ((i - 1) / 2)) ≤ rk (Q0 i)) (K : Unit → xH → Prop)
    (hK : ∀ (F' : Nat → Option Nat) (q' : Nat → Nat), (∀ i, i < n → F' i = some (q' i)) → (∀ i, n ≤ i → F' i = none) → PE q' n E → HP q' n rk → (∀ i, i < n → S (q' i)) → K () (xup H d (oA N F'))) : P_J42_siftDownUsingComparator κ 0 (some x) (some d) (nI n) (some b3) (H, w) K := by
  obtain ⟨cm, hcm, hCM⟩ := hCM
  unfold P_J42_siftDownUsingComparator
  rw [nI_ushr n (by omega)]
  have hob : ∀ (G : Nat → Option Nat) (y : Nat), S y → xob2 (xup H d (oA N G), w) (some y) := fun G y hy b hb => by
    cases hb
    obtain ⟨⟨ci, fs, z1, z2⟩, z3⟩ := And.intro ((hSo y hy).1 y rfl) (hSo y hy).2
    exact ⟨ci, fs, by show xup H d _ y = _; rw [xup_ne z3]; exact z1, z2⟩
  refine xwhile_of (fun v σ => ∃ (k : Nat) (G : Nat → Option Nat) (Q : Nat → Nat), v = nI k ∧ σ = (xup H d (oA N G), w) ∧ k < n ∧ Q k = x ∧ (∀ i, i < n → i ≠ k → G i = some (Q i)) ∧ (∀ i, n ≤ i → G i = none) ∧ PE Q n E ∧ (∀ i, i < n → S (Q i)) ∧ (∀ i, 0 < i → i < n → (i - 1) / 2 ≠ k → rk (Q ((i - 1) / 2)) ≤ rk (Q i)) ∧ (∀ c, 0 < c → c < n → (c - 1) / 2 = k → 0 < k → rk (Q ((k - 1) / 2)) ≤ rk (Q c))) (fun v _ => n - v.toNatClampNeg) ?_ ⟨0, F, Q0, nI_0.symm, by rw [xup_self hd], hn0, hx, hF, hF2, hP, hS, hH, fun c h0 hc he h => absurd h (by omega)⟩
  rintro v σ ⟨k, G, Q, rfl, rfl, hk, hQk, hG, hG2, hPQ, hSQ, h1, h2⟩ self hself
  unfold B_J42_siftDownUsingComparator_5
  have hxS : S x := hQk ▸ hSQ k hk
  have hdG : xup H d (oA N G) d = some (oA N G) := xup_eq
  have cmp : ∀ (y z : Nat) (K2 : Int32 → xS → Prop), S y → S z → K2 (cm y z) (xup H d (oA N G), w) → xcall (fun τ L => cP κ b3 (some y) (some z) τ L) (xup H d (oA N G), w) K2 := fun y z K2 hy hz hk2 => c_pure (r := cm y z) (fun w K hk => hCM (xup H d (oA N G)) (fun y hy => xup_ne (by rcases hy with hy | hy; exact (hSo y hy).2; rw [hy]; exact hb3)) y z hy hz w K hk) hk2
  -- x put at k
  have put : (∀ i, 0 < i → i < n → (i - 1) / 2 = k → rk x ≤ rk (Q i)) → xsq κ (xup H d (oA N G), w) d (nI k) (some x) fun σ => K () σ.1 := fun hle => by
    rw [g_sq hdG hκ (by omega) (by omega) (hob G x hxS)]
    show K () (xup (xup H d (oA N G)) d _)
    rw [xup_xup]
    refine hK _ Q (fun i hi => ?_) (fun i hi => ?_) hPQ (fun i h0 hi => ?_) hSQ
    · unfold va_up
      by_cases hik : i = k
      · rw [if_pos hik, hik, hQk]
      · rw [if_neg hik]; exact hG i hi hik
    · unfold va_up
      rw [if_neg (by omega)]
      exact hG2 i hi
    · by_cases hik : (i - 1) / 2 = k
      · rw [hik, hQk]
        exact hle i h0 hi hik
      · exact h1 i h0 hi hik
  -- child p moves up
  have move : ∀ p, p < n → 0 < p → (p - 1) / 2 = k → rk (Q p) < rk x → (∀ i, 0 < i → i < n → (i - 1) / 2 = k → rk (Q p) ≤ rk (Q i)) → xsq κ (xup H d (oA N G), w) d (nI k) (some (Q p)) fun σ => self (nI p) σ := fun p hp hp0 hpk hlt hmin => by
    have hSp := hSQ p hp
    have hpk' : p ≠ k := by omega
    rw [g_sq hdG hκ (by omega) (by omega) (hob G _ hSp), xup_xup]
    refine hself _ _ ⟨p, _, sw Q k p, rfl, rfl, hp, by rw [sw_p Q hpk']; exact hQk, fun i hi hip => ?_, fun i hi => ?_, hPQ.sw hk hp, fun i hi => hSQ _ (sx_lt hk hp hi), fun i h0 hi hip => ?_, fun c h0 hc he h => ?_⟩ ?_
    · unfold va_up
      by_cases hik : i = k
      · rw [if_pos hik, hik, sw_k]
      · rw [if_neg hik, sw_o Q hik hip]
        exact hG i hi hik
    · unfold va_up
      rw [if_neg (by omega)]
      exact hG2 i hi
    · by_cases hik : i = k
      · rw [hik, sw_k, sw_o Q (show (k - 1) / 2 ≠ k by omega) (show (k - 1) / 2 ≠ p by omega)]
        exact h2 p hp0 hp hpk (by omega)
      · by_cases hipp : i = p
        · rw [hipp, sw_p Q hpk', hpk, sw_k, hQk]
          omega
        · rw [sw_o Q hik hipp]
          by_cases hiq : (i - 1) / 2 = k
          · rw [hiq, sw_k]
            exact hmin i h0 hi hiq
          · rw [sw_o Q hiq hip]
            exact h1 i h0 hi hiq
    · rw [hpk, sw_k, sw_o Q (show c ≠ k by omega) (show c ≠ p by omega)]
      have := h1 c h0 hc (by omega)
      rw [he] at this
      exact this
    · rw [nI_clamp (by omega), nI_clamp (by omega)]
      omega
  rw [nI_leI (by omega) (by omega)]
  refine ⟨fun z => ?_, fun z => ?_⟩
  · rw [t_nn]
    exact put (fun i h0 hi hik => absurd hik (by omega))
  · have hc1 : 2 * k + 1 < n := by omega
    rw [t_nn, nI_shl1 (by omega), nI_1, nI_1, g_aq (f := G) (C := "java/lang/Object") hdG (show 2 * k + 1 < N by omega) (by omega), hG _ hc1 (by omega), nI_leI (by omega) (by omega)]
    have hSc := hSQ _ hc1
    have hpc : (2 * k + 1 - 1) / 2 = k := by omega
    refine ⟨fun y => ?_, fun y => ?_⟩
    · rw [t_nn]
      refine cmp x (Q (2 * k + 1)) _ hxS hSc ?_
      rw [(hcm x (Q (2 * k + 1)) hxS hSc).2]
      refine ⟨fun u => ?_, fun u => ?_⟩
      · refine move _ hc1 (by omega) hpc u (fun i h0 hi hik => ?_)
        obtain rfl : i = 2 * k + 1 := by omega
        exact Nat.le_refl _
      · refine put (fun i h0 hi hik => ?_)
        obtain rfl : i = 2 * k + 1 := by omega
        omega
    · have hc2 : 2 * k + 1 + 1 < n := by omega
      have hSr := hSQ _ hc2
      have hpr : (2 * k + 1 + 1 - 1) / 2 = k := by omega
      rw [g_aq (f := G) (C := "java/lang/Object") hdG (show 2 * k + 1 + 1 < N by omega) (by omega), hG _ hc2 (by omega), t_nn]
      refine cmp (Q (2 * k + 1)) (Q (2 * k + 1 + 1)) _ hSc hSr ?_
      have e1 : cm (Q (2 * k + 1)) (Q (2 * k + 1 + 1)) ≤ 0 ↔ ¬ rk (Q (2 * k + 1 + 1)) < rk (Q (2 * k + 1)) := by
        rw [← (hcm (Q (2 * k + 1)) (Q (2 * k + 1 + 1)) hSc hSr).2]
        exact Int32.not_lt.symm
      rw [e1]
      refine ⟨fun v => ?_, fun v => ?_⟩
      · refine cmp x (Q (2 * k + 1)) _ hxS hSc ?_
        rw [(hcm x (Q (2 * k + 1)) hxS hSc).2]
        refine ⟨fun u => ?_, fun u => ?_⟩
        · refine move _ hc1 (by omega) hpc u (fun i h0 hi hik => ?_)
          rcases (show i = 2 * k + 1 ∨ i = 2 * k + 1 + 1 by omega) with e | e
          · rw [e]; exact Nat.le_refl _
          · rw [e]; omega
        · refine put (fun i h0 hi hik => ?_)
          rcases (show i = 2 * k + 1 ∨ i = 2 * k + 1 + 1 by omega) with e | e
          · rw [e]; omega
          · rw [e]; omega
      · have v : rk (Q (2 * k + 1 + 1)) < rk (Q (2 * k + 1)) := Decidable.not_not.mp v
        rw [g_aq (f := G) (C := "java/lang/Object") hdG (show 2 * k + 1 + 1 < N by omega) (by omega), hG _ hc2 (by omega)]
        refine cmp x (Q (2 * k + 1 + 1)) _ hxS hSr ?_
        rw [(hcm x (Q (2 * k + 1 + 1)) hxS hSr).2]
        refine ⟨fun u => ?_, fun u => ?_⟩
        · refine move _ hc2 (by omega) hpr u (fun i h0 hi hik => ?_)
          rcases (show i = 2 * k + 1 ∨ i = 2 * k + 1 + 1 by omega) with e | e
          · rw [e]; omega
          · rw [e]; exact Nat.le_refl _
        · refine put (fun i h0 hi hik => ?_)
          rcases (show i = 2 * k + 1 ∨ i = 2 * k + 1 + 1 by omega) with e | e
          · rw [e]; omega
          · rw [e]; omega
end D7
