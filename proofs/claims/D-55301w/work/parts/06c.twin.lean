-- g apart from the rest: tput h A (tg t g)
def tg (t : Nat → Nat → Int32) (g : Nat → Int32) : Nat → Nat → Int32 := fun k => if k = 0 then g else t k
theorem tg_self (t : Nat → Nat → Int32) : tg t (t 0) = t := by
  funext k
  by_cases hk : k = 0
  · subst hk; rfl
  · simp [tg, hk]
theorem tg_0 (t : Nat → Nat → Int32) (g : Nat → Int32) : tg t g 0 = g := rfl
theorem tg_k (t : Nat → Nat → Int32) (g : Nat → Int32) {k : Nat} (hk : k ≠ 0) : tg t g k = t k := by simp [tg, hk]
theorem tg_set0 (t : Nat → Nat → Int32) (g : Nat → Int32) (i : Nat) (v : Int32) : tset (tg t g) 0 i v = tg t (upd g i v) := by
  funext k j
  by_cases hk : k = 0
  · subst hk; simp [tset, tg, upd]
  · simp [tset, tg, hk]
theorem tg_setk (t : Nat → Nat → Int32) (g : Nat → Int32) {k : Nat} (hk : k ≠ 0) (i : Nat) (v : Int32) : tset (tg t g) k i v = tg (tset t k i v) g := by
  funext k1 j
  by_cases h0 : k1 = 0
  · subst h0; simp [tset, tg, Ne.symm hk]
  · simp [tset, tg, h0]
section T3
variable {κ A : Nat → Nat} {h : xH} {t : Nat → Nat → Int32} {g : Nat → Int32} {w : Nat × Nat}
theorem t_ag (hA : tOK κ A) {i : Int32} {K : Int32 → Prop} : xai .int (tput h A (tg t g), w) (A 0) i K ↔ vp_in i 357 ∧ K (g i.toNatClampNeg) := t_ai_0 hA
theorem t_sg (hA : tOK κ A) {i v : Int32} {K : xS → Prop} : xsi κ .int (tput h A (tg t g), w) (A 0) i v K ↔ vp_in i 357 ∧ K (tput h A (tg t (upd g i.toNatClampNeg v)), w) := by
  rw [t_si_0 hA, tg_set0]
theorem t_pg {k : Nat} (hk : k ≠ 0) (v : Int32) (K : xS → Prop) : K (tput h A (tset (tg t g) k 0 v), w) ↔ K (tput h A (tg (tset t k 0 v) g), w) := by
  rw [tg_setk t g hk]
def m_in (x a b : Int32) : Bool := decide (¬ x < a) && decide (¬ b < x)
def bI (b : Bool) : Int32 := if b then 1 else 0
theorem bI_nar (b : Bool) : narrow .boolean (.int (bI b)) = .int (bI b) := by cases b <;> rfl
theorem bI_0 (b : Bool) : bI b = 0 ↔ b = false := by cases b <;> decide
theorem tc_in (x a b : Int32) (σ : xS) (K : Int32 → xH → Prop) (hK : K (bI (m_in x a b)) σ.1) : P_X4_in κ x a b σ K := by
  unfold P_X4_in
  unfold m_in at hK
  refine ⟨fun h1 => ?_, fun h1 => ⟨fun h2 => ?_, fun h2 => ?_⟩⟩
  · simpa [bI, h1] using hK
  · simpa [bI, h1, h2] using hK
  · simpa [bI, h1, h2] using hK
/-- a call that leaves the heap alone -/
theorem t_pure {ρ : Type} {P : xS → (ρ → xH → Prop) → Prop} {r : ρ} {σ : xS} {K : ρ → xS → Prop} (hP : ∀ (τ : xS) (K : ρ → xH → Prop), K r τ.1 → P τ K) (hK : K r σ) : xcall P σ K := ⟨0, 0, Nat.zero_le _, Nat.zero_le _, hP _ _ hK⟩
theorem tc_isAddress (x : Int32) (σ : xS) (K : Int32 → xH → Prop) (hK : K (bI (m_in x 0 63)) σ.1) : P_X4_isAddress κ x σ K := by
  unfold P_X4_isAddress
  exact t_pure (fun τ K h => tc_in _ _ _ τ K h) ⟨bI_nar _, hK⟩
theorem tc_isBlock (x : Int32) (σ : xS) (K : Int32 → xH → Prop) (hK : K (bI (m_in x 0 15)) σ.1) : P_X4_isBlock κ x σ K := by
  unfold P_X4_isBlock
  exact t_pure (fun τ K h => tc_in _ _ _ τ K h) ⟨bI_nar _, hK⟩
theorem tc_isSet (hA : tOK κ A) (x : Int32) (K : Int32 → xH → Prop) (hK : K (bI (m_in x 0 (g 1 - 1))) (tput h A (tg t g))) : P_X4_isSet κ (A 20) x (tput h A (tg t g), w) K := by
  unfold P_X4_isSet
  simp only [t_gq_0 hA, t_nn, t_ag hA]
  exact ⟨by unfold vp_in; decide, t_pure (fun τ K h => tc_in _ _ _ τ K h) ⟨bI_nar _, hK⟩⟩
theorem tc_done (hA : tOK κ A) (v : Int32) (K : Int32 → xH → Prop) (hK : K v (tput h A (tg (tset t 16 0 0) g))) : P_X4_done κ (A 20) v (tput h A (tg t g), w) K := by
  unfold P_X4_done
  rw [t_pi_16 hA, tg_setk t g (by decide)]
  exact hK
theorem tc_fails (hA : tOK κ A) (v : Int32) (K : Int32 → xH → Prop) (hK : K 0 (tput h A (tg (tset t 16 0 v) g))) : P_X4_fails κ (A 20) v (tput h A (tg t g), w) K := by
  unfold P_X4_fails
  rw [t_pi_16 hA, tg_setk t g (by decide)]
  exact hK
/-- why, whyDetail, behind, behindDetail, thrown -/
def tRef (t : Nat → Nat → Int32) (a b : Int32) : Nat → Nat → Int32 := tset (tset (tset (tset (tset t 10 0 a) 11 0 b) 12 0 0) 13 0 0) 16 0 1
theorem tc_refused (hA : tOK κ A) (a b : Int32) (K : Int32 → xH → Prop) (hK : K 0 (tput h A (tg (tRef t a b) g))) : P_X4_refused κ (A 20) a b (tput h A (tg t g), w) K := by
  unfold P_X4_refused
  simp only [t_pi_10 hA, t_pi_11 hA, t_pi_12 hA, t_pi_13 hA, t_rc hA, true_and, tg_setk _ _ (show 10 ≠ 0 by decide), tg_setk _ _ (show 11 ≠ 0 by decide), tg_setk _ _ (show 12 ≠ 0 by decide), tg_setk _ _ (show 13 ≠ 0 by decide)]
  exact t_call (fun w K h => tc_fails hA 1 K h) hK
theorem m_mod4 : ∀ b, b < 64 → nI b - nI b / (4 : Int32) * (4 : Int32) = nI (b % 4) := by decide +kernel
theorem m_div4 : ∀ b, b < 64 → nI b / (4 : Int32) = nI (b / 4) := by decide +kernel
theorem t_in' {c : Int32} {n N : Nat} (hc : c = nI n) (hn : n < N) (hN : N < 2 ^ 31) : vp_in c N := by
  rw [hc]
  exact nI_in hn hN
theorem t_cl {c : Int32} {n : Nat} (hc : c = nI n) (hn : n < 2 ^ 31) : c.toNatClampNeg = n := by
  rw [hc]
  exact nI_clamp hn
def m_uses (g : Nat → Int32) (k : Nat) (n : Int32) : Nat → Int32 :=
  let g1 := if g (69 + k) ≤ g 0 then g else upd (upd g 291 (g 291 + (g (69 + k) - g 0))) 0 (g (69 + k))
  let g2 := upd g1 0 (g1 0 + n)
  upd g2 (69 + k) (g2 0 + 4)
theorem t_l0 : ((0 : Int32)).toNatClampNeg = 0 := by decide
theorem t_l291 : ((291 : Int32)).toNatClampNeg = 291 := by decide
theorem t_i0 : vp_in (0 : Int32) 357 := by unfold vp_in; decide
theorem t_i291 : vp_in (291 : Int32) 357 := by unfold vp_in; decide
theorem upd_ne {f : Nat → Int32} {i j : Nat} {v : Int32} (hne : j ≠ i) : upd f i v j = f j := by simp [upd, hne]
theorem upd_eq {f : Nat → Int32} {i : Nat} {v : Int32} : upd f i v i = v := by simp [upd]
theorem tc_uses (hA : tOK κ A) {b : Nat} (hb : b < 16) (n : Int32) (K : Unit → xH → Prop) (hK : K () (tput h A (tg t (m_uses g (b % 4) n)))) : P_X4_uses κ (A 20) (nI b) n (tput h A (tg t g), w) K := by
  have hx : (69 : Int32) + (nI b - nI b / (4 : Int32) * (4 : Int32)) = nI (69 + b % 4) := by
    rw [m_mod4 b (by omega)]
    exact nI_add 69 _
  have hi : vp_in (nI (69 + b % 4)) 357 := nI_in (by omega) (by decide)
  have hc : (nI (69 + b % 4)).toNatClampNeg = 69 + b % 4 := nI_clamp (by omega)
  unfold P_X4_uses
  unfold m_uses at hK
  simp only [t_gq_0 hA, t_nn, t_ag hA, t_sg hA, hx, hi, hc, t_l0, t_l291, t_i0, t_i291, true_and]
  refine ⟨fun h1 => ?_, fun h1 => ?_⟩
  · simpa only [if_pos h1] using hK
  · simp only [if_neg h1] at hK
    have hne : ¬ 69 + b % 4 = 291 := by omega
    simpa [upd, hne] using hK
def m_canGive (g : Nat → Int32) (a : Nat) : Bool := decide (¬ g (73 + a) = -1) && decide (g (105 + a) = 0)
theorem tc_canGive (hA : tOK κ A) {a : Nat} (ha : a < 16) (K : Int32 → xH → Prop) (hK : K (bI (m_canGive g a)) (tput h A (tg t g))) : P_X4_canGive κ (A 20) (nI a) (tput h A (tg t g), w) K := by
  have h1 : (73 : Int32) + nI a = nI (73 + a) := nI_add 73 a
  have h2 : (105 : Int32) + nI a = nI (105 + a) := nI_add 105 a
  have i1 : vp_in (nI (73 + a)) 357 := nI_in (by omega) (by decide)
  have i2 : vp_in (nI (105 + a)) 357 := nI_in (by omega) (by decide)
  have c1 : (nI (73 + a)).toNatClampNeg = 73 + a := nI_clamp (by omega)
  have c2 : (nI (105 + a)).toNatClampNeg = 105 + a := nI_clamp (by omega)
  unfold P_X4_canGive
  unfold m_canGive at hK
  simp only [t_gq_0 hA, t_nn, t_ag hA, h1, h2, i1, i2, c1, c2, true_and]
  refine ⟨fun h1 => ?_, fun h1 => ⟨fun h2 => ?_, fun h2 => ?_⟩⟩
  · simpa [bI, h1] using hK
  · simpa [bI, h1, h2] using hK
  · simpa [bI, h1, h2] using hK
def m_emptiesLine (g : Nat → Int32) (a : Nat) : Nat → Int32 :=
  let g1 := upd (upd (upd (upd (upd (upd g (73 + a) (-1)) (89 + a) 0) (105 + a) 0) (121 + a) 0) (137 + a) 0) (153 + a) 0
  upd (upd (upd (upd g1 (169 + 4 * a) 0) (169 + 4 * a + 1) 0) (169 + 4 * a + 2) 0) (169 + 4 * a + 3) 0
theorem tc_emptiesLine (hA : tOK κ A) {a : Nat} (ha : a < 16) (K : Unit → xH → Prop) (hK : K () (tput h A (tg t (m_emptiesLine g a)))) : P_X4_emptiesLine κ (A 20) (nI a) (tput h A (tg t g), w) K := by
  have e1 : (73 : Int32) + nI a = nI (73 + a) := nI_add 73 a
  have e2 : (89 : Int32) + nI a = nI (89 + a) := nI_add 89 a
  have e3 : (105 : Int32) + nI a = nI (105 + a) := nI_add 105 a
  have e4 : (121 : Int32) + nI a = nI (121 + a) := nI_add 121 a
  have e5 : (137 : Int32) + nI a = nI (137 + a) := nI_add 137 a
  have e6 : (153 : Int32) + nI a = nI (153 + a) := nI_add 153 a
  have e7 : (169 : Int32) + (4 : Int32) * nI a = nI (169 + 4 * a) := by
    have : (4 : Int32) * nI a = nI (4 * a) := (Int32.ofNat_mul 4 a).symm
    rw [this]
    exact nI_add 169 _
  have e8 : ∀ k, nI (169 + 4 * a) + nI k = nI (169 + 4 * a + k) := fun k => nI_add _ k
  have ii : ∀ k, k < 357 → vp_in (nI k) 357 := fun k hk => nI_in hk (by decide)
  have cc : ∀ k, k < 357 → (nI k).toNatClampNeg = k := fun k hk => nI_clamp (by omega)
  unfold P_X4_emptiesLine
  simp only [t_gq_0 hA, t_nn, t_sg hA, e1, e2, e3, e4, e5, e6, ii (73 + a) (by omega), ii (89 + a) (by omega), ii (105 + a) (by omega), ii (121 + a) (by omega), ii (137 + a) (by omega), ii (153 + a) (by omega), cc (73 + a) (by omega), cc (89 + a) (by omega), cc (105 + a) (by omega), cc (121 + a) (by omega), cc (137 + a) (by omega), cc (153 + a) (by omega), true_and]
  refine xw_go 5 ?_
  have f0 := e8 0
  have f1 := e8 1
  have f2 := e8 2
  have f3 := e8 3
  have z0 : (0 : Int32) = nI 0 := by decide
  have z1 : (0 : Int32) + 1 = nI 1 := by decide
  have z2 : (0 : Int32) + 1 + 1 = nI 2 := by decide
  have z3 : (0 : Int32) + 1 + 1 + 1 = nI 3 := by decide
  have z4 : (0 : Int32) + 1 + 1 + 1 + 1 = nI 4 := by decide
  have n0 : ¬ (4 : Int32) ≤ nI 0 := by decide
  have n1 : ¬ (4 : Int32) ≤ nI 1 := by decide
  have n2 : ¬ (4 : Int32) ≤ nI 2 := by decide
  have n3 : ¬ (4 : Int32) ≤ nI 3 := by decide
  have n4 : (4 : Int32) ≤ nI 4 := by decide
  rw [z0]
  have s0 : nI 0 + 1 = nI 1 := by decide
  have s1 : nI 1 + 1 = nI 2 := by decide
  have s2 : nI 2 + 1 = nI 3 := by decide
  have s3 : nI 3 + 1 = nI 4 := by decide
  simp only [xloop, B_X4_emptiesLine_64, t_gq_0 hA, t_nn, t_sg hA, e7, f0, f1, f2, f3, s0, s1, s2, s3, n0, n1, n2, n3, n4, ii (169 + 4 * a + 0) (by omega), ii (169 + 4 * a + 1) (by omega), ii (169 + 4 * a + 2) (by omega), ii (169 + 4 * a + 3) (by omega), cc (169 + 4 * a + 0) (by omega), cc (169 + 4 * a + 1) (by omega), cc (169 + 4 * a + 2) (by omega), cc (169 + 4 * a + 3) (by omega), true_and, false_implies, true_implies, not_false_eq_true, not_true_eq_false, and_true]
  exact hK
end T3
