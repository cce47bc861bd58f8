-- the class's lines and its time, over the machine's numbers
def n_sz : Nat → Int32 → Int32 → Option Int32
  | 0, _, _ => none
  | n + 1, c, x => if x = 0 then some c else n_sz n (c + 1) (x &&& (x - 1))
theorem n_sz_ok : ∀ d, d < 16 → n_sz 5 0 (nI d) = some (m_ones (nI d)) := by decide +kernel
theorem m_ones_0 : ∀ d, d < 16 → (m_ones (nI d) = 0 ↔ nI d = 0) := by decide +kernel
theorem cc_sizeGo {κ : Nat → Nat} {σ : xS} {K : Int32 → xH → Prop} : ∀ (n : Nat) (c x v : Int32), n_sz n c x = some v → K v σ.1 → xloop (B_X1_size_4 κ K) n (c, x) σ := by
  intro n
  induction n with
  | zero => intro c x v h _; cases h
  | succ n ih =>
    intro c x v h hK
    simp only [n_sz] at h
    unfold xloop B_X1_size_4
    refine ⟨fun z => ?_, fun z => ?_⟩
    · have z : x = 0 := z
      rw [if_pos z] at h
      cases h
      exact hK
    · have z : ¬ x = 0 := z
      rw [if_neg z] at h
      exact ih _ _ _ h hK
theorem cc_size {κ : Nat → Nat} {d : Nat} (hd : d < 16) (σ : xS) (K : Int32 → xH → Prop) (hK : K (m_ones (nI d)) σ.1) : P_X1_size κ (nI d) σ K := ⟨5, cc_sizeGo 5 _ _ _ (n_sz_ok d hd) hK⟩
def n_empty (g : Nat → Int32) (a : Nat) : Nat → Int32 := upd (upd (upd (upd (upd (upd g (73 + a) (-1)) (89 + a) 0) (105 + a) 0) (121 + a) (-1)) (137 + a) (-1)) (153 + a) (-1)
def n_gets (g : Nat → Int32) (a : Nat) (b t : Int32) : Nat → Int32 := upd (upd (upd (upd (upd g (73 + a) b) (89 + a) 0) (105 + a) 0) (137 + a) t) (153 + a) 0
def n_accd (g : Nat → Int32) (a : Nat) (t : Int32) : Nat → Int32 := upd (upd g (121 + a) t) (153 + a) (upd g (121 + a) t (153 + a) + 1)
def n_takes (g : Nat → Int32) (a k : Nat) (v x : Int32) : Nat → Int32 :=
  let g1 := upd g (169 + 4 * a + k) v
  if x = 0 then upd g1 (89 + a) (g1 (89 + a) &&& (m_bit k ^^^ -1)) else upd g1 (89 + a) (g1 (89 + a) ||| m_bit k)
section C3
variable {κ A : Nat → Nat} {h : xH} {g g' : Nat → Int32} {s l k j a b T : Nat} {w : Nat × Nat}
theorem cc_isEmpty (hA : mOK κ A s l) (hl : lin s l a) (K : Int32 → xH → Prop) (hK : K (bI (decide (g (73 + a) = -1))) (mput h A s l g)) : P_X3_isEmpty κ (A (6 + a)) (mput h A s l g, w) K := by
  unfold P_X3_isEmpty
  rw [l_gi_2 hA hl]
  exact ⟨fun z => by simpa [z, bI] using hK, fun z => by simpa [z, bI] using hK⟩
theorem cc_mayGive (hA : mOK κ A s l) (hl : lin s l a) (K : Int32 → xH → Prop) (hK : K (bI (m_canGive g a)) (mput h A s l g)) : P_X3_mayGive κ (A (6 + a)) (mput h A s l g, w) K := by
  unfold P_X3_mayGive
  unfold m_canGive at hK
  rw [l_rc hA hl, true_and]
  refine c_pure (r := bI (decide (g (73 + a) = -1))) (fun w K hk => cc_isEmpty hA hl K hk) ?_
  refine ⟨fun z => ?_, fun z => ?_⟩
  · have z := (bI_0 _).mp z
    simp only [decide_eq_false_iff_not] at z
    rw [l_gi_4 hA hl]
    exact ⟨fun y => by simpa [z, y, bI] using hK, fun y => by simpa [z, y, bI] using hK⟩
  · have z := bI_c z
    simp only [decide_eq_true_eq] at z
    simpa [z, bI] using hK
theorem cc_bank (hA : mOK κ A s l) (hl : lin s l a) (hb : b < 16) (hab : g (73 + a) = nI b) (K : Int32 → xH → Prop) (hK : K (nI (b % 4)) (mput h A s l g)) : P_X3_bank κ (A (6 + a)) (mput h A s l g, w) K := by
  unfold P_X3_bank
  rw [l_gi_2 hA hl, hab, m_mod4 b (by omega)]
  exact hK
theorem cc_dirtyWords3 (hA : mOK κ A s l) (hl : lin s l a) (hd : ∃ d, d < 16 ∧ g (89 + a) = nI d) (K : Int32 → xH → Prop) (hK : K (m_ones (g (89 + a))) (mput h A s l g)) : P_X3_dirtyWords κ (A (6 + a)) (mput h A s l g, w) K := by
  unfold P_X3_dirtyWords
  obtain ⟨d, hd, e⟩ := hd
  rw [l_gi_3 hA hl]
  rw [e] at hK ⊢
  exact t_pure (r := m_ones (nI d)) (fun τ K hk => cc_size hd τ K hk) hK
theorem cc_isDirty3 (hA : mOK κ A s l) (hl : lin s l a) (K : Int32 → xH → Prop) (hK : K (bI (b_at (g (89 + a)) k)) (mput h A s l g)) : P_X3_isDirty κ (A (6 + a)) (nI k) (mput h A s l g, w) K := by
  unfold P_X3_isDirty
  unfold b_at at hK
  rw [l_gi_3 hA hl]
  exact ⟨fun y => by simpa [y, bI] using hK, fun y => by simpa [y, bI] using hK⟩
theorem cc_becomesEmpty (hA : mOK κ A s l) (hl : lin s l a) (K : Unit → xH → Prop) (hK : K () (mput h A s l (n_empty g a))) : P_X3_becomesEmpty κ (A (6 + a)) (mput h A s l g, w) K := by
  unfold P_X3_becomesEmpty
  rw [l_pi_2 hA hl, l_pi_3 hA hl, l_pi_4 hA hl, l_pi_5 hA hl, l_pi_6 hA hl, l_pi_7 hA hl]
  exact hK
theorem cc_gets (hA : mOK κ A s l) (hl : lin s l a) (x y : Int32) (K : Unit → xH → Prop) (hK : K () (mput h A s l (n_gets g a x y))) : P_X3_gets κ (A (6 + a)) x y (mput h A s l g, w) K := by
  unfold P_X3_gets
  rw [l_pi_2 hA hl, l_pi_3 hA hl, l_pi_4 hA hl, l_pi_6 hA hl, l_pi_7 hA hl]
  exact hK
theorem cc_isAccessed (hA : mOK κ A s l) (hl : lin s l a) (x : Int32) (K : Unit → xH → Prop) (hK : K () (mput h A s l (n_accd g a x))) : P_X3_isAccessed κ (A (6 + a)) x (mput h A s l g, w) K := by
  unfold P_X3_isAccessed
  rw [l_pi_5 hA hl, l_gi_7 hA hl, l_pi_7 hA hl]
  exact hK
theorem cc_takes (hA : mOK κ A s l) (hl : lin s l a) (hk : k < 4) (v x : Int32) (K : Unit → xH → Prop) (hK : K () (mput h A s l (n_takes g a k v x))) : P_X3_takes κ (A (6 + a)) (nI k) v x (mput h A s l g, w) K := by
  unfold P_X3_takes
  unfold n_takes m_bit at hK
  rw [l_gq_1 hA hl, t_nn, l_si hA hl hk]
  refine ⟨fun z => ?_, fun z => ?_⟩
  · rw [l_gi_3 hA hl, l_pi_3 hA hl]
    simpa [z] using hK
  · rw [l_gi_3 hA hl, l_pi_3 hA hl]
    simpa [z] using hK
-- time
theorem nI_sub {x y : Nat} (h : y ≤ x) : nI x - nI y = nI (x - y) := by
  have : nI x = nI y + nI (x - y) := by rw [nI_add]; congr 1; omega
  rw [this, Int32.add_comm, Int32.add_sub_cancel]
theorem n_wait {x y : Nat} (hx : x < 2 ^ 30) (hy : y < 2 ^ 30) : (if (0 : Int32) < nI x - nI y then nI x - nI y else 0) = nI (x - y) := by
  by_cases h : y < x
  · rw [nI_sub (by omega), if_pos]
    have := nI_lt (a := 0) (b := x - y) (by omega) (by omega)
    rwa [nI_0] at this
  · have e : x - y = 0 := by omega
    rw [e, nI_0, if_neg]
    intro z
    have h7 := Int32.lt_iff_toInt_lt.mp z
    have h8 : (nI x - nI y).toInt = (x : Int) - (y : Int) := by
      rw [Int32.toInt_sub, nI_toInt (by omega), nI_toInt (by omega)]
      exact Int.bmod_eq_of_le (by omega) (by omega)
    rw [h8] at h7
    have : (0 : Int32).toInt = 0 := by decide
    omega
theorem cc_works (hA : mOK κ A s l) (hG : GT g T) (hT : T < 2 ^ 29) (hk : k < 4) (n : Int32) (K : Unit → xH → Prop) (hK : K () (mput h A s l (m_uses g k n))) : P_X2_works κ (A 5) (nI k) n (mput h A s l g, w) K := by
  obtain ⟨y, hy, e⟩ := hG.2 k hk
  unfold P_X2_works
  rw [n_rc hA, true_and]
  refine ⟨0, 0, Nat.zero_le _, Nat.zero_le _, ?_⟩
  unfold P_X2_waitsFor
  show xgq (mput h A s l g, 0, 0) _ _ _ _
  rw [n_gq_4 hA, t_nn, n_ai_1 hA hk, n_gi_10 hA, n_gi_10 hA, n_pi_10 hA, n_gi_18 hA, n_pi_18 hA]
  show xgi (mput h A s l _, _) _ _ _ _
  rw [n_gi_10 hA, n_pi_10 hA, n_gq_4 hA, n_gi_10 hA, t_nn, n_si_1 hA hk, e, hG.1, n_wait (by omega) (by omega)]
  have key : ∀ g9, g9 = m_uses g k n → K () (mput h A s l g9) := fun g9 h9 => by rw [h9]; exact hK
  refine key _ ?_
  rw [upd_ne (show 0 ≠ 291 by omega), upd_eq, upd_eq, upd_ne (show 291 ≠ 0 by omega)]
  have hm : ∀ M, (if g (69 + k) ≤ g 0 then g else upd (upd g 291 (g 291 + (g (69 + k) - g 0))) 0 (g (69 + k))) = upd (upd g 0 (nI T + nI (y - T))) 291 (g 291 + nI (y - T)) → M = upd (upd (upd (upd g 0 (nI T + nI (y - T))) 291 (g 291 + nI (y - T))) 0 (nI T + nI (y - T) + n)) (69 + k) (nI T + nI (y - T) + n + 4) → M = m_uses g k n := by
    intro M h1 h2
    rw [h2]
    simp only [m_uses]
    rw [h1, upd_ne (show 0 ≠ 291 by omega), upd_eq, upd_eq]
  refine hm _ ?_ rfl
  rw [e, hG.1]
  by_cases hc : nI y ≤ nI T
  · have h1 := (nI_leI (by omega) (by omega)).mp hc
    rw [if_pos hc, show y - T = 0 by omega, nI_0, Int32.add_zero, Int32.add_zero, ← hG.1]
    funext j
    by_cases h2 : j = 291
    · subst h2; rw [upd_eq]
    · rw [upd_ne h2]
      by_cases h3 : j = 0
      · subst h3; rw [upd_eq]
      · rw [upd_ne h3]
  · have h1 : ¬ y ≤ T := fun z => hc ((nI_leI (by omega) (by omega)).mpr z)
    rw [if_neg hc, nI_sub (by omega), nI_add, show T + (y - T) = y by omega]
    funext j
    by_cases h2 : j = 291
    · subst h2; rw [upd_eq, upd_ne (by omega), upd_eq]
    · by_cases h3 : j = 0
      · subst h3; rw [upd_eq, upd_ne (by omega), upd_eq]
      · rw [upd_ne h3, upd_ne h2, upd_ne h2, upd_ne h3]
end C3
