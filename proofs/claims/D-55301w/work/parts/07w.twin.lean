/-- the refusal at q: reason x, detail y, what stands behind -/
def RF (h : xH) (q : Nat) (x y : Int32) (bh : Option Nat) : Prop := ∃ u v : Value, h q = some (.inl (26, [.ref q, u, v, va_rf none, va_rf none, .int 0, .int x, .int y, va_rf bh]))
/-- block b into line a (which held o), for the cause c at tick t -/
def n_comes (g : Nat → Int32) (b a o c : Nat) (t : Int32) : Nat → Int32 :=
  let g5 := m_load (n_gets (m_uses (m_wB (m_miss0 g b c) a o) (b % 4) 5) a (nI b) t) a b 4
  upd g5 233 (g5 233 ||| (1 <<< (nI b &&& 31)))
section E6
variable {W : Nat → Int32}
variable {κ A : Nat → Nat} {h h' h0 H : xH} {g : Nat → Int32} {s l r a b d n q k o T : Nat} {c bl : Nat → Nat} {w : Nat × Nat}
theorem c_callX {ρ : Type} {P : xS → (ρ → xH → Prop) → (Nat → xH → Prop) → Prop} {c0 s0 : Nat} {K : ρ → xS → Prop} {KX : Nat → xS → Prop} (c s : Nat) (hc : c ≤ c0) (hs : s ≤ s0) (hP : P (h, c, s) (fun r h' => K r (h', c0 - c, s0 - s)) (fun q h' => KX q (h', c0 - c, s0 - s))) : xcallX P (h, c0, s0) K KX := ⟨c, s, hc, hs, hP⟩
theorem RF.rc {x y : Int32} {bh : Option Nat} (hR : RF h q x y bh) : xrc (h, w) q 26 := by
  obtain ⟨u, v, e⟩ := hR
  exact ⟨_, e⟩
theorem cc_check {x y : Int32} (v : Bool) {c0 s0 : Nat} (hc : 1 ≤ c0) (hs : 9 ≤ s0) (K : Unit → xH → Prop) (KX : Nat → xH → Prop) (hK : v = true → K () h) (hX : v = false → ∀ (q : Nat) (h' : xH), RF h' q x y none → h q = none → κ 0 ≤ q → Ext h h' → KX q h') : P_X1_check κ (bI v) x y (h, c0, s0) K KX := by
  unfold P_X1_check
  refine ⟨fun z => ?_, fun z => hK (bI_c z)⟩
  refine ⟨hc, hs, fun q hq hκ => ?_⟩
  have hq : h q = none := hq
  refine c_call 0 0 (Nat.zero_le _) (Nat.zero_le _) ?_
  unfold P_X6_init
  refine c_call 0 0 (Nat.zero_le _) (Nat.zero_le _) ?_
  unfold P_X6_init_2
  refine ⟨xup_eq, hκ, fun u v => ?_⟩
  show xpi κ (xup (xup h q _) q _, _) q 26 6 x _
  rw [xup_xup, g_pi xup_eq hκ (by simp), xup_xup, g_pi xup_eq hκ (by simp), xup_xup, g_pq xup_eq hκ (by simp), xup_xup]
  have hR : RF (xup h q (.inl (26, [.ref q, u, v, va_rf none, va_rf none, .int 0, .int x, .int y, va_rf none]))) q x y none := ⟨u, v, xup_eq⟩
  exact ⟨hκ, hR.rc, hX ((bI_0 _).mp z) q _ hR hq hκ (Ext.new hq)⟩
theorem cc_isBetween {x lo hi : Int32} (σ : xS) (K : Int32 → xH → Prop) (hK : K (bI (m_in x lo hi)) σ.1) : P_X1_isBetween κ x lo hi σ K := by
  unfold P_X1_isBetween
  unfold m_in at hK
  refine ⟨fun h1 => ?_, fun h1 => ⟨fun h2 => ?_, fun h2 => ?_⟩⟩
  · simpa [bI, h1] using hK
  · simpa [bI, h1, h2] using hK
  · simpa [bI, h1, h2] using hK
theorem cc_checkRange {x lo hi : Int32} {c0 s0 : Nat} (hc : 1 ≤ c0) (hs : 9 ≤ s0) (K : Unit → xH → Prop) (KX : Nat → xH → Prop) (hK : m_in x lo hi = true → K () h) (hX : m_in x lo hi = false → ∀ (q : Nat) (h' : xH), RF h' q 1 x none → h q = none → κ 0 ≤ q → Ext h h' → KX q h') : P_X1_checkRange κ x lo hi (h, c0, s0) K KX := by
  unfold P_X1_checkRange
  refine c_pure (r := bI (m_in x lo hi)) (fun w K hk => cc_isBetween _ K hk) ?_
  refine c_callX c0 s0 (Nat.le_refl _) (Nat.le_refl _) (cc_check _ hc hs _ _ hK (fun z q h' k1 k2 k3 k4 => ⟨k3, k1.rc, hX z q h' k1 k2 k3 k4⟩))
theorem cc_checkAddress {x : Int32} {c0 s0 : Nat} (hc : 1 ≤ c0) (hs : 9 ≤ s0) (K : Unit → xH → Prop) (KX : Nat → xH → Prop) (hK : m_in x 0 63 = true → K () h) (hX : m_in x 0 63 = false → ∀ (q : Nat) (h' : xH), RF h' q 1 x none → h q = none → κ 0 ≤ q → Ext h h' → KX q h') : P_X1_checkAddress κ x (h, c0, s0) K KX := by
  unfold P_X1_checkAddress
  exact c_callX c0 s0 (Nat.le_refl _) (Nat.le_refl _) (cc_checkRange hc hs _ _ hK (fun z q h' k1 k2 k3 k4 => ⟨k3, k1.rc, hX z q h' k1 k2 k3 k4⟩))
theorem cc_checkWord {x : Int32} {c0 s0 : Nat} (hc : 1 ≤ c0) (hs : 9 ≤ s0) (K : Unit → xH → Prop) (KX : Nat → xH → Prop) (hK : m_in x (-999) 999 = true → K () h) (hX : m_in x (-999) 999 = false → ∀ (q : Nat) (h' : xH), RF h' q 1 x none → h q = none → κ 0 ≤ q → Ext h h' → KX q h') : P_X1_checkWord κ x (h, c0, s0) K KX := by
  unfold P_X1_checkWord
  exact c_callX c0 s0 (Nat.le_refl _) (Nat.le_refl _) (cc_checkRange hc hs _ _ hK (fun z q h' k1 k2 k3 k4 => ⟨k3, k1.rc, hX z q h' k1 k2 k3 k4⟩))
theorem m_load_in (g : Nat → Int32) (a b : Nat) : ∀ k i, i < k → m_load g a b k (169 + 4 * a + i) = g (5 + 4 * b + i) := by
  intro k
  induction k with
  | zero => intro i hi; exact absurd hi (Nat.not_lt_zero _)
  | succ k ih =>
    intro i hi
    rw [m_load]
    by_cases hik : i = k
    · subst hik; rw [upd_eq]
    · rw [upd_ne (by omega)]
      exact ih i (by omega)
theorem m_load_out (g : Nat → Int32) (a b : Nat) {j : Nat} : ∀ k, (j < 169 + 4 * a ∨ 169 + 4 * a + k ≤ j) → m_load g a b k j = g j := by
  intro k
  induction k with
  | zero => intro _; rfl
  | succ k ih => intro hj; rw [m_load, upd_ne (by omega)]; exact ih (by omega)
theorem l_cp (hA : mOK κ A s l) (hl : lin s l a) (hb : b < 16) {K : xS → Prop} (hK : K (mput h A s l (m_load g a b 4), w)) : xcpi κ .int (mput h A s l g, w) (A 0) ((4 : Int32) * nI b) (A (22 + a)) 0 4 K := by
  have ha := hl.1
  have c0 : (0 : Int32).toNatClampNeg = 0 := by decide
  have c4 : (4 : Int32).toNatClampNeg = 4 := by decide
  have e4 : (4 : Int32) * nI b = nI (4 * b) := a_m4 b
  have cb : (nI (4 * b)).toNatClampNeg = 4 * b := nI_clamp (by omega)
  rw [e4]
  refine ⟨64, _, 4, _, mput_k (k := 0) hA (md (by omega)), mput_w hA hl, hA.1 _ (mdw hl), nI_pos (by omega), by decide, by decide, by rw [cb, c4]; omega, by rw [c0, c4]; omega, fun i hi => rfl, ?_⟩
  rw [cb, c0, c4]
  have e : va_cpy (m_arr g 5 64) (m_arr g (169 + 4 * a) 4) (4 * b) 0 4 = m_arr (m_load g a b 4) (169 + 4 * a) 4 := by
    funext i
    unfold va_cpy
    by_cases hi : i < 4
    · rw [if_pos (by omega), m_arr_i (by omega), m_arr_i hi, m_load_in g a b 4 i hi]
      congr 1
      omega
    · rw [if_neg (by omega)]
      unfold m_arr
      rw [if_neg hi, if_neg hi]
  rw [e]
  have := mput_up (h := h) (g := g) (g' := m_load g a b 4) hA (mdw hl) (fun j hj => m_load_out g a b 4 (by unfold mS at hj; omega))
  rw [mE_w ha] at this
  rw [this]
  exact hK
theorem cc_comes (hM : MM κ A s l c W h0 n bl h) (hl : g 2 = nI l) (hl2 : lin s l a) (hb : b < 16) (hG : GT g T) (hT : T < 2 ^ 28) (hd : ∃ d, d < 16 ∧ g (89 + a) = nI d) (hB : ¬ m_ones (g (89 + a)) = 0 → o < 16 ∧ g (73 + a) = nI o) (t : Int32) (K : Unit → xH → Prop)
    (hK : K () (mput h A s l (n_comes g b a o (n_cause g bl n b s l) t))) : P_X2_comes κ (A 5) (nI b) (some (A (6 + a))) t (mput h A s l g, w) K := by
  have hA := hM.1.1
  have ha := hl2.1
  have hc3 : n_cause g bl n b s l < 3 := by
    unfold n_cause
    split
    · omega
    · split
      · omega
      · split <;> omega
  unfold P_X2_comes
  rw [n_gq_7 hA, n_rc hA, true_and]
  refine c_pure (r := nI (n_cause g bl n b s l)) (fun w K hk => cc_causeOf hM hl hb K hk) ?_
  unfold n_comes at hK
  generalize n_cause g bl n b s l = cz at hc3 hK
  rw [t_nn, n_ai_4 hA hc3, n_si_4 hA hc3, n_gq_6 hA, t_nn, n_ai_3 hA hb, n_si_3 hA hb, n_rc hA, true_and]
  have e2 : upd (upd g (286 + cz) (g (286 + cz) + 1)) (267 + b) (upd g (286 + cz) (g (286 + cz) + 1) (267 + b) + 1) = m_miss0 g b cz := rfl
  rw [e2]
  have hd' : m_miss0 g b cz (89 + a) = g (89 + a) := m_miss0_o g b cz _ (by omega) (by omega)
  have hk' : m_miss0 g b cz (73 + a) = g (73 + a) := m_miss0_o g b cz _ (by omega) (by omega)
  have hG2 : GT (m_miss0 g b cz) T := GT.of (m_miss0_o g b cz _ (by omega) (by omega)) (fun k hk => m_miss0_o g b cz _ (by omega) (by omega)) hG
  refine ⟨0, 0, Nat.zero_le _, Nat.zero_le _, cc_writesBack (b := o) hA hl2 hG2 (by omega) (by rw [hd']; exact hd) (by rw [hd', hk']; exact hB) _ ?_⟩
  -- behind writesBack
  have hG3 : ∃ T3, T3 < 2 ^ 29 ∧ GT (m_wB (m_miss0 g b cz) a o) T3 := by
    by_cases h0 : m_ones (m_miss0 g b cz (89 + a)) = 0
    · refine ⟨T, by omega, ?_⟩
      unfold m_wB
      rw [if_pos h0]
      exact hG2
    · have ho : o < 16 := (hB (by rw [← hd']; exact h0)).1
      obtain ⟨d, hd16, hd2⟩ := hd
      obtain ⟨p1, p2⟩ := m_pop d hd16
      rw [← hd2, ← hd'] at p1 p2
      obtain ⟨T', t1, t2, hG'⟩ := GT.uses (k := o % 4) (m := (m_ones (m_miss0 g b cz (89 + a))).toNatClampNeg) (T := T) (by omega) (by omega) (Nat.mod_lt _ (by decide)) hG2
      rw [← p1] at hG'
      have up := fun j hj h1 h2 => (m_wB_up (g := m_miss0 g b cz) (a := a) (b := o) (fun _ => ho) j hj h1 h2).trans (if_neg h0)
      exact ⟨T', by omega, GT.of (up 0 (by omega) (by omega) (by omega)) (fun k hk => up _ (by omega) (by omega) (by omega)) hG'⟩
  obtain ⟨T3, hT3, hG3⟩ := hG3
  show xrc (mput h A s l (m_wB (m_miss0 g b cz) a o), _) (A 5) 1 ∧ _
  rw [n_rc hA, true_and, m_mod4 b (by omega)]
  refine ⟨0, 0, Nat.zero_le _, Nat.zero_le _, cc_works hA hG3 hT3 (Nat.mod_lt _ (by decide)) 5 _ ?_⟩
  show xnn (some (A (6 + a))) _
  rw [t_nn]
  show xrc (mput h A s l (m_uses (m_wB (m_miss0 g b cz) a o) (b % 4) 5), _) (A (6 + a)) 5 ∧ _
  rw [l_rc hA hl2, true_and]
  refine ⟨0, 0, Nat.zero_le _, Nat.zero_le _, cc_gets hA hl2 (nI b) t _ ?_⟩
  show xgq (mput h A s l (n_gets (m_uses (m_wB (m_miss0 g b cz) a o) (b % 4) 5) a (nI b) t), _) (A 5) 1 0 _
  rw [n_gq_0 hA, l_gq_1 hA hl2, t_nn, t_nn]
  refine l_cp hA hl2 hb ?_
  rw [n_gi_9 hA, n_pi_9 hA]
  exact hK
end E6
