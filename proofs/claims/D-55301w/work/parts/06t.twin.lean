-- the twin reads its tape
def m_W : Nat → List Nat
  | 0 => [114, 101, 97, 100, 32]
  | 1 => [119, 114, 105, 116, 101, 32]
  | 2 => [112, 105, 110, 32]
  | 3 => [102, 114, 101, 101, 32]
  | 4 => [102, 108, 117, 115, 104]
  | 5 => [100, 101, 118, 105, 99, 101, 32]
  | _ => [116, 105, 99, 107, 115, 32]
def κW : Nat → Nat
  | 0 => 25
  | 1 => 26
  | 2 => 27
  | 3 => 28
  | 4 => 15
  | 5 => 29
  | _ => 30
def m_cs (l : List Nat) : Nat → Int32 := fun i => nI (l.getD i 0)
/-- the twin's words -/
def kW (κ : Nat → Nat) (H : xH) : Prop := ∀ k, k < 7 → isS H (κ (κW k)) (m_W k).length (m_cs (m_W k))
def r_here (f : Nat → Int32) (n p : Nat) : Int32 := if p < n then f p else -1
def r_needs (f : Nat → Int32) (n : Nat) (c : Int32) (q : Nat × Bool) : Nat × Bool :=
  if q.2 || decide (r_here f n q.1 ≠ c) then (q.1, true) else (q.1 + 1, false)
def r_needsL (f : Nat → Int32) (n : Nat) : List Nat → Nat × Bool → Nat × Bool
  | [], q => q
  | c :: l, q => r_needsL f n l (r_needs f n (nI c) q)
def r_next (f : Nat → Int32) (n p : Nat) : Int32 := if p + 1 < n then f (p + 1) else -1
def r_isW (f : Nat → Int32) (n p k : Nat) : Bool := decide (m_cs (m_W k) 0 = r_here f n p) && (decide (k ≠ 3) || decide (r_next f n p ≠ 108))
def r_w (f : Nat → Int32) (n p : Nat) : Nat := match (List.range 6).find? (r_isW f n p) with
  | some k => k
  | none => 6
def r_dig (f : Nat → Int32) (n p : Nat) : Bool := m_in (r_here f n p) 48 57
def r_digit (f : Nat → Int32) (n : Nat) (q : Nat × Bool) : Int32 × (Nat × Bool) :=
  if q.2 || !r_dig f n q.1 then (0, (q.1, true)) else (r_here f n q.1 - 48, (q.1 + 1, false))
def r_isD (f : Nat → Int32) (n : Nat) (q : Nat × Bool) : Bool := !q.2 && r_dig f n q.1
def r_more (f : Nat → Int32) (n : Nat) (v : Int32 × (Nat × Bool)) : Int32 × (Nat × Bool) :=
  if r_isD f n v.2 then ((10 : Int32) * v.1 + (r_digit f n v.2).1, (r_digit f n v.2).2) else v
def r_number (f : Nat → Int32) (n : Nat) (q : Nat × Bool) : Int32 × (Nat × Bool) := r_more f n (r_more f n (r_digit f n q))
def r_signed (f : Nat → Int32) (n : Nat) (q : Nat × Bool) : Int32 × (Nat × Bool) :=
  if !q.2 && decide (r_here f n q.1 = 45) then (-(r_number f n (q.1 + 1, q.2)).1, (r_number f n (q.1 + 1, q.2)).2) else r_number f n q
def r_order (f : Nat → Int32) (n : Nat) (q : Nat × Bool) (D : Nat → Int32) (k : Nat) : (Nat × Bool) × (Nat → Int32) :=
  let w := r_w f n q.1
  let q1 := r_needsL f n (m_W w) q
  let D1 := upd D k (nI w)
  if w = 4 then (q1, D1) else
  let v := r_number f n q1
  let D2 := upd D1 (k + 1) v.1
  if w = 1 ∨ w = 5 then
    let y := r_signed f n (r_needs f n 61 v.2)
    (y.2, upd D2 (k + 2) y.1)
  else (v.2, D2)
def r_text (f : Nat → Int32) (n : Nat) : Nat → Nat → (Nat × Bool) → (Nat → Int32) → Nat × (Nat × Bool) × (Nat → Int32)
  | 0, m, q, D => (m, q, D)
  | fuel + 1, m, q, D =>
    let o := r_order f n q D (3 * m)
    if !o.1.2 && decide (r_here f n o.1.1 = 59) then r_text f n fuel (m + 1) (o.1.1 + 1, false) o.2 else (m + 1, o.1, o.2)
/-- place, isWrong, told -/
def tQ (t : Nat → Nat → Int32) (q : Nat × Bool) (D : Nat → Int32) : Nat → Nat → Int32 := fun k j => if k = 17 then (if j = 0 then nI q.1 else t 17 j) else if k = 18 then (if j = 0 then bI q.2 else t 18 j) else if k = 19 then D j else t k j
section U10
variable {κ A : Nat → Nat} {h : xH} {t : Nat → Nat → Int32} {w : Nat × Nat} {n : Nat} {q : Nat × Bool} {D : Nat → Int32}
theorem tQ_7 : tQ t q D 7 = t 7 := rfl
theorem tQ_8 : tQ t q D 8 0 = t 8 0 := rfl
theorem tQ_17 : tQ t q D 17 0 = nI q.1 := rfl
theorem tQ_18 : tQ t q D 18 0 = bI q.2 := rfl
theorem tQ_19 : tQ t q D 19 = D := rfl
theorem tQ_s17 (p : Nat) : tset (tQ t q D) 17 0 (nI p) = tQ t (p, q.2) D := by
  funext k j
  simp only [tQ, tset]
  by_cases h1 : k = 17 <;> by_cases h2 : j = 0 <;> simp [h1, h2]
theorem tQ_s18 (b : Bool) : tset (tQ t q D) 18 0 (bI b) = tQ t (q.1, b) D := by
  funext k j
  simp only [tQ, tset]
  by_cases h1 : k = 18 <;> by_cases h2 : j = 0 <;> simp [h1, h2]
theorem tQ_s180 : tset (tQ t q D) 18 0 0 = tQ t (q.1, false) D := tQ_s18 false
theorem tQ_s181 : tset (tQ t q D) 18 0 1 = tQ t (q.1, true) D := tQ_s18 true
theorem tQ_s19 (k : Nat) (v : Int32) : tset (tQ t q D) 19 k v = tQ t q (upd D k v) := by
  funext k1 j
  simp only [tQ, tset, upd]
  by_cases h1 : k1 = 19 <;> simp [h1]
theorem tc_here (hA : tOK κ A) (h8 : t 8 0 = nI n) (hn : n ≤ 59) (hp : q.1 ≤ 60) (K : Int32 → xH → Prop) (hK : K (r_here (t 7) n q.1) (tput h A (tQ t q D))) : P_X4_here κ (A 20) (tput h A (tQ t q D), w) K := by
  unfold P_X4_here
  unfold r_here at hK
  have e : nI n ≤ nI q.1 ↔ n ≤ q.1 := nI_leI (by omega) (by omega)
  simp (disch := omega) only [t_gi_17 hA, t_gi_8 hA, t_gq_7 hA, t_nn, t_ai_7 hA, tQ_8, tQ_17, tQ_7, h8, e, c_n]
  refine ⟨fun z => ?_, fun z => ⟨nI_in (by omega) (by decide), ?_⟩⟩
  · rw [if_neg (by omega)] at hK; exact hK
  · rw [if_pos (by omega)] at hK; exact hK
theorem tc_needs (hA : tOK κ A) (h8 : t 8 0 = nI n) (hn : n ≤ 59) (hp : q.1 ≤ 60) (c : Int32) (K : Unit → xH → Prop) (hK : K () (tput h A (tQ t (r_needs (t 7) n c q) D))) : P_X4_needs κ (A 20) c (tput h A (tQ t q D), w) K := by
  unfold P_X4_needs
  unfold r_needs at hK
  obtain ⟨p, wr⟩ := q
  rw [t_gi_18 hA, tQ_18]
  refine ⟨fun z => ?_, fun z => ?_⟩
  · have hw : wr = false := (bI_0 _).mp z
    subst hw
    simp only [t_rc hA, true_and]
    refine t_call (t' := tQ t (p, false) D) (r := r_here (t 7) n p) (fun w K hk => tc_here hA h8 hn hp K hk) ?_
    refine ⟨fun y => ?_, fun y => ?_⟩
    · simp only [t_pi_18 hA, tQ_s180, t_gi_17 hA, t_gi_18 hA, tQ_17, tQ_18]
      refine ⟨fun _ => ?_, fun x => absurd rfl x⟩
      simp only [t_pi_17 hA, nI_1, tQ_s17]
      simpa [y] using hK
    · simp only [t_pi_18 hA, tQ_s181, t_gi_17 hA, t_gi_18 hA, tQ_17, tQ_18]
      refine ⟨fun x => absurd x (by decide), fun _ => ?_⟩
      simp only [t_pi_17 hA, Int32.add_zero, tQ_s17]
      simpa [y] using hK
  · have hw : wr = true := bI_c z
    subst hw
    simp only [t_pi_18 hA, tQ_s181, t_gi_17 hA, t_gi_18 hA, tQ_17, tQ_18]
    refine ⟨fun x => absurd x (by decide), fun _ => ?_⟩
    simp only [t_pi_17 hA, Int32.add_zero, tQ_s17]
    simpa using hK
theorem tc_word {k : Nat} (hk : k < 7) (σ : xS) (K : Option Nat → xH → Prop) (hK : K (some (κ (κW k))) σ.1) : P_X4_word κ (nI k) σ K := by
  unfold P_X4_word
  have e : ∀ j : Nat, j < 7 → (nI k = nI j ↔ k = j) := fun j hj => nI_eq (by omega) (by omega)
  have e0 : nI k = (0 : Int32) ↔ k = 0 := e 0 (by omega)
  have e1 : nI k = (1 : Int32) ↔ k = 1 := e 1 (by omega)
  have e2 : nI k = (2 : Int32) ↔ k = 2 := e 2 (by omega)
  have e3 : nI k = (3 : Int32) ↔ k = 3 := e 3 (by omega)
  have e4 : nI k = (4 : Int32) ↔ k = 4 := e 4 (by omega)
  have e5 : nI k = (5 : Int32) ↔ k = 5 := e 5 (by omega)
  simp only [e0, e1, e2, e3, e4, e5]
  refine ⟨fun z => by subst z; exact hK, fun z0 => ⟨fun z => by subst z; exact hK, fun z1 => ⟨fun z => by subst z; exact hK, fun z2 => ⟨fun z => by subst z; exact hK, fun z3 => ⟨fun z => by subst z; exact hK, fun z4 => ⟨fun z => by subst z; exact hK, fun z5 => ?_⟩⟩⟩⟩⟩⟩
  obtain rfl : k = 6 := by omega
  exact hK
theorem m_W_len (k : Nat) : 0 < (m_W k).length := by
  unfold m_W
  split <;> decide
theorem tc_isWord (hA : tOK κ A) (hW : ∀ t, kW κ (tput h A t)) (h8 : t 8 0 = nI n) (hn : n ≤ 59) (hp : q.1 ≤ 60) {k : Nat} (hk : k < 6) (K : Int32 → xH → Prop) (hK : K (bI (r_isW (t 7) n q.1 k)) (tput h A (tQ t q D))) : P_X4_isWord κ (A 20) (nI k) (tput h A (tQ t q D), w) K := by
  unfold P_X4_isWord
  unfold r_isW r_next at hK
  have e : nI n ≤ nI (q.1 + 1) ↔ n ≤ q.1 + 1 := nI_leI (by omega) (by omega)
  have e3 : nI k = (3 : Int32) ↔ k = 3 := nI_eq (b := 3) (by omega) (by omega)
  obtain ⟨_, v, co, hs, hz, N, f, e1, -⟩ := hW (tQ t q D) k (by omega)
  simp only [t_gi_17 hA, t_gi_8 hA, tQ_8, tQ_17, h8, nI_1, e]
  refine ⟨fun z => ?_, fun z => ?_⟩
  · refine c_pure (r := some (κ (κW k))) (fun w K hk' => tc_word (by omega) _ K hk') ?_
    rw [t_nn, g_rc e1, true_and]
    refine c_pure (r := m_cs (m_W k) 0) (fun w K hk' => cc_charAt (i := 0) (hW _ k (by omega)) (m_W_len k) K hk') ?_
    simp only [t_rc hA, true_and]
    refine t_call (t' := tQ t q D) (r := r_here (t 7) n q.1) (fun w K hk => tc_here hA h8 hn hp K hk) ?_
    rw [if_neg (by omega)] at hK
    refine ⟨fun y => ⟨fun x => ⟨fun u => absurd u (by decide), fun _ => ?_⟩, fun x => ?_⟩, fun y => ?_⟩
    · simpa [y, bI] using hK
    · rw [e3] at x; simpa [y, x, bI] using hK
    · simpa [y, bI] using hK
  · have hq : q.1 + 1 < 60 := by omega
    simp (disch := omega) only [t_gq_7 hA, t_nn, t_ai_7 hA, tQ_7, c_n]
    refine ⟨nI_in (by omega) (by decide), ?_⟩
    refine c_pure (r := some (κ (κW k))) (fun w K hk' => tc_word (by omega) _ K hk') ?_
    rw [t_nn, g_rc e1, true_and]
    refine c_pure (r := m_cs (m_W k) 0) (fun w K hk' => cc_charAt (i := 0) (hW _ k (by omega)) (m_W_len k) K hk') ?_
    simp only [t_rc hA, true_and]
    refine t_call (t' := tQ t q D) (r := r_here (t 7) n q.1) (fun w K hk => tc_here hA h8 hn hp K hk) ?_
    rw [if_pos (by omega)] at hK
    refine ⟨fun y => ⟨fun x => ⟨fun u => ?_, fun u => ?_⟩, fun x => ?_⟩, fun y => ?_⟩
    · rw [e3] at x; simpa [y, x, u, bI] using hK
    · simpa [y, u, bI] using hK
    · rw [e3] at x; simpa [y, x, bI] using hK
    · simpa [y, bI] using hK
theorem r_needs_le (f : Nat → Int32) (c : Int32) (hc : c ≠ -1) (h : q.1 ≤ n) : (r_needs f n c q).1 ≤ n := by
  unfold r_needs
  split
  · exact h
  · rename_i z
    by_cases hp : q.1 < n
    · exact hp
    · unfold r_here at z
      simp [hp, Ne.symm hc] at z
theorem m_W_ne {k j : Nat} (hj : j < (m_W k).length) : nI ((m_W k).getD j 0) ≠ -1 := by
  have : ∀ l : List Nat, (∀ x ∈ l, nI x ≠ -1) → nI 0 ≠ -1 → nI (l.getD j 0) ≠ -1 := by
    intro l hl h0
    rw [List.getD_eq_getElem?_getD]
    cases hx : l[j]? with
    | none => exact h0
    | some x => exact hl x (List.mem_of_getElem? hx)
  refine this _ ?_ (by decide)
  unfold m_W
  split <;> decide
theorem r_needsL_drop (f : Nat → Int32) (l : List Nat) {i : Nat} (hi : i < l.length) (q : Nat × Bool) : r_needsL f n (l.drop i) q = r_needsL f n (l.drop (i + 1)) (r_needs f n (nI (l.getD i 0)) q) := by
  rw [List.drop_eq_getElem_cons hi]
  simp only [r_needsL]
  congr 2
  rw [List.getD_eq_getElem?_getD, List.getElem?_eq_getElem hi]
  rfl
theorem tc_readsWord (hA : tOK κ A) (hW : ∀ t, kW κ (tput h A t)) (h8 : t 8 0 = nI n) (hn : n ≤ 59) (hp : q.1 ≤ n) (K : Int32 → xH → Prop) (hK : (r_needsL (t 7) n (m_W (r_w (t 7) n q.1)) q).1 ≤ n → K (nI (r_w (t 7) n q.1)) (tput h A (tQ t (r_needsL (t 7) n (m_W (r_w (t 7) n q.1)) q) D))) : P_X4_readsWord κ (A 20) (tput h A (tQ t q D), w) K := by
  unfold P_X4_readsWord
  have fin : ∀ k, k < 7 → r_w (t 7) n q.1 = k → ∀ w, xwhile (B_X4_readsWord_24 κ K (A 20) (nI k)) (0 : Int32) (tput h A (tQ t q D), w) := by
    intro k hk he w
    rw [he] at hK
    have hlen : (m_W k).length ≤ 10 := by unfold m_W; split <;> decide
    refine x_for (m_W k).length (fun i v σ => v = nI i ∧ i ≤ (m_W k).length ∧ ∃ (w : Nat × Nat) (q' : Nat × Bool), σ = (tput h A (tQ t q' D), w) ∧ q'.1 ≤ n ∧ r_needsL (t 7) n ((m_W k).drop i) q' = r_needsL (t 7) n (m_W k) q) ?_ ?_ ⟨rfl, by omega, w, q, rfl, hp, rfl⟩
    · rintro i v σ ⟨rfl, -, w, q', rfl, hq', hR⟩ hi self hself
      unfold B_X4_readsWord_24
      obtain ⟨_, v, co, hs, hz, N, f, e1, -⟩ := hW (tQ t q' D) k (by omega)
      refine c_pure (r := some (κ (κW k))) (fun w K hk' => tc_word (by omega) _ K hk') ?_
      rw [t_nn, g_rc e1, true_and]
      refine c_pure (r := nI (m_W k).length) (fun w K hk' => cc_length (hW _ k (by omega)) K hk') ?_
      refine ⟨fun z => absurd ((nI_leI (by omega) (by omega)).mp z) (by omega), fun _ => ?_⟩
      refine c_pure (r := some (κ (κW k))) (fun w K hk' => tc_word (by omega) _ K hk') ?_
      rw [t_nn, g_rc e1, true_and]
      refine c_pure (r := m_cs (m_W k) i) (fun w K hk' => cc_charAt (i := i) (hW _ k (by omega)) hi K hk') ?_
      simp only [t_rc hA, true_and]
      refine t_call (r := ()) (fun w K hk => tc_needs hA h8 hn (by omega) _ K hk) ?_
      rw [(nI_succ i).symm]
      refine hself _ _ ⟨rfl, by omega, _, _, rfl, r_needs_le _ _ (m_W_ne hi) hq', ?_⟩
      rw [← hR, r_needsL_drop _ _ hi]
      rfl
    · rintro v σ ⟨rfl, -, w, q', rfl, hq', hR⟩ self
      unfold B_X4_readsWord_24
      obtain ⟨_, v, co, hs, hz, N, f, e1, -⟩ := hW (tQ t q' D) k (by omega)
      refine c_pure (r := some (κ (κW k))) (fun w K hk' => tc_word (by omega) _ K hk') ?_
      rw [t_nn, g_rc e1, true_and]
      refine c_pure (r := nI (m_W k).length) (fun w K hk' => cc_length (hW _ k (by omega)) K hk') ?_
      refine ⟨fun _ => ?_, fun z => absurd ((nI_leI (by omega) (by omega)).mpr (Nat.le_refl _)) z⟩
      rw [List.drop_length] at hR
      simp only [r_needsL] at hR
      rw [hR]
      exact hK (by rw [← hR]; exact hq')
  refine x_for 6 (fun i v σ => v = nI i ∧ i ≤ 6 ∧ (∃ w, σ = (tput h A (tQ t q D), w)) ∧ ∀ j, j < i → r_isW (t 7) n q.1 j = false) ?_ ?_ ⟨rfl, by omega, ⟨_, rfl⟩, fun j hj => absurd hj (Nat.not_lt_zero _)⟩
  · rintro i v σ ⟨rfl, -, ⟨w, rfl⟩, hj⟩ hi self hself
    unfold B_X4_readsWord_2
    refine ⟨fun z => absurd ((nI_leI (a := 6) (b := i) (by decide) (by omega)).mp z) (by omega), fun _ => ?_⟩
    simp only [t_rc hA, true_and]
    refine t_call (t' := tQ t q D) (r := bI (r_isW (t 7) n q.1 i)) (fun w K hk => tc_isWord hA hW h8 hn (by omega) (by omega) K hk) ?_
    refine ⟨fun z => ?_, fun z => ?_⟩
    · rw [(nI_succ i).symm]
      refine hself _ _ ⟨rfl, by omega, ⟨_, rfl⟩, fun j hj' => ?_⟩
      rcases Nat.lt_succ_iff_lt_or_eq.mp hj' with h1 | h1
      · exact hj j h1
      · rw [h1]; exact (bI_0 _).mp z
    · exact fin i (by omega) (by unfold r_w; rw [m_hit hj hi (bI_c z)]) _
  · rintro v σ ⟨rfl, -, ⟨w, rfl⟩, hj⟩ self
    unfold B_X4_readsWord_2
    refine ⟨fun _ => ?_, fun z => absurd ((nI_leI (a := 6) (b := 6) (by decide) (by omega)).mpr (Nat.le_refl _)) z⟩
    exact fin 6 (by omega) (by unfold r_w; rw [List.find?_eq_none.mpr (fun x hx => by rw [hj x (List.mem_range.mp hx)]; decide)]) _
end U10
