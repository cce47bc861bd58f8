-- the machine's numbers: g as the twin counts them; A k: addresses (0 store 1 busyTo 2 accesses 3 misses 4 causes 5 the machine 6 + a line a 22 + a its words; 38 written 39 sets 40 latest)
def m_arr (g : Nat → Int32) (o n : Nat) : Nat → Int32 := fun i => if i < n then g (o + i) else 0
def mFs (A : Nat → Nat) (g : Nat → Int32) : List Value := [.ref (A 0), .ref (A 38), .ref (A 39), .ref (A 40), .ref (A 1), .ref (A 2), .ref (A 3), .ref (A 4), .int (g 2), .int (g 233), .int (g 0), .int (g 3), .int (g 4), .int (g 283), .int (g 284), .int (g 285), .int (g 289), .int (g 290), .int (g 291), .int (g 292)]
def lFs (A : Nat → Nat) (g : Nat → Int32) (a : Nat) : List Value := [.int (nI (a % 4)), .ref (A (22 + a)), .int (g (73 + a)), .int (g (89 + a)), .int (g (105 + a)), .int (g (121 + a)), .int (g (137 + a)), .int (g (153 + a))]
def mE (A : Nat → Nat) (g : Nat → Int32) (k : Nat) : xE :=
  if k = 0 then .inr (.int, 64, .inl (m_arr g 5 64)) else
  if k = 1 then .inr (.int, 4, .inl (m_arr g 69 4)) else
  if k = 2 then .inr (.int, 16, .inl (m_arr g 251 16)) else
  if k = 3 then .inr (.int, 16, .inl (m_arr g 267 16)) else
  if k = 4 then .inr (.int, 3, .inl (m_arr g 286 3)) else
  if k = 5 then .inl (1, mFs A g) else if k < 22 then .inl (5, lFs A g (k - 6)) else .inr (.int, 4, .inl (m_arr g (169 + 4 * (k - 22)) 4))
/-- line a is one of s sets of l lines -/
def lin (s l a : Nat) : Prop := a < 16 ∧ a / 4 < s ∧ a % 4 < l
def mdm (s l k : Nat) : Prop := k < 6 ∨ (6 ≤ k ∧ k < 22 ∧ lin s l (k - 6)) ∨ (22 ≤ k ∧ k < 38 ∧ lin s l (k - 22))
theorem mdm_lt {s l k : Nat} (h : mdm s l k) : k < 38 := by
  unfold mdm at h
  omega
noncomputable def mput (h : xH) (A : Nat → Nat) (s l : Nat) (g : Nat → Int32) : xH := fun b => match (List.range 38).find? (fun k => @decide (mdm s l k ∧ A k = b) (Classical.propDecidable _)) with
  | some k => some (mE A g k)
  | none => h b
def mOK (κ A : Nat → Nat) (s l : Nat) : Prop := (∀ k, mdm s l k → κ 0 ≤ A k) ∧ ∀ k k', mdm s l k → mdm s l k' → A k = A k' → k = k'
/-- the numbers that object k holds -/
def mS (k j : Nat) : Prop := (k = 5 ∧ (j = 0 ∨ j = 2 ∨ j = 3 ∨ j = 4 ∨ j = 233 ∨ j = 283 ∨ j = 284 ∨ j = 285 ∨ j = 289 ∨ j = 290 ∨ j = 291 ∨ j = 292)) ∨ (6 ≤ k ∧ k < 22 ∧ (j = 73 + (k - 6) ∨ j = 89 + (k - 6) ∨ j = 105 + (k - 6) ∨ j = 121 + (k - 6) ∨ j = 137 + (k - 6) ∨ j = 153 + (k - 6))) ∨ (22 ≤ k ∧ k < 38 ∧ 169 + 4 * (k - 22) ≤ j ∧ j < 169 + 4 * (k - 22) + 4) ∨ (k = 0 ∧ 5 ≤ j ∧ j < 69) ∨ (k = 1 ∧ 69 ≤ j ∧ j < 73) ∨ (k = 2 ∧ 251 ≤ j ∧ j < 267) ∨ (k = 3 ∧ 267 ≤ j ∧ j < 283) ∨ (k = 4 ∧ 286 ≤ j ∧ j < 289)
section C2M
variable {κ A : Nat → Nat} {h : xH} {g g' : Nat → Int32} {s l k j a : Nat} {w : Nat × Nat}
theorem mput_k (hA : mOK κ A s l) (hk : mdm s l k) : mput h A s l g (A k) = some (mE A g k) := by
  unfold mput
  cases hf : (List.range 38).find? (fun k' => @decide (mdm s l k' ∧ A k' = A k) (Classical.propDecidable _)) with
  | none =>
    have := List.find?_eq_none.mp hf k (List.mem_range.mpr (mdm_lt hk))
    simp [hk] at this
  | some k' =>
    have h1 := List.find?_some hf
    simp only [decide_eq_true_eq] at h1
    rw [hA.2 k' k h1.1 hk h1.2]
theorem mput_o {b : Nat} (hb : ∀ k, mdm s l k → A k ≠ b) : mput h A s l g b = h b := by
  unfold mput
  have hf : (List.range 38).find? (fun k' => @decide (mdm s l k' ∧ A k' = b) (Classical.propDecidable _)) = none := by
    rw [List.find?_eq_none]
    intro x _
    simp only [decide_eq_true_eq]
    exact fun z => hb x z.1 z.2
  rw [hf]
theorem mS_uniq {k' : Nat} (h1 : mS k j) (h2 : mS k' j) : k = k' := by
  unfold mS at h1 h2
  omega
theorem m_arr_congr {o n : Nat} (he : ∀ i, i < n → g' (o + i) = g (o + i)) : m_arr g' o n = m_arr g o n := by
  funext i
  unfold m_arr
  by_cases hi : i < n
  · rw [if_pos hi, if_pos hi, he i hi]
  · rw [if_neg hi, if_neg hi]
theorem mE_congr (hk : k < 38) (he : ∀ j, mS k j → g' j = g j) : mE A g' k = mE A g k := by
  unfold mE
  by_cases h0 : k = 0
  · rw [if_pos h0, if_pos h0, m_arr_congr (g := g) (fun i hi => he _ (by unfold mS; omega))]
  rw [if_neg h0, if_neg h0]
  by_cases h1 : k = 1
  · rw [if_pos h1, if_pos h1, m_arr_congr (g := g) (fun i hi => he _ (by unfold mS; omega))]
  rw [if_neg h1, if_neg h1]
  by_cases h2 : k = 2
  · rw [if_pos h2, if_pos h2, m_arr_congr (g := g) (fun i hi => he _ (by unfold mS; omega))]
  rw [if_neg h2, if_neg h2]
  by_cases h3 : k = 3
  · rw [if_pos h3, if_pos h3, m_arr_congr (g := g) (fun i hi => he _ (by unfold mS; omega))]
  rw [if_neg h3, if_neg h3]
  by_cases h4 : k = 4
  · rw [if_pos h4, if_pos h4, m_arr_congr (g := g) (fun i hi => he _ (by unfold mS; omega))]
  rw [if_neg h4, if_neg h4]
  by_cases h5 : k = 5
  · rw [if_pos h5, if_pos h5]
    unfold mFs
    rw [he 2 (by unfold mS; omega), he 233 (by unfold mS; omega), he 0 (by unfold mS; omega), he 3 (by unfold mS; omega), he 4 (by unfold mS; omega), he 283 (by unfold mS; omega), he 284 (by unfold mS; omega), he 285 (by unfold mS; omega), he 289 (by unfold mS; omega), he 290 (by unfold mS; omega), he 291 (by unfold mS; omega), he 292 (by unfold mS; omega)]
  rw [if_neg h5, if_neg h5]
  by_cases h6 : k < 22
  · rw [if_pos h6, if_pos h6]
    unfold lFs
    rw [he (73 + (k - 6)) (by unfold mS; omega), he (89 + (k - 6)) (by unfold mS; omega), he (105 + (k - 6)) (by unfold mS; omega), he (121 + (k - 6)) (by unfold mS; omega), he (137 + (k - 6)) (by unfold mS; omega), he (153 + (k - 6)) (by unfold mS; omega)]
  rw [if_neg h6, if_neg h6, m_arr_congr (g := g) (fun i hi => he _ (by unfold mS; omega))]
theorem mput_up (hA : mOK κ A s l) (hk : mdm s l k) (he : ∀ j, ¬ mS k j → g' j = g j) : xup (mput h A s l g) (A k) (mE A g' k) = mput h A s l g' := by
  funext b
  unfold xup
  by_cases hb : b = A k
  · rw [if_pos hb, hb, mput_k hA hk]
  · rw [if_neg hb]
    by_cases hx : ∃ k', mdm s l k' ∧ A k' = b
    · obtain ⟨k', hk', rfl⟩ := hx
      rw [mput_k hA hk', mput_k hA hk', mE_congr (mdm_lt hk') (g := g) (g' := g')]
      intro j hj
      refine he j (fun z => hb ?_)
      rw [mS_uniq hj z]
    · have hx' : ∀ k', mdm s l k' → A k' ≠ b := fun k' h1 h2 => hx ⟨k', h1, h2⟩
      rw [mput_o hx', mput_o hx']
theorem mput_upd {v : Int32} (hA : mOK κ A s l) (hk : mdm s l k) (hj : mS k j) : xup (mput h A s l g) (A k) (mE A (upd g j v) k) = mput h A s l (upd g j v) := mput_up hA hk (fun i hi => upd_ne (fun z => hi (by rw [z]; exact hj)))
theorem md (hk : k < 6) : mdm s l k := Or.inl hk
theorem mdl (hl : lin s l a) : mdm s l (6 + a) := Or.inr (Or.inl ⟨by omega, by have := hl.1; omega, by rw [Nat.add_sub_cancel_left]; exact hl⟩)
theorem mdw (hl : lin s l a) : mdm s l (22 + a) := Or.inr (Or.inr ⟨by omega, by have := hl.1; omega, by rw [Nat.add_sub_cancel_left]; exact hl⟩)
theorem mE_5 : mE A g 5 = .inl (1, mFs A g) := rfl
theorem mE_l (ha : a < 16) : mE A g (6 + a) = .inl (5, lFs A g a) := by
  unfold mE
  rw [if_neg (by omega), if_neg (by omega), if_neg (by omega), if_neg (by omega), if_neg (by omega), if_neg (by omega), if_pos (by omega), Nat.add_sub_cancel_left]
theorem mE_w (ha : a < 16) : mE A g (22 + a) = .inr (.int, 4, .inl (m_arr g (169 + 4 * a) 4)) := by
  unfold mE
  rw [if_neg (by omega), if_neg (by omega), if_neg (by omega), if_neg (by omega), if_neg (by omega), if_neg (by omega), if_neg (by omega), Nat.add_sub_cancel_left]
theorem mput_5 (hA : mOK κ A s l) : mput h A s l g (A 5) = some (.inl (1, mFs A g)) := mput_k hA (md (by omega))
theorem mput_l (hA : mOK κ A s l) (hl : lin s l a) : mput h A s l g (A (6 + a)) = some (.inl (5, lFs A g a)) := by rw [mput_k hA (mdl hl), mE_l hl.1]
theorem mput_w (hA : mOK κ A s l) (hl : lin s l a) : mput h A s l g (A (22 + a)) = some (.inr (.int, 4, .inl (m_arr g (169 + 4 * a) 4))) := by rw [mput_k hA (mdw hl), mE_w hl.1]
theorem n_rc (hA : mOK κ A s l) : xrc (mput h A s l g, w) (A 5) 1 ↔ True := g_rc (mput_5 hA)
theorem l_rc (hA : mOK κ A s l) (hl : lin s l a) : xrc (mput h A s l g, w) (A (6 + a)) 5 ↔ True := g_rc (mput_l hA hl)
theorem m_arr_i {o n i : Nat} (hi : i < n) : m_arr g o n i = g (o + i) := if_pos hi
theorem m_arr_u {o n i : Nat} {v : Int32} (hi : i < n) : upd (m_arr g o n) i v = m_arr (upd g (o + i) v) o n := by
  funext x
  unfold m_arr
  by_cases hx : x = i
  · subst hx
    rw [upd_eq, if_pos hi, upd_eq]
  · rw [upd_ne hx]
    by_cases h2 : x < n
    · rw [if_pos h2, if_pos h2, upd_ne (by omega)]
    · rw [if_neg h2, if_neg h2]
theorem n_gi_8 (hA : mOK κ A s l) {K : Int32 → Prop} : xgi (mput h A s l g, w) (A 5) 1 8 K ↔ K (g 2) := g_gi (mput_5 hA) rfl
theorem n_pi_8 (hA : mOK κ A s l) {v : Int32} {K : xS → Prop} : xpi κ (mput h A s l g, w) (A 5) 1 8 v K ↔ K (mput h A s l (upd g 2 v), w) := by
  rw [g_pi (mput_5 hA) (hA.1 5 (md (by omega))) (by simp [mFs]), ← mput_upd (k := 5) hA (md (by omega)) (show mS 5 2 by unfold mS; omega)]
  rfl
theorem n_gi_9 (hA : mOK κ A s l) {K : Int32 → Prop} : xgi (mput h A s l g, w) (A 5) 1 9 K ↔ K (g 233) := g_gi (mput_5 hA) rfl
theorem n_pi_9 (hA : mOK κ A s l) {v : Int32} {K : xS → Prop} : xpi κ (mput h A s l g, w) (A 5) 1 9 v K ↔ K (mput h A s l (upd g 233 v), w) := by
  rw [g_pi (mput_5 hA) (hA.1 5 (md (by omega))) (by simp [mFs]), ← mput_upd (k := 5) hA (md (by omega)) (show mS 5 233 by unfold mS; omega)]
  rfl
theorem n_gi_10 (hA : mOK κ A s l) {K : Int32 → Prop} : xgi (mput h A s l g, w) (A 5) 1 10 K ↔ K (g 0) := g_gi (mput_5 hA) rfl
theorem n_pi_10 (hA : mOK κ A s l) {v : Int32} {K : xS → Prop} : xpi κ (mput h A s l g, w) (A 5) 1 10 v K ↔ K (mput h A s l (upd g 0 v), w) := by
  rw [g_pi (mput_5 hA) (hA.1 5 (md (by omega))) (by simp [mFs]), ← mput_upd (k := 5) hA (md (by omega)) (show mS 5 0 by unfold mS; omega)]
  rfl
theorem n_gi_11 (hA : mOK κ A s l) {K : Int32 → Prop} : xgi (mput h A s l g, w) (A 5) 1 11 K ↔ K (g 3) := g_gi (mput_5 hA) rfl
theorem n_pi_11 (hA : mOK κ A s l) {v : Int32} {K : xS → Prop} : xpi κ (mput h A s l g, w) (A 5) 1 11 v K ↔ K (mput h A s l (upd g 3 v), w) := by
  rw [g_pi (mput_5 hA) (hA.1 5 (md (by omega))) (by simp [mFs]), ← mput_upd (k := 5) hA (md (by omega)) (show mS 5 3 by unfold mS; omega)]
  rfl
theorem n_gi_12 (hA : mOK κ A s l) {K : Int32 → Prop} : xgi (mput h A s l g, w) (A 5) 1 12 K ↔ K (g 4) := g_gi (mput_5 hA) rfl
theorem n_pi_12 (hA : mOK κ A s l) {v : Int32} {K : xS → Prop} : xpi κ (mput h A s l g, w) (A 5) 1 12 v K ↔ K (mput h A s l (upd g 4 v), w) := by
  rw [g_pi (mput_5 hA) (hA.1 5 (md (by omega))) (by simp [mFs]), ← mput_upd (k := 5) hA (md (by omega)) (show mS 5 4 by unfold mS; omega)]
  rfl
theorem n_gi_13 (hA : mOK κ A s l) {K : Int32 → Prop} : xgi (mput h A s l g, w) (A 5) 1 13 K ↔ K (g 283) := g_gi (mput_5 hA) rfl
theorem n_pi_13 (hA : mOK κ A s l) {v : Int32} {K : xS → Prop} : xpi κ (mput h A s l g, w) (A 5) 1 13 v K ↔ K (mput h A s l (upd g 283 v), w) := by
  rw [g_pi (mput_5 hA) (hA.1 5 (md (by omega))) (by simp [mFs]), ← mput_upd (k := 5) hA (md (by omega)) (show mS 5 283 by unfold mS; omega)]
  rfl
theorem n_gi_14 (hA : mOK κ A s l) {K : Int32 → Prop} : xgi (mput h A s l g, w) (A 5) 1 14 K ↔ K (g 284) := g_gi (mput_5 hA) rfl
theorem n_pi_14 (hA : mOK κ A s l) {v : Int32} {K : xS → Prop} : xpi κ (mput h A s l g, w) (A 5) 1 14 v K ↔ K (mput h A s l (upd g 284 v), w) := by
  rw [g_pi (mput_5 hA) (hA.1 5 (md (by omega))) (by simp [mFs]), ← mput_upd (k := 5) hA (md (by omega)) (show mS 5 284 by unfold mS; omega)]
  rfl
theorem n_gi_15 (hA : mOK κ A s l) {K : Int32 → Prop} : xgi (mput h A s l g, w) (A 5) 1 15 K ↔ K (g 285) := g_gi (mput_5 hA) rfl
theorem n_pi_15 (hA : mOK κ A s l) {v : Int32} {K : xS → Prop} : xpi κ (mput h A s l g, w) (A 5) 1 15 v K ↔ K (mput h A s l (upd g 285 v), w) := by
  rw [g_pi (mput_5 hA) (hA.1 5 (md (by omega))) (by simp [mFs]), ← mput_upd (k := 5) hA (md (by omega)) (show mS 5 285 by unfold mS; omega)]
  rfl
theorem n_gi_16 (hA : mOK κ A s l) {K : Int32 → Prop} : xgi (mput h A s l g, w) (A 5) 1 16 K ↔ K (g 289) := g_gi (mput_5 hA) rfl
theorem n_pi_16 (hA : mOK κ A s l) {v : Int32} {K : xS → Prop} : xpi κ (mput h A s l g, w) (A 5) 1 16 v K ↔ K (mput h A s l (upd g 289 v), w) := by
  rw [g_pi (mput_5 hA) (hA.1 5 (md (by omega))) (by simp [mFs]), ← mput_upd (k := 5) hA (md (by omega)) (show mS 5 289 by unfold mS; omega)]
  rfl
theorem n_gi_17 (hA : mOK κ A s l) {K : Int32 → Prop} : xgi (mput h A s l g, w) (A 5) 1 17 K ↔ K (g 290) := g_gi (mput_5 hA) rfl
theorem n_pi_17 (hA : mOK κ A s l) {v : Int32} {K : xS → Prop} : xpi κ (mput h A s l g, w) (A 5) 1 17 v K ↔ K (mput h A s l (upd g 290 v), w) := by
  rw [g_pi (mput_5 hA) (hA.1 5 (md (by omega))) (by simp [mFs]), ← mput_upd (k := 5) hA (md (by omega)) (show mS 5 290 by unfold mS; omega)]
  rfl
theorem n_gi_18 (hA : mOK κ A s l) {K : Int32 → Prop} : xgi (mput h A s l g, w) (A 5) 1 18 K ↔ K (g 291) := g_gi (mput_5 hA) rfl
theorem n_pi_18 (hA : mOK κ A s l) {v : Int32} {K : xS → Prop} : xpi κ (mput h A s l g, w) (A 5) 1 18 v K ↔ K (mput h A s l (upd g 291 v), w) := by
  rw [g_pi (mput_5 hA) (hA.1 5 (md (by omega))) (by simp [mFs]), ← mput_upd (k := 5) hA (md (by omega)) (show mS 5 291 by unfold mS; omega)]
  rfl
theorem n_gi_19 (hA : mOK κ A s l) {K : Int32 → Prop} : xgi (mput h A s l g, w) (A 5) 1 19 K ↔ K (g 292) := g_gi (mput_5 hA) rfl
theorem n_pi_19 (hA : mOK κ A s l) {v : Int32} {K : xS → Prop} : xpi κ (mput h A s l g, w) (A 5) 1 19 v K ↔ K (mput h A s l (upd g 292 v), w) := by
  rw [g_pi (mput_5 hA) (hA.1 5 (md (by omega))) (by simp [mFs]), ← mput_upd (k := 5) hA (md (by omega)) (show mS 5 292 by unfold mS; omega)]
  rfl
theorem n_gq_0 (hA : mOK κ A s l) {K : Option Nat → Prop} : xgq (mput h A s l g, w) (A 5) 1 0 K ↔ K (some (A 0)) := g_gq (r := some (A 0)) (mput_5 hA) rfl
theorem n_gq_4 (hA : mOK κ A s l) {K : Option Nat → Prop} : xgq (mput h A s l g, w) (A 5) 1 4 K ↔ K (some (A 1)) := g_gq (r := some (A 1)) (mput_5 hA) rfl
theorem n_gq_5 (hA : mOK κ A s l) {K : Option Nat → Prop} : xgq (mput h A s l g, w) (A 5) 1 5 K ↔ K (some (A 2)) := g_gq (r := some (A 2)) (mput_5 hA) rfl
theorem n_gq_6 (hA : mOK κ A s l) {K : Option Nat → Prop} : xgq (mput h A s l g, w) (A 5) 1 6 K ↔ K (some (A 3)) := g_gq (r := some (A 3)) (mput_5 hA) rfl
theorem n_gq_7 (hA : mOK κ A s l) {K : Option Nat → Prop} : xgq (mput h A s l g, w) (A 5) 1 7 K ↔ K (some (A 4)) := g_gq (r := some (A 4)) (mput_5 hA) rfl
theorem n_gq_1 (hA : mOK κ A s l) {K : Option Nat → Prop} : xgq (mput h A s l g, w) (A 5) 1 1 K ↔ K (some (A 38)) := g_gq (r := some (A 38)) (mput_5 hA) rfl
theorem n_gq_2 (hA : mOK κ A s l) {K : Option Nat → Prop} : xgq (mput h A s l g, w) (A 5) 1 2 K ↔ K (some (A 39)) := g_gq (r := some (A 39)) (mput_5 hA) rfl
theorem n_gq_3 (hA : mOK κ A s l) {K : Option Nat → Prop} : xgq (mput h A s l g, w) (A 5) 1 3 K ↔ K (some (A 40)) := g_gq (r := some (A 40)) (mput_5 hA) rfl
theorem n_ai_0 (hA : mOK κ A s l) {i : Nat} (hi : i < 64) {K : Int32 → Prop} : xai .int (mput h A s l g, w) (A 0) (nI i) K ↔ K (g (5 + i)) := by
  rw [g_ai (mput_k (k := 0) hA (md (by omega))) hi (by omega), m_arr_i hi]
theorem n_si_0 (hA : mOK κ A s l) {i : Nat} (hi : i < 64) {v : Int32} {K : xS → Prop} : xsi κ .int (mput h A s l g, w) (A 0) (nI i) v K ↔ K (mput h A s l (upd g (5 + i) v), w) := by
  rw [g_si (mput_k (k := 0) hA (md (by omega))) (hA.1 0 (md (by omega))) hi (by omega), t_nar, m_arr_u hi, ← mput_upd (k := 0) hA (md (by omega)) (show mS 0 (5 + i) by unfold mS; omega)]
  rfl
theorem n_ai_1 (hA : mOK κ A s l) {i : Nat} (hi : i < 4) {K : Int32 → Prop} : xai .int (mput h A s l g, w) (A 1) (nI i) K ↔ K (g (69 + i)) := by
  rw [g_ai (mput_k (k := 1) hA (md (by omega))) hi (by omega), m_arr_i hi]
theorem n_si_1 (hA : mOK κ A s l) {i : Nat} (hi : i < 4) {v : Int32} {K : xS → Prop} : xsi κ .int (mput h A s l g, w) (A 1) (nI i) v K ↔ K (mput h A s l (upd g (69 + i) v), w) := by
  rw [g_si (mput_k (k := 1) hA (md (by omega))) (hA.1 1 (md (by omega))) hi (by omega), t_nar, m_arr_u hi, ← mput_upd (k := 1) hA (md (by omega)) (show mS 1 (69 + i) by unfold mS; omega)]
  rfl
theorem n_ai_2 (hA : mOK κ A s l) {i : Nat} (hi : i < 16) {K : Int32 → Prop} : xai .int (mput h A s l g, w) (A 2) (nI i) K ↔ K (g (251 + i)) := by
  rw [g_ai (mput_k (k := 2) hA (md (by omega))) hi (by omega), m_arr_i hi]
theorem n_si_2 (hA : mOK κ A s l) {i : Nat} (hi : i < 16) {v : Int32} {K : xS → Prop} : xsi κ .int (mput h A s l g, w) (A 2) (nI i) v K ↔ K (mput h A s l (upd g (251 + i) v), w) := by
  rw [g_si (mput_k (k := 2) hA (md (by omega))) (hA.1 2 (md (by omega))) hi (by omega), t_nar, m_arr_u hi, ← mput_upd (k := 2) hA (md (by omega)) (show mS 2 (251 + i) by unfold mS; omega)]
  rfl
theorem n_ai_3 (hA : mOK κ A s l) {i : Nat} (hi : i < 16) {K : Int32 → Prop} : xai .int (mput h A s l g, w) (A 3) (nI i) K ↔ K (g (267 + i)) := by
  rw [g_ai (mput_k (k := 3) hA (md (by omega))) hi (by omega), m_arr_i hi]
theorem n_si_3 (hA : mOK κ A s l) {i : Nat} (hi : i < 16) {v : Int32} {K : xS → Prop} : xsi κ .int (mput h A s l g, w) (A 3) (nI i) v K ↔ K (mput h A s l (upd g (267 + i) v), w) := by
  rw [g_si (mput_k (k := 3) hA (md (by omega))) (hA.1 3 (md (by omega))) hi (by omega), t_nar, m_arr_u hi, ← mput_upd (k := 3) hA (md (by omega)) (show mS 3 (267 + i) by unfold mS; omega)]
  rfl
theorem n_ai_4 (hA : mOK κ A s l) {i : Nat} (hi : i < 3) {K : Int32 → Prop} : xai .int (mput h A s l g, w) (A 4) (nI i) K ↔ K (g (286 + i)) := by
  rw [g_ai (mput_k (k := 4) hA (md (by omega))) hi (by omega), m_arr_i hi]
theorem n_si_4 (hA : mOK κ A s l) {i : Nat} (hi : i < 3) {v : Int32} {K : xS → Prop} : xsi κ .int (mput h A s l g, w) (A 4) (nI i) v K ↔ K (mput h A s l (upd g (286 + i) v), w) := by
  rw [g_si (mput_k (k := 4) hA (md (by omega))) (hA.1 4 (md (by omega))) hi (by omega), t_nar, m_arr_u hi, ← mput_upd (k := 4) hA (md (by omega)) (show mS 4 (286 + i) by unfold mS; omega)]
  rfl
theorem l_gi_0 (hA : mOK κ A s l) (hl : lin s l a) {K : Int32 → Prop} : xgi (mput h A s l g, w) (A (6 + a)) 5 0 K ↔ K (nI (a % 4)) := g_gi (mput_l hA hl) rfl
theorem l_gq_1 (hA : mOK κ A s l) (hl : lin s l a) {K : Option Nat → Prop} : xgq (mput h A s l g, w) (A (6 + a)) 5 1 K ↔ K (some (A (22 + a))) := g_gq (r := some (A (22 + a))) (mput_l hA hl) rfl
theorem l_gi_2 (hA : mOK κ A s l) (hl : lin s l a) {K : Int32 → Prop} : xgi (mput h A s l g, w) (A (6 + a)) 5 2 K ↔ K (g (73 + a)) := g_gi (mput_l hA hl) rfl
theorem l_pi_2 (hA : mOK κ A s l) (hl : lin s l a) {v : Int32} {K : xS → Prop} : xpi κ (mput h A s l g, w) (A (6 + a)) 5 2 v K ↔ K (mput h A s l (upd g (73 + a) v), w) := by
  have ha := hl.1
  rw [g_pi (mput_l hA hl) (hA.1 _ (mdl hl)) (by simp [lFs]), ← mput_upd (k := 6 + a) hA (mdl hl) (show mS (6 + a) (73 + a) by unfold mS; omega), mE_l ha]
  have e : (lFs A g a).set 2 (.int v) = lFs A (upd g (73 + a) v) a := by
    unfold lFs
    rw [upd_eq, upd_ne (show 89 + a ≠ 73 + a by omega), upd_ne (show 105 + a ≠ 73 + a by omega), upd_ne (show 121 + a ≠ 73 + a by omega), upd_ne (show 137 + a ≠ 73 + a by omega), upd_ne (show 153 + a ≠ 73 + a by omega)]
    rfl
  rw [e]
theorem l_gi_3 (hA : mOK κ A s l) (hl : lin s l a) {K : Int32 → Prop} : xgi (mput h A s l g, w) (A (6 + a)) 5 3 K ↔ K (g (89 + a)) := g_gi (mput_l hA hl) rfl
theorem l_pi_3 (hA : mOK κ A s l) (hl : lin s l a) {v : Int32} {K : xS → Prop} : xpi κ (mput h A s l g, w) (A (6 + a)) 5 3 v K ↔ K (mput h A s l (upd g (89 + a) v), w) := by
  have ha := hl.1
  rw [g_pi (mput_l hA hl) (hA.1 _ (mdl hl)) (by simp [lFs]), ← mput_upd (k := 6 + a) hA (mdl hl) (show mS (6 + a) (89 + a) by unfold mS; omega), mE_l ha]
  have e : (lFs A g a).set 3 (.int v) = lFs A (upd g (89 + a) v) a := by
    unfold lFs
    rw [upd_ne (show 73 + a ≠ 89 + a by omega), upd_eq, upd_ne (show 105 + a ≠ 89 + a by omega), upd_ne (show 121 + a ≠ 89 + a by omega), upd_ne (show 137 + a ≠ 89 + a by omega), upd_ne (show 153 + a ≠ 89 + a by omega)]
    rfl
  rw [e]
theorem l_gi_4 (hA : mOK κ A s l) (hl : lin s l a) {K : Int32 → Prop} : xgi (mput h A s l g, w) (A (6 + a)) 5 4 K ↔ K (g (105 + a)) := g_gi (mput_l hA hl) rfl
theorem l_pi_4 (hA : mOK κ A s l) (hl : lin s l a) {v : Int32} {K : xS → Prop} : xpi κ (mput h A s l g, w) (A (6 + a)) 5 4 v K ↔ K (mput h A s l (upd g (105 + a) v), w) := by
  have ha := hl.1
  rw [g_pi (mput_l hA hl) (hA.1 _ (mdl hl)) (by simp [lFs]), ← mput_upd (k := 6 + a) hA (mdl hl) (show mS (6 + a) (105 + a) by unfold mS; omega), mE_l ha]
  have e : (lFs A g a).set 4 (.int v) = lFs A (upd g (105 + a) v) a := by
    unfold lFs
    rw [upd_ne (show 73 + a ≠ 105 + a by omega), upd_ne (show 89 + a ≠ 105 + a by omega), upd_eq, upd_ne (show 121 + a ≠ 105 + a by omega), upd_ne (show 137 + a ≠ 105 + a by omega), upd_ne (show 153 + a ≠ 105 + a by omega)]
    rfl
  rw [e]
theorem l_gi_5 (hA : mOK κ A s l) (hl : lin s l a) {K : Int32 → Prop} : xgi (mput h A s l g, w) (A (6 + a)) 5 5 K ↔ K (g (121 + a)) := g_gi (mput_l hA hl) rfl
theorem l_pi_5 (hA : mOK κ A s l) (hl : lin s l a) {v : Int32} {K : xS → Prop} : xpi κ (mput h A s l g, w) (A (6 + a)) 5 5 v K ↔ K (mput h A s l (upd g (121 + a) v), w) := by
  have ha := hl.1
  rw [g_pi (mput_l hA hl) (hA.1 _ (mdl hl)) (by simp [lFs]), ← mput_upd (k := 6 + a) hA (mdl hl) (show mS (6 + a) (121 + a) by unfold mS; omega), mE_l ha]
  have e : (lFs A g a).set 5 (.int v) = lFs A (upd g (121 + a) v) a := by
    unfold lFs
    rw [upd_ne (show 73 + a ≠ 121 + a by omega), upd_ne (show 89 + a ≠ 121 + a by omega), upd_ne (show 105 + a ≠ 121 + a by omega), upd_eq, upd_ne (show 137 + a ≠ 121 + a by omega), upd_ne (show 153 + a ≠ 121 + a by omega)]
    rfl
  rw [e]
theorem l_gi_6 (hA : mOK κ A s l) (hl : lin s l a) {K : Int32 → Prop} : xgi (mput h A s l g, w) (A (6 + a)) 5 6 K ↔ K (g (137 + a)) := g_gi (mput_l hA hl) rfl
theorem l_pi_6 (hA : mOK κ A s l) (hl : lin s l a) {v : Int32} {K : xS → Prop} : xpi κ (mput h A s l g, w) (A (6 + a)) 5 6 v K ↔ K (mput h A s l (upd g (137 + a) v), w) := by
  have ha := hl.1
  rw [g_pi (mput_l hA hl) (hA.1 _ (mdl hl)) (by simp [lFs]), ← mput_upd (k := 6 + a) hA (mdl hl) (show mS (6 + a) (137 + a) by unfold mS; omega), mE_l ha]
  have e : (lFs A g a).set 6 (.int v) = lFs A (upd g (137 + a) v) a := by
    unfold lFs
    rw [upd_ne (show 73 + a ≠ 137 + a by omega), upd_ne (show 89 + a ≠ 137 + a by omega), upd_ne (show 105 + a ≠ 137 + a by omega), upd_ne (show 121 + a ≠ 137 + a by omega), upd_eq, upd_ne (show 153 + a ≠ 137 + a by omega)]
    rfl
  rw [e]
theorem l_gi_7 (hA : mOK κ A s l) (hl : lin s l a) {K : Int32 → Prop} : xgi (mput h A s l g, w) (A (6 + a)) 5 7 K ↔ K (g (153 + a)) := g_gi (mput_l hA hl) rfl
theorem l_pi_7 (hA : mOK κ A s l) (hl : lin s l a) {v : Int32} {K : xS → Prop} : xpi κ (mput h A s l g, w) (A (6 + a)) 5 7 v K ↔ K (mput h A s l (upd g (153 + a) v), w) := by
  have ha := hl.1
  rw [g_pi (mput_l hA hl) (hA.1 _ (mdl hl)) (by simp [lFs]), ← mput_upd (k := 6 + a) hA (mdl hl) (show mS (6 + a) (153 + a) by unfold mS; omega), mE_l ha]
  have e : (lFs A g a).set 7 (.int v) = lFs A (upd g (153 + a) v) a := by
    unfold lFs
    rw [upd_ne (show 73 + a ≠ 153 + a by omega), upd_ne (show 89 + a ≠ 153 + a by omega), upd_ne (show 105 + a ≠ 153 + a by omega), upd_ne (show 121 + a ≠ 153 + a by omega), upd_ne (show 137 + a ≠ 153 + a by omega), upd_eq]
    rfl
  rw [e]
theorem l_ai (hA : mOK κ A s l) (hl : lin s l a) {i : Nat} (hi : i < 4) {K : Int32 → Prop} : xai .int (mput h A s l g, w) (A (22 + a)) (nI i) K ↔ K (g (169 + 4 * a + i)) := by
  rw [g_ai (mput_w hA hl) hi (by omega), m_arr_i hi]
theorem l_si (hA : mOK κ A s l) (hl : lin s l a) {i : Nat} (hi : i < 4) {v : Int32} {K : xS → Prop} : xsi κ .int (mput h A s l g, w) (A (22 + a)) (nI i) v K ↔ K (mput h A s l (upd g (169 + 4 * a + i) v), w) := by
  have ha := hl.1
  rw [g_si (mput_w hA hl) (hA.1 _ (mdw hl)) hi (by omega), t_nar, m_arr_u hi, ← mput_upd (k := 22 + a) hA (mdw hl) (show mS (22 + a) (169 + 4 * a + i) by unfold mS; omega), mE_w ha]
end C2M
