-- the relation through the single steps
section G5
variable {gc g gc' g' : Nat → Int32} {bl : Nat → Nat} {T N s l r a b c o n i j k : Nat} {v : Int32}
def bse (j : Nat) : Prop := j = 0 ∨ (2 ≤ j ∧ j < 73) ∨ j = 233 ∨ (251 ≤ j ∧ j < 293)
theorem upd_both (h : gc i = g i) : upd gc j v i = upd g j v i := by
  by_cases e : i = j
  · rw [e, upd_eq, upd_eq]
  · rw [upd_ne e, upd_ne e]; exact h
theorem RM.bs (hR : RM gc g s l) (hj : bse j) : gc j = g j := hR.1 j hj
theorem RM.ub (hR : RM gc g s l) (hj : bse j) : RM (upd gc j v) (upd g j v) s l := by
  unfold bse at hj
  refine ⟨fun i hi => upd_both (hR.1 i hi), fun a hl => ?_⟩
  have ha := hl.1
  obtain ⟨r1, r2, r3, r4, r5⟩ := hR.2 a hl
  refine ⟨upd_both r1, upd_both r2, upd_both r3, fun h => ?_, fun h => ?_⟩
  · rw [upd_ne (by omega)] at h
    obtain ⟨h1, h2, h3, h4⟩ := r4 h
    exact ⟨upd_both h1, upd_both h2, upd_both h3, fun k hk => upd_both (h4 k hk)⟩
  · rw [upd_ne (by omega)] at h
    obtain ⟨h1, h2, h3⟩ := r5 h
    rw [upd_ne (by omega), upd_ne (by omega), upd_ne (by omega)]
    exact ⟨h1, h2, h3⟩
theorem RM.ut (hR : RM gc g s l) (hj : j = 1 ∨ (234 ≤ j ∧ j < 251) ∨ 293 ≤ j) : RM gc (upd g j v) s l := by
  refine ⟨fun i hi => by rw [upd_ne (by omega)]; exact hR.1 i hi, fun a hl => ?_⟩
  have ha := hl.1
  obtain ⟨r1, r2, r3, r4, r5⟩ := hR.2 a hl
  rw [upd_ne (by omega), upd_ne (by omega), upd_ne (by omega), upd_ne (by omega), upd_ne (by omega), upd_ne (by omega)]
  refine ⟨r1, r2, r3, fun h => ?_, r5⟩
  obtain ⟨h1, h2, h3, h4⟩ := r4 h
  exact ⟨h1, h2, h3, fun k hk => by rw [upd_ne (by omega)]; exact h4 k hk⟩
/-- the twin's other numbers may differ as they like -/
theorem RM.tw (hR : RM gc g s l) (he : ∀ j, (j = 0 ∨ (2 ≤ j ∧ j < 234) ∨ (251 ≤ j ∧ j < 293)) → g' j = g j) : RM gc g' s l := by
  refine ⟨fun i hi => by rw [he i (by omega)]; exact hR.1 i hi, fun a hl => ?_⟩
  have ha := hl.1
  obtain ⟨r1, r2, r3, r4, r5⟩ := hR.2 a hl
  rw [he _ (by omega), he (89 + a) (by omega), he (105 + a) (by omega), he (121 + a) (by omega), he (137 + a) (by omega), he (153 + a) (by omega)]
  refine ⟨r1, r2, r3, fun h => ?_, r5⟩
  obtain ⟨h1, h2, h3, h4⟩ := r4 h
  exact ⟨h1, h2, h3, fun k hk => by rw [he _ (by omega)]; exact h4 k hk⟩
theorem RM.ul (hR : RM gc g s l) (ha : a < 16) (hh : g (73 + a) ≠ -1) (hj : j = 89 + a ∨ j = 105 + a ∨ j = 121 + a ∨ j = 137 + a ∨ j = 153 + a ∨ (169 + 4 * a ≤ j ∧ j < 169 + 4 * a + 4)) : RM (upd gc j v) (upd g j v) s l := by
  refine ⟨fun i hi => upd_both (hR.1 i hi), fun c hl => ?_⟩
  have hc := hl.1
  obtain ⟨r1, r2, r3, r4, r5⟩ := hR.2 c hl
  refine ⟨upd_both r1, upd_both r2, upd_both r3, fun h => ?_, fun h => ?_⟩
  · rw [upd_ne (by omega)] at h
    obtain ⟨h1, h2, h3, h4⟩ := r4 h
    exact ⟨upd_both h1, upd_both h2, upd_both h3, fun k hk => upd_both (h4 k hk)⟩
  · rw [upd_ne (by omega)] at h
    have hca : c ≠ a := fun z => by rw [z] at h; exact hh h
    obtain ⟨h1, h2, h3⟩ := r5 h
    rw [upd_ne (by omega), upd_ne (by omega), upd_ne (by omega)]
    exact ⟨h1, h2, h3⟩
theorem RM.uses (hR : RM gc g s l) (hk : k < 4) (v : Int32) : RM (m_uses gc k v) (m_uses g k v) s l := by
  have b0 : bse 0 := Or.inl rfl
  have bk : bse (69 + k) := Or.inr (Or.inl (by omega))
  have b291 : bse 291 := Or.inr (Or.inr (Or.inr (by omega)))
  have e0 := hR.bs b0
  have ek := hR.bs bk
  have e291 := hR.bs b291
  simp only [m_uses]
  rw [ek, e0, e291]
  by_cases h : g (69 + k) ≤ g 0
  · rw [if_pos h, if_pos h, e0]
    have h1 := hR.ub (v := g 0 + v) b0
    have e := h1.bs b0
    rw [e]
    exact h1.ub bk
  · rw [if_neg h, if_neg h]
    have h1 := (hR.ub (v := g 291 + (g (69 + k) - g 0)) b291).ub (v := g (69 + k)) b0
    rw [h1.bs b0]
    have h2 := h1.ub (v := upd (upd g 291 (g 291 + (g (69 + k) - g 0))) 0 (g (69 + k)) 0 + v) b0
    rw [h2.bs b0]
    exact h2.ub bk
theorem RM.back (hl : lin s l a) (ho : o < 16) (d : Int32) : ∀ n, n ≤ 4 → RM gc g s l → g (73 + a) ≠ -1 → RM (m_back gc a o d n) (m_back g a o d n) s l := by
  intro n
  induction n with
  | zero => intro _ hR _; exact hR
  | succ n ih =>
    intro hn hR hh
    have h1 := ih (by omega) hR hh
    unfold m_back
    split
    · have h73 : m_back g a o d n (73 + a) ≠ -1 := by rw [m_back_hi _ _ _ ho _ _ (by omega) _ (by omega)]; exact hh
      have hw := ((h1.2 a hl).2.2.2.1 h73).2.2.2 n (by omega)
      rw [hw]
      exact h1.ub (Or.inr (Or.inl (by omega)))
    · exact h1
theorem RM.wB (hR : RM gc g s l) (hl : lin s l a) (hd : ¬ m_ones (g (89 + a)) = 0 → g (73 + a) ≠ -1 ∧ o < 16) : RM (m_wB gc a o) (m_wB g a o) s l := by
  have ha := hl.1
  have e89 := (hR.2 a hl).2.1
  unfold m_wB
  rw [e89]
  by_cases h0 : m_ones (g (89 + a)) = 0
  · rw [if_pos h0, if_pos h0]; exact hR
  · rw [if_neg h0, if_neg h0]
    obtain ⟨hh, ho⟩ := hd h0
    simp only [m_wb]
    rw [e89]
    have h1 := hR.uses (k := o % 4) (Nat.mod_lt _ (by decide)) (m_ones (g (89 + a)))
    have hh1 : m_uses g (o % 4) (m_ones (g (89 + a))) (73 + a) ≠ -1 := by rw [m_uses_hi _ _ (Nat.mod_lt _ (by decide)) _ _ (by omega) (by omega)]; exact hh
    have h2 := RM.back hl ho (g (89 + a)) 4 (by omega) h1 hh1
    have hh2 : m_back (m_uses g (o % 4) (m_ones (g (89 + a)))) a o (g (89 + a)) 4 (73 + a) ≠ -1 := by rw [m_back_hi _ _ _ ho _ _ (by omega) _ (by omega)]; exact hh1
    have h3 := h2.ul (v := 0) ha hh2 (Or.inl rfl)
    have b289 : bse 289 := Or.inr (Or.inr (Or.inr (by omega)))
    rw [h3.bs b289]
    exact h3.ub b289
/-- the latest blocks -/
def LT (g : Nat → Int32) (bl : Nat → Nat) (r : Nat) : Prop := ∀ i, i < r → g (235 + i) = nI (bl i) ∧ bl i < 16
theorem LT.lat (hL : LT g bl r) (hb : b < 16) : m_r g r b = n_latN bl r b ∧ LT (m_latest g r b) (n_lat bl r b) (m_r g r b) := by
  have hle := m_place_le g r b
  obtain ⟨s1, s2⟩ := m_place_spec g r b
  have e : ∀ i, i < r → (g (235 + i) = nI b ↔ bl i = b) := fun i hi => by
    rw [(hL i hi).1]
    exact nI_eq (by have := (hL i hi).2; omega) (by omega)
  cases hx : n_idx bl r b with
  | none =>
    have hp : m_place g r b = r := by
      rcases Nat.lt_or_ge (m_place g r b) r with z | z
      · exact absurd ((e _ z).mp (s2 z)) (n_idx_none hx _ z)
      · omega
    have hr : m_r g r b = r + 1 := by unfold m_r; rw [if_pos hp]
    refine ⟨by rw [hr]; unfold n_latN; rw [hx], fun i hi => ?_⟩
    rw [hr] at hi
    rw [m_latest_i, hp]
    unfold n_lat
    rw [hx]
    by_cases h0 : i = 0
    · rw [if_pos h0, if_pos h0]; exact ⟨rfl, hb⟩
    · rw [if_neg h0, if_neg h0, if_pos (by omega)]
      exact hL (i - 1) (by omega)
  | some p =>
    obtain ⟨hp1, hp2⟩ := n_idx_lt hx
    have hp : m_place g r b = p := by
      rcases Nat.lt_trichotomy (m_place g r b) p with z | z | z
      · exact absurd ((e _ (by omega)).mp (s2 (by omega))) (n_idx_first hx _ z)
      · exact z
      · exact absurd ((e p hp1).mpr hp2) (s1 p z)
    have hr : m_r g r b = r := by unfold m_r; rw [if_neg (by omega)]
    refine ⟨by rw [hr]; unfold n_latN; rw [hx], fun i hi => ?_⟩
    rw [hr] at hi
    rw [m_latest_i, hp]
    unfold n_lat
    rw [hx]
    by_cases h0 : i = 0
    · rw [if_pos h0, if_pos h0]; exact ⟨rfl, hb⟩
    · rw [if_neg h0, if_neg h0]
      show (if i ≤ p then g (235 + (i - 1)) else g (235 + i)) = nI (if i ≤ p then bl (i - 1) else bl i) ∧ (if i ≤ p then bl (i - 1) else bl i) < 16
      by_cases h1 : i ≤ p
      · rw [if_pos h1, if_pos h1]; exact hL (i - 1) (by omega)
      · rw [if_neg h1, if_neg h1]; exact hL i hi
end G5
