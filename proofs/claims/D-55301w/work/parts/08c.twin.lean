-- the line into which a block comes
section G3
variable {gc g : Nat → Int32} {A κ : Nat → Nat} {bl : Nat → Nat} {T N s l r a b n i q : Nat}
theorem RM.ln (hG : GI g T N s l r) (hR : RM gc g s l) (hT : T < 2 ^ 29) (hl : lin s l a) (hb : g (73 + a) ≠ -1) : LN gc a ∧ LN g a ∧ (∀ q, n_rk gc q a = n_rk g q a) ∧ (g (105 + a) = 0 ∨ g (105 + a) = 1) := by
  obtain ⟨r1, r2, r3, r4, -⟩ := hR.2 a hl
  obtain ⟨r4, r5, r6, -⟩ := r4 hb
  rcases hG.2.2.1 a hl.1 with ⟨z, -⟩ | ⟨b', d, x, y, m, e1, e2, e3, e4, e5, e6, e7, e8, e9, e10, e11, e12, e13⟩
  · exact absurd z hb
  · have hL : LN g a := ⟨⟨d, e5, e6⟩, ⟨x, by omega, e9⟩, ⟨y, by omega, e11⟩, ⟨m, by omega, e13⟩⟩
    refine ⟨?_, hL, fun q => ?_, e7⟩
    · unfold LN
      rw [r2, r4, r5, r6]
      exact hL
    · unfold n_rk
      rw [r2, r4, r5, r6]
theorem m_ahead_cm (hq : q < 4) (h3 : g 3 = nI q) (ha : LN g a) (hb : LN g b) : m_isAhead g a b = decide (n_cm g q a b < 0) := by
  obtain ⟨⟨d, hd, ed⟩, ⟨u, hu, eu⟩, ⟨v, hv, ev⟩, ⟨c, hc, ec⟩⟩ := ha
  obtain ⟨⟨d', hd', ed'⟩, ⟨u', hu', eu'⟩, ⟨v', hv', ev'⟩, ⟨c', hc', ec'⟩⟩ := hb
  have hlt : ∀ x y, x < 2 ^ 30 → y < 2 ^ 30 → decide (¬ nI y ≤ nI x) = decide (nI x - nI y < 0) := fun x y hx hy => by
    have h1 := (nI_diff hx hy).1
    have h2 : (¬ nI y ≤ nI x) ↔ x < y := by rw [nI_leI (by omega) (by omega)]; omega
    exact decide_eq_decide.mpr (h2.trans h1.symm)
  have e0 : (0 : Int32) = nI 0 := rfl
  have e1 : (1 : Int32) = nI 1 := rfl
  have e2 : (2 : Int32) = nI 2 := rfl
  unfold m_isAhead m_later
  have h30 : (g 3 = 0) ↔ q = 0 := by rw [h3, e0]; exact nI_eq (by omega) (by omega)
  have h31 : (g 3 = 1) ↔ q = 1 := by rw [h3, e1]; exact nI_eq (by omega) (by omega)
  have h32 : (g 3 = 2) ↔ q = 2 := by rw [h3, e2]; exact nI_eq (by omega) (by omega)
  have hq4 : q = 0 ∨ q = 1 ∨ q = 2 ∨ q = 3 := by omega
  rcases hq4 with rfl | rfl | rfl | rfl
  · rw [if_pos (h30.mpr rfl)]
    unfold n_cm
    rw [eu, eu']
    exact hlt u u' hu hu'
  · rw [if_neg (fun z => absurd (h30.mp z) (by omega)), if_pos (h31.mpr rfl)]
    unfold n_cm
    rw [ev, ev']
    exact hlt v v' hv hv'
  · rw [if_neg (fun z => absurd (h30.mp z) (by omega)), if_neg (fun z => absurd (h31.mp z) (by omega)), if_pos (h32.mpr rfl)]
    unfold n_cm m_less
    rw [ec, ec', eu, eu', hlt u u' hu hu']
    have h0 := (nI_diff hc hc').2.2
    have hn := (nI_eq (a := c) (b := c') (by omega) (by omega))
    by_cases hcc : c = c'
    · rw [if_pos (hn.mpr hcc), decide_eq_true (h0.mpr hcc), Bool.true_and]
      have : ¬ (nI c - nI c' < 0) := fun z => by have := (nI_diff hc hc').1.mp z; omega
      rw [decide_eq_false this, Bool.false_or]
      rfl
    · rw [if_neg (fun z => hcc (hn.mp z)), decide_eq_false (fun z => hcc (h0.mp z)), Bool.false_and, Bool.or_false]
      rfl
  · rw [if_neg (fun z => absurd (h30.mp z) (by omega)), if_neg (fun z => absurd (h31.mp z) (by omega)), if_neg (fun z => absurd (h32.mp z) (by omega))]
    unfold n_cm m_less
    rw [eu, eu', hlt u u' hu hu']
    by_cases hcc : m_ones (g (89 + a)) - m_ones (g (89 + b)) = 0
    · have h00 : ¬ ((0 : Int32) < 0) := by decide
      rw [hcc, if_pos rfl, decide_eq_true rfl, Bool.true_and, decide_eq_false h00, Bool.false_or]
      rfl
    · rw [if_neg hcc, decide_eq_false hcc, Bool.false_and, Bool.or_false]
      rfl
theorem m_ahead_rk (hq : q < 4) (h3 : g 3 = nI q) (ha : LN g a) (hb : LN g b) : m_isAhead g a b = decide (n_rk g q a < n_rk g q b) := by
  rw [m_ahead_cm hq h3 ha hb]
  exact decide_eq_decide.mpr (n_cm_ok ha hb).1
def m_pick (g : Nat → Int32) (i : Nat) (o : Option Nat) : Option Nat := if m_canGive g i && (match o with | none => true | some c => m_isAhead g i c) then some i else o
theorem m_lineForGo_step (g : Nat → Int32) (n i : Nat) (o : Option Nat) : m_lineForGo g (n + 1) i o = if g (73 + i) = -1 then some i else m_lineForGo g n (i + 1) (m_pick g i o) := rfl
theorem m_pick_f {o : Option Nat} (h : m_canGive g i = false) : m_pick g i o = o := by
  unfold m_pick
  rw [h, Bool.false_and, if_neg (by decide)]
theorem m_pick_n (h : m_canGive g i = true) : m_pick g i none = some i := by
  unfold m_pick
  rw [h]
  rfl
theorem m_pick_s {c : Nat} (h : m_canGive g i = true) : m_pick g i (some c) = if m_isAhead g i c = true then some i else some c := by
  unfold m_pick
  rw [h, Bool.true_and]
/-- the search for the line: what it leaves -/
theorem m_lineForGo_spec (hq : q < 4) (h3 : g 3 = nI q) (hLN : ∀ k, i ≤ k → k < i + n → m_canGive g k = true → LN g k) : ∀ (o : Option Nat), (∀ c, o = some c → LN g c) →
    (∀ a, (∃ k, i ≤ k ∧ k < i + n ∧ g (73 + k) = -1 ∧ (∀ j, i ≤ j → j < k → g (73 + j) ≠ -1) ∧ a = k) → m_lineForGo g n i o = some a) ∧
    ((∀ k, i ≤ k → k < i + n → g (73 + k) ≠ -1) → (m_lineForGo g n i o = none → o = none ∧ ∀ k, i ≤ k → k < i + n → m_canGive g k = false) ∧ ∀ a, m_lineForGo g n i o = some a → (o = some a ∨ (i ≤ a ∧ a < i + n ∧ m_canGive g a = true)) ∧ (∀ c, o = some c → n_rk g q a ≤ n_rk g q c) ∧ ∀ k, i ≤ k → k < i + n → m_canGive g k = true → n_rk g q a ≤ n_rk g q k) := by
  induction n generalizing i with
  | zero =>
    intro o ho
    refine ⟨fun a hx => (by obtain ⟨k, h1, h2, -⟩ := hx; omega), fun _ => ⟨fun h => ⟨h, fun k h1 h2 => by omega⟩, fun a h => ?_⟩⟩
    have h : o = some a := h
    exact ⟨Or.inl h, fun c hc => by rw [h] at hc; cases hc; exact Nat.le_refl _, fun k h1 h2 => by omega⟩
  | succ n ih =>
    intro o ho
    rw [m_lineForGo_step]
    have hih := ih (i := i + 1) (fun k h1 h2 => hLN k (by omega) (by omega))
    by_cases h73 : g (73 + i) = -1
    · rw [if_pos h73]
      refine ⟨fun a hx => ?_, fun hno => absurd h73 (hno i (Nat.le_refl _) (by omega))⟩
      obtain ⟨k, h1, h2, h4, h5, h6⟩ := hx
      have : k = i := by
        by_cases hk : k = i
        · exact hk
        · exact absurd h73 (h5 i (Nat.le_refl _) (by omega))
      rw [h6, this]
    · rw [if_neg h73]
      have ho' : ∀ c, m_pick g i o = some c → LN g c := fun c hc => by
        cases hg : m_canGive g i with
        | false => rw [m_pick_f hg] at hc; exact ho c hc
        | true =>
          have hLi := hLN i (Nat.le_refl _) (by omega) hg
          cases o with
          | none => rw [m_pick_n hg] at hc; cases hc; exact hLi
          | some c0 =>
            rw [m_pick_s hg] at hc
            split at hc
            · cases hc; exact hLi
            · exact ho c hc
      obtain ⟨p1, p2⟩ := hih _ ho'
      refine ⟨fun a hx => ?_, fun hno => ?_⟩
      · obtain ⟨k, h1, h2, h4, h5, h6⟩ := hx
        refine p1 a ⟨k, ?_, by omega, h4, fun j hj1 hj2 => h5 j (by omega) hj2, h6⟩
        by_cases hk : k = i
        · rw [hk] at h4; exact absurd h4 h73
        · omega
      · obtain ⟨p3, p4⟩ := p2 (fun k h1 h2 => hno k (by omega) (by omega))
        cases hg : m_canGive g i with
        | false =>
          rw [m_pick_f hg] at p3 p4 ⊢
          refine ⟨fun h => ⟨(p3 h).1, fun k h1 h2 => ?_⟩, fun a h => ?_⟩
          · by_cases hk : k = i
            · rw [hk]; exact hg
            · exact (p3 h).2 k (by omega) (by omega)
          · obtain ⟨z1, z2, z3⟩ := p4 a h
            refine ⟨z1.imp_right (fun y => ⟨by omega, by omega, y.2.2⟩), z2, fun k h1 h2 h4 => ?_⟩
            by_cases hk : k = i
            · rw [hk, hg] at h4; cases h4
            · exact z3 k (by omega) (by omega) h4
        | true =>
          have hLi := hLN i (Nat.le_refl _) (by omega) hg
          cases o with
          | none =>
            rw [m_pick_n hg] at p3 p4 ⊢
            refine ⟨fun h => absurd (p3 h).1 (by simp), fun a h => ?_⟩
            obtain ⟨z1, z2, z3⟩ := p4 a h
            refine ⟨Or.inr ?_, ⟨fun c hc => (by cases hc), fun k h1 h2 h4 => ?_⟩⟩
            · rcases z1 with y | y
              · cases y; exact ⟨Nat.le_refl _, by omega, hg⟩
              · exact ⟨by omega, by omega, y.2.2⟩
            · by_cases hk : k = i
              · rw [hk]; exact z2 i rfl
              · exact z3 k (by omega) (by omega) h4
          | some c =>
            have hLc := ho c rfl
            rw [m_pick_s hg, m_ahead_rk hq h3 hLi hLc] at p3 p4 ⊢
            by_cases hrk : n_rk g q i < n_rk g q c
            · rw [decide_eq_true hrk, if_pos rfl] at p3 p4 ⊢
              refine ⟨fun h => absurd (p3 h).1 (by simp), fun a h => ?_⟩
              obtain ⟨z1, z2, z3⟩ := p4 a h
              have zi := z2 i rfl
              refine ⟨Or.inr ?_, ⟨fun c' hc => (by cases hc; omega), fun k h1 h2 h4 => ?_⟩⟩
              · rcases z1 with y | y
                · cases y; exact ⟨Nat.le_refl _, by omega, hg⟩
                · exact ⟨by omega, by omega, y.2.2⟩
              · by_cases hk : k = i
                · rw [hk]; exact zi
                · exact z3 k (by omega) (by omega) h4
            · rw [decide_eq_false hrk, if_neg (by decide)] at p3 p4 ⊢
              refine ⟨fun h => absurd (p3 h).1 (by simp), fun a h => ?_⟩
              obtain ⟨z1, z2, z3⟩ := p4 a h
              have zc := z2 c rfl
              refine ⟨z1.imp_right (fun y => ⟨by omega, by omega, y.2.2⟩), z2, fun k h1 h2 h4 => ?_⟩
              by_cases hk : k = i
              · rw [hk]; omega
              · exact z3 k (by omega) (by omega) h4
end G3
