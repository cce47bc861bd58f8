section G4
variable {gc g : Nat → Int32} {A κ : Nat → Nat} {bl : Nat → Nat} {T N s l r a b c n i q : Nat} {res : Option Nat}
theorem rk_inj (hG : GI g T N s l r) (hR : RM gc g s l) (hT : T < 2 ^ 29) (hla : lin s l a) (hlc : lin s l c) (ha : g (73 + a) ≠ -1) (hc : g (73 + c) ≠ -1) (he : n_rk g q a = n_rk g q c) : a = c := by
  by_cases hac : a = c
  · exact hac
  exfalso
  obtain ⟨-, d2, d3⟩ := hG.2.2.2.1 a c hla.1 hlc.1 hac ha hc
  obtain ⟨-, ⟨⟨d, hd, ed⟩, ⟨u, hu, eu⟩, ⟨v, hv, ev⟩, ⟨m, hm, em⟩⟩, -⟩ := RM.ln hG hR hT hla ha
  obtain ⟨-, ⟨⟨d', hd', ed'⟩, ⟨u', hu', eu'⟩, ⟨v', hv', ev'⟩, ⟨m', hm', em'⟩⟩, -⟩ := RM.ln hG hR hT hlc hc
  have n1 : u ≠ u' := fun z => d2 (by rw [eu, eu', z])
  have n2 : v ≠ v' := fun z => d3 (by rw [ev, ev', z])
  have cu : (nI u).toNatClampNeg = u := nI_clamp (by omega)
  have cu' : (nI u').toNatClampNeg = u' := nI_clamp (by omega)
  have cv : (nI v).toNatClampNeg = v := nI_clamp (by omega)
  have cv' : (nI v').toNatClampNeg = v' := nI_clamp (by omega)
  unfold n_rk at he
  split at he
  · rw [eu, eu', cu, cu'] at he; exact n1 he
  · rw [ev, ev', cv, cv'] at he; exact n2 he
  · rw [eu, eu', cu, cu'] at he; omega
  · rw [eu, eu', cu, cu'] at he; omega
theorem RM.give (hR : RM gc g s l) (hl : lin s l a) : m_canGive gc a = m_canGive g a := by
  obtain ⟨r1, r2, r3, -⟩ := hR.2 a hl
  unfold m_canGive
  rw [r1, r3]
theorem m_give_held (h : m_canGive g a = true) : g (73 + a) ≠ -1 := by
  unfold m_canGive at h
  intro z
  rw [z] at h
  simp at h
theorem CT_lineFor (hA : mOK κ A s l) (hG : GI g T N s l r) (hR : RM gc g s l) (hT : T < 2 ^ 29) (hb : b < 16) (hq : q < 4) (h3 : g 3 = nI q) (hC : CT A gc s l q b res) : res = (m_lineFor g b s l).map (fun a => A (6 + a)) := by
  obtain ⟨hs1, hs4⟩ := hG.1.2.1.2
  obtain ⟨hl1, hl4⟩ := hG.1.2.2.1.2
  have hqs : b % s < s := Nat.mod_lt _ (by omega)
  have lk : ∀ k, k < l → lin s l (4 * (b % s) + k) := fun k hk => lin_q hs4 hl4 hqs hk
  have lk' : ∀ a, 4 * (b % s) ≤ a → a < 4 * (b % s) + l → lin s l a := fun a h1 h2 => by
    have := lk (a - 4 * (b % s)) (by omega)
    rwa [show 4 * (b % s) + (a - 4 * (b % s)) = a by omega] at this
  obtain ⟨p1, p2⟩ := m_lineForGo_spec (g := g) (q := q) (i := 4 * (b % s)) (n := l) hq h3 (fun k h1 h2 h4 => (RM.ln hG hR hT (lk' k h1 h2) (m_give_held h4)).2.1) none (fun c hc => by cases hc)
  show res = (m_lineForGo g l (4 * (b % s)) none).map (fun a => A (6 + a))
  unfold CT at hC
  cases hin : n_in gc (b % s) l (-1) with
  | some k =>
    rw [hin] at hC
    have hC : res = some (A (6 + (4 * (b % s) + k))) := hC
    obtain ⟨hk, e73⟩ := n_in_lt hin
    rw [(hR.2 _ (lk k hk)).1] at e73
    rw [p1 (4 * (b % s) + k) ⟨_, by omega, by omega, e73, fun j h1 h2 z => ?_, rfl⟩, hC]
    · rfl
    · -- the first one
      have hfirst : ∀ j, j < k → gc (73 + (4 * (b % s) + j)) ≠ -1 := by
        intro j
        induction j using Nat.strongRecOn with
        | ind j ih =>
          intro hj hjb
          have : n_in gc (b % s) l (-1) = some j := by
            unfold n_in
            exact m_hit (fun j' hj' => by simp [ih j' hj' (by omega)]) (by omega) (by simp [hjb])
          rw [this] at hin
          cases hin
          exact Nat.lt_irrefl _ hj
      have := hfirst (j - 4 * (b % s)) (by omega)
      rw [show 4 * (b % s) + (j - 4 * (b % s)) = j by omega, (hR.2 _ (lk' j h1 (by omega))).1] at this
      exact this z
  | none =>
    rw [hin] at hC
    have hall : ∀ k, 4 * (b % s) ≤ k → k < 4 * (b % s) + l → g (73 + k) ≠ -1 := fun k h1 h2 z => by
      unfold n_in at hin
      have := List.find?_eq_none.mp hin (k - 4 * (b % s)) (List.mem_range.mpr (by omega))
      rw [show 4 * (b % s) + (k - 4 * (b % s)) = k by omega, (hR.2 _ (lk' k h1 h2)).1, z] at this
      simp at this
    obtain ⟨q1, q2⟩ := p2 hall
    rcases hC with ⟨hr, hno⟩ | ⟨y, hr, ⟨k, hk, hk2, hk3⟩, hmin⟩
    · cases hf : m_lineForGo g l (4 * (b % s)) none with
      | none => rw [hr]; rfl
      | some a =>
        exfalso
        obtain ⟨z1, -, -⟩ := q2 a hf
        rcases z1 with z1 | ⟨z1, z2, z3⟩
        · cases z1
        · refine hno (A (6 + a)) ⟨a - 4 * (b % s), by omega, ?_, ?_⟩
          · rw [show 4 * (b % s) + (a - 4 * (b % s)) = a by omega, hR.give (lk' a z1 z2)]
            exact z3
          · rw [show 4 * (b % s) + (a - 4 * (b % s)) = a by omega]
    · rw [hR.give (lk k hk)] at hk2
      cases hf : m_lineForGo g l (4 * (b % s)) none with
      | none =>
        have := (q1 hf).2 (4 * (b % s) + k) (by omega) (by omega)
        rw [hk2] at this
        cases this
      | some a =>
        obtain ⟨z1, -, zm⟩ := q2 a hf
        rcases z1 with z1 | ⟨z1, z2, z3⟩
        · cases z1
        · have hla := lk' a z1 z2
          have hlk := lk k hk
          have e1 := zm (4 * (b % s) + k) (by omega) (by omega) hk2
          have e2 := hmin (A (6 + a)) ⟨a - 4 * (b % s), by omega, by
            rw [show 4 * (b % s) + (a - 4 * (b % s)) = a by omega, hR.give hla]
            exact z3, by rw [show 4 * (b % s) + (a - 4 * (b % s)) = a by omega]⟩
          rw [hk3, n_inv_l hA hlk, n_inv_l hA hla, (RM.ln hG hR hT hlk (m_give_held hk2)).2.2.1, (RM.ln hG hR hT hla (m_give_held z3)).2.2.1] at e2
          have := rk_inj (q := q) hG hR hT hla hlk (m_give_held z3) (m_give_held hk2) (by omega)
          rw [hr, hk3, this]
          rfl
end G4
