noncomputable def mcut (H : xH) (A : Nat → Nat) (s l : Nat) : xH := fun b => @ite _ (∃ k, mdm s l k ∧ A k = b) (Classical.propDecidable _) none (H b)
def n_all (A : Nat → Nat) (l : Nat) : Nat → Option Nat := fun i => some (A (6 + (4 * (i / l) + i % l)))
section C9
variable {κ A : Nat → Nat} {h h' h1 H : xH} {g g' : Nat → Int32} {s l k j a b d n i q T : Nat} {f : Nat → Option Nat} {m : Int32} {w : Nat × Nat} {e : xE}
theorem mcut_D : mD A s l (mcut H A s l) := fun k hk => by
  unfold mcut
  rw [if_pos ⟨k, hk, rfl⟩]
theorem mcut_in (hb : ∀ k, mdm s l k → A k ≠ b) : mcut H A s l b = H b := by
  unfold mcut
  rw [if_neg (fun z => by obtain ⟨k, h1, h2⟩ := z; exact hb k h1 h2)]
theorem mput_back (hA : mOK κ A s l) (hH : ∀ k, mdm s l k → H (A k) = some (mE A g k)) : mput (mcut H A s l) A s l g = H := by
  funext b
  by_cases hx : ∃ k, mdm s l k ∧ A k = b
  · obtain ⟨k, hk, rfl⟩ := hx
    rw [mput_k hA hk, hH k hk]
  · have hx' : ∀ k', mdm s l k' → A k' ≠ b := fun k' h1 h2 => hx ⟨k', h1, h2⟩
    rw [mput_o hx', mcut_in hx']
theorem n_all_lin (h4 : s ≤ 4) (hl1 : 1 ≤ l) (hl4 : l ≤ 4) (hi : i < s * l) : lin s l (4 * (i / l) + i % l) := by
  have h1 : i / l < s := (Nat.div_lt_iff_lt_mul (by omega)).mpr hi
  exact lin_q h4 hl4 h1 (Nat.mod_lt _ (by omega))
theorem oOK_l (hA : mOK κ A s l) (hl : lin s l a) : oOK (mput h A s l g) (some (A (6 + a))) := fun b hb => by
  cases hb
  exact ⟨5, _, mput_l hA hl, rfl, by decide⟩
theorem cc_allLines (hA : mOK κ A s l) (hD : mD A s l h) (hS : SA κ h A s l) (h4 : s ≤ 4) (hl1 : 1 ≤ l) (hl4 : l ≤ 4) (hκ2 : κ 2 < κ 0) {F0 : Nat → Option Nat} (he2 : h (κ 2) = some (oA 0 F0)) (hF0 : ∀ i, F0 i = none) {c0 s0 : Nat} (hc : 12 ≤ c0) (hs : 6000 ≤ s0) (K : Option Nat → xH → Prop)
    (hK : ∀ (h' : xH) (q d : Nat) (m : Int32), Ext h h' → mD A s l h' → h q = none → κ 0 ≤ q → AL κ h' q d (s * l) (n_all A l) m → K (some q) (mput h' A s l g)) : P_X2_allLines κ (A 5) (mput h A s l g, c0, s0) K := by
  obtain ⟨d0, m0, B, D, M, hS1, hS2⟩ := hS
  have hE := mput_ext (g := g) hD
  unfold P_X2_allLines
  refine ⟨by show 1 ≤ c0; omega, by show 3 ≤ s0; omega, fun q hq hκq => ?_⟩
  obtain ⟨hqA, hqn⟩ := mput_none hA hq
  refine c_call 0 0 (Nat.zero_le _) (Nat.zero_le _) (cc_init3 (c := 0) (fs := []) xup_eq hκq _ ?_)
  rw [xup_xup]
  show xgq (xup (mput h A s l g) q (.inl (3, [.int 0, .ref (κ 2), .int 0])), _) (A 5) 1 2 _
  rw [mput_xup hA hqA]
  have hX : Ext h (xup h q (.inl (3, [.int 0, .ref (κ 2), .int 0]))) := Ext.new hqn
  have hDq : mD A s l (xup h q (.inl (3, [.int 0, .ref (κ 2), .int 0]))) := hD.xup hqA
  have hAL0 : AL κ (xup h q (.inl (3, [.int 0, .ref (κ 2), .int 0]))) q (κ 2) 0 (n_all A l) 0 := ⟨0, F0, by rw [xup_eq, nI_0], hX _ _ he2, Nat.le_refl _, by omega, fun i hi => absurd hi (Nat.not_lt_zero _), fun i _ => hF0 i, Or.inl ⟨rfl, rfl⟩⟩
  generalize xup h q (.inl (3, [.int 0, .ref (κ 2), .int 0])) = hq1 at hX hDq hAL0 ⊢
  rw [n_gq_2 hA, t_nn, ((hS1.mono hX).mono (mput_ext hDq)).rc, true_and]
  refine c_call 1 4 (by show 1 ≤ c0 - 1 - 0; omega) (by show 4 ≤ s0 - 3 - 0; omega) (cc_iterator ((hS1.mono hX).mono (mput_ext hDq)) (Nat.le_refl _) (Nat.le_refl _) _ (fun p hp hκp hI => ?_))
  obtain ⟨hpA, hpn⟩ := mput_none hA hp
  have hpn0 : h p = none := by
    cases hh : h p with
    | none => rfl
    | some e => rw [hX _ _ hh] at hpn; cases hpn
  rw [mput_xup hA hpA]
  have hAL1 : AL κ (xup hq1 p (itE 0 (-1) m0 (A 39))) q (κ 2) 0 (n_all A l) 0 := hAL0.mono (Ext.new hpn)
  have hDp : mD A s l (xup hq1 p (itE 0 (-1) m0 (A 39))) := hDq.xup hpA
  have hXp : Ext h (xup hq1 p (itE 0 (-1) m0 (A 39))) := hX.trans (Ext.new hpn)
  refine x_for s (fun i v σ => i ≤ s ∧ ∃ (c1 s1 : Nat) (h1 : xH) (d : Nat) (m : Int32), σ = (mput h1 A s l g, c1, s1) ∧ 10 ≤ c1 + 2 * i ∧ 5900 ≤ s1 + 1200 * i ∧ Ext h h1 ∧ mD A s l h1 ∧ IT h1 p (A 39) i m0 ∧ AL κ h1 q d (i * l) (n_all A l) m ∧ (h d = none ∨ d = κ 2)) ?_ ?_ (v := ()) (σ := (mput (xup hq1 p (itE 0 (-1) m0 (A 39))) A s l g, _)) ⟨Nat.zero_le _, _, _, _, κ 2, 0, rfl, by show 10 ≤ c0 - 1 - 0 - 1 + 2 * 0; omega, by show 5900 ≤ s0 - 3 - 0 - 4 + 1200 * 0; omega, hXp, hDp, ⟨-1, xup_eq⟩, by rw [Nat.zero_mul]; exact hAL1, Or.inr rfl⟩
  · rintro i v σ ⟨-, c1, s1, h1, d, m, rfl, hc1, hs1, hE1, hD1, hI1, hL1, hd⟩ hi self hself
    unfold B_X2_allLines_18
    refine x_it ((hS1.mono hE1).mono (mput_ext hD1)) (hI1.mono (mput_ext hD1)) hκp (by omega) (fun z => absurd z (by omega)) (fun _ hI2 => ?_)
    obtain ⟨hpq, hpd⟩ := hL1.it_ne hI1
    obtain ⟨j0, ej⟩ := hI1
    have hp1 := hD1.ne ej
    rw [mput_xup hA hp1]
    have hD2 : mD A s l (xup h1 p (itE (i + 1) (nI i) m0 (A 39))) := hD1.xup hp1
    have hE2 : Ext h (xup h1 p (itE (i + 1) (nI i) m0 (A 39))) := hE1.new2 hpn0
    have hL2 : AL κ (xup h1 p (itE (i + 1) (nI i) m0 (A 39))) q d (i * l) (n_all A l) m := hL1.same (xup_ne (Ne.symm hpq)) (xup_ne (Ne.symm hpd))
    have hI3 : IT (xup h1 p (itE (i + 1) (nI i) m0 (A 39))) p (A 39) (i + 1) m0 := ⟨_, xup_eq⟩
    generalize xup h1 p (itE (i + 1) (nI i) m0 (A 39)) = h2 at hD2 hE2 hL2 hI3 ⊢
    have hB2 := (hS2 i hi).mono hE2
    have hBM := hB2.mono (mput_ext (g := g) hD2)
    have hLM := hL2.mono (mput_ext (g := g) hD2)
    rw [t_nn, hBM.rc, true_and, hLM.rc, true_and]
    -- apart
    obtain ⟨NB, FB, b1, b2, b3, b4, b5, b6, b7⟩ := hS2 i hi
    have hqB : q ≠ B i := fun z => by rw [z, b1] at hqn; cases hqn
    have hdD : d ≠ D i := fun z => by
      rcases hd with hd | hd
      · rw [z, b2] at hd; cases hd
      · omega
    have hil : i * l < s * l := Nat.mul_lt_mul_of_pos_right hi (by omega)
    have hsl : s * l ≤ 16 := Nat.mul_le_mul h4 hl4
    refine c_call 2 1100 (by omega) (by omega) (cc_addAll hLM hBM hqB hκq (by omega) (by omega) (by omega) (fun j hj => oOK_l hA (n_all_lin h4 hl1 hl4 (by omega))) (fun j hj => oOK_l hA (lin_q h4 hl4 hi hj)) (Nat.le_refl _) (Nat.le_refl _) _ hdD (fun H' d' g1 g2 g3 g4 g5 => ?_))
    obtain ⟨Nq, Fq, q1, q2, -⟩ := hL2
    have hqA2 : ∀ k, mdm s l k → A k ≠ q := hD2.ne q1
    have hdA2 : ∀ k, mdm s l k → A k ≠ d := hD2.ne q2
    have hd'A : ∀ k, mdm s l k → A k ≠ d' := fun k hk z => by
      rcases g3 with g3 | g3
      · exact hdA2 k hk (z.trans g3)
      · rw [← z, mput_k hA hk] at g3
        cases g3
    have hHA : ∀ k, mdm s l k → H' (A k) = some (mE A g k) := fun k hk => g2 _ _ (mput_k hA hk) (hqA2 k hk) (hd'A k hk)
    have hd'n : h d' = none := by
      rcases g3 with g3 | g3
      · rcases hd with hd | hd
        · rw [g3]; exact hd
        · omega
      · cases hh : h d' with
        | none => rfl
        | some e => rw [mput_ext hD2 _ _ (hE2 _ _ hh)] at g3; cases g3
    have hin : ∀ b e, h2 b = some e → b ≠ q → b ≠ d' → mcut H' A s l b = some e := fun b e hb h1 h2 => by
      rw [mcut_in (hD2.ne hb)]
      exact g2 b e (mput_in hD2 hb) h1 h2
    rw [← mput_back hA hHA]
    refine hself _ _ ⟨by omega, _, _, mcut H' A s l, d', m + 1, rfl, by omega, by omega, fun b e hb => hin b e (hE2 b e hb) (fun z => by rw [z, hqn] at hb; cases hb) (fun z => by rw [z, hd'n] at hb; cases hb), mcut_D, ?_, ?_, Or.inl hd'n⟩
    · obtain ⟨j1, ej1⟩ := hI3
      refine ⟨j1, hin _ _ ej1 hpq (fun z => ?_)⟩
      rcases g3 with g3 | g3
      · exact hpd (z.trans g3)
      · rw [← z, mput_in hD2 ej1] at g3
        cases g3
    · have : (i + 1) * l = i * l + l := Nat.succ_mul i l
      rw [this]
      refine AL.same (h := H') (mcut_in hqA2) (mcut_in hd'A) ?_
      obtain ⟨N9, F9, y1, y2, y3, y4, y5, y6, y7⟩ := g1
      refine ⟨N9, F9, y1, y2, y3, y4, fun j hj => (y5 j hj).trans ?_, y6, y7⟩
      show (if j < i * l then n_all A l j else some (A (6 + (4 * i + (j - i * l))))) = n_all A l j
      split
      · rfl
      · rename_i hji
        unfold n_all
        have e1 : j / l = i := by
          have : j = i * l + (j - i * l) := by omega
          rw [this, Nat.add_comm, Nat.add_mul_div_right _ _ (by omega), Nat.div_eq_of_lt (by omega), Nat.zero_add]
        have e2 : j % l = j - i * l := by
          have h1 := Nat.div_add_mod j l
          rw [e1, Nat.mul_comm] at h1
          omega
        rw [e1, e2]
  · rintro v σ ⟨-, c1, s1, h1, d, m, rfl, hc1, hs1, hE1, hD1, hI1, hL1, hd⟩ self
    unfold B_X2_allLines_18
    exact x_it ((hS1.mono hE1).mono (mput_ext hD1)) (hI1.mono (mput_ext hD1)) hκp (Nat.le_refl _) (fun _ => hK h1 q d m hE1 hD1 hqn hκq hL1) (fun z => absurd z (Nat.lt_irrefl _))
end C9
