-- new lists of lines
def lFw (wd : Nat) (g : Nat → Int32) (a : Nat) : List Value := [.int (nI (a % 4)), .ref wd, .int (g (73 + a)), .int (g (89 + a)), .int (g (105 + a)), .int (g (121 + a)), .int (g (137 + a)), .int (g (153 + a))]
theorem lFw_A {A : Nat → Nat} {g : Nat → Int32} {a : Nat} : lFs A g a = lFw (A (22 + a)) g a := rfl
/-- set k under construction: i lines -/
def NL (κ : Nat → Nat) (H0 H : xH) (B D i : Nat) (M : Int32) (L Wd : Nat → Nat) (g : Nat → Int32) (k : Nat) : Prop :=
  AL κ H B D i (fun n => some (L n)) M ∧ (D = κ 2 ∨ H0 D = none) ∧ (∀ n, n < i → H (L n) = some (.inl (5, lFw (Wd n) g (4 * k + n))) ∧ H (Wd n) = some (.inr (.int, 4, .inl (m_arr g (169 + 4 * (4 * k + n)) 4))) ∧ H0 (L n) = none ∧ H0 (Wd n) = none ∧ κ 0 ≤ L n ∧ κ 0 ≤ Wd n) ∧
  (∀ n n', n < i → n' < i → (L n = L n' → n = n') ∧ (Wd n = Wd n' → n = n')) ∧ ∀ b e, H0 b = some e → b ≠ B → H b = some e
section FF
variable {κ A : Nat → Nat} {h h' h0 H H0 H1 H2 : xH} {g : Nat → Int32} {s l r a b d n q k o T i wd B D D' : Nat} {M : Int32} {L Wd : Nat → Nat} {c bl : Nat → Nat} {W W' : Nat → Int32} {w : Nat × Nat} {f f' : Nat → Option Nat} {m : Int32}
theorem AL.cg (hf : ∀ i, i < n → f i = f' i) (hL : AL κ h a d n f m) : AL κ h a d n f' m := by
  obtain ⟨N, F, e1, e2, e3, e4, e5, e6⟩ := hL
  exact ⟨N, F, e1, e2, e3, e4, fun i hi => (e5 i hi).trans (hf i hi), e6⟩
theorem AL.d0 (hL : AL κ h a d n f m) (hn : 0 < n) : κ 0 ≤ d := by
  obtain ⟨N, F, e1, e2, e3, e4, e5, e6, e7⟩ := hL
  rcases e7 with ⟨z, -⟩ | ⟨-, z⟩
  · omega
  · exact z
theorem NL.mid (hN : NL κ H0 H B D i M L Wd g k) (hq : H q = none) (hw : H wd = none) (hfr : ∀ b, b ≠ q → b ≠ wd → H1 b = H b) : AL κ H1 B D i (fun n => some (L n)) M := by
  have hL := hN.1
  obtain ⟨N, F, e1, e2, -⟩ := hN.1
  exact hL.same (hfr B (fun z => by rw [z, hq] at e1; cases e1) (fun z => by rw [z, hw] at e1; cases e1)) (hfr D (fun z => by rw [z, hq] at e2; cases e2) (fun z => by rw [z, hw] at e2; cases e2))
theorem NL.step (hN : NL κ H0 H B D i M L Wd g k) (hκ2 : κ 2 < κ 0) (hB0 : ∃ e, H0 B = some e) (hq : H q = none) (hw : H wd = none) (hqw : q ≠ wd) (hκq : κ 0 ≤ q) (hκw : κ 0 ≤ wd) (hO : H1 q = some (.inl (5, lFw wd g (4 * k + i)))) (hWd : H1 wd = some (.inr (.int, 4, .inl (m_arr g (169 + 4 * (4 * k + i)) 4)))) (hfr : ∀ b, b ≠ q → b ≠ wd → H1 b = H b)
    (h2 : AL κ H2 B D' (i + 1) (fun n => if n = i then some q else some (L n)) (M + 1)) (f2 : ∀ b, b ≠ B → b ≠ D' → H2 b = H1 b) (d2 : D' = D ∨ (H1 D' = none ∧ κ 0 ≤ D')) : NL κ H0 H2 B D' (i + 1) (M + 1) (fun n => if n = i then q else L n) (fun n => if n = i then wd else Wd n) g k := by
  obtain ⟨n1, n2, n3, n4, n5⟩ := hN
  have hκD' := h2.d0 (by omega)
  have hBe : ∃ fs, H B = some (.inl (3, fs)) := by
    obtain ⟨N, F, e1, -⟩ := n1
    exact ⟨_, e1⟩
  have hDe : ∃ x, H D = some (.inr x) := by
    obtain ⟨N, F, e1, e2, -⟩ := n1
    exact ⟨_, e2⟩
  have hD'e : ∃ N F, H2 D' = some (oA N F) := by
    obtain ⟨N, F, e1, e2, -⟩ := h2
    exact ⟨N, F, e2⟩
  obtain ⟨fsB, eB⟩ := hBe
  obtain ⟨xD, eD⟩ := hDe
  have hDoA : ∃ N F, H D = some (oA N F) := by
    obtain ⟨N, F, e1, e2, -⟩ := n1
    exact ⟨N, F, e2⟩
  obtain ⟨ND, FD, eD2⟩ := hDoA
  -- what is not the list's: it stays
  have hst : ∀ b e, H1 b = some e → b ≠ B → (∀ N F, e ≠ oA N F) → H2 b = some e := fun b e hb b1 b2 => by
    rw [f2 b b1 (fun z => ?_), hb]
    rcases d2 with y | ⟨y, -⟩
    · have hne1 : D ≠ q := fun zz => by rw [zz, hq] at eD; cases eD
      have hne2 : D ≠ wd := fun zz => by rw [zz, hw] at eD; cases eD
      rw [z, y, hfr D hne1 hne2, eD2] at hb
      exact b2 _ _ (Option.some.inj hb).symm
    · rw [z, y] at hb; cases hb
  have hn5 : ∀ b e, H0 b = some e → b ≠ B → H2 b = some e := fun b e hb b1 => by
    have hb' := n5 b e hb b1
    rw [f2 b b1 (fun z => ?_), hfr b (fun z => by rw [z, hq] at hb'; cases hb') (fun z => by rw [z, hw] at hb'; cases hb')]
    · exact hb'
    · rcases d2 with y | ⟨y, -⟩
      · rcases n2 with x | x
        · omega
        · rw [z, y, x] at hb; cases hb
      · rw [z] at hb'
        have := hfr D' (fun zz => by rw [zz, hO] at y; cases y) (fun zz => by rw [zz, hWd] at y; cases y)
        rw [y, hb'] at this
        cases this
  have h0n : ∀ b, H b = none → H0 b = none := fun b hb => by
    cases hh : H0 b with
    | none => rfl
    | some e =>
      have := n5 b e hh (fun z => by rw [z, eB] at hb; cases hb)
      rw [hb] at this; cases this
  have hqB : q ≠ B := fun z => by rw [z, eB] at hq; cases hq
  have hwB : wd ≠ B := fun z => by rw [z, eB] at hw; cases hw
  refine ⟨h2.cg (fun n hn => ?_), ?_, fun n hn => ?_, fun n n' hn hn' => ?_, hn5⟩
  · dsimp only
    by_cases hni : n = i
    · rw [if_pos hni, if_pos hni]
    · rw [if_neg hni, if_neg hni]
  · rcases d2 with y | ⟨y, -⟩
    · rcases n2 with x | x
      · omega
      · exact Or.inr (by rw [y]; exact x)
    · refine Or.inr (h0n D' ?_)
      rw [← hfr D' (fun zz => by rw [zz, hO] at y; cases y) (fun zz => by rw [zz, hWd] at y; cases y)]
      exact y
  · by_cases hni : n = i
    · subst hni
      dsimp only
      rw [if_pos rfl, if_pos rfl]
      exact ⟨hst _ _ hO hqB (fun N F z => by cases z), hst _ _ hWd hwB (fun N F z => by cases z), h0n q hq, h0n wd hw, hκq, hκw⟩
    · have := n3 n (by omega)
      dsimp only
      rw [if_neg hni, if_neg hni]
      have e1 : ∀ b e, H b = some e → H1 b = some e := fun b e hb => by rw [hfr b (fun z => by rw [z, hq] at hb; cases hb) (fun z => by rw [z, hw] at hb; cases hb)]; exact hb
      have nB : ∀ b e, H b = some e → (∀ fs, e ≠ .inl (3, fs)) → b ≠ B := fun b e hb k3 z => by rw [z, eB] at hb; exact k3 _ (Option.some.inj hb).symm
      exact ⟨hst _ _ (e1 _ _ this.1) (nB _ _ this.1 (fun fs z => by cases z)) (fun N F z => by cases z), hst _ _ (e1 _ _ this.2.1) (nB _ _ this.2.1 (fun fs z => by cases z)) (fun N F z => by cases z), this.2.2⟩
  · by_cases hni : n = i
    · by_cases hni' : n' = i
      · exact ⟨fun _ => by rw [hni, hni'], fun _ => by rw [hni, hni']⟩
      · have := n3 n' (by omega)
        dsimp only
        rw [if_pos hni, if_neg hni', if_pos hni, if_neg hni']
        refine ⟨fun z => ?_, fun z => ?_⟩
        · rw [z, this.1] at hq; cases hq
        · rw [z, this.2.1] at hw; cases hw
    · by_cases hni' : n' = i
      · have := n3 n (by omega)
        dsimp only
        rw [if_pos hni', if_neg hni, if_pos hni', if_neg hni]
        refine ⟨fun z => ?_, fun z => ?_⟩
        · rw [← z, this.1] at hq; cases hq
        · rw [← z, this.2.1] at hw; cases hw
      · dsimp only
        rw [if_neg hni, if_neg hni', if_neg hni, if_neg hni']
        exact n4 n n' (by omega) (by omega)
theorem NL.oOK (hN : NL κ H0 H B D i M L Wd g k) : ∀ n, n < i → oOK H (some (L n)) := fun n hn b hb => by
  cases hb
  exact ⟨5, _, (hN.2.2.1 n hn).1, rfl, by omega⟩
/-- a new line's numbers -/
def gEl (g : Nat → Int32) (a : Nat) : Prop := g (73 + a) = -1 ∧ g (89 + a) = 0 ∧ g (105 + a) = 0 ∧ g (121 + a) = -1 ∧ g (137 + a) = -1 ∧ g (153 + a) = -1 ∧ ∀ i, i < 4 → g (169 + 4 * a + i) = 0
theorem gEl_w (hg : gEl g a) : m_arr g (169 + 4 * a) 4 = fun _ => 0 := by
  funext i
  unfold m_arr
  split
  · exact hg.2.2.2.2.2.2 i (by assumption)
  · rfl
theorem cc_newLine {c0 s0 : Nat} (hq : H q = some (.inl (5, [.int 0, va_rf none, .int 0, .int 0, .int 0, .int 0, .int 0, .int 0]))) (hκ : κ 0 ≤ q) (hg : gEl g a) (ei : i = a % 4) (hc : 1 ≤ c0) (hs : 4 ≤ s0) (K : Unit → xH → Prop) (hK : ∀ wd H', H wd = none → κ 0 ≤ wd → H' q = some (.inl (5, lFw wd g a)) → H' wd = some (.inr (.int, 4, .inl (m_arr g (169 + 4 * a) 4))) → (∀ b, b ≠ q → b ≠ wd → H' b = H b) → K () H') : P_X3_init κ q (nI i) (H, c0, s0) K := by
  unfold P_X3_init
  refine ⟨4, rfl, by omega, hc, hs, fun wd hwd hκw => ?_⟩
  have hwd : H wd = none := hwd
  have hne : q ≠ wd := fun z => by rw [z, hwd] at hq; cases hq
  show xpq κ (xup H wd _, _) q 5 1 (some wd) _
  rw [g_pq ((xup_ne hne).trans hq) hκ (by simp), g_pi xup_eq hκ (by simp), xup_xup, g_pi xup_eq hκ (by simp), xup_xup, g_pi xup_eq hκ (by simp), xup_xup, g_pi xup_eq hκ (by simp), xup_xup, g_pi xup_eq hκ (by simp), xup_xup]
  obtain ⟨g1, g2, g3, g4, g5, g6, -⟩ := id hg
  refine hK wd _ hwd hκw ?_ ?_ (fun b b1 b2 => ?_)
  · show xup (xup H wd _) q _ q = _
    rw [xup_eq]
    unfold lFw
    rw [g1, g2, g3, g4, g5, g6, ei]
    rfl
  · show xup (xup H wd _) q _ wd = _
    rw [xup_ne (Ne.symm hne), xup_eq, gEl_w hg]
  · show xup (xup H wd _) q _ b = _
    rw [xup_ne b1, xup_ne b2]
theorem cc_linesNew {f0 : Nat} {f1 f3 M0 : Int32} {kx : Unit → xS → Prop} (hl4 : l ≤ 4) (hκB : κ 0 ≤ B) (hκ2 : κ 2 < κ 0) (hg : ∀ n, n < l → gEl g (4 * k + n)) (hB : AL κ H0 B (κ 2) 0 (fun _ => none) M0) {c0 s0 : Nat} (hc : 3 * l ≤ c0) (hs : 1600 * l ≤ s0)
    (hkx : ∀ H D M L Wd c1 s1, NL κ H0 H B D l M L Wd g k → c0 - 3 * l ≤ c1 → s0 - 1600 * l ≤ s1 → kx () (H, c1, s1)) : xwhile (B_X2_shapesAnew_28 κ kx f0 f1 (nI l) f3 B) 0 (H0, c0, s0) := by
  have hB0 : ∃ e, H0 B = some e := by
    obtain ⟨N, F, e1, -⟩ := hB
    exact ⟨_, e1⟩
  refine x_for l (fun i v σ => v = nI i ∧ ∃ H D M L Wd c1 s1, σ = (H, c1, s1) ∧ NL κ H0 H B D i M L Wd g k ∧ c0 - 3 * i ≤ c1 ∧ s0 - 1600 * i ≤ s1) ?_ ?_ ⟨nI_0.symm, H0, κ 2, M0, fun _ => 0, fun _ => 0, c0, s0, rfl, ⟨hB.cg (fun i hi => absurd hi (Nat.not_lt_zero _)), Or.inl rfl, fun n hn => absurd hn (Nat.not_lt_zero _), fun n n' hn => absurd hn (Nat.not_lt_zero _), fun b e hb _ => hb⟩, by omega, by omega⟩
  · rintro i v σ ⟨rfl, H, D, M, L, Wd, c1, s1, rfl, hN, hc1, hs1⟩ hi self hself
    unfold B_X2_shapesAnew_28
    refine ⟨fun z => absurd z (by rw [nI_leI (by omega) (by omega)]; omega), fun _ => ?_⟩
    refine ⟨by show 1 ≤ c1; omega, by show 8 ≤ s1; omega, fun q hq hκ => ?_⟩
    have hq : H q = none := hq
    refine c_call (c0 := c1 - 1) (s0 := s1 - 8) 1 4 (by omega) (by omega) (cc_newLine (a := 4 * k + i) xup_eq hκ (hg i hi) (by omega) (Nat.le_refl _) (Nat.le_refl _) _ (fun wd H1 hw hκw hO hWd hfr => ?_))
    have hqw : q ≠ wd := fun z => by rw [z, xup_eq] at hw; cases hw
    have hw' : H wd = none := by rwa [xup_ne (Ne.symm hqw)] at hw
    have hfr' : ∀ b, b ≠ q → b ≠ wd → H1 b = H b := fun b b1 b2 => by rw [hfr b b1 b2, xup_ne b1]
    have hAL := hN.mid hq hw' hfr'
    have hoL : ∀ n, n < i → oOK H1 (some (L n)) := fun n hn b hb => by
      cases hb
      have := (hN.2.2.1 n hn).1
      exact ⟨5, _, (hfr' _ (fun z => by rw [z, hq] at this; cases this) (fun z => by rw [z, hw'] at this; cases this)).trans this, rfl, by omega⟩
    show xrc (H1, _) B 3 ∧ _
    rw [hAL.rc, true_and]
    refine c_call (c0 := c1 - 1 - 1) (s0 := s1 - 8 - 4) 1 1500 (by omega) (by omega) (cc_add hAL hκB (x := some q) (fun b hb => by cases hb; exact ⟨5, _, hO, rfl, by omega⟩) hoL (by omega) (Nat.le_refl _) (Nat.le_refl _) _ (fun H2 D' h2 f2 d2 => ?_))
    exact hself _ _ ⟨nI_1 i, H2, D', M + 1, _, _, _, _, rfl, hN.step hκ2 hB0 hq hw' hqw hκ hκw hO hWd hfr' h2 f2 d2, by omega, by omega⟩
  · rintro v σ ⟨rfl, H, D, M, L, Wd, c1, s1, rfl, hN, hc1, hs1⟩ self
    unfold B_X2_shapesAnew_28
    exact ⟨fun _ => hkx H D M L Wd c1 s1 hN hc1 hs1, fun z => absurd (Int32.le_refl _) z⟩
end FF
