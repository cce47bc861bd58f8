-- Machine(Machine): lines and sets
section FM
variable {κ A A' BB DD L Wd : Nat → Nat} {h h' h0 H H' H0 H1 H2 H3 X Hq : xH} {g g' gO W W' : Nat → Int32} {s l r a a2 b d d1 n q k o T mach i D B Bs Ds it it1 src wd a39 : Nat} {c bl : Nat → Nat} {w : Nat × Nat} {m m1 m2 M M0 Ms : Int32} {Mss : Nat → Int32} {fs : List Value} {F0 : Nat → Option Nat}
theorem x_itq {f : Nat → Option Nat} (hL : AL κ H a d n f m) (hI : IT H q a i m) (hκ : κ 0 ≤ q) (hi : i ≤ n) {E : xS → Prop} {Bd : Option Nat → xS → Prop} (hE : i = n → E (H, w)) (hB : i < n → IT (xup H q (itE (i + 1) (nI i) m a)) q a (i + 1) m → Bd (f i) (xup H q (itE (i + 1) (nI i) m a), w)) :
    xrc (H, w) q 21 ∧ xcall (fun τ L => P_J35_hasNext κ q τ L) (H, w) fun v σ' => ((v = 0 → E σ') ∧ (¬ v = 0 → (xrc σ' q 21 ∧ xcall (fun τ L => P_J35_next κ q τ L) σ' fun v σ'' => Bd v σ''))) := by
  have := x_it (w := w) hL hI hκ hi hE hB
  rw [t_nn] at this
  exact this
theorem cpy4 (ha : a < 16) : va_cpy (m_arr g (169 + 4 * a) 4) (m_arr g' (169 + 4 * a) 4) 0 0 4 = m_arr g (169 + 4 * a) 4 := by
  funext i
  unfold va_cpy
  by_cases hi : i < 4
  · rw [if_pos (by omega)]
    congr 1
    omega
  · rw [if_neg (by omega)]
    unfold m_arr
    rw [if_neg hi, if_neg hi]
theorem cc_copyLine {c0 s0 : Nat} (hq : H q = some (.inl (5, [.int 0, va_rf none, .int 0, .int 0, .int 0, .int 0, .int 0, .int 0]))) (hκ : κ 0 ≤ q) (ha : a < 16) (hsrc : H src = some (.inl (5, lFw wd g a))) (hwd : H wd = some (.inr (.int, 4, .inl (m_arr g (169 + 4 * a) 4)))) (hne : src ≠ q) (hp : g (105 + a) = 0 ∨ g (105 + a) = 1) (hc : 1 ≤ c0) (hs : 4 ≤ s0) (K : Unit → xH → Prop)
    (hK : ∀ wd H', H wd = none → κ 0 ≤ wd → H' q = some (.inl (5, lFw wd g a)) → H' wd = some (.inr (.int, 4, .inl (m_arr g (169 + 4 * a) 4))) → (∀ b, b ≠ q → b ≠ wd → H' b = H b) → K () H') : P_X3_init_2 κ q (some src) (H, c0, s0) K := by
  unfold P_X3_init_2
  rw [t_nn, g_gi hsrc rfl]
  refine c_call 1 4 hc hs (cc_newLine (g := gI g) hq hκ (gI_El ha) rfl (Nat.le_refl _) (Nat.le_refl _) _ (fun wd2 H1 z1 z2 z3 z4 z5 => ?_))
  have d1 : src ≠ wd2 := fun z => by rw [z, z1] at hsrc; cases hsrc
  have d2 : wd ≠ q := fun z => by rw [z, hq] at hwd; cases hwd
  have d3 : wd ≠ wd2 := fun z => by rw [z, z1] at hwd; cases hwd
  have d4 : q ≠ wd2 := fun z => by rw [z, z1] at hq; cases hq
  have e1 : H1 src = some (.inl (5, lFw wd g a)) := (z5 _ hne d1).trans hsrc
  have e2 : H1 wd = some (.inr (.int, 4, .inl (m_arr g (169 + 4 * a) 4))) := (z5 _ d2 d3).trans hwd
  show xgq (H1, _) src 5 1 _
  rw [g_gq (r := some wd) e1 rfl, g_gq (r := some wd2) z3 rfl, t_nn, t_nn]
  have c0' : (0 : Int32).toNatClampNeg = 0 := by decide
  have c4' : (4 : Int32).toNatClampNeg = 4 := by decide
  refine ⟨4, _, 4, _, e2, z4, z2, by decide, by decide, by decide, by rw [c0', c4']; omega, by rw [c0', c4']; omega, fun i hi => rfl, ?_⟩
  rw [c0', c4', cpy4 ha]
  have e3 : xup H1 wd2 (.inr (.int, 4, .inl (m_arr g (169 + 4 * a) 4))) src = some (.inl (5, lFw wd g a)) := (xup_ne d1).trans e1
  have e4 : xup H1 wd2 (.inr (.int, 4, .inl (m_arr g (169 + 4 * a) 4))) q = some (.inl (5, lFw wd2 (gI g) a)) := (xup_ne d4).trans z3
  have en : ∀ (Y : xH) (e : xE), Y src = some (.inl (5, lFw wd g a)) → xup Y q e src = some (.inl (5, lFw wd g a)) := fun Y e hY => (xup_ne hne).trans hY
  show xgi (xup H1 wd2 _, _) src 5 2 _
  rw [g_gi e3 rfl, g_pi e4 hκ (by simp [lFw]), g_gi (en _ _ e3) rfl, g_pi xup_eq hκ (by simp [lFw]), xup_xup, g_gi (en _ _ e3) rfl]
  refine ⟨?_, ?_, ?_⟩
  · rcases hp with z | z <;> rw [z] <;> rfl
  · rcases hp with z | z <;> rw [z] <;> rfl
  rw [g_pi xup_eq hκ (by simp [lFw]), xup_xup, g_gi (en _ _ e3) rfl, g_pi xup_eq hκ (by simp [lFw]), xup_xup, g_gi (en _ _ e3) rfl, g_pi xup_eq hκ (by simp [lFw]), xup_xup, g_gi (en _ _ e3) rfl, g_pi xup_eq hκ (by simp [lFw]), xup_xup]
  show K () (xup (xup H1 wd2 (.inr (.int, 4, .inl (m_arr g (169 + 4 * a) 4)))) q (.inl (5, lFw wd2 g a)))
  refine hK wd2 _ z1 z2 xup_eq ((xup_ne (Ne.symm d4)).trans xup_eq) (fun b b1 b2 => ?_)
  rw [xup_ne b1, xup_ne b2]
  exact z5 b b1 b2
/-- an iterator's step leaves a set under construction -/
theorem NL.mut (hN : NL κ H0 H B D i M L Wd g k) (h0 : H0 it = none) {fz : List Value} (hit : H it = some (.inl (21, fz))) (hfr : ∀ b, b ≠ it → H' b = H b) : NL κ H0 H' B D i M L Wd g k := by
  obtain ⟨n1, n2, n3, n4, n5⟩ := hN
  have hc : ∀ b e, H b = some e → (∀ fs, e ≠ .inl (21, fs)) → H' b = some e := fun b e hb h21 => by
    rw [hfr b (fun z => by rw [z, hit] at hb; exact h21 _ (Option.some.inj hb).symm)]
    exact hb
  refine ⟨?_, n2, fun n hn => ?_, n4, fun b e hb hbB => ?_⟩
  · obtain ⟨N, F, x1, x2, x3⟩ := n1
    exact ⟨N, F, hc _ _ x1 (fun fs z => by cases z), hc _ _ x2 (fun fs z => by cases z), x3⟩
  · obtain ⟨p1, p2, p3⟩ := n3 n hn
    exact ⟨hc _ _ p1 (fun fs z => by cases z), hc _ _ p2 (fun fs z => by cases z), p3⟩
  · rw [hfr b (fun z => by rw [z, h0] at hb; cases hb)]
    exact n5 b e hb hbB
theorem OUT.mut {cz : Nat} (hO : OUT κ H1 H a39 d g l k d1 m1 A' BB DD Mss) (h1 : H1 it = none) {fz : List Value} (hit : H it = some (.inl (cz, fz))) (hz3 : cz ≠ 3) (hz5 : cz ≠ 5) (hfr : ∀ b e, H b = some e → b ≠ it → H' b = some e) : OUT κ H1 H' a39 d g l k d1 m1 A' BB DD Mss := by
  obtain ⟨o1, ⟨o2, o2', o3⟩, o4, o5, o6, o7⟩ := hO
  have hc : ∀ b e, H b = some e → (∀ fs, e ≠ .inl (cz, fs)) → H' b = some e := fun b e hb h21 => hfr b e hb (fun z => by rw [z, hit] at hb; exact h21 _ (Option.some.inj hb).symm)
  have hAL : ∀ (a d n1 : Nat) (f : Nat → Option Nat) (m1 : Int32), AL κ H a d n1 f m1 → AL κ H' a d n1 f m1 := fun a d n1 f m1 hx => by
    obtain ⟨N1, F1, x1, x2, x3⟩ := hx
    exact ⟨N1, F1, hc _ _ x1 (fun fs z => by cases z; exact hz3 rfl), hc _ _ x2 (fun fs z => by cases z), x3⟩
  refine ⟨hAL _ _ _ _ _ o1, ⟨o2, o2', fun b hb => ?_⟩, fun q hq => ⟨hAL _ _ _ _ _ (o4 q hq).1, (o4 q hq).2⟩, fun a hla => ?_, o6, fun b e hb b1 b2 => ?_⟩
  · by_cases hbi : b = it
    · rw [hbi]; exact h1
    · cases hh : H b with
      | none => exact o3 b hh
      | some e => rw [hfr b e hh hbi] at hb; cases hb
  · obtain ⟨p1, p2, p3⟩ := o5 a hla
    exact ⟨hc _ _ p1 (fun fs z => by cases z; exact hz5 rfl), hc _ _ p2 (fun fs z => by cases z), p3⟩
  · exact hfr b e (o7 b e hb b1 b2) (fun z => by rw [z, h1] at hb; cases hb)
theorem OUT.weak (hO : OUT κ H1 H a39 d g l k d1 m1 A' BB DD Mss) (hE : Ext H2 H1) (h2 : ∃ e, H2 a39 = some e) : OUT κ H2 H a39 d g l k d1 m1 A' BB DD Mss := by
  obtain ⟨o1, ⟨o2, o2', o3⟩, o4, o5, o6, o7⟩ := hO
  refine ⟨o1, ⟨?_, h2, fun b hb => hE.none (o3 b hb)⟩, fun q hq => ⟨(o4 q hq).1, hE.none (o4 q hq).2.1, (o4 q hq).2.2⟩, fun a hla => ?_, o6, fun b e hb b1 b2 => o7 b e (hE b e hb) b1 b2⟩
  · rcases o2 with z | z
    · exact Or.inl z
    · exact Or.inr (hE.none z)
  · obtain ⟨p1, p2, p3, p4, p5⟩ := o5 a hla
    exact ⟨p1, p2, hE.none p3, hE.none p4, p5⟩
theorem cc_linesCopy {f0 f1 f2 : Nat} {kx : Unit → xS → Prop} (hk : k < 4) (hl4 : l ≤ 4) (hκB : κ 0 ≤ B) (hκ2 : κ 2 < κ 0) (hB : AL κ Hq B (κ 2) 0 (fun _ => none) M0) (hsrc : AL κ Hq Bs Ds l (fun n => some (A (6 + (4 * k + n)))) Ms) (hBne : Bs ≠ B)
    (hlin : ∀ n, n < l → Hq (A (6 + (4 * k + n))) = some (.inl (5, lFs A g (4 * k + n))) ∧ Hq (A (22 + (4 * k + n))) = some (.inr (.int, 4, .inl (m_arr g (169 + 4 * (4 * k + n)) 4))) ∧ (g (105 + (4 * k + n)) = 0 ∨ g (105 + (4 * k + n)) = 1)) (hit : Hq it = none) (hκit : κ 0 ≤ it) {c0 s0 : Nat} (hc : 3 * l ≤ c0) (hs : 1600 * l ≤ s0)
    (hkx : ∀ H D M L Wd c1 s1, NL κ Hq H B D l M L Wd g k → c0 - 3 * l ≤ c1 → s0 - 1600 * l ≤ s1 → kx () (H, c1, s1)) : xwhile (B_X2_init_2_147 κ kx f0 f1 f2 B (some it)) () (xup Hq it (itE 0 (-1) Ms Bs), c0, s0) := by
  have hB0 : ∃ e, Hq B = some e := by
    obtain ⟨N, F, e1, -⟩ := hB
    exact ⟨_, e1⟩
  obtain ⟨eB, heB⟩ := hB0
  have hBit : B ≠ it := fun z => by rw [z, hit] at heB; cases heB
  have hDs : ∃ e, Hq Ds = some e := by
    obtain ⟨N, F, e1, e2, -⟩ := hsrc
    exact ⟨_, e2⟩
  obtain ⟨eDs, heDs⟩ := hDs
  have hBcl : ∃ fs, Hq B = some (.inl (3, fs)) := by
    obtain ⟨N, F, e1, -⟩ := hB
    exact ⟨_, e1⟩
  obtain ⟨fB, eBc⟩ := hBcl
  have hX0 : Ext Hq (xup Hq it (itE 0 (-1) Ms Bs)) := Ext.new hit
  -- the source stays
  have hs1 : ∀ (X : xH) (D i : Nat) (M : Int32) (L Wd : Nat → Nat), NL κ Hq X B D i M L Wd g k → AL κ X Bs Ds l (fun n => some (A (6 + (4 * k + n)))) Ms := fun X D i M L Wd hN => by
    obtain ⟨N, F, e1, e2, e3⟩ := hsrc
    refine ⟨N, F, hN.2.2.2.2 _ _ e1 hBne, hN.2.2.2.2 _ _ e2 (fun z => ?_), e3⟩
    rw [z, eBc] at e2
    cases e2
  refine x_for l (fun i v σ => ∃ X D M L Wd c1 s1, σ = (X, c1, s1) ∧ NL κ Hq X B D i M L Wd g k ∧ IT X it Bs i Ms ∧ c0 - 3 * i ≤ c1 ∧ s0 - 1600 * i ≤ s1) ?_ ?_ ⟨_, κ 2, M0, fun _ => 0, fun _ => 0, c0, s0, rfl, ⟨(hB.mono hX0).cg (fun i hi => absurd hi (Nat.not_lt_zero _)), Or.inl rfl, fun n hn => absurd hn (Nat.not_lt_zero _), fun n n' hn => absurd hn (Nat.not_lt_zero _), fun b e hb _ => hX0 _ _ hb⟩, ⟨-1, xup_eq⟩, by omega, by omega⟩
  · rintro i v σ ⟨X, D, M, L, Wd, c1, s1, rfl, hN, hI, hc1, hs1'⟩ hi self hself
    unfold B_X2_init_2_147
    refine x_it (hs1 X D i M L Wd hN) hI hκit (by omega) (fun z => absurd z (by omega)) (fun _ hI2 => ?_)
    obtain ⟨j0, ej⟩ := hI
    have hN1 := hN.mut (H' := xup X it (itE (i + 1) (nI i) Ms Bs)) hit ej (fun b hb => xup_ne hb)
    generalize hX1 : xup X it (itE (i + 1) (nI i) Ms Bs) = X1 at hN1 hI2 ⊢
    obtain ⟨l1, l2, l3⟩ := hlin i hi
    have clB : ∀ b ci fs, Hq b = some (.inl (ci, fs)) → ci ≠ 3 → b ≠ B := fun b ci fs hb hci z => by
      rw [z, eBc] at hb
      cases hb
      exact hci rfl
    have l1' : X1 (A (6 + (4 * k + i))) = some (.inl (5, lFw (A (22 + (4 * k + i))) g (4 * k + i))) := hN1.2.2.2.2 _ _ l1 (clB _ _ _ l1 (by omega))
    have l2' := hN1.2.2.2.2 _ _ l2 (fun z => by rw [z, eBc] at l2; cases l2)
    rw [t_nn, g_rc l1', true_and]
    refine ⟨by show 1 ≤ c1; omega, by show 8 ≤ s1; omega, fun q hq hκ => ?_⟩
    have hq : X1 q = none := hq
    have dq1 : A (6 + (4 * k + i)) ≠ q := fun z => by rw [z, hq] at l1'; cases l1'
    have dq2 : A (22 + (4 * k + i)) ≠ q := fun z => by rw [z, hq] at l2'; cases l2'
    refine c_call (c0 := c1 - 1) (s0 := s1 - 8) 1 4 (by omega) (by omega) (cc_copyLine (a := 4 * k + i) (g := g) xup_eq hκ (by omega) ((xup_ne dq1).trans l1') ((xup_ne dq2).trans l2') dq1 l3 (Nat.le_refl _) (Nat.le_refl _) _ (fun wd H1 hw hκw hO hWd hfr => ?_))
    have hqw : q ≠ wd := fun z => by rw [z, xup_eq] at hw; cases hw
    have hw' : X1 wd = none := by rwa [xup_ne (Ne.symm hqw)] at hw
    have hfr' : ∀ b, b ≠ q → b ≠ wd → H1 b = X1 b := fun b b1 b2 => by rw [hfr b b1 b2, xup_ne b1]
    have hAL := hN1.mid hq hw' hfr'
    have hoL : ∀ n, n < i → oOK H1 (some (L n)) := fun n hn b hb => by
      cases hb
      have := (hN1.2.2.1 n hn).1
      exact ⟨5, _, (hfr' _ (fun z => by rw [z, hq] at this; cases this) (fun z => by rw [z, hw'] at this; cases this)).trans this, rfl, by omega⟩
    show xrc (H1, _) B 3 ∧ _
    rw [hAL.rc, true_and]
    refine c_call (c0 := c1 - 1 - 1) (s0 := s1 - 8 - 4) 1 1500 (by omega) (by omega) (cc_add hAL hκB (x := some q) (fun b hb => by cases hb; exact ⟨5, _, hO, rfl, by omega⟩) hoL (by omega) (Nat.le_refl _) (Nat.le_refl _) _ (fun H2 D' h2 f2 d2 => ?_))
    obtain ⟨j1, ej1⟩ := hI2
    have hitH1 : H1 it = some (.inl (21, [.int (nI (i + 1)), .int j1, .int Ms, .ref Bs])) := (hfr' it (fun z => by rw [z, hq] at ej1; cases ej1) (fun z => by rw [z, hw'] at ej1; cases ej1)).trans ej1
    refine hself _ _ ⟨H2, D', M + 1, _, _, _, _, rfl, hN1.step hκ2 ⟨_, heB⟩ hq hw' hqw hκ hκw hO hWd hfr' h2 f2 d2, ⟨j1, ?_⟩, by omega, by omega⟩
    rw [f2 it (Ne.symm hBit) (fun z => ?_)]
    · exact hitH1
    · rcases d2 with y | ⟨y, -⟩
      · obtain ⟨N1, F1, x1, x2, -⟩ := hAL
        rw [← y, ← z, hitH1] at x2
        cases x2
      · rw [← z, hitH1] at y; cases y
  · rintro v σ ⟨X, D, M, L, Wd, c1, s1, rfl, hN, hI, hc1, hs1'⟩ self
    unfold B_X2_init_2_147
    exact x_it (hs1 X D l M L Wd hN) hI hκit (Nat.le_refl _) (fun _ => hkx X D M L Wd c1 s1 hN hc1 hs1') (fun z => absurd z (Nat.lt_irrefl _))
theorem cc_setsCopy {f1 : Nat} {AN : Nat → Nat} {kx : Unit → xS → Prop} {SB SD : Nat → Nat} {SM : Nat → Int32} {ds : Nat} {ms m39 : Int32} (hs4 : s ≤ 4) (hl1 : 1 ≤ l) (hl4 : l ≤ 4) (hκ39 : κ 0 ≤ a39) (hκ2 : κ 2 < κ 0) (he2 : H1 (κ 2) = some (oA 0 F0)) (hF0 : ∀ i, F0 i = none) (hL : AL κ H1 a39 (κ 2) 0 (fun _ => none) m39)
    (hsrc : AL κ H1 (A 39) ds s (fun q => some (SB q)) ms) (hsrc2 : ∀ q, q < s → AL κ H1 (SB q) (SD q) l (fun n => some (A (6 + (4 * q + n)))) (SM q)) (h39 : A 39 ≠ a39) (hSB : ∀ q, q < s → SB q ≠ a39)
    (hlin : ∀ a, lin s l a → H1 (A (6 + a)) = some (.inl (5, lFs A g a)) ∧ H1 (A (22 + a)) = some (.inr (.int, 4, .inl (m_arr g (169 + 4 * a) 4))) ∧ (g (105 + a) = 0 ∨ g (105 + a) = 1)) (hit : H1 it1 = none) (hκit : κ 0 ≤ it1) {fm : List Value} (hm : H1 mach = some (.inl (1, fm))) (hm2 : fm[2]? = some (.ref a39)) {c0 s0 : Nat} (hc : 15 * s ≤ c0) (hs : 8000 * s ≤ s0)
    (hkx : ∀ H d' m' A' BB DD Mss c1 s1, OUT κ H1 H a39 (κ 2) g l s d' m' A' BB DD Mss → (∀ j, j < 6 ∨ 38 ≤ j → A' j = AN j) → c0 - 15 * s ≤ c1 → s0 - 8000 * s ≤ s1 → kx () (H, c1, s1)) : xwhile (B_X2_init_2_111 κ kx mach f1 (some it1)) () (xup H1 it1 (itE 0 (-1) ms (A 39)), c0, s0) := by
  have hX0 : Ext H1 (xup H1 it1 (itE 0 (-1) ms (A 39))) := Ext.new hit
  have h39c : ∃ fs, H1 a39 = some (.inl (3, fs)) := by
    obtain ⟨N, F, e1, -⟩ := hL
    exact ⟨_, e1⟩
  obtain ⟨f39, e39⟩ := h39c
  have hst : ∀ {X : xH} {k d' : Nat} {m' : Int32} {A' BB DD : Nat → Nat} {Mss : Nat → Int32}, OUT κ H1 X a39 (κ 2) g l k d' m' A' BB DD Mss → ∀ b e, H1 b = some e → b ≠ a39 → X b = some e := fun {X k d' m' A' BB DD Mss} hO b e hb hba => hO.2.2.2.2.2 b e hb hba (by
    by_cases hb2 : b = κ 2
    · exact Or.inr hb2
    · exact Or.inl hb2)
  have hALs : ∀ {X : xH} (a d n1 : Nat) (f : Nat → Option Nat) (m1 : Int32), (∀ b e, H1 b = some e → b ≠ a39 → X b = some e) → a ≠ a39 → AL κ H1 a d n1 f m1 → AL κ X a d n1 f m1 := fun {X} a d n1 f m1 hk ha hx => by
    obtain ⟨N1, F1, x1, x2, x3⟩ := hx
    exact ⟨N1, F1, hk _ _ x1 ha, hk _ _ x2 (fun z => by rw [z, e39] at x2; cases x2), x3⟩
  refine x_for s (fun k v σ => ∃ X d' m' A' BB DD Mss c1 s1, σ = (X, c1, s1) ∧ OUT κ H1 X a39 (κ 2) g l k d' m' A' BB DD Mss ∧ IT X it1 (A 39) k ms ∧ (∀ j, j < 6 ∨ 38 ≤ j → A' j = AN j) ∧ c0 - 15 * k ≤ c1 ∧ s0 - 8000 * k ≤ s1) ?_ ?_ ⟨_, κ 2, m39, AN, fun _ => 0, fun _ => 0, fun _ => 0, c0, s0, rfl, ⟨(hL.mono hX0).cg (fun i hi => absurd hi (Nat.not_lt_zero _)), ⟨Or.inl rfl, ⟨_, e39⟩, fun b hb => hX0.none hb⟩, fun q hq => absurd hq (Nat.not_lt_zero _), fun a ha => absurd ha.2.1 (Nat.not_lt_zero _), fun a b ha => absurd ha.2.1 (Nat.not_lt_zero _), fun b e hb _ _ => hX0 _ _ hb⟩, ⟨-1, xup_eq⟩, fun j _ => rfl, by omega, by omega⟩
  · rintro k v σ ⟨X, d', m', A', BB, DD, Mss, c1, s1, rfl, hO, hI, hA', hc1, hs1⟩ hk self hself
    unfold B_X2_init_2_111
    rw [t_nn]
    refine x_itq (hALs _ _ _ _ _ (hst hO) h39 hsrc) hI hκit (by omega) (fun z => absurd z (by omega)) (fun _ hI2 => ?_)
    obtain ⟨j0, ej⟩ := hI
    have hO1 := hO.mut (H' := xup X it1 (itE (k + 1) (nI k) ms (A 39))) hit ej (by omega) (by omega) (fun b e hb hbi => (xup_ne hbi).trans hb)
    generalize hX1 : xup X it1 (itE (k + 1) (nI k) ms (A 39)) = X1 at hO1 hI2 ⊢
    have hkp := hst hO1
    have hSk := hALs _ _ _ _ _ hkp (hSB k hk) (hsrc2 k hk)
    rw [t_nn, hSk.rc, true_and]
    refine ⟨by show 1 ≤ c1; omega, by show 3 ≤ s1; omega, fun q hq hκ => ?_⟩
    have hq : X1 q = none := hq
    refine ⟨0, 0, Nat.zero_le _, Nat.zero_le _, cc_init3 (c := 0) (fs := []) xup_eq hκ _ ?_⟩
    show xrc (xup (xup X1 q _) q _, c1 - 1, s1 - 3) (SB k) 3 ∧ _
    rw [xup_xup]
    have hHq : Ext X1 (xup X1 q (.inl (3, [.int 0, .ref (κ 2), .int 0]))) := Ext.new hq
    have hke2 : X1 (κ 2) = some (oA 0 F0) := hkp _ _ he2 (by omega)
    have hALq : AL κ (xup X1 q (.inl (3, [.int 0, .ref (κ 2), .int 0]))) q (κ 2) 0 (fun _ => none) 0 := ⟨0, F0, by rw [xup_eq, nI_0], hHq _ _ hke2, Nat.le_refl _, by omega, fun i hi => absurd hi (Nat.not_lt_zero _), fun i _ => hF0 i, Or.inl ⟨rfl, rfl⟩⟩
    have hSkq := hSk.mono hHq
    have hqe : xup X1 q (.inl (3, [.int 0, .ref (κ 2), .int 0])) q = some (.inl (3, [.int 0, .ref (κ 2), .int 0])) := xup_eq
    have hSBq : SB k ≠ q := fun z => by
      obtain ⟨N1, F1, x1, -⟩ := hSk
      rw [z, hq] at x1
      cases x1
    generalize hHqd : xup X1 q (.inl (3, [.int 0, .ref (κ 2), .int 0])) = Hq at hHq hALq hSkq hqe ⊢
    rw [hSkq.rc, true_and]
    refine c_call (c0 := c1 - 1) (s0 := s1 - 3) 1 4 (by omega) (by omega) (cc_iterator hSkq (Nat.le_refl _) (Nat.le_refl _) _ (fun it hit2 hκit2 hI3 => ?_))
    refine cc_linesCopy (it := it) (A := A) (g := g) (k := k) (by omega) hl4 hκ hκ2 hALq hSkq hSBq (fun n hn => ?_) hit2 hκit2 (by omega) (by omega) (fun H2 D M L Wd c2 s2 hN hc2 hs2 => ?_)
    · obtain ⟨p1, p2, p3⟩ := hlin (4 * k + n) (lin_q hs4 hl4 hk hn)
      exact ⟨hHq _ _ (hkp _ _ p1 (fun z => by rw [z, e39] at p1; cases p1)), hHq _ _ (hkp _ _ p2 (fun z => by rw [z, e39] at p2; cases p2)), p3⟩
    · have k2 : ∀ b e, X1 b = some e → H2 b = some e := fun b e hb => hN.2.2.2.2 b e (hHq b e hb) (fun z => by rw [z, hq] at hb; cases hb)
      have em : H2 mach = some (.inl (1, fm)) := k2 _ _ (hkp _ _ hm (fun z => by rw [z, e39] at hm; cases hm))
      have hAL2 := hO1.1.mono k2
      rw [g_gq (r := some a39) em hm2, t_nn, hAL2.rc, true_and]
      have hqo : ∃ fs, H2 q = some (.inl (3, fs)) := by
        obtain ⟨N1, F1, x1, -⟩ := hN.1
        exact ⟨_, x1⟩
      obtain ⟨fsq, eq⟩ := hqo
      refine c_call (c0 := c2) (s0 := s2) 1 1500 (by omega) (by omega) (cc_add hAL2 hκ39 (x := some q) (fun b hb => by cases hb; exact ⟨3, _, eq, rfl, by omega⟩) (fun i hi b hb => ?_) (by omega) (Nat.le_refl _) (Nat.le_refl _) _ (fun H3 D3 a3 f3' e3 => ?_))
      · cases hb
        obtain ⟨N1, F1, x1, -⟩ := (hO1.2.2.1 i hi).1
        exact ⟨3, _, k2 _ _ x1, rfl, by omega⟩
      · obtain ⟨j1, ej1⟩ := hI2
        refine hself _ _ ⟨H3, D3, m' + 1, _, _, _, _, _, _, rfl, hO1.step hκ2 hl1 hl4 (by omega) hq hHq ⟨_, hqe⟩ hN a3 f3' e3, ⟨j1, ?_⟩, fun j hj => ?_, by omega, by omega⟩
        · have eit : H2 it1 = some (.inl (21, [.int (nI (k + 1)), .int j1, .int ms, .ref (A 39)])) := k2 _ _ ej1
          rw [f3' it1 (fun z => ?_) (fun z => ?_)]
          · exact eit
          · rw [z, e39] at hit; cases hit
          · rcases e3 with y | ⟨y, -⟩
            · obtain ⟨N1, F1, x1, x2, -⟩ := hAL2
              rw [← y, ← z, eit] at x2
              cases x2
            · rw [← z, eit] at y; cases y
        · rw [exA_o (by omega) hl4 (by omega)]
          exact hA' j hj
  · rintro v σ ⟨X, d', m', A', BB, DD, Mss, c1, s1, rfl, hO, hI, hA', hc1, hs1⟩ self
    unfold B_X2_init_2_111
    rw [t_nn]
    exact x_itq (hALs _ _ _ _ _ (hst hO) h39 hsrc) hI hκit (Nat.le_refl _) (fun _ => hkx X d' m' A' BB DD Mss c1 s1 hO hA' hc1 hs1) (fun z => absurd z (Nat.lt_irrefl _))
end FM
