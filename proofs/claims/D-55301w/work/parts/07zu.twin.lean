-- a standing machine; its copy
/-- a machine that stands at H: numbers, sets, latest blocks, the map -/
def ST (κ : Nat → Nat) (H : xH) (c A : Nat → Nat) (s l : Nat) (g W : Nat → Int32) (n : Nat) (bl : Nat → Nat) : Prop :=
  mOK κ A s l ∧ (∀ k, mdm s l k → H (A k) = some (mE A g k)) ∧ SA κ H A s l ∧ ((1 ≤ s ∧ s ≤ 4) ∧ (1 ≤ l ∧ l ≤ 4)) ∧ (∃ N m, LL κ H (A 40) n N (fun i => c (bl i)) m) ∧ ((∀ i, i < n → bl i < 16) ∧ n ≤ 16) ∧ WM κ (fun _ => none) H (A 38) W ∧ FS κ (fun _ => none) H (A 39)
/-- what is the same in every heap -/
def GL (κ : Nat → Nat) (H : xH) (c : Nat → Nat) : Prop := IC κ H c ∧ (κ 1 < κ 0 ∧ κ 2 < κ 0) ∧ ∃ F0 : Nat → Option Nat, H (κ 2) = some (oA 0 F0) ∧ ∀ i, F0 i = none
section FL
variable {κ A A' BB DD L Wd : Nat → Nat} {h h' h0 H H' H0 H1 H2 H3 X : xH} {g g' gO W W' : Nat → Int32} {s l r a a2 b d n q k o T mach i D : Nat} {c bl : Nat → Nat} {w : Nat × Nat} {m m2 M : Int32} {fs : List Value} {F0 : Nat → Option Nat}
theorem WM.weak (hW : WM κ h0 h a W) : WM κ (fun _ => none) h a W := by
  obtain ⟨n, N, ky, vA, e1, e2, e3, e4, e5⟩ := hW
  exact ⟨n, N, ky, vA, e1, rfl, fun _ _ => rfl, e4, e5⟩
theorem FS.weak (hF : FS κ h0 h a) : FS κ (fun _ => none) h a := by
  obtain ⟨f1, f2, m, x, d, f3, f4, f5⟩ := hF
  exact ⟨rfl, f2, m, x, d, f3, rfl, f5⟩
theorem MM.st (hM : MM κ A s l c W h0 n bl h) : ST κ (mput h A s l g) c A s l g W n bl := by
  obtain ⟨⟨hA, hD, hS, hs, hl, hκ2, F0, he2, hF0⟩, hI, hE, ⟨N, m, hL, hf1, hf2⟩, hbl, hn, hW, hF⟩ := hM
  have hX := mput_ext (g := g) hD
  exact ⟨hA, fun k hk => mput_k hA hk, hS.mono hX, ⟨hs, hl⟩, ⟨N, m, hL.mono hX⟩, ⟨hbl, hn⟩, (hW.mono hX).weak, (hF.mono hX).weak⟩
theorem ST.mono (hE : Ext H H') (hS : ST κ H c A s l g W n bl) : ST κ H' c A s l g W n bl := by
  obtain ⟨h1, h2, h3, h4, ⟨N, m, h5⟩, h6, h7, h8⟩ := hS
  exact ⟨h1, fun k hk => hE _ _ (h2 k hk), h3.mono hE, h4, ⟨N, m, h5.mono hE⟩, h6, h7.mono hE, h8.mono hE⟩
/-- its map's object may change -/
theorem ST.map (hk : ∀ b e, H b = some e → b ≠ A 38 → H' b = some e) (hW' : WM κ (fun _ => none) H' (A 38) W) (hS : ST κ H c A s l g W n bl) : ST κ H' c A s l g W n bl := by
  obtain ⟨h1, h2, h3, h4, ⟨N, m, h5⟩, h6, h7, h8⟩ := hS
  have e38 : ∃ fs, H (A 38) = some (.inl (2, fs)) := by
    obtain ⟨n2, N2, ky2, vA2, hT, -⟩ := h7
    obtain ⟨kA, lf, rt, pr, lo, hi, root, cl, m, v0, v1, v6, v7, v8, e1, -⟩ := hT
    exact ⟨_, e1⟩
  obtain ⟨f38, e38⟩ := e38
  have hcl : ∀ b ci fs, H b = some (.inl (ci, fs)) → ci ≠ 2 → H' b = some (.inl (ci, fs)) := fun b ci fs hb hci => hk b _ hb (fun z => by
    rw [z, e38] at hb
    cases hb
    exact hci rfl)
  have har : ∀ b x, H b = some (.inr x) → H' b = some (.inr x) := fun b x hb => hk b _ hb (fun z => by rw [z, e38] at hb; cases hb)
  have hAL : ∀ (a d n1 : Nat) (f : Nat → Option Nat) (m1 : Int32), AL κ H a d n1 f m1 → AL κ H' a d n1 f m1 := fun a d n1 f m1 hx => by
    obtain ⟨N1, F1, x1, x2, x3⟩ := hx
    exact ⟨N1, F1, hcl _ _ _ x1 (by omega), har _ _ x2, x3⟩
  refine ⟨h1, fun k hkk => hk _ _ (h2 k hkk) (fun z => ?_), ?_, h4, ⟨N, m, h5.keepc (fun b ci fs hb hci => hcl b ci fs hb (by omega))⟩, h6, hW', ?_⟩
  · have := h2 k hkk
    rw [z, e38] at this
    have := mE_cl (Option.some.inj this).symm
    omega
  · obtain ⟨d0, m0, B, D, M, hS1, hS2⟩ := h3
    exact ⟨d0, m0, B, D, M, hAL _ _ _ _ _ hS1, fun q hq => hAL _ _ _ _ _ (hS2 q hq)⟩
  · obtain ⟨f1, f2, mm, x, dd, f3, f4⟩ := h8
    exact ⟨f1, f2, mm, x, dd, hcl _ _ _ f3 (by omega), f4⟩
/-- only the map's object at a may have changed: its set of entries -/
def ESr (H H' : xH) (a : Nat) : Prop := (∀ b e, H b = some e → b ≠ a → H' b = some e) ∧ ∃ (v w : Nat → Value) (r x y : Value), H a = some (.inl (2, [v 0, v 1, va_rf none, r, x, y, v 6, v 7, v 8])) ∧ H' a = some (.inl (2, [w 0, w 1, va_rf none, r, x, y, w 6, w 7, w 8])) ∧ (∀ k, k ≠ 6 → w k = v k) ∧ ∃ es : Option Nat, w 6 = va_rf es ∧ ∀ q, es = some q → H' q = some (.inl (12, [.ref a]))
theorem TM.es {N ky vA : Nat → Nat} (hE : ESr H H' a) (hT : TM κ H a n N ky vA) : TM κ H' a n N ky vA := by
  obtain ⟨hk, v, w, r, x, y, h1, h2, h3, es, h4, h5⟩ := hE
  obtain ⟨kA, lf, rt, pr, lo, hi, root, cl, m, v0, v1, v6, v7, v8, e1, e2, e3, e4, e5, e6, e7, e8, e9, -⟩ := hT
  have hne : ∀ b ci fs, H b = some (.inl (ci, fs)) → ci ≠ 2 → H' b = some (.inl (ci, fs)) := fun b ci fs hb hci => hk b _ hb (fun z => by
    rw [z, h1] at hb
    cases hb
    exact hci rfl)
  rw [h1] at e1
  have e1 := Option.some.inj e1
  simp only [Sum.inl.injEq, Prod.mk.injEq, List.cons.injEq, true_and, and_true] at e1
  obtain ⟨-, -, er, ex, ey, -⟩ := e1
  rw [er, ex, ey] at h2
  exact ⟨kA, lf, rt, pr, lo, hi, root, cl, m, w 0, w 1, w 6, w 7, w 8, h2, fun i hi' => hne _ _ _ (e2 i hi') (by omega), e3, fun i hi' => ⟨hne _ _ _ (e4 i hi').1 (by omega), (e4 i hi').2⟩, e5, e6, e7, e8, e9, es, h4, h5⟩
theorem WM.es (hE : ESr H H' a) (hW : WM κ (fun _ => none) H a W) : WM κ (fun _ => none) H' a W := by
  obtain ⟨n, N, ky, vA, e1, e2, e3, e4, e5⟩ := hW
  obtain ⟨hk, v, w, r, x, y, h1, -⟩ := id hE
  exact ⟨n, N, ky, vA, e1.es hE, e2, e3, fun i hi => hk _ _ (e4 i hi) (fun z => by
    have := e4 i hi
    rw [z, h1] at this
    cases this), e5⟩
theorem ST.es (hE : ESr H H' a) (hS : ST κ H c A s l g W n bl) : ST κ H' c A s l g W n bl := by
  by_cases ha : A 38 = a
  · subst ha
    exact hS.map hE.1 (hS.2.2.2.2.2.2.1.es hE)
  · obtain ⟨hk, v, w, r, x, y, e1, -⟩ := hE
    obtain ⟨h1, h2, h3, h4, ⟨N, m, h5⟩, h6, h7, h8⟩ := hS
    have hcl : ∀ b ci fs, H b = some (.inl (ci, fs)) → ci ≠ 2 → H' b = some (.inl (ci, fs)) := fun b ci fs hb hci => hk b _ hb (fun z => by
      rw [z, e1] at hb
      cases hb
      exact hci rfl)
    have har : ∀ b x, H b = some (.inr x) → H' b = some (.inr x) := fun b x hb => hk b _ hb (fun z => by rw [z, e1] at hb; cases hb)
    have hAL : ∀ (a d n1 : Nat) (f : Nat → Option Nat) (m1 : Int32), AL κ H a d n1 f m1 → AL κ H' a d n1 f m1 := fun a d n1 f m1 hx => by
      obtain ⟨N1, F1, x1, x2, x3⟩ := hx
      exact ⟨N1, F1, hcl _ _ _ x1 (by omega), har _ _ x2, x3⟩
    refine ⟨h1, fun k hkk => hk _ _ (h2 k hkk) (fun z => ?_), ?_, h4, ⟨N, m, h5.keepc (fun b ci fs hb hci => hcl b ci fs hb (by omega))⟩, h6, ?_, ?_⟩
    · have := h2 k hkk
      rw [z, e1] at this
      have := mE_cl (Option.some.inj this).symm
      omega
    · obtain ⟨d0, m0, B, D, M, hS1, hS2⟩ := h3
      exact ⟨d0, m0, B, D, M, hAL _ _ _ _ _ hS1, fun q hq => hAL _ _ _ _ _ (hS2 q hq)⟩
    · obtain ⟨n2, N2, ky, vA, f1, f2, f3, f4, f5⟩ := h7
      obtain ⟨kA, lf, rt, pr, lo, hi, root, cl, m, v0, v1, v6, v7, v8, z1, z2, z3, z4, z5, z6, z7, z8, z9, es, z10, z11⟩ := f1
      exact ⟨n2, N2, ky, vA, ⟨kA, lf, rt, pr, lo, hi, root, cl, m, v0, v1, v6, v7, v8, hk _ _ z1 ha, fun i hi' => hcl _ _ _ (z2 i hi') (by omega), z3, fun i hi' => ⟨hcl _ _ _ (z4 i hi').1 (by omega), (z4 i hi').2⟩, z5, z6, z7, z8, z9, es, z10, fun q hq => hcl _ _ _ (z11 q hq) (by omega)⟩, f2, f3, fun i hi => hcl _ _ _ (f4 i hi) (by omega), f5⟩
    · obtain ⟨f1, f2, mm, x, dd, f3, f4⟩ := h8
      exact ⟨f1, f2, mm, x, dd, hcl _ _ _ f3 (by omega), f4⟩
theorem GL.es (hE : ESr H H' a) (hG : GL κ H c) : GL κ H' c := by
  obtain ⟨hk, v, w, r, x, y, e1, -⟩ := hE
  obtain ⟨⟨⟨C, f, eC, hf, hj⟩, hcI⟩, h2, F0, h3, h4⟩ := hG
  have hcl : ∀ b ci fs, H b = some (.inl (ci, fs)) → ci ≠ 2 → H' b = some (.inl (ci, fs)) := fun b ci fs hb hci => hk b _ hb (fun z => by
    rw [z, e1] at hb
    cases hb
    exact hci rfl)
  have har : ∀ b x, H b = some (.inr x) → H' b = some (.inr x) := fun b x hb => hk b _ hb (fun z => by rw [z, e1] at hb; cases hb)
  refine ⟨⟨⟨C, f, har _ _ eC, hf, fun j hj' => ?_⟩, fun b hb => hcl _ _ _ (hcI b hb) (by omega)⟩, h2, F0, har _ _ h3, h4⟩
  obtain ⟨q, q1, q2⟩ := hj j hj'
  exact ⟨q, q1, hcl _ _ _ q2 (by omega)⟩
theorem GL.mono (hE : Ext H H') (hG : GL κ H c) : GL κ H' c := by
  obtain ⟨h1, h2, F0, h3, h4⟩ := hG
  exact ⟨h1.mono hE, h2, F0, hE _ _ h3, h4⟩
/-- the heap's numbers' objects alone -/
noncomputable def icH (H : xH) (k1 : Nat) : xH := fun b => @ite _ (b = k1 ∨ ∃ fs, H b = some (.inl (14, fs))) (Classical.propDecidable _) (H b) none
theorem icH_e : Ext (icH H k) H := fun b e hb => by
  unfold icH at hb
  by_cases hc : b = k ∨ ∃ fs, H b = some (.inl (14, fs))
  · rw [if_pos hc] at hb; exact hb
  · rw [if_neg hc] at hb; cases hb
theorem icH_14 {fs : List Value} (hb : H b = some (.inl (14, fs))) : icH H k b = some (.inl (14, fs)) := by
  unfold icH
  rw [if_pos (Or.inr ⟨fs, hb⟩)]
  exact hb
theorem icH_no {e : xE} (hb : H b = some e) (h1 : ∀ fs, e ≠ .inl (14, fs)) (hk : b ≠ k) : icH H k b = none := by
  unfold icH
  rw [if_neg]
  rintro (z | ⟨fs, z⟩)
  · exact hk z
  · rw [hb] at z
    exact h1 _ (Option.some.inj z)
/-- a standing machine rides apart (for reading it) -/
theorem ST.mm (hG : GL κ H c) (hS : ST κ H c A s l g W n bl) : mput (mcut H A s l) A s l g = H ∧ MM κ A s l c W (icH H (κ 1)) n bl (mcut H A s l) := by
  obtain ⟨hA, h2, h3, ⟨h4a, h4b⟩, ⟨N, m, h5⟩, ⟨h6, h6b⟩, h7, h8⟩ := hS
  obtain ⟨hI, ⟨hκ1, hκ2⟩, F0, he2, hF0⟩ := hG
  have hI0 := hI
  obtain ⟨⟨C, f, eC, hf, hj⟩, hcI⟩ := hI
  have hcl : ∀ b ci fs, H b = some (.inl (ci, fs)) → ci ≠ 1 → ci ≠ 5 → mcut H A s l b = some (.inl (ci, fs)) := fun b ci fs hb c1 c5 => by
    rw [mcut_in (fun k hk z => ?_)]
    · exact hb
    · have := h2 k hk
      rw [z, hb] at this
      have := mE_cl (Option.some.inj this).symm
      omega
  have hcA : ∀ b C N F, H b = some (.inr (.object C, N, .inr (.inr (.inr (.inr F))))) → mcut H A s l b = some (.inr (.object C, N, .inr (.inr (.inr (.inr F))))) := fun b C N F hb => by
    rw [mcut_in (fun k hk z => ?_)]
    · exact hb
    · have := h2 k hk
      rw [z, hb] at this
      have hh := (Option.some.inj this).symm
      unfold mE at hh
      repeat' split at hh
      all_goals cases hh
  have hAL : ∀ (a d n1 : Nat) (f : Nat → Option Nat) (m1 : Int32), AL κ H a d n1 f m1 → AL κ (mcut H A s l) a d n1 f m1 := fun a d n1 f m1 hx => by
    obtain ⟨N1, F1, x1, x2, x3⟩ := hx
    exact ⟨N1, F1, hcl _ _ _ x1 (by omega) (by omega), hcA _ _ _ _ x2, x3⟩
  have hne1 : ∀ b ci fs, H b = some (.inl (ci, fs)) → b ≠ κ 1 := fun b ci fs hb z => by rw [z, eC] at hb; cases hb
  have hno : ∀ b ci fs, H b = some (.inl (ci, fs)) → ci ≠ 14 → icH H (κ 1) b = none := fun b ci fs hb hci => icH_no hb (fun fs z => by cases z; exact hci rfl) (hne1 b ci fs hb)
  refine ⟨mput_back hA h2, ⟨hA, mcut_D, ?_, h4a, h4b, hκ2, F0, hcA _ _ _ _ he2, hF0⟩, ⟨⟨C, f, ?_, hf, fun j hj' => ?_⟩, fun b hb => icH_14 (hcI b hb)⟩, fun b e hb => ?_, ⟨N, m, h5.keepc (fun b ci fs hb hci => hcl b ci fs hb (by omega) (by omega)), hno _ _ _ h5.1 (by omega), fun i hi => hno _ _ _ (h5.2.1 i hi) (by omega)⟩, h6, h6b, ?_, ?_⟩
  · obtain ⟨d0, m0, B, D, M, hS1, hS2⟩ := h3
    exact ⟨d0, m0, B, D, M, hAL _ _ _ _ _ hS1, fun q hq => hAL _ _ _ _ _ (hS2 q hq)⟩
  · unfold icH
    rw [if_pos (Or.inl rfl)]
    exact eC
  · obtain ⟨q, q1, q2⟩ := hj j hj'
    exact ⟨q, q1, icH_14 q2⟩
  · have hb0 := icH_e b e hb
    unfold icH at hb
    by_cases hc : b = κ 1 ∨ ∃ fs, H b = some (.inl (14, fs))
    · rcases hc with z | ⟨fs, z⟩
      · subst z
        rw [hb0] at eC
        cases eC
        exact hcA _ _ _ _ hb0
      · rw [hb0] at z
        cases z
        exact hcl _ _ _ hb0 (by omega) (by omega)
    · rw [if_neg hc] at hb; cases hb
  · have h7' := h7.keepC (h' := mcut H A s l) (fun b ci fs hb hci => hcl b ci fs hb (by omega) (by omega))
    obtain ⟨n2, N2, ky2, vA2, hT, -, -, z1, z2⟩ := h7'
    obtain ⟨n3, N3, ky3, vA3, hT3, -, -, -, -⟩ := h7
    refine ⟨n2, N2, ky2, vA2, hT, ?_, fun i hi => ?_, z1, z2⟩
    · obtain ⟨kA, lf, rt, pr, lo, hi, root, cl, m, v0, v1, v6, v7, v8, e1, -⟩ := hT3
      exact hno _ _ _ e1 (by omega)
    · obtain ⟨kA, lf, rt, pr, lo, hi', root, cl, m, v0, v1, v6, v7, v8, e1, e2, -⟩ := hT
      have en := e2 i hi
      have hn2 : H (N2 i) = some (tN N2 kA vA2 lf rt pr cl i) := by
        unfold mcut at en
        by_cases hc : ∃ k, mdm s l k ∧ A k = N2 i
        · rw [if_pos hc] at en; cases en
        · rw [if_neg hc] at en; exact en
      exact hno _ _ _ hn2 (by omega)
  · obtain ⟨f1, f2, mm, x, dd, f3, f4, f5⟩ := h8
    refine ⟨hno _ _ _ f3 (by omega), f2, mm, x, dd, hcl _ _ _ f3 (by omega) (by omega), ?_, f5⟩
    obtain ⟨d0, m0, B, D, M, hS1, hS2⟩ := h3
    obtain ⟨N1, F1, x1, x2, -⟩ := hS1
    rw [x1] at f3
    cases f3
    exact icH_no x2 (fun fs z => by cases z) (fun z => by omega)
end FL
