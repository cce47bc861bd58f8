-- what was written: Integer.valueOf of any number, the map within the machine
theorem w_small (x : Int32) (h1 : ¬ x < -128) (h2 : ¬ 127 < x) : ∃ j : Nat, j < 256 ∧ x = nI j - 128 := by
  rw [Int32.lt_iff_toInt_lt] at h1 h2
  have e1 : (-128 : Int32).toInt = -128 := by decide
  have e2 : (127 : Int32).toInt = 127 := by decide
  have e3 : (128 : Int32).toInt = 128 := by decide
  rw [e1] at h1
  rw [e2] at h2
  refine ⟨(x.toInt + 128).toNat, by omega, ?_⟩
  apply Int32.toInt_inj.mp
  rw [Int32.toInt_sub, nI_toInt (by omega), e3, Int.toNat_of_nonneg (by omega), show x.toInt + 128 - 128 = x.toInt by omega, Int.bmod_eq_of_le (by omega) (by omega)]
section FD
variable {κ A : Nat → Nat} {h h' h0 H : xH} {g : Nat → Int32} {s l r a b d n q k o T : Nat} {c bl : Nat → Nat} {W W' : Nat → Int32} {w : Nat × Nat}
theorem cc_newInt (x : Int32) {c0 s0 : Nat} (hc : 1 ≤ c0) (hs : 1 ≤ s0) (K : Option Nat → xH → Prop) (hK : ∀ q h', h' q = some (.inl (14, [.int x])) → Ext h h' → (∀ b, h' b ≠ h b → h b = none ∧ h' b = some (.inl (14, [.int x]))) → K (some q) h') : xnew κ (h, c0, s0) 14 1 [.int 0] fun q1 σ2 => xcall (fun τ L => P_J23_init κ q1 x τ L) σ2 fun _ σ3 => K (some q1) σ3.1 := by
  refine ⟨hc, hs, fun q hq hκ => ?_⟩
  have hq : h q = none := hq
  refine ⟨0, 0, Nat.zero_le _, Nat.zero_le _, ?_⟩
  unfold P_J23_init
  refine c_pure (r := ()) (fun w K hk => hk) ?_
  show xpi κ (xup h q _, _) q 14 0 x _
  rw [g_pi xup_eq hκ (by simp), xup_xup]
  show K (some q) (xup h q (.inl (14, [.int x])))
  refine hK q _ xup_eq (Ext.new hq) (fun b hb => ?_)
  by_cases e : b = q
  · rw [e]; exact ⟨hq, xup_eq⟩
  · rw [xup_ne e] at hb; exact absurd rfl hb
theorem cc_valueOfN (hI : IC κ h c) (x : Int32) {c0 s0 : Nat} (hc : 1 ≤ c0) (hs : 1 ≤ s0) (K : Option Nat → xH → Prop) (hK : ∀ q h', h' q = some (.inl (14, [.int x])) → Ext h h' → (∀ b, h' b ≠ h b → h b = none ∧ h' b = some (.inl (14, [.int x]))) → K (some q) h') : P_J23_valueOf κ x (h, c0, s0) K := by
  have hI0 := hI
  obtain ⟨⟨C, f, e, hf, hj⟩, h2⟩ := hI
  unfold P_J23_valueOf
  refine ⟨fun _ => cc_newInt x hc hs K hK, fun z1 => ⟨fun _ => cc_newInt x hc hs K hK, fun z2 => ?_⟩⟩
  obtain ⟨j, hj256, rfl⟩ := w_small x z1 z2
  have e1 : nI j - (128 : Int32) + (128 : Int32) = nI j := Int32.sub_add_cancel _ _
  rw [e1, g_aq e (by omega) (by omega)]
  by_cases hlt : j < 128
  · obtain ⟨q, q1, q2⟩ := hj j hlt
    rw [q1]
    exact hK q h q2 Ext.rfl (fun b hb => absurd rfl hb)
  · have := hf (j - 128) (by omega)
    rw [show j - 128 + 128 = j by omega] at this
    rw [this]
    refine hK (c (j - 128)) h ?_ Ext.rfl (fun b hb => absurd rfl hb)
    rw [h2 _ (by omega)]
    have e2 : nI j - (128 : Int32) = nI (j - 128) := nI_sub (y := 128) (by omega)
    rw [e2]
theorem mE_cl {k : Nat} {ci : Nat} {fs : List Value} (hE : mE A g k = .inl (ci, fs)) : ci = 1 ∨ ci = 5 := by
  unfold mE at hE
  repeat' split at hE
  all_goals first | (cases hE; done) | (simp only [Sum.inl.injEq, Prod.mk.injEq] at hE; omega)
theorem TM.keepC {N ky vA : Nat → Nat} (hk : ∀ b ci fs, h b = some (.inl (ci, fs)) → (ci = 2 ∨ ci = 19 ∨ ci = 14 ∨ ci = 12) → h' b = some (.inl (ci, fs))) (hT : TM κ h a n N ky vA) : TM κ h' a n N ky vA := by
  obtain ⟨kA, lf, rt, pr, lo, hi, root, cl, m, v0, v1, v6, v7, v8, e1, e2, e3, e4, e5, e6, e7, e8, e9, es, e10, e11⟩ := hT
  exact ⟨kA, lf, rt, pr, lo, hi, root, cl, m, v0, v1, v6, v7, v8, hk _ _ _ e1 (Or.inl rfl), fun i hi' => hk _ _ _ (e2 i hi') (Or.inr (Or.inl rfl)), e3, fun i hi' => ⟨hk _ _ _ (e4 i hi').1 (Or.inr (Or.inr (Or.inl rfl))), (e4 i hi').2⟩, e5, e6, e7, e8, e9, es, e10, fun q hq => hk _ _ _ (e11 q hq) (Or.inr (Or.inr (Or.inr rfl)))⟩
theorem WM.keepC (hk : ∀ b ci fs, h b = some (.inl (ci, fs)) → (ci = 2 ∨ ci = 19 ∨ ci = 14 ∨ ci = 12) → h' b = some (.inl (ci, fs))) (hW : WM κ h0 h a W) : WM κ h0 h' a W := by
  obtain ⟨n, N, ky, vA, e1, e2, e3, e4, e5⟩ := hW
  exact ⟨n, N, ky, vA, e1.keepC hk, e2, e3, fun i hi' => hk _ _ _ (e4 i hi') (Or.inr (Or.inr (Or.inl rfl))), e5⟩
/-- a change of the map: the numbers, the sets and the list stay -/
theorem MM.write (hM : MM κ A s l c W h0 n bl h) (hfr : FrM (mput h A s l g) H) (hE : Ext h0 H) (hW' : WM κ h0 H (A 38) W') : mput (mcut H A s l) A s l g = H ∧ MM κ A s l c W' h0 n bl (mcut H A s l) := by
  obtain ⟨⟨hA, hD, hS, hs, hl, hκ2, F0, he2, hF0⟩, hI, hE0, ⟨N, m, ⟨e1, e2, e3, e4, e5⟩, hf1, hf2⟩, hbl, hn, hW, hF⟩ := hM
  have hHA : ∀ k, mdm s l k → H (A k) = some (mE A g k) := fun k hk => hfr _ _ (mput_k hA hk) (fun fs z => by have := mE_cl z; omega) (fun fs z => by have := mE_cl z; omega)
  have hin : ∀ b e, h b = some e → (∀ fs, e ≠ .inl (2, fs)) → (∀ fs, e ≠ .inl (19, fs)) → mcut H A s l b = some e := fun b e hb k2 k19 => by
    rw [mcut_in (hD.ne hb)]
    exact hfr b e (mput_in hD hb) k2 k19
  have hAL : ∀ (a d n1 : Nat) (f : Nat → Option Nat) (m1 : Int32), AL κ h a d n1 f m1 → AL κ (mcut H A s l) a d n1 f m1 := fun a d n1 f m1 hx => by
    obtain ⟨N1, F1, x1, x2, x3⟩ := hx
    exact ⟨N1, F1, hin _ _ x1 (fun fs z => by cases z) (fun fs z => by cases z), hin _ _ x2 (fun fs z => by cases z) (fun fs z => by cases z), x3⟩
  have hcut : ∀ b ci fs, H b = some (.inl (ci, fs)) → (ci = 2 ∨ ci = 19 ∨ ci = 14 ∨ ci = 12) → mcut H A s l b = some (.inl (ci, fs)) := fun b ci fs hb hci => by
    rw [mcut_in (fun k hk z => ?_)]
    · exact hb
    · have h1 := hHA k hk
      rw [z, hb] at h1
      have := mE_cl (Option.some.inj h1).symm
      omega
  have hEc : Ext h0 (mcut H A s l) := fun b e hb => by
    rw [mcut_in (hD.ne (hE0 b e hb))]
    exact hE b e hb
  refine ⟨mput_back hA hHA, ⟨hA, mcut_D, ?_, hs, hl, hκ2, F0, hin _ _ he2 (fun fs z => by cases z) (fun fs z => by cases z), hF0⟩, hI, hEc, ⟨N, m, ⟨hin _ _ e1 (fun fs z => by unfold lO at z; cases z) (fun fs z => by unfold lO at z; cases z), fun i hi => hin _ _ (e2 i hi) (fun fs z => by unfold lND at z; cases z) (fun fs z => by unfold lND at z; cases z), e3, e4, e5⟩, hf1, hf2⟩, hbl, hn, hW'.keepC hcut, ?_⟩
  · obtain ⟨d0, m0, B, D, M, hS1, hS2⟩ := hS
    exact ⟨d0, m0, B, D, M, hAL _ _ _ _ _ hS1, fun q hq => hAL _ _ _ _ _ (hS2 q hq)⟩
  · obtain ⟨f1, f2, m, x, d, f3, f4⟩ := hF
    exact ⟨f1, f2, m, x, d, hin _ _ f3 (fun fs z => by cases z) (fun fs z => by cases z), f4⟩
theorem cc_written (hM : MM κ A s l c W h0 n bl h) (hk : k < 64) (u : Int32) {c0 s0 : Nat} (hc : 2 ≤ c0) (hs : 7 ≤ s0) {L : xS → Prop} (hL : ∀ h' w', MM κ A s l c (upd W k u) h0 n bl h' → L (mput h' A s l g, w')) :
    xgq (mput h A s l g, c0, s0) (A 5) 1 1 fun v18 => xcall (fun τ L => P_J23_valueOf κ (nI k) τ L) (mput h A s l g, c0, s0) fun v19 σ20 => xcall (fun τ L => P_J23_valueOf κ u τ L) σ20 fun v21 σ22 => xnn v18 fun b23 => xrc σ22 b23 2 ∧ xcall (fun τ L => P_J1_put κ b23 v19 v21 τ L) σ22 fun _ σ25 => L σ25 := by
  have hA := hM.1.1
  have hD := hM.1.2.1
  have hE := hM.2.2.1
  have hX := mput_ext (g := g) hD
  have hIM := (hM.2.1.mono hE).mono hX
  rw [n_gq_1 hA]
  refine c_pure (r := some (c k)) (fun w K hk' => cc_valueOf hIM (by omega) K hk') ?_
  refine c_call 1 1 (by omega) (by omega) (cc_valueOfN hIM u (Nat.le_refl _) (Nat.le_refl _) _ (fun q H2 hq hE2 _ => ?_))
  have hW2 : WM κ h0 H2 (A 38) W := (hM.2.2.2.2.2.2.1.mono hX).mono hE2
  have hrc2 : ∃ fs, H2 (A 38) = some (.inl (2, fs)) := by
    obtain ⟨n2, N2, ky2, vA2, hT, -⟩ := hW2
    obtain ⟨kA, lf, rt, pr, lo, hi, root, cl, m, v0, v1, v6, v7, v8, e1, -⟩ := hT
    exact ⟨_, e1⟩
  obtain ⟨fs2, efs2⟩ := hrc2
  show xnn (some (A 38)) _
  rw [t_nn, g_rc efs2, true_and]
  refine c_call 1 6 (by omega) (by omega) (cc_put hW2 ((hE.trans hX).trans hE2) (hE2 _ _ (hIM.2 k (by omega))) hk hq (Nat.le_refl _) (Nat.le_refl _) _ (fun r H3 hW3 hE3 hF3 => ?_))
  obtain ⟨hH, hMM⟩ := hM.write (g := g) (fun b e hb k2 k19 => hF3 b e (hE2 b e hb) k2 k19) hE3 hW3
  rw [← hH]
  exact hL _ _ hMM
end FD
