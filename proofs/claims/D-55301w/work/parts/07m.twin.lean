-- a machine's accesses
/-- a machine whose numbers ride apart: its sets and its latest blocks; what was in h0 stays -/
def MM (κ A : Nat → Nat) (s l : Nat) (c : Nat → Nat) (W : Nat → Int32) (h0 : xH) (n : Nat) (bl : Nat → Nat) (h : xH) : Prop := MB κ A s l h ∧ IC κ h0 c ∧ Ext h0 h ∧ (∃ N m, LL κ h (A 40) n N (fun i => c (bl i)) m ∧ h0 (A 40) = none ∧ ∀ i, i < n → h0 (N i) = none) ∧ (∀ i, i < n → bl i < 16) ∧ n ≤ 16 ∧ WM κ h0 h (A 38) W ∧ FS κ h0 h (A 39)
def n_cause (g : Nat → Int32) (bl : Nat → Nat) (n b s l : Nat) : Nat := if (g 233 >>> (nI b &&& 31)) &&& 1 = 0 then 0 else match n_idx bl n b with
  | none => 1
  | some i => if i < s * l then 2 else 1
def n_asked (g : Nat → Int32) (b : Nat) : Nat → Int32 := upd g (251 + b) (g (251 + b) + 1)
/-- the latest blocks when b is asked for -/
def n_lat (bl : Nat → Nat) (n b : Nat) : Nat → Nat := fun i => if i = 0 then b else (match n_idx bl n b with | none => bl (i - 1) | some p => if i ≤ p then bl (i - 1) else bl i)
def n_latN (bl : Nat → Nat) (n b : Nat) : Nat := match n_idx bl n b with | none => n + 1 | some _ => n
section D5
variable {W : Nat → Int32}
variable {κ A : Nat → Nat} {h h' h0 h1 H : xH} {g g' : Nat → Int32} {s l k j a b n i q T o : Nat} {c bl : Nat → Nat} {m : Int32} {w : Nat × Nat} {e : xE}
theorem IC.mono (hE : Ext h h') (hI : IC κ h c) : IC κ h' c := by
  obtain ⟨⟨C, f, e, hf, hj⟩, h2⟩ := hI
  refine ⟨⟨C, f, hE _ _ e, hf, fun j hj' => ?_⟩, fun b hb => hE _ _ (h2 b hb)⟩
  obtain ⟨q, e1, e2⟩ := hj j hj'
  exact ⟨q, e1, hE _ _ e2⟩
theorem LL.mono {N I : Nat → Nat} {a : Nat} (hE : Ext h h') (hL : LL κ h a n N I m) : LL κ h' a n N I m := by
  obtain ⟨e1, e2, e3⟩ := hL
  exact ⟨hE _ _ e1, fun i hi => hE _ _ (e2 i hi), e3⟩
theorem MM.ext (hE : Ext h h') (hD : mD A s l h') (hM : MM κ A s l c W h0 n bl h) : MM κ A s l c W h0 n bl h' := by
  obtain ⟨h1, h2, h3, ⟨N, m, h4, h5⟩, h6, h7, h8, h9⟩ := hM
  exact ⟨h1.ext hE hD, h2, h3.trans hE, ⟨N, m, h4.mono hE, h5⟩, h6, h7, h8.mono hE, h9.mono hE⟩
theorem n_idx_lt (h : n_idx bl n b = some i) : i < n ∧ bl i = b := by
  unfold n_idx at h
  refine ⟨List.mem_range.mp (List.mem_of_find?_eq_some h), ?_⟩
  have := List.find?_some h
  simpa using this
theorem cc_causeOf (hM : MM κ A s l c W h0 n bl h) (hl : g 2 = nI l) (hb : b < 16) (K : Int32 → xH → Prop) (hK : K (nI (n_cause g bl n b s l)) (mput h A s l g)) : P_X2_causeOf κ (A 5) (nI b) (mput h A s l g, w) K := by
  obtain ⟨⟨hA, hD, hS, ⟨hs1, hs4⟩, ⟨hl1, hl4⟩, -⟩, hI, hE, ⟨N, m, hL, -⟩, hbl, hn, -⟩ := hM
  have hX := mput_ext (g := g) hD
  have hIM := (hI.mono hE).mono hX
  unfold P_X2_causeOf
  unfold n_cause at hK
  rw [n_gi_9 hA]
  refine ⟨fun z => ?_, fun z => ?_⟩
  · rw [if_pos z, nI_0] at hK; exact hK
  · rw [if_neg z] at hK
    rw [n_gq_3 hA]
    refine c_pure (r := some (c b)) (fun w K hk => cc_valueOf hIM (by omega) K hk) ?_
    rw [t_nn, (hL.mono hX).rc, true_and]
    refine c_pure (r := oI (n_idx bl n b)) (fun w K hk => cc_indexOf hIM (hL.mono hX) (by omega) (fun i hi => by have := hbl i hi; omega) (by omega) K hk) ?_
    cases hx : n_idx bl n b with
    | none =>
      rw [hx] at hK
      exact ⟨fun _ => hK, fun z => absurd rfl z⟩
    | some i =>
      rw [hx] at hK
      have hi := (n_idx_lt hx).1
      obtain ⟨d0, m0, B, D, M, hS1, -⟩ := hS
      refine ⟨fun z => absurd z (nI_ne i (by omega)), fun _ => ?_⟩
      rw [n_gq_2 hA, t_nn, (hS1.mono hX).rc, true_and]
      refine c_pure (r := nI s) (fun w K hk => cc_size4 (hS1.mono hX) K hk) ?_
      have hsl : s * l ≤ 16 := Nat.mul_le_mul hs4 hl4
      rw [n_gi_8 hA, hl, nI_mul]
      show (nI i < nI (s * l) → _) ∧ (¬ nI i < nI (s * l) → _)
      rw [nI_ltI (by omega) (by omega)]
      refine ⟨fun z => ?_, fun z => ?_⟩
      · have hK : K (nI (if i < s * l then 2 else 1)) (mput h A s l g) := hK
        rw [if_pos z] at hK; exact hK
      · have hK : K (nI (if i < s * l then 2 else 1)) (mput h A s l g) := hK
        rw [if_neg z] at hK; exact hK
/-- a change of the latest blocks: the numbers and all but the list's nodes stay -/
theorem MM.back {n' : Nat} {bl' : Nat → Nat} {N N' : Nat → Nat} {m' : Int32} (hM : MM κ A s l c W h0 n bl h) (hL0 : LL κ h (A 40) n N (fun i => c (bl i)) m) (hf1 : h0 (A 40) = none) (hf2 : ∀ i, i < n → h0 (N i) = none)
    (hL : LL κ H (A 40) n' N' (fun i => c (bl' i)) m') (hfr : ∀ b e, mput h A s l g b = some e → b ≠ A 40 → (∀ i, i < n → N i ≠ b) → H b = some e) (hN' : ∀ i, i < n' → h0 (N' i) = none) (hNA : ∀ k, mdm s l k → ∀ i, i < n' → A k ≠ N' i) (hbl' : ∀ i, i < n' → bl' i < 16) (hn' : n' ≤ 16) :
    mput (mcut H A s l) A s l g = H ∧ MM κ A s l c W h0 n' bl' (mcut H A s l) := by
  obtain ⟨⟨hA, hD, hS, hs, hl, hκ2, F0, he2, hF0⟩, hI, hE, -, hbl, hn, hW, hF⟩ := hM
  obtain ⟨e1, e2, e3, e4, e5⟩ := hL0
  have hHA : ∀ k, mdm s l k → H (A k) = some (mE A g k) := fun k hk => hfr _ _ (mput_k hA hk) (fun z => hD.ne e1 k hk z) (fun i hi z => hD.ne (e2 i hi) k hk z.symm)
  -- what is in h but the list's own
  have hin : ∀ b e, h b = some e → b ≠ A 40 → (∀ i, i < n → N i ≠ b) → mcut H A s l b = some e := fun b e hb h1 h2 => by
    rw [mcut_in (hD.ne hb)]
    exact hfr b e (mput_in hD hb) h1 h2
  have hkp : ∀ b e, h b = some e → (∀ fs, e ≠ .inl (4, fs)) → (∀ fs, e ≠ .inl (6, fs)) → mcut H A s l b = some e := fun b e hb k4 k6 => hin b e hb (fun z => by rw [z, e1] at hb; exact k4 _ (Option.some.inj hb).symm) (fun i hi z => by rw [← z, e2 i hi] at hb; exact k6 _ (Option.some.inj hb).symm)
  have hAL : ∀ (a d n1 : Nat) (f : Nat → Option Nat) (m1 : Int32), AL κ h a d n1 f m1 → AL κ (mcut H A s l) a d n1 f m1 := fun a d n1 f m1 hx => by
    obtain ⟨N1, F1, x1, x2, x3⟩ := hx
    refine ⟨N1, F1, hin _ _ x1 (fun z => ?_) (fun i hi z => ?_), hin _ _ x2 (fun z => ?_) (fun i hi z => ?_), x3⟩
    · rw [z, e1] at x1; cases x1
    · rw [← z, e2 i hi] at x1; cases x1
    · rw [z, e1] at x2; cases x2
    · rw [← z, e2 i hi] at x2; cases x2
  refine ⟨mput_back hA hHA, ⟨hA, mcut_D, ?_, hs, hl, hκ2, F0, hin _ _ he2 (fun z => ?_) (fun i hi z => ?_), hF0⟩, hI, fun b e hb => hin b e (hE b e hb) (fun z => ?_) (fun i hi z => ?_), ⟨N', m', ?_, hf1, hN'⟩, hbl', hn', hW.keep hkp, hF.keep hkp⟩
  · obtain ⟨d0, m0, B, D, M, hS1, hS2⟩ := hS
    exact ⟨d0, m0, B, D, M, hAL _ _ _ _ _ hS1, fun q hq => hAL _ _ _ _ _ (hS2 q hq)⟩
  · rw [z, e1] at he2; cases he2
  · rw [← z, e2 i hi] at he2; cases he2
  · rw [z, hf1] at hb; cases hb
  · rw [← z, hf2 i hi] at hb; cases hb
  · obtain ⟨y1, y2, y3⟩ := hL
    have h40 : ∀ k, mdm s l k → A k ≠ A 40 := hD.ne e1
    exact ⟨by rw [mcut_in h40]; exact y1, fun i hi => by rw [mcut_in (fun k hk => hNA k hk i hi)]; exact y2 i hi, y3⟩
theorem cc_counts (hM : MM κ A s l c W h0 n bl h) (hb : b < 16) (hn16 : n_latN bl n b ≤ 16) {c0 s0 : Nat} (hc : 1 ≤ c0) (hs : 3 ≤ s0) (K : Unit → xH → Prop) (hK : ∀ h', MM κ A s l c W h0 (n_latN bl n b) (n_lat bl n b) h' → K () (mput h' A s l (n_asked g b))) : P_X2_counts κ (A 5) (nI b) (mput h A s l g, c0, s0) K := by
  have hM0 := hM
  obtain ⟨⟨hA, hD, hS, hss, hll, hκ2, F0, he2, hF0⟩, hI, hE, ⟨N, m, hL, hf1, hf2⟩, hbl, hn, -⟩ := hM
  have hX := mput_ext (g := g) hD
  have hIM := (hI.mono hE).mono hX
  have hLM := hL.mono hX
  unfold P_X2_counts
  rw [n_gq_3 hA]
  refine c_pure (r := some (c b)) (fun w K hk => cc_valueOf hIM (by omega) K hk) ?_
  rw [t_nn, hLM.rc, true_and]
  -- behind remove: the list without b
  have rest : ∀ (h1 : xH) (n1 : Nat) (bl1 : Nat → Nat) (v : Int32), MM κ A s l c W h0 n1 bl1 h1 → n1 + 1 = n_latN bl n b → (fun i => if i = 0 then b else bl1 (i - 1)) = n_lat bl n b →
      (xgq (mput h1 A s l g, c0, s0) (A 5) 1 3 fun v7 => xcall (fun τ L => P_J23_valueOf κ (nI b) τ L) (mput h1 A s l g, c0, s0) fun v8 σ9 => xnn v7 fun b10 => xrc σ9 b10 4 ∧ xcall (fun τ L => P_J6_addFirst κ b10 v8 τ L) σ9 fun _ σ11 => xgq σ11 (A 5) 1 5 fun v12 => xnn v12 fun b13 => xai .int σ11 b13 (nI b) fun v14 => xsi κ .int σ11 b13 (nI b) (v14 + (1 : Int32)) fun σ15 => K () σ15.1) := by
    intro h1 n1 bl1 v hM1 hn1 hbl1
    have hM1' := hM1
    obtain ⟨⟨-, hD1, -⟩, -, hE1, ⟨N1, m1, hL1, hg1, hg2⟩, hb1, hn1', -⟩ := hM1
    have hX1 := mput_ext (g := g) hD1
    rw [n_gq_3 hA]
    refine c_pure (r := some (c b)) (fun w K hk => cc_valueOf ((hI.mono hE1).mono hX1) (by omega) K hk) ?_
    rw [t_nn, (hL1.mono hX1).rc, true_and]
    refine c_call 1 3 hc hs (cc_addFirst (hL1.mono hX1) (Nat.le_refl _) (Nat.le_refl _) _ (fun H q hq hLH hfr hno => ?_))
    obtain ⟨hqA, hqn⟩ := mput_none hA hq
    have hq0 : h0 q = none := by
      cases hh : h0 q with
      | none => rfl
      | some e => rw [hE1 _ _ hh] at hqn; cases hqn
    have eI : (fun i => if i = 0 then c b else (fun i => c (bl1 i)) (i - 1)) = fun i => c ((fun i => if i = 0 then b else bl1 (i - 1)) i) := by
      funext i
      by_cases hi : i = 0 <;> simp [hi]
    rw [eI] at hLH
    have hN1A : ∀ k, mdm s l k → ∀ i, i < n1 → A k ≠ N1 i := fun k hk i hi => hD1.ne (hL1.2.1 i hi) k hk
    obtain ⟨hH, hMM⟩ := hM1'.back hL1 hg1 hg2 hLH hfr (fun i hi => by
      show h0 (if i = 0 then q else N1 (i - 1)) = none
      split
      · exact hq0
      · exact hg2 _ (by omega)) (fun k hk i hi => by
      show A k ≠ (if i = 0 then q else N1 (i - 1))
      split
      · exact hqA k hk
      · exact hN1A k hk _ (by omega)) (fun i hi => by
      show (if i = 0 then b else bl1 (i - 1)) < 16
      split
      · exact hb
      · exact hb1 _ (by omega)) (by omega)
    rw [hn1, hbl1] at hMM
    rw [← hH, n_gq_5 hA, t_nn, n_ai_2 hA hb, n_si_2 hA hb]
    exact hK _ hMM
  refine ⟨0, 0, Nat.zero_le _, Nat.zero_le _, cc_remove6 hIM hLM (by omega) (fun i hi => by have := hbl i hi; omega) (by omega) _ (fun hx => ?_) (fun p hx hp H hLH hfr hno => ?_)⟩
  · refine rest h n bl 0 hM0 (by unfold n_latN; rw [hx]) ?_
    funext i
    unfold n_lat
    rw [hx]
  · have eI : l_out (fun i => c (bl i)) p = fun i => c (l_out bl p i) := by
      funext i
      unfold l_out
      split <;> rfl
    rw [eI] at hLH
    obtain ⟨hH, hMM⟩ := hM0.back hL hf1 hf2 hLH hfr (fun i hi => by
      show h0 (if i < p then N i else N (i + 1)) = none
      split <;> exact hf2 _ (by omega)) (fun k hk i hi => by
      show A k ≠ (if i < p then N i else N (i + 1))
      split <;> exact hD.ne (hL.2.1 _ (by omega)) k hk) (fun i hi => by
      show (if i < p then bl i else bl (i + 1)) < 16
      split <;> exact hbl _ (by omega)) (by omega)
    show xgq (H, c0, s0) (A 5) 1 3 _
    rw [← hH]
    refine rest (mcut H A s l) (n - 1) (l_out bl p) 1 hMM (by unfold n_latN; rw [hx]; show n - 1 + 1 = n; omega) ?_
    funext i
    unfold n_lat l_out
    rw [hx]
    by_cases hi : i = 0
    · rw [if_pos hi, if_pos hi]
    · rw [if_neg hi, if_neg hi]
      by_cases hip : i ≤ p
      · show (if i - 1 < p then bl (i - 1) else bl (i - 1 + 1)) = if i ≤ p then bl (i - 1) else bl i
        rw [if_pos (by omega), if_pos hip]
      · show (if i - 1 < p then bl (i - 1) else bl (i - 1 + 1)) = if i ≤ p then bl (i - 1) else bl i
        rw [if_neg (by omega), if_neg hip]
        congr 1
        omega
end D5
