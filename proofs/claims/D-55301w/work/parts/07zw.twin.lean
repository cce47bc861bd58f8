-- Machine(Machine)
def n_cpy (g gO : Nat → Int32) (o N : Nat) : Nat → Int32 := fun j => if o ≤ j ∧ j < o + N then gO j else g j
section FN
variable {κ A A' Ao BB DD L Wd : Nat → Nat} {h h' h0 H H' H0 H1 H2 H3 X Hq : xH} {g g' gO W W' : Nat → Int32} {s l r a a2 b d d1 n q k o T mach i D N src : Nat} {c bl : Nat → Nat} {w : Nat × Nat} {m m1 m2 M M0 Ms : Int32}
theorem mput_cg (he : ∀ k, mdm s l k → ∀ j, mS k j → g' j = g j) : mput h A s l g' = mput h A s l g := by
  funext b
  unfold mput
  cases hf : (List.range 38).find? (fun k => @decide (mdm s l k ∧ A k = b) (Classical.propDecidable _)) with
  | none => rfl
  | some k =>
    have h1 := List.find?_some hf
    simp only [decide_eq_true_eq] at h1
    show some (mE A g' k) = some (mE A g k)
    rw [mE_congr (mdm_lt h1.1) (he k h1.1)]
theorem n_cp (hA : mOK κ A s l) (hk : k < 5) (hmE : ∀ g, mE A g k = .inr (.int, N, .inl (m_arr g o N))) (hms : ∀ j, ¬ mS k j → ¬ (o ≤ j ∧ j < o + N)) (hN : N ≤ 64) (hsrc : mput h A s l g src = some (.inr (.int, N, .inl (m_arr gO o N)))) (lit : Int32) (hlit : lit = nI N) {K : xS → Prop} (hK : K (mput h A s l (n_cpy g gO o N), w)) : xcpi κ .int (mput h A s l g, w) src 0 (A k) 0 lit K := by
  have hmk : mdm s l k := md (by omega)
  have c0' : (0 : Int32).toNatClampNeg = 0 := by decide
  have cN : lit.toNatClampNeg = N := by rw [hlit]; exact nI_clamp (by omega)
  refine ⟨N, _, N, _, hsrc, (mput_k hA hmk).trans (by rw [hmE g]), hA.1 _ hmk, by decide, by decide, by rw [hlit]; exact nI_pos (by omega), by rw [c0', cN]; omega, by rw [c0', cN]; omega, fun i hi => rfl, ?_⟩
  rw [c0', cN]
  have e : va_cpy (m_arr gO o N) (m_arr g o N) 0 0 N = m_arr (n_cpy g gO o N) o N := by
    funext i
    unfold va_cpy
    by_cases hi : i < N
    · rw [if_pos (by omega), m_arr_i (by omega), m_arr_i hi]
      unfold n_cpy
      rw [if_pos (by omega)]
      congr 1
      omega
    · rw [if_neg (by omega)]
      unfold m_arr
      rw [if_neg hi, if_neg hi]
  rw [e]
  have := mput_up (h := h) (g := g) (g' := n_cpy g gO o N) hA hmk (fun j hj => by unfold n_cpy; rw [if_neg (hms j hj)])
  rw [hmE] at this
  rw [this]
  exact hK
/-- the heap with a new machine's parts, as it was before them -/
noncomputable def oldH (H : xH) (A Q : Nat → Nat) (n : Nat) : xH := fun b => @ite _ ((∃ k, k < 6 ∧ A k = b) ∨ b = A 38 ∨ b = A 39 ∨ b = A 40 ∨ ∃ i, i < n ∧ Q i = b) (Classical.propDecidable _) none (H b)
theorem oldH_in {e : xE} {Q : Nat → Nat} (hb : H b = some e) (h1 : ∀ k, k < 6 → A k ≠ b) (h2 : b ≠ A 38) (h3 : b ≠ A 39) (h4 : b ≠ A 40) (h5 : ∀ i, i < n → Q i ≠ b) : oldH H A Q n b = some e := by
  unfold oldH
  rw [if_neg]
  · exact hb
  · rintro (⟨k, z1, z2⟩ | z | z | z | ⟨i, z1, z2⟩)
    · exact h1 k z1 z2
    · exact h2 z
    · exact h3 z
    · exact h4 z
    · exact h5 i z1 z2
theorem oldH_e {Q : Nat → Nat} : Ext (oldH H A Q n) H := fun b e hb => by
  unfold oldH at hb
  by_cases hc : (∃ k, k < 6 ∧ A k = b) ∨ b = A 38 ∨ b = A 39 ∨ b = A 40 ∨ ∃ i, i < n ∧ Q i = b
  · rw [if_pos hc] at hb; cases hb
  · rw [if_neg hc] at hb; exact hb
theorem oldH_no {Q : Nat → Nat} (hc : (∃ k, k < 6 ∧ A k = b) ∨ b = A 38 ∨ b = A 39 ∨ b = A 40 ∨ ∃ i, i < n ∧ Q i = b) : oldH H A Q n b = none := by
  unfold oldH
  rw [if_pos hc]
/-- without the list of latest blocks -/
def no40 (H : xH) (a : Nat) : xH := fun b => if b = a then none else H b
theorem no40_e : Ext (no40 H a) H := fun b e hb => by
  unfold no40 at hb
  by_cases hc : b = a
  · rw [if_pos hc] at hb; cases hb
  · rw [if_neg hc] at hb; exact hb
theorem no40_in {e : xE} (hb : H b = some e) (hne : b ≠ a) : no40 H a b = some e := by
  unfold no40
  rw [if_neg hne]
  exact hb
def g_ln (g gO : Nat → Int32) : Nat → Int32 := fun j => if 73 ≤ j ∧ j < 233 then gO j else g j
theorem cpy_fin {g1 : Nat → Int32} (hg1 : n_cpy (fun _ => 0) gO 5 64 = g1) (j : Nat) (hj : (5 ≤ j ∧ j < 233) ∨ (251 ≤ j ∧ j < 293) ∨ j = 0 ∨ j = 2 ∨ j = 3 ∨ j = 4 ∨ j = 233) :
    upd (upd (upd (upd (upd (upd (upd (upd (upd (upd (upd (upd (n_cpy (n_cpy (n_cpy (n_cpy (g_ln g1 gO) gO 69 4) gO 251 16) gO 267 16) gO 286 3) 2 (gO 2)) 233 (gO 233)) 0 (gO 0)) 3 (gO 3)) 4 (gO 4)) 283 (gO 283)) 284 (gO 284)) 285 (gO 285)) 289 (gO 289)) 290 (gO 290)) 291 (gO 291)) 292 (gO 292) j = gO j := by
  have u : ∀ (g : Nat → Int32) (k : Nat), (j ≠ k → g j = gO j) → upd g k (gO k) j = gO j := fun g k h => by
    by_cases e : j = k
    · rw [e, upd_eq]
    · rw [upd_ne e]; exact h e
  have v : ∀ (g : Nat → Int32) (o N : Nat), (¬ (o ≤ j ∧ j < o + N) → g j = gO j) → n_cpy g gO o N j = gO j := fun g o N h => by
    unfold n_cpy
    by_cases e : o ≤ j ∧ j < o + N
    · rw [if_pos e]
    · rw [if_neg e]; exact h e
  refine u _ _ (fun a1 => u _ _ (fun a2 => u _ _ (fun a3 => u _ _ (fun a4 => u _ _ (fun a5 => u _ _ (fun a6 => u _ _ (fun a7 => u _ _ (fun a8 => u _ _ (fun a9 => u _ _ (fun a10 => u _ _ (fun a11 => u _ _ (fun a12 => v _ _ _ (fun b1 => v _ _ _ (fun b2 => v _ _ _ (fun b3 => v _ _ _ (fun b4 => ?_))))))))))))))))
  unfold g_ln
  by_cases e : 73 ≤ j ∧ j < 233
  · rw [if_pos e]
  · rw [if_neg e, ← hg1]
    exact v _ _ _ (fun b5 => by omega)
theorem cc_copy (hG : GL κ H c) (hS : ST κ H c Ao s l gO W n bl) (hp : ∀ a, lin s l a → gO (105 + a) = 0 ∨ gO (105 + a) = 1) (h4 : gO 4 = 0 ∨ gO 4 = 1) (hm : H mach = none) (hκm : κ 0 ≤ mach) {c0 s0 : Nat} (hc : 180 ≤ c0) (hs : 34000 ≤ s0) (K : Unit → xH → Prop)
    (hK : ∀ A h0 h', A 5 = mach → ESr H h0 (Ao 38) → MM κ A s l c W h0 n bl h' → h0 mach = none → K () (mput h' A s l gO)) : P_X2_init_2 κ mach (some (Ao 5)) (xup H mach (.inl (1, mZ)), c0, s0) K := by
  obtain ⟨hAo, hat, hSA, ⟨⟨hs1, hs4⟩, hl1, hl4⟩, ⟨No, mo, hLo⟩, ⟨hbl, hn⟩, hWo, hFo⟩ := id hS
  obtain ⟨hI, ⟨hκ1, hκ2⟩, F0, he2, hF0⟩ := hG
  have hXe : Ext H (xup H mach (.inl (1, mZ))) := Ext.new hm
  have hne : ∀ b e, H b = some e → b ≠ mach := fun b e hb z => by rw [z, hm] at hb; cases hb
  unfold P_X2_init_2
  refine cc_skel xup_eq hκm hκ2 (hXe _ _ he2) hF0 (by omega) (by omega) (fun A h A5 hA hD hno hT0 hAL39 hκ39 e40 hκ40 hfr => ?_)
  have md0 : ∀ k, k < 6 → mdm 0 0 k := fun k hk => Or.inl hk
  have hHh : ∀ b e, H b = some e → h b = some e := fun b e hb => hfr b e (hXe b e hb) (hne b e hb)
  have hHm : ∀ g b e, H b = some e → mput h A 0 0 g b = some e := fun g b e hb => mput_in hD (hHh b e hb)
  have hHno : ∀ k, k = 0 ∨ k = 1 ∨ k = 2 ∨ k = 3 ∨ k = 4 ∨ k = 38 ∨ k = 39 ∨ k = 40 → H (A k) = none := fun k hk => hXe.none (hno k hk)
  have eo : H (Ao 5) = some (.inl (1, mFs Ao gO)) := hat 5 (md (by omega))
  have e5 : mach = A 5 := A5.symm
  rw [t_nn, g_gq (r := some (Ao 0)) (hHm _ _ _ eo) rfl]
  rw [e5, n_gq_0 hA, t_nn, t_nn]
  refine n_cp (k := 0) (o := 5) (N := 64) (gO := gO) hA (by omega) (fun g => rfl) (fun j hj => by unfold mS at hj; omega) (by omega) (hHm _ _ _ (hat 0 (md (by omega)))) 64 rfl ?_
  rw [n_gq_1 hA, g_gq (r := some (Ao 38)) (hHm _ _ _ eo) rfl, t_nn]
  generalize hg1 : n_cpy (fun _ => 0) gO 5 64 = g1
  -- the maps
  obtain ⟨nm, Nm, ky, vA, hTo, -, -, hvo, hzo⟩ := hWo
  obtain ⟨kA, T, lo, hi, cl, mm, vv, hTO⟩ := TM_op (hTo.keepC (h' := mput h A 0 0 g1) (fun b ci fs hb _ => hHm _ _ _ hb))
  obtain ⟨N2, ky2, vA2, hT0⟩ := hT0
  obtain ⟨kA2, T2, lo2, hi2, cl2, mm2, vv2, hTO2⟩ := TM_op (hT0.keepC (h' := mput h A 0 0 g1) (fun b ci fs hb _ => mput_in hD hb))
  have hne38 : Ao 38 ≠ A 38 := fun z => by
    obtain ⟨kA, lf, rt, pr, lo, hi, root, cl, m, v0, v1, v6, v7, v8, e1, -⟩ := hTo
    rw [z, hHno 38 (by omega)] at e1
    cases e1
  have hnm : nm ≤ 64 := by
    obtain ⟨kA, lf, rt, pr, lo, hi, root, cl, m, v0, v1, v6, v7, v8, -, -, -, -, -, -, e7, -⟩ := hTo
    exact e7
  have e38c : ∃ fs, mput h A 0 0 g1 (A 38) = some (.inl (2, fs)) := ⟨_, hTO2.1⟩
  obtain ⟨fs38, e38c⟩ := e38c
  have e38o : ∃ fs, mput h A 0 0 g1 (Ao 38) = some (.inl (2, fs)) := ⟨_, hTO.1⟩
  obtain ⟨fs38o, e38o⟩ := e38o
  rw [g_rc e38c, true_and]
  refine c_callX (c0 := c0 - 8) (s0 := s0 - 119) 70 400 (by omega) (by omega) (cc_putAll hTO hTO2 hne38 hnm (Nat.le_refl _) (Nat.le_refl _) _ _ (fun H3 Q T' lo' hi' cl' m' v' t1 t2 t3 t4 t5 => ?_))
  -- what stands in H3
  have k3 : ∀ b e, mput h A 0 0 g1 b = some e → (∀ fs, e ≠ .inl (2, fs)) → H3 b = some e := fun b e hb k2 => t4 b e hb (fun z => by rw [z, e38o] at hb; exact k2 _ (Option.some.inj hb).symm) (fun z => by rw [z, e38c] at hb; exact k2 _ (Option.some.inj hb).symm)
  have kH : ∀ b e, H b = some e → b ≠ Ao 38 → H3 b = some e := fun b e hb b1 => t4 b e (hHm _ _ _ hb) b1 (fun z => by rw [z, hHno 38 (by omega)] at hb; cases hb)
  have kHc : ∀ b e, H b = some e → (∀ fs, e ≠ .inl (2, fs)) → H3 b = some e := fun b e hb k2 => k3 b e (hHm _ _ _ hb) k2
  have hAL3 : ∀ (a d n1 : Nat) (f : Nat → Option Nat) (m1 : Int32), AL κ H a d n1 f m1 → AL κ H3 a d n1 f m1 := fun a d n1 f m1 hx => by
    obtain ⟨N1, F1, x1, x2, x3⟩ := hx
    exact ⟨N1, F1, kHc _ _ x1 (fun fs z => by cases z), kHc _ _ x2 (fun fs z => by cases z), x3⟩
  have eo3 : H3 (Ao 5) = some (.inl (1, mFs Ao gO)) := kHc _ _ eo (fun fs z => by cases z)
  obtain ⟨ds, ms, SB, SD, SM, hS1, hS2⟩ := hSA
  have hS13 := hAL3 _ _ _ _ _ hS1
  have base3 : ∀ k, k < 6 → H3 (A k) = some (mE A g1 k) := fun k hk => k3 _ _ (mput_k hA (md0 k hk)) (fun fs z => by have := mE_cl z; omega)
  have hAL39' : AL κ H3 (A 39) (κ 2) 0 (fun _ => none) 0 := by
    obtain ⟨N1, F1, x1, x2, x3⟩ := hAL39
    exact ⟨N1, F1, k3 _ _ (mput_in hD x1) (fun fs z => by cases z), k3 _ _ (mput_in hD x2) (fun fs z => by cases z), x3⟩
  have e40' : H3 (A 40) = some (.inl (4, [.int 0, .int 0, va_rf none, va_rf none])) := k3 _ _ (mput_in hD e40) (fun fs z => by cases z)
  show xgq (H3, c0 - 8 - 70, s0 - 119 - 400) (Ao 5) 1 2 _
  rw [g_gq (r := some (Ao 39)) eo3 rfl, t_nn, hS13.rc, true_and]
  refine c_call 1 4 (by omega) (by omega) (cc_iterator hS13 (Nat.le_refl _) (Nat.le_refl _) _ (fun it1 hit hκit hI1 => ?_))
  have hSBne : ∀ q, q < s → SB q ≠ A 39 := fun q hq z => by
    obtain ⟨N1, F1, x1, -⟩ := hS2 q hq
    rw [z, hHno 39 (by omega)] at x1
    cases x1
  have h39ne : Ao 39 ≠ A 39 := fun z => by
    obtain ⟨N1, F1, x1, -⟩ := hS1
    rw [z, hHno 39 (by omega)] at x1
    cases x1
  refine cc_setsCopy (A := Ao) (AN := A) (g := gO) (m39 := 0) (SD := SD) (SM := SM) hs4 hl1 hl4 hκ39 hκ2 (kHc _ _ he2 (fun fs z => by cases z)) hF0 hAL39' hS13 (fun q hq => hAL3 _ _ _ _ _ (hS2 q hq)) h39ne hSBne (fun a hla => ?_) hit hκit (base3 5 (by omega)) rfl (by omega) (by omega) (fun H4 d' m4 A' BB DD Mss c4 s4 hO hA' hc4 hs4' => ?_)
  · refine ⟨kHc _ _ ?_ (fun fs z => by cases z), kHc _ _ ?_ (fun fs z => by cases z), hp a hla⟩
    · rw [hat _ (mdl hla), mE_l hla.1]
    · rw [hat _ (mdw hla), mE_w hla.1]
  have k4 : ∀ b e, H3 b = some e → b ≠ A 39 → H4 b = some e := fun b e hb hba => hO.2.2.2.2.2 b e hb hba (by
    by_cases hb2 : b = κ 2
    · exact Or.inr hb2
    · exact Or.inl hb2)
  have e39c : ∃ fs, H3 (A 39) = some (.inl (3, fs)) := by
    obtain ⟨N1, F1, x1, -⟩ := hAL39'
    exact ⟨_, x1⟩
  obtain ⟨f39, e39c⟩ := e39c
  have k4c : ∀ b ci fs, H3 b = some (.inl (ci, fs)) → ci ≠ 3 → H4 b = some (.inl (ci, fs)) := fun b ci fs hb hci => k4 b _ hb (fun z => by
    rw [z, e39c] at hb
    cases hb
    exact hci rfl)
  have hd' := hO.1.d0 (by omega)
  have ne40 : Ao 40 ≠ A 40 := fun z => by
    have := hLo.1
    rw [z, hHno 40 (by omega)] at this
    cases this
  have hLo4 : LL κ H4 (Ao 40) n No (fun i => c (bl i)) mo := hLo.keepc (fun b ci fs hb hci => k4c b ci fs (kHc _ _ hb (fun fs z => by cases z; omega)) (by omega))
  have hL24 : LL κ H4 (A 40) 0 (fun _ => 0) (fun _ => 0) 0 := ⟨(k4c _ _ _ e40' (by omega)).trans (by unfold lO; rw [nI_0]; rfl), fun i hi => absurd hi (Nat.not_lt_zero _), fun i j hi => absurd hi (Nat.not_lt_zero _), hκ40, fun i hi => absurd hi (Nat.not_lt_zero _)⟩
  have hI4 : ∀ i, i < n → ∃ fs, H4 (c (bl i)) = some (.inl (14, fs)) := fun i hi => ⟨_, k4c _ _ _ (kHc _ _ (hI.2 (bl i) (by have := hbl i hi; omega)) (fun fs z => by cases z)) (by omega)⟩
  rw [g_gq (r := some (A 40)) (k4c _ _ _ (base3 5 (by omega)) (by omega)) rfl, g_gq (r := some (Ao 40)) (k4c _ _ _ eo3 (by omega)) rfl, t_nn, hL24.rc, true_and]
  refine c_call (1 + n) (4 * n) (by omega) (by omega) (cc_addAll6 hLo4 hL24 (by omega) ne40 hI4 (Nat.le_refl _) (Nat.le_refl _) _ (fun v5 H5 Q6 m6 w1 w2 w3 => ?_))
  have e404 : H4 (A 40) = some (.inl (4, [.int 0, .int 0, va_rf none, va_rf none])) := k4c _ _ _ e40' (by omega)
  have k5c : ∀ b ci fs, H4 b = some (.inl (ci, fs)) → ci ≠ 4 → H5 b = some (.inl (ci, fs)) := fun b ci fs hb hci => w2 b _ hb (fun z => by
    rw [z, e404] at hb
    cases hb
    exact hci rfl)
  have k35 : ∀ b e, H3 b = some e → b ≠ A 39 → b ≠ A 40 → H5 b = some e := fun b e hb b1 b2 => w2 b e (k4 b e hb b1) b2
  have k35c : ∀ b ci fs, H3 b = some (.inl (ci, fs)) → ci ≠ 3 → ci ≠ 4 → H5 b = some (.inl (ci, fs)) := fun b ci fs hb c3 c4 => k5c b ci fs (k4c b ci fs hb c3) c4
  -- the heap before
  generalize hh0 : oldH H3 A Q nm = h0
  have h0e : Ext h0 H3 := by rw [← hh0]; exact oldH_e
  have h0no : ∀ b, ((∃ k, k < 6 ∧ A k = b) ∨ b = A 38 ∨ b = A 39 ∨ b = A 40 ∨ ∃ i, i < nm ∧ Q i = b) → h0 b = none := fun b hb => by rw [← hh0]; exact oldH_no hb
  have hQH : ∀ i, i < nm → H (Q i) = none := fun i hi => by
    cases hh : H (Q i) with
    | none => rfl
    | some e => have := t3 i hi; rw [hHm _ _ _ hh] at this; cases this
  have hAkH : ∀ k, k < 6 → H (A k) = none := fun k hk => by
    by_cases h5 : k = 5
    · rw [h5, A5]; exact hm
    · exact hHno k (by omega)
  have h0H : ∀ b e, H b = some e → H3 b = some e → h0 b = some e := fun b e hb hb3 => by
    rw [← hh0]
    exact oldH_in hb3 (fun k hk z => by rw [← z, hAkH k hk] at hb; cases hb) (fun z => by rw [z, hHno 38 (by omega)] at hb; cases hb) (fun z => by rw [z, hHno 39 (by omega)] at hb; cases hb) (fun z => by rw [z, hHno 40 (by omega)] at hb; cases hb) (fun i hi z => by rw [← z, hQH i hi] at hb; cases hb)
  have h0H' : ∀ b e, H b = some e → b ≠ Ao 38 → h0 b = some e := fun b e hb hne => h0H b e hb (kH b e hb hne)
  have h0Hc : ∀ b e, H b = some e → (∀ fs, e ≠ .inl (2, fs)) → h0 b = some e := fun b e hb k2 => h0H b e hb (kHc b e hb k2)
  have hES : ESr H h0 (Ao 38) := by
    refine ⟨h0H', vv, v', va_rf ((T 3 0).map Nm), .int (nI nm), .int mm, ?_, ?_, t5, ?_⟩
    · obtain ⟨kA0, lf, rt, pr, lo0, hi0, root, cl0, m0, v0, v1, v6, v7, v8, z1, -⟩ := hTo
      rw [z1, ← hHm g1 _ _ z1, hTO.1]
      rfl
    · obtain ⟨kA0, lf, rt, pr, lo0, hi0, root, cl0, m0, v0, v1, v6, v7, v8, z1, -⟩ := hTo
      rw [← hh0]
      exact oldH_in t1.1 (fun k hk z => by rw [← z, hAkH k hk] at z1; cases z1) hne38 (fun z => by rw [z, hHno 39 (by omega)] at z1; cases z1) (fun z => by rw [z, hHno 40 (by omega)] at z1; cases z1) (fun i hi z => by rw [← z, hQH i hi] at z1; cases z1)
    · obtain ⟨es, y8, y9⟩ := t1.2.2.2.2.2.2.2
      refine ⟨es, y8, fun b hb => ?_⟩
      have hes := y9 b hb
      rw [← hh0]
      refine oldH_in hes (fun k hk z => ?_) (fun z => ?_) (fun z => ?_) (fun z => ?_) (fun j hj z => ?_)
      · rw [← z, base3 k hk] at hes
        have := mE_cl (Option.some.inj hes)
        omega
      · rw [z, t2.1] at hes; cases hes
      · rw [z, e39c] at hes; cases hes
      · rw [z, e40'] at hes; cases hes
      · rw [← z, t2.2.1 j hj] at hes; cases hes
  have hIC0 : IC κ h0 c := by
    obtain ⟨⟨C, f, eC, hf, hj⟩, hcI⟩ := hI
    refine ⟨⟨C, f, h0Hc _ _ eC (fun fs z => by cases z), hf, fun j hj' => ?_⟩, fun b hb => h0Hc _ _ (hcI b hb) (fun fs z => by cases z)⟩
    obtain ⟨q, q1, q2⟩ := hj j hj'
    exact ⟨q, q1, h0Hc _ _ q2 (fun fs z => by cases z)⟩
  have hn39 : h0 (A 39) = none := h0no _ (by omega)
  have hn40 : h0 (A 40) = none := h0no _ (by omega)
  have hE5 : Ext h0 H5 := fun b e hb => k35 b e (h0e b e hb) (fun z => by rw [z, hn39] at hb; cases hb) (fun z => by rw [z, hn40] at hb; cases hb)
  have hE1 : Ext h0 (no40 H3 (A 40)) := fun b e hb => no40_in (h0e b e hb) (fun z => by rw [z, hn40] at hb; cases hb)
  have ne3940 : A 39 ≠ A 40 := fun z => by rw [z, e40'] at e39c; cases e39c
  have hO5 : OUT κ (no40 H3 (A 40)) H5 (A 39) (κ 2) gO l s d' m4 A' BB DD Mss := (hO.weak no40_e ⟨_, no40_in e39c ne3940⟩).mut (by unfold no40; rw [if_pos rfl]) e404 (by omega) (by omega) w2
  have hOg : OUT κ (no40 H3 (A 40)) H5 (A 39) (κ 2) (g_ln g1 gO) l s d' m4 A' BB DD Mss := by
    obtain ⟨o1, o2, o4, o5, o6⟩ := hO5
    refine ⟨o1, o2, o4, fun a hla => ?_, o6⟩
    have ha := hla.1
    have e1 : ∀ j, 73 ≤ j → j < 233 → g_ln g1 gO j = gO j := fun j h1 h2 => by unfold g_ln; rw [if_pos ⟨h1, h2⟩]
    have e2 : lFw (A' (22 + a)) (g_ln g1 gO) a = lFw (A' (22 + a)) gO a := by
      unfold lFw
      rw [e1 _ (by omega) (by omega), e1 _ (by omega) (by omega), e1 _ (by omega) (by omega), e1 _ (by omega) (by omega), e1 _ (by omega) (by omega), e1 _ (by omega) (by omega)]
    have e3 : m_arr (g_ln g1 gO) (169 + 4 * a) 4 = m_arr gO (169 + 4 * a) 4 := m_arr_congr (fun i hi => e1 _ (by omega) (by omega))
    rw [e2, e3]
    exact o5 a hla
  have hmake := MM.make (g := g_ln g1 gO) (h0 := h0) (c := c) (W := W) (bl := bl) (F0 := F0) hA hA' (fun k hk => by
      rw [mE_base hk hA' (g := g1) (fun j hj => by unfold g_ln; rw [if_neg (by omega)])]
      have hbk := base3 k hk
      exact k35 _ _ hbk (fun z => by
        rw [z, e39c] at hbk
        have := mE_cl (Option.some.inj hbk).symm
        omega) (fun z => by
        rw [z, e40'] at hbk
        have := mE_cl (Option.some.inj hbk).symm
        omega)) (fun k hk z => by
      have hbk := base3 k hk
      rw [no40_in hbk (fun y => by
        rw [y, e40'] at hbk
        have := mE_cl (Option.some.inj hbk).symm
        omega)] at z
      cases z) (fun k hk => h0no _ (Or.inl ⟨k, hk, rfl⟩)) hOg ⟨hs1, hs4⟩ ⟨hl1, hl4⟩ hκ2 (hE5 _ _ (h0Hc _ _ he2 (fun fs z => by cases z))) hF0 hIC0 hE5 hE1 w1 hn40 (fun i hi => ?_) hbl hn ?_ ?_
  · obtain ⟨hback, hMM⟩ := hmake
    show xgq (H5, _) (Ao 5) 1 4 _
    rw [← hback]
    have hOK := hMM.1.1
    have e5' : A 5 = A' 5 := (hA' 5 (by omega)).symm
    have hsr : ∀ g b e, H b = some e → (∀ fs, e ≠ .inl (2, fs)) → mput (mcut H5 A' s l) A' s l g b = some e := fun g b e hb k2 => mput_in hMM.1.2.1 (hMM.2.2.1 b e (h0Hc b e hb k2))
    have so : ∀ g, mput (mcut H5 A' s l) A' s l g (Ao 5) = some (.inl (1, mFs Ao gO)) := fun g => hsr g _ _ eo (fun fs z => by cases z)
    rw [e5']
    rw [g_gq (r := some (Ao 1)) (so _) rfl, n_gq_4 hOK, t_nn, t_nn]
    refine n_cp (k := 1) (o := 69) (N := 4) (gO := gO) hOK (by omega) (fun g => rfl) (fun j hj => by unfold mS at hj; omega) (by omega) (hsr _ _ _ (hat 1 (md (by omega))) (fun fs z => by cases z)) 4 rfl ?_
    rw [g_gq (r := some (Ao 2)) (so _) rfl, n_gq_5 hOK, t_nn, t_nn]
    refine n_cp (k := 2) (o := 251) (N := 16) (gO := gO) hOK (by omega) (fun g => rfl) (fun j hj => by unfold mS at hj; omega) (by omega) (hsr _ _ _ (hat 2 (md (by omega))) (fun fs z => by cases z)) 16 rfl ?_
    rw [g_gq (r := some (Ao 3)) (so _) rfl, n_gq_6 hOK, t_nn, t_nn]
    refine n_cp (k := 3) (o := 267) (N := 16) (gO := gO) hOK (by omega) (fun g => rfl) (fun j hj => by unfold mS at hj; omega) (by omega) (hsr _ _ _ (hat 3 (md (by omega))) (fun fs z => by cases z)) 16 rfl ?_
    rw [g_gq (r := some (Ao 4)) (so _) rfl, n_gq_7 hOK, t_nn, t_nn]
    refine n_cp (k := 4) (o := 286) (N := 3) (gO := gO) hOK (by omega) (fun g => rfl) (fun j hj => by unfold mS at hj; omega) (by omega) (hsr _ _ _ (hat 4 (md (by omega))) (fun fs z => by cases z)) 3 rfl ?_
    rw [g_gi (so _) rfl, n_pi_8 hOK, g_gi (so _) rfl, n_pi_9 hOK, g_gi (so _) rfl, n_pi_10 hOK, g_gi (so _) rfl, n_pi_11 hOK, g_gi (so _) rfl]
    refine ⟨?_, ?_, ?_⟩
    · rcases h4 with z | z <;> rw [z] <;> rfl
    · rcases h4 with z | z <;> rw [z] <;> rfl
    rw [n_pi_12 hOK, g_gi (so _) rfl, n_pi_13 hOK, g_gi (so _) rfl, n_pi_14 hOK, g_gi (so _) rfl, n_pi_15 hOK, g_gi (so _) rfl, n_pi_16 hOK, g_gi (so _) rfl, n_pi_17 hOK, g_gi (so _) rfl, n_pi_18 hOK, g_gi (so _) rfl, n_pi_19 hOK]
    have hfin := hK A' h0 _ (by rw [hA' 5 (by omega), A5]) hES hMM (by rw [← A5]; exact h0no _ (Or.inl ⟨5, by omega, rfl⟩))
    refine Eq.mp ?_ hfin
    congr 1
    refine (mput_cg (fun k hk j hj => ?_)).symm
    have hjj : (5 ≤ j ∧ j < 233) ∨ (251 ≤ j ∧ j < 293) ∨ j = 0 ∨ j = 2 ∨ j = 3 ∨ j = 4 ∨ j = 233 := by
      have := mdm_lt hk
      unfold mS at hj
      omega
    exact cpy_fin hg1 j hjj
  · have := w3 i hi
    refine h0e.none ?_
    cases hh : H3 (Q6 i) with
    | none => rfl
    | some e =>
      by_cases c39 : Q6 i = A 39
      · obtain ⟨N1, F1, x1, -⟩ := hO.1
        rw [c39, x1] at this; cases this
      · rw [k4 _ _ hh c39] at this; cases this
  · refine ⟨nm, Q, ky, vA, ?_, h0no _ (by omega), fun i hi => h0no _ (Or.inr (Or.inr (Or.inr (Or.inr ⟨i, hi, rfl⟩)))), fun i hi => k35c _ _ _ (kHc _ _ (hvo i hi) (fun fs z => by cases z)) (by omega) (by omega), hzo⟩
    exact t2.close.keepC (fun b ci fs hb hci => k35c b ci fs hb (by omega) (by omega))
  · obtain ⟨N1, F1, x1, -⟩ := hOg.1
    refine ⟨hn39, hκ39, _, _, d', x1, ?_, hd'⟩
    rcases hO5.2.1.1 with z | z
    · omega
    · exact hE1.none z
end FN
