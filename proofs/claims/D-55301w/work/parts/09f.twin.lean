-- the class's questions
section H6
variable {κ c A An An' : Nat → Nat} {H H' H1 H2 h h' h0 : xH} {a s l n r s' l' r' hd dq dd sb ln xa oa Tm Tm' T N T' N' i M k b p : Nat} {sv lt : Option Nat} {f bl : Nat → Nat} {t t' : Nat → Nat → Int32} {g g' gT gc W ch : Nat → Int32} {w : Nat × Nat} {x y z : Int32} {ex : Int32 → Nat} {q : Int32 × Int32}
theorem kQ_x {K : Int32 → xH → Prop} {KX : Nat → xH → Prop} (hK : kQ κ c xa H ex q t Tm K KX) (hq : q.1 ≠ 0) (hR : RR κ c H1 xa t Tm) (hF : KF H H1) (hE : Ext H1 H2) (hp : κ 0 ≤ p) (e : H2 p = some (.inl (ex q.1, []))) : KX p H2 := (hK H2 (hR.mono hE) (hF.trans hE.kf)).2 hq p hp e
theorem cc_btw {lo hi : Int32} (x : Int32) (w : Nat × Nat) (K : Int32 → xH → Prop) (hK : K (bI (m_in x lo hi)) H) : P_X1_isBetween κ x lo hi (H, w) K := cc_isBetween _ K hK
theorem cc_reqAddress {c0 s0 : Nat} (hc : 1 ≤ c0) (hs : 6 ≤ s0) (K : Unit → xH → Prop) (KX : Nat → xH → Prop) (hK : m_in x 0 63 = true → K () H) (hX : m_in x 0 63 = false → ∀ q H', κ 0 ≤ q → H' q = some (.inl (16, [])) → Ext H H' → KX q H') : P_X1_requireAddress κ x (H, c0, s0) K KX := by
  unfold P_X1_requireAddress
  refine c_pure (r := bI (m_in x 0 63)) (fun w K hk => cc_btw x w K hk) ?_
  refine c_callX 1 6 hc hs (cc_reqI (Nat.le_refl _) (Nat.le_refl _) _ _ (fun z => hK (bI_c z)) (fun z q H' h1 h2 h3 => ⟨h1, ⟨_, h2⟩, hX ((bI_0 _).mp z) q H' h1 h2 h3⟩))
theorem cc_reqBlock {c0 s0 : Nat} (hc : 1 ≤ c0) (hs : 6 ≤ s0) (K : Unit → xH → Prop) (KX : Nat → xH → Prop) (hK : m_in x 0 15 = true → K () H) (hX : m_in x 0 15 = false → ∀ q H', κ 0 ≤ q → H' q = some (.inl (16, [])) → Ext H H' → KX q H') : P_X1_requireBlock κ x (H, c0, s0) K KX := by
  unfold P_X1_requireBlock
  refine c_pure (r := bI (m_in x 0 15)) (fun w K hk => cc_btw x w K hk) ?_
  refine c_callX 1 6 hc hs (cc_reqI (Nat.le_refl _) (Nat.le_refl _) _ _ (fun z => hK (bI_c z)) (fun z q H' h1 h2 h3 => ⟨h1, ⟨_, h2⟩, hX ((bI_0 _).mp z) q H' h1 h2 h3⟩))
theorem n_in_eq (hG : GI g T N s l r) (hR : RM gc g s l) (hb : b < 16) : (n_in gc (b % s) l (nI b) = none ∧ m_lw g b = none) ∨ ∃ j, n_in gc (b % s) l (nI b) = some j ∧ m_lw g b = some (4 * (b % s) + j) ∧ j < l := by
  have := hR.holder hG hb
  cases hn : n_in gc (b % s) l (nI b) with
  | none => rw [hn] at this; exact Or.inl ⟨rfl, this.symm⟩
  | some j => rw [hn] at this; exact Or.inr ⟨j, rfl, this.symm, (n_in_lt hn).1⟩
theorem n_word_eq (hG : GI g T N s l r) (hR : RM gc g s l) (hk : k < 64) : n_word gc s l k = m_word g k := by
  obtain ⟨hs1, hs4⟩ := hG.1.2.1.2
  obtain ⟨hl1, hl4⟩ := hG.1.2.2.1.2
  unfold n_word m_word
  rcases n_in_eq hG hR (b := k / 4) (by omega) with ⟨e1, e2⟩ | ⟨j, e1, e2, hj⟩
  · rw [e1, e2]
    exact hR.1 _ (by omega)
  · rw [e1, e2]
    have hl := lin_q hs4 hl4 (Nat.mod_lt (k / 4) (by omega)) hj
    have h73 : g (73 + (4 * (k / 4 % s) + j)) ≠ -1 := by
      rw [(m_lw_lt e2).2]
      exact nI_ne _ (by omega)
    have h5 := (hR.2 _ hl).2.2.2.1 h73
    exact h5.2.2.2 (k % 4) (Nat.mod_lt _ (by decide))
theorem n_dirty_eq (hG : GI g T N s l r) (hR : RM gc g s l) (hk : k < 64) : n_dirty gc s l k = m_isDirty g k := by
  obtain ⟨hs1, hs4⟩ := hG.1.2.1.2
  obtain ⟨hl1, hl4⟩ := hG.1.2.2.1.2
  unfold n_dirty m_isDirty
  rcases n_in_eq hG hR (b := k / 4) (by omega) with ⟨e1, e2⟩ | ⟨j, e1, e2, hj⟩
  · rw [e1, e2]
  · rw [e1, e2]
    have hl := lin_q hs4 hl4 (Nat.mod_lt (k / 4) (by omega)) hj
    show b_at (gc _) _ = b_at (g _) _
    rw [(hR.2 _ hl).2.1]
theorem cc_wordAt1 (hR : RR κ c H xa t Tm) (hG : GI (t 0) T N s l r) (hT : Tm < 2 ^ 27) (x : Int32) {c0 s0 : Nat} (hc : 400 ≤ c0) (hs : 20000 ≤ s0) (hx : ex 1 = 16) (K : Int32 → xH → Prop) (KX : Nat → xH → Prop) (hK : kQ κ c xa H ex (m_wordAt (t 0) x) t Tm K KX) : P_X1_wordAt κ xa x (H, c0, s0) K KX := by
  unfold P_X1_wordAt
  unfold m_wordAt at hK
  refine c_callX 1 6 (by omega) (by omega) (cc_reqAddress (by omega) (by omega) _ _ (fun hi => ?_) (fun hi q H' h1 h2 h3 => ⟨h1, ⟨_, h2⟩, ?_⟩))
  · rw [hi, if_pos rfl] at hK
    obtain ⟨k, rfl, hk⟩ := m_inI (c := 63) (by decide) hi
    obtain ⟨A, gc, W, bl, h, h0, T', N', rfl, hM, hX, hG', hT', ⟨fs, ex, hfs⟩, hk2⟩ := hR.ask hG
    obtain ⟨hA, hD, hS, ⟨hs1, hs4⟩, ⟨hl1, hl4⟩, -⟩ := hM.1
    rw [g_gq (r := some (A 5)) ex rfl, t_nn, n_rc hA, true_and]
    refine c_call 1 4 (by omega) (by omega) (cc_wordAt hA hD hS hs1 hs4 hl4 (by omega) (by omega) (by omega) _ (fun h' hE hD' => ?_))
    obtain ⟨k8, k9⟩ := hk2 h' hE
    rw [n_word_eq hG' hX.1 (by omega)]
    have := (hK _ k8 k9).1 rfl
    rw [c_n (by omega)] at this
    exact this
  · rw [hi, if_neg (by simp)] at hK
    refine kQ_x hK (by decide) hR KF.refl h3 h1 ?_
    rw [hx]; exact h2
theorem cc_stored1 (hR : RR κ c H xa t Tm) (hG : GI (t 0) T N s l r) (x : Int32) {c0 s0 : Nat} (hc : 400 ≤ c0) (hs : 20000 ≤ s0) (hx : ex 1 = 16) (K : Int32 → xH → Prop) (KX : Nat → xH → Prop) (hK : kQ κ c xa H ex (m_stored 5 (t 0) x) t Tm K KX) : P_X1_stored κ xa x (H, c0, s0) K KX := by
  unfold P_X1_stored
  unfold m_stored at hK
  refine c_callX 1 6 (by omega) (by omega) (cc_reqAddress (by omega) (by omega) _ _ (fun hi => ?_) (fun hi q H' h1 h2 h3 => ⟨h1, ⟨_, h2⟩, ?_⟩))
  · rw [hi, if_pos rfl] at hK
    obtain ⟨k, rfl, hk⟩ := m_inI (c := 63) (by decide) hi
    have := (hK H hR KF.refl).1 rfl
    rw [c_n (by omega)] at this
    obtain ⟨A, gc, W, bl, h, h0, T', N', rfl, hM, hX, hG', hT', ⟨fs, ex, hfs⟩, hk2⟩ := hR.ask hG
    have hA := hM.1.1
    rw [g_gq (r := some (A 5)) ex rfl, t_nn, n_gq_0 hA, t_nn, n_ai_0 hA (by omega), hX.1.1 _ (by omega)]
    exact this
  · rw [hi, if_neg (by simp)] at hK
    refine kQ_x hK (by decide) hR KF.refl h3 h1 ?_
    rw [hx]; exact h2
theorem cc_intV {v : Int32} {a : Nat} (e : H a = some (.inl (14, [.int v]))) (K : Int32 → xH → Prop) (hK : K v H) : P_J23_intValue κ a (H, w) K := by
  unfold P_J23_intValue
  rw [g_gi e rfl]
  exact hK
theorem cc_wordAgain1 (hR : RR κ c H xa t Tm) (hG : GI (t 0) T N s l r) (x : Int32) {c0 s0 : Nat} (hc : 400 ≤ c0) (hs : 20000 ≤ s0) (hx : ex 1 = 16) (K : Int32 → xH → Prop) (KX : Nat → xH → Prop) (hK : kQ κ c xa H ex (m_stored 293 (t 0) x) t Tm K KX) : P_X1_wordAgain κ xa x (H, c0, s0) K KX := by
  unfold P_X1_wordAgain
  unfold m_stored at hK
  refine c_callX 1 6 (by omega) (by omega) (cc_reqAddress (by omega) (by omega) _ _ (fun hi => ?_) (fun hi q H' h1 h2 h3 => ⟨h1, ⟨_, h2⟩, ?_⟩))
  · rw [hi, if_pos rfl] at hK
    obtain ⟨k, rfl, hk⟩ := m_inI (c := 63) (by decide) hi
    have := (hK H hR KF.refl).1 rfl
    rw [c_n (by omega)] at this
    obtain ⟨A, gc, W, bl, h, h0, T', N', rfl, hM, hX, hG', hT', ⟨fs, ex, hfs⟩, hk2⟩ := hR.ask hG
    have hA := hM.1.1
    have hX0 := mput_ext (g := gc) hM.1.2.1
    have hI := (hM.2.1.mono hM.2.2.1).mono hX0
    obtain ⟨n, N2, ky, vA, w1, -, -, w4, w5⟩ := hM.2.2.2.2.2.2.1.mono hX0
    have hW : W k = t 0 (293 + k) := hX.2.2 k (by omega)
    have e38 : ∃ fs, mput h A s l gc (A 38) = some (.inl (2, fs)) := by
      obtain ⟨kA, lf, rt, pr, lo, hi, root, cl, m, v0, v1, v6, v7, v8, e1, -⟩ := w1
      exact ⟨_, e1⟩
    obtain ⟨f38, e38⟩ := e38
    rw [g_gq (r := some (A 5)) ex rfl, t_nn, n_gq_1 hA]
    refine c_pure (r := some (c k)) (fun w K hk => cc_valueOf hI (by omega) K hk) ?_
    rw [t_nn, g_rc e38, true_and]
    refine c_pure (r := bI (t_find n ky k).isSome) (fun w K hk => cc_containsKey w1 (hI.2 k (by omega)) (by omega) K hk) ?_
    cases hf : t_find n ky k with
    | none =>
      refine ⟨fun _ => ?_, fun z => absurd rfl z⟩
      have hz := w5 k (by omega) hf
      rw [← hW, hz] at this
      exact this
    | some i =>
      refine ⟨fun z => absurd z (show ¬ (1 : Int32) = 0 by decide), fun _ => ?_⟩
      rw [g_gq (r := some (A 5)) ex rfl, t_nn, n_gq_1 hA]
      refine c_pure (r := some (c k)) (fun w K hk => cc_valueOf hI (by omega) K hk) ?_
      rw [t_nn, g_rc e38, true_and]
      refine c_pure (r := some (vA i)) (fun w K hk => cc_getTM w1 (hI.2 k (by omega)) (by omega) K (by rw [hf]; exact hk)) ?_
      have hi2 : i < n ∧ ky i = k := by
        unfold t_find at hf
        refine ⟨List.mem_range.mp (List.mem_of_find?_eq_some hf), ?_⟩
        have := List.find?_some hf
        simpa using this
      have ev := w4 i hi2.1
      rw [hi2.2, hW] at ev
      rw [t_nn, g_rc ev, true_and, true_and]
      exact c_pure (r := t 0 (293 + k)) (fun w K hk => cc_intV ev K hk) this
  · rw [hi, if_neg (by simp)] at hK
    refine kQ_x hK (by decide) hR KF.refl h3 h1 ?_
    rw [hx]; exact h2
theorem cc_holder1 (hR : RR κ c H xa t Tm) (hG : GI (t 0) T N s l r) (x : Int32) {c0 s0 : Nat} (hc : 400 ≤ c0) (hs : 20000 ≤ s0) (hx : ex 1 = 16) (hx2 : ex 2 = 18) (K : Int32 → xH → Prop) (KX : Nat → xH → Prop) (hK : kQ κ c xa H ex (m_holder (t 0) x) t Tm K KX) : P_X1_holder κ xa x (H, c0, s0) K KX := by
  unfold P_X1_holder
  unfold m_holder at hK
  refine c_callX 1 6 (by omega) (by omega) (cc_reqBlock (by omega) (by omega) _ _ (fun hi => ?_) (fun hi q H' h1 h2 h3 => ⟨h1, ⟨_, h2⟩, ?_⟩))
  · rw [hi, if_pos rfl] at hK
    obtain ⟨k, rfl, hk⟩ := m_inI (c := 15) (by decide) hi
    rw [c_n (by omega)] at hK
    obtain ⟨A, gc, W, bl, h, h0, T', N', rfl, hM, hX, hG', hT', ⟨fs, ex2, hfs⟩, hk2⟩ := hR.ask hG
    obtain ⟨hA, hD, hS, ⟨hs1, hs4⟩, ⟨hl1, hl4⟩, -⟩ := hM.1
    rw [g_gq (r := some (A 5)) ex2 rfl, t_nn, n_rc hA, true_and]
    refine c_call 1 4 (by omega) (by omega) (cc_holder hA hD hS hs1 hs4 hl4 (by omega) (by omega) (by omega) _ (fun h' hE hD' => ?_))
    obtain ⟨k8, k9⟩ := hk2 h' hE
    rcases n_in_eq hG' hX.1 (b := k) (by omega) with ⟨e1, e2⟩ | ⟨j, e1, e2, hj⟩
    · rw [e1]
      rw [e2] at hK
      refine ⟨fun _ => ?_, fun b z => (by cases z)⟩
      refine c_callX 1 6 (by omega) (by omega) (cc_reqE (by omega) (by omega) _ _ (fun z => absurd rfl z) (fun _ q H' h1 h2 h3 => ⟨h1, ⟨_, h2⟩, ?_⟩))
      refine kQ_x hK (by decide) k8 k9 h3 h1 ?_
      rw [hx2]; exact h2
    · rw [e1]
      rw [e2] at hK
      refine ⟨fun z => (by cases z), fun b z => ?_⟩
      cases z
      refine c_callX 1 6 (by omega) (by omega) (cc_reqE (by omega) (by omega) _ _ (fun _ => ?_) (fun z => absurd z (by decide)))
      rw [l_gi_0 hA (lin_q hs4 hl4 (Nat.mod_lt k (by omega)) hj)]
      exact (hK _ k8 k9).1 rfl
  · rw [hi, if_neg (by simp)] at hK
    refine kQ_x hK (by decide) hR KF.refl h3 h1 ?_
    rw [hx]; exact h2
theorem cc_comesTo1 (hR : RR κ c H xa t Tm) (hG : GI (t 0) T N s l r) (hT : Tm < 2 ^ 27) (x : Int32) {c0 s0 : Nat} (hc : 400 ≤ c0) (hs : 20000 ≤ s0) (hx : ex 1 = 16) (hx2 : ex 2 = 18) (K : Int32 → xH → Prop) (KX : Nat → xH → Prop) (hK : kQ κ c xa H ex (m_comesTo (t 0) s l x) t Tm K KX) : P_X1_comesTo κ xa x (H, c0, s0) K KX := by
  unfold P_X1_comesTo
  unfold m_comesTo at hK
  refine c_callX 1 6 (by omega) (by omega) (cc_reqBlock (by omega) (by omega) _ _ (fun hi => ?_) (fun hi q H' h1 h2 h3 => ⟨h1, ⟨_, h2⟩, ?_⟩))
  · rw [hi, if_pos rfl] at hK
    obtain ⟨k, rfl, hk⟩ := m_inI (c := 15) (by decide) hi
    rw [c_n (by omega)] at hK
    obtain ⟨A, gc, W, bl, h, h0, T', N', rfl, hM, hX, hG', hT', ⟨fs, ex2, hfs⟩, hk2⟩ := hR.ask hG
    obtain ⟨hA, hD, hS, ⟨hs1, hs4⟩, ⟨hl1, hl4⟩, hκ2, F0, he2, hF0⟩ := hM.1
    rw [g_gq (r := some (A 5)) ex2 rfl, t_nn, n_rc hA, true_and]
    refine c_call 1 4 (by omega) (by omega) (cc_holder hA hD hS hs1 hs4 hl4 (by omega) (by omega) (by omega) _ (fun h' hE hD' => ?_))
    obtain ⟨k8, k9⟩ := hk2 h' hE
    rcases n_in_eq hG' hX.1 (b := k) (by omega) with ⟨e1, e2⟩ | ⟨j, e1, e2, hj⟩
    · rw [e1]
      rw [e2] at hK
      refine ⟨fun _ => ?_, fun b z => (by cases z)⟩
      refine c_callX 1 6 (by omega) (by omega) (cc_reqE (by omega) (by omega) _ _ (fun _ => ?_) (fun z => absurd z (by decide)))
      obtain ⟨An2, sv2, dq2, dd2, n2, hd2, f2, sb2, ln2, lt2, u1, -⟩ := id k8
      have ex3 := mput_mono (g := gc) hE hD _ _ ex2
      rw [g_gq (r := some (A 5)) ex3 rfl, t_nn, n_rc hA, true_and]
      obtain ⟨p1, ⟨q, hq, p2, p3⟩, p4, p5, -⟩ := hX.pre hG' (by omega)
      have hMB : MB κ A s l h' := ⟨hA, hD', hS.mono hE, ⟨hs1, hs4⟩, ⟨hl1, hl4⟩, hκ2, F0, hE _ _ he2, hF0⟩
      refine c_call 21 8004 (by omega) (by omega) (cc_comesTo hMB hq p3 (by omega) (fun a ha => p5 a ha) (by omega) (by omega) _ (fun h2 res hE2 hD2 hCT => ?_))
      have hres := CT_lineFor hA hG' hX.1 (by omega) (by omega) hq p2 hCT
      obtain ⟨k6, k7⟩ := hk2 h2 (fun b e hb => hE2 b e (hE b e hb))
      cases hf : m_lineFor (t 0) k s l with
      | none =>
        rw [hf] at hres hK
        subst hres
        refine ⟨fun _ => ?_, fun b z => (by cases z)⟩
        refine c_callX 1 6 (by omega) (by omega) (cc_reqE (by omega) (by omega) _ _ (fun z => absurd rfl z) (fun _ q H' h1 h2 h3 => ⟨h1, ⟨_, h2⟩, ?_⟩))
        refine kQ_x hK (by decide) k6 k7 h3 h1 ?_
        rw [hx2]; exact h2
      | some a =>
        rw [hf] at hres hK
        subst hres
        refine ⟨fun z => (by cases z), fun b z => ?_⟩
        cases z
        refine c_callX 1 6 (by omega) (by omega) (cc_reqE (by omega) (by omega) _ _ (fun _ => ?_) (fun z => absurd z (by decide)))
        obtain ⟨i1, i2, i3⟩ := m_lineFor_in hs1 hs4 hl4 hf
        rw [l_gi_0 hA ⟨i1, by rw [i2]; exact Nat.mod_lt _ (by omega), i3⟩]
        exact (hK _ k6 k7).1 rfl
    · rw [e1]
      rw [e2] at hK
      refine ⟨fun z => (by cases z), fun b z => ?_⟩
      refine c_callX 1 6 (by omega) (by omega) (cc_reqE (by omega) (by omega) _ _ (fun z => absurd rfl z) (fun _ q H' h1 h2 h3 => ⟨h1, ⟨_, h2⟩, ?_⟩))
      refine kQ_x hK (show (2 : Int32) ≠ 0 by decide) k8 k9 h3 h1 ?_
      rw [hx2]; exact h2
  · rw [hi, if_neg (by simp)] at hK
    refine kQ_x hK (by decide) hR KF.refl h3 h1 ?_
    rw [hx]; exact h2
theorem cc_causeOf1 (hR : RR κ c H xa t Tm) (hG : GI (t 0) T N s l r) (hT : Tm < 2 ^ 27) (x : Int32) {c0 s0 : Nat} (hc : 400 ≤ c0) (hs : 20000 ≤ s0) (hx : ex 1 = 16) (hx2 : ex 2 = 18) (K : Int32 → xH → Prop) (KX : Nat → xH → Prop) (hK : kQ κ c xa H ex (m_causeOf (t 0) s l r x) t Tm K KX) : P_X1_causeOf κ xa x (H, c0, s0) K KX := by
  unfold P_X1_causeOf
  unfold m_causeOf at hK
  refine c_callX 1 6 (by omega) (by omega) (cc_reqBlock (by omega) (by omega) _ _ (fun hi => ?_) (fun hi q H' h1 h2 h3 => ⟨h1, ⟨_, h2⟩, ?_⟩))
  · rw [hi, if_pos rfl] at hK
    obtain ⟨k, rfl, hk⟩ := m_inI (c := 15) (by decide) hi
    rw [c_n (by omega)] at hK
    obtain ⟨A, gc, W, bl, h, h0, T', N', rfl, hM, hX, hG', hT', ⟨fs, ex2, hfs⟩, hk2⟩ := hR.ask hG
    obtain ⟨hA, hD, hS, ⟨hs1, hs4⟩, ⟨hl1, hl4⟩, -⟩ := hM.1
    rw [g_gq (r := some (A 5)) ex2 rfl, t_nn, n_rc hA, true_and]
    refine c_call 1 4 (by omega) (by omega) (cc_holder hA hD hS hs1 hs4 hl4 (by omega) (by omega) (by omega) _ (fun h' hE hD' => ?_))
    obtain ⟨k8, k9⟩ := hk2 h' hE
    rcases n_in_eq hG' hX.1 (b := k) (by omega) with ⟨e1, e2⟩ | ⟨j, e1, e2, hj⟩
    · rw [e1]
      rw [e2] at hK
      refine ⟨fun _ => ?_, fun b z => (by cases z)⟩
      refine c_callX 1 6 (by omega) (by omega) (cc_reqE (by omega) (by omega) _ _ (fun _ => ?_) (fun z => absurd z (by decide)))
      have ex3 := mput_mono (g := gc) hE hD _ _ ex2
      rw [g_gq (r := some (A 5)) ex3 rfl, t_nn, n_rc hA, true_and]
      obtain ⟨p1, -⟩ := hX.pre hG' (by omega)
      refine c_call 0 0 (by omega) (by omega) (cc_causeOf (hM.ext hE hD') p1 (by omega) _ ?_)
      have hc := n_cause_eq (s := s) (l := l) (hX.1.1 233 (by omega)) hX.2.1 (b := k) (by omega)
      rw [hc]
      exact (hK _ k8 k9).1 rfl
    · rw [e1]
      rw [e2] at hK
      refine ⟨fun z => (by cases z), fun b z => ?_⟩
      refine c_callX 1 6 (by omega) (by omega) (cc_reqE (by omega) (by omega) _ _ (fun z => absurd rfl z) (fun _ q H' h1 h2 h3 => ⟨h1, ⟨_, h2⟩, ?_⟩))
      refine kQ_x hK (show (2 : Int32) ≠ 0 by decide) k8 k9 h3 h1 ?_
      rw [hx2]; exact h2
  · rw [hi, if_neg (by simp)] at hK
    refine kQ_x hK (by decide) hR KF.refl h3 h1 ?_
    rw [hx]; exact h2
theorem cc_freeIn1 (hR : RR κ c H xa t Tm) (hG : GI (t 0) T N s l r) (hT : Tm < 2 ^ 27) (x : Int32) {c0 s0 : Nat} (hc : 400 ≤ c0) (hs : 20000 ≤ s0) (hx : ex 1 = 16) (K : Int32 → xH → Prop) (KX : Nat → xH → Prop) (hK : kQ κ c xa H ex (m_freeIn (t 0) x) t Tm K KX) : P_X1_freeIn κ xa x (H, c0, s0) K KX := by
  unfold P_X1_freeIn
  unfold m_freeIn at hK
  refine c_pure (r := bI (m_in x 0 3)) (fun w K hk => cc_btw x w K hk) ?_
  refine c_callX 1 6 (by omega) (by omega) (cc_reqI (by omega) (by omega) _ _ (fun hi => ?_) (fun hi q H' h1 h2 h3 => ⟨h1, ⟨_, h2⟩, ?_⟩))
  · have hi := bI_c hi
    rw [hi, if_pos rfl] at hK
    obtain ⟨k, rfl, hk⟩ := m_inI (c := 3) (by decide) hi
    have hK := (hK H hR KF.refl).1 rfl
    rw [c_n (by omega)] at hK
    obtain ⟨A, gc, W, bl, h, h0, T', N', rfl, hM, hX, hG', ⟨hT', -⟩, ⟨fs, ex2, hfs⟩, hk2⟩ := hR.ask hG
    have hA := hM.1.1
    obtain ⟨p0, p1⟩ := hG'.2.1
    obtain ⟨y, y1, y2⟩ := p1 k (by omega)
    obtain ⟨d1, d2, d3⟩ := nI_diff (x := y) (y := T') (by omega) (by omega)
    rw [g_gq (r := some (A 5)) ex2 rfl, t_nn, n_gq_4 hA, t_nn, n_ai_1 hA (by omega), g_gq (r := some (A 5)) ex2 rfl, t_nn, n_gi_10 hA, hX.1.1 _ (by omega), hX.1.1 0 (by omega), y2, p0]
    rw [y2, p0] at hK
    simp only [nI_leI (show y < 2 ^ 31 by omega) (show T' < 2 ^ 31 by omega)] at hK
    by_cases hyT : y ≤ T'
    · rw [if_pos hyT] at hK
      rw [if_neg (fun z => by have := d2.mp z; omega)]
      exact hK
    · rw [if_neg hyT] at hK
      rw [if_pos (d2.mpr (by omega))]
      exact hK
  · have hi := (bI_0 _).mp hi
    rw [hi, if_neg (by simp)] at hK
    refine kQ_x hK (by decide) hR KF.refl h3 h1 ?_
    rw [hx]; exact h2
theorem cc_latest1 (hR : RR κ c H xa t Tm) (hG : GI (t 0) T N s l r) (x : Int32) {c0 s0 : Nat} (hc : 400 ≤ c0) (hs : 20000 ≤ s0) (hx : ex 1 = 18) (K : Int32 → xH → Prop) (KX : Nat → xH → Prop) (hK : kQ κ c xa H ex (m_latestQ (t 0) r x) t Tm K KX) : P_X1_latest κ xa x (H, c0, s0) K KX := by
  unfold P_X1_latest
  unfold m_latestQ at hK
  obtain ⟨A, gc, W, bl, h, h0, T', N', rfl, hM, hX, hG', hT', ⟨fs, ex2, hfs⟩, hk2⟩ := hR.ask hG
  have hA := hM.1.1
  have hX0 := mput_ext (g := gc) hM.1.2.1
  have hI := (hM.2.1.mono hM.2.2.1).mono hX0
  obtain ⟨N2, m2, hL, -⟩ := hM.2.2.2.1
  have hL := hL.mono hX0
  have hr16 := hM.2.2.2.2.2.1
  rw [g_gq (r := some (A 5)) ex2 rfl, t_nn, n_gq_3 hA, t_nn, hL.rc, true_and]
  refine c_pure (r := nI r) (fun w K hk => cc_size6 hL K hk) ?_
  refine c_pure (r := bI (m_in x 0 (nI r - 1))) (fun w K hk => cc_btw x w K hk) ?_
  refine c_callX 1 6 (by omega) (by omega) (cc_reqE (by omega) (by omega) _ _ (fun hi => ?_) (fun hi q H' h1 h2 h3 => ⟨h1, ⟨_, h2⟩, ?_⟩))
  · have hi := bI_c hi
    rw [hi, if_pos rfl] at hK
    obtain ⟨k, rfl, hk⟩ := m_inI' (by omega) hi
    rw [c_n (by omega)] at hK
    rw [g_gq (r := some (A 5)) ex2 rfl, t_nn, n_gq_3 hA, t_nn, hL.rc, true_and]
    refine c_pure (r := some (c (bl k))) (fun w K hk2 => cc_get6 hL (by omega) hk K hk2) ?_
    obtain ⟨b1, b2⟩ := hX.2.1 k hk
    have ev := hI.2 (bl k) (by omega)
    rw [t_nn, g_rc ev, true_and, true_and]
    refine c_pure (r := nI (bl k)) (fun w K hk => cc_intV ev K hk) ?_
    rw [← b1]
    exact (hK _ hR KF.refl).1 rfl
  · have hi := (bI_0 _).mp hi
    rw [hi, if_neg (by simp)] at hK
    refine kQ_x hK (by decide) hR KF.refl h3 h1 ?_
    rw [hx]; exact h2
theorem find_cg {P Q : Nat → Bool} : ∀ (L : List Nat), (∀ a, a ∈ L → P a = Q a) → L.find? P = L.find? Q := by
  intro L
  induction L with
  | nil => intro _; rfl
  | cons a L ih =>
    intro h
    rw [List.find?_cons, List.find?_cons, h a (by simp), ih (fun b hb => h b (by simp [hb]))]
theorem cc_nextDirty1 (hR : RR κ c H xa t Tm) (hG : GI (t 0) T N s l r) (x : Int32) {c0 s0 : Nat} (hc : 400 ≤ c0) (hs : 20000 ≤ s0) (hx : ex 1 = 16) (hx2 : ex 2 = 18) (K : Int32 → xH → Prop) (KX : Nat → xH → Prop) (hK : kQ κ c xa H ex (m_nextDirty (t 0) x) t Tm K KX) : P_X1_nextDirty κ xa x (H, c0, s0) K KX := by
  unfold P_X1_nextDirty
  unfold m_nextDirty at hK
  refine c_callX 1 6 (by omega) (by omega) (cc_reqAddress (by omega) (by omega) _ _ (fun hi => ?_) (fun hi q H' h1 h2 h3 => ⟨h1, ⟨_, h2⟩, ?_⟩))
  · rw [hi, if_pos rfl] at hK
    obtain ⟨k, rfl, hk⟩ := m_inI (c := 63) (by decide) hi
    rw [c_n (by omega)] at hK
    obtain ⟨A, gc, W, bl, h, h0, T', N', rfl, hM, hX, hG', hT', ⟨fs, ex2, hfs⟩, hk2⟩ := hR.ask hG
    have hA := hM.1.1
    rw [g_gq (r := some (A 5)) ex2 rfl, t_nn, n_rc hA, true_and]
    refine c_call 64 256 (by omega) (by omega) (cc_nextDirty hM.1 (by omega) (by omega) (by omega) _ (fun h' hE hD' => ?_))
    obtain ⟨k8, k9⟩ := hk2 h' hE
    have hn : n_next gc s l k = match (List.range 64).find? (fun i => decide (k ≤ i) && m_isDirty (t 0) i) with | some i => nI i | none => -1 := by
      unfold n_next
      rw [find_cg (Q := fun i => decide (k ≤ i) && m_isDirty (t 0) i) _ (fun a ha => by rw [n_dirty_eq hG' hX.1 (List.mem_range.mp ha)])]
      rfl
    rw [hn]
    unfold P_X1_existing
    cases hf : (List.range 64).find? (fun i => decide (k ≤ i) && m_isDirty (t 0) i) with
    | none =>
      rw [hf] at hK
      refine c_callX 2 12 (by omega) (by omega) ⟨fun _ => ?_, fun z => absurd rfl z⟩
      refine c_callX 1 6 (by omega) (by omega) (cc_reqE (by omega) (by omega) _ _ (fun z => absurd rfl z) (fun _ q H' h1 h2 h3 => ⟨h1, ⟨_, h2⟩, ⟨h1, ⟨_, h2⟩, ?_⟩⟩))
      refine kQ_x hK (by decide) k8 k9 h3 h1 ?_
      rw [hx2]; exact h2
    | some i =>
      rw [hf] at hK
      have hi64 : i < 64 := List.mem_range.mp (List.mem_of_find?_eq_some hf)
      refine c_callX 2 12 (by omega) (by omega) ⟨fun z => absurd z (nI_ne i hi64), fun _ => ?_⟩
      refine c_callX 1 6 (by omega) (by omega) (cc_reqE (by omega) (by omega) _ _ (fun _ => ?_) (fun z => absurd z (by decide)))
      exact (hK _ k8 k9).1 rfl
  · rw [hi, if_neg (by simp)] at hK
    refine kQ_x hK (by decide) hR KF.refl h3 h1 ?_
    rw [hx]; exact h2
end H6
