-- isBalanced; the mean word, the hits' share, the accounts
section I2
variable {κ c A An An' : Nat → Nat} {H H' H1 H2 h h' h0 : xH} {a s l n r s' l' r' hd dq dd sb ln xa oa Tm Tm' T N T' N' i M k b q o od : Nat} {p : Nat → Nat} {sv lt : Option Nat} {f bl : Nat → Nat} {t t' : Nat → Nat → Int32} {g g' gT gc W ch : Nat → Int32} {w : Nat × Nat} {x y z : Int32} {ex : Int32 → Nat}
theorem or_and (x y z : Int32) : (x ||| y) &&& z = (x &&& z) ||| (y &&& z) := by
  apply Int32.toBitVec_inj.mp
  simp only [Int32.toBitVec_and, Int32.toBitVec_or]
  ext i hi
  simp [Bool.and_or_distrib_right]
theorem bit_bit : ∀ b, b < 16 → ∀ c, c < 16 → ((((1 : Int32) <<< (nI c &&& 31)) >>> (nI b &&& 31)) &&& 1) = if b = c then 1 else 0 := by decide +kernel
/-- the blocks of the first lines, as a set -/
def n_msk (g : Nat → Int32) (l : Nat) : Nat → Int32
  | 0 => 0
  | i + 1 => if g (73 + n_at l i) = -1 then n_msk g l i else n_msk g l i ||| ((1 : Int32) <<< (g (73 + n_at l i) &&& 31))
theorem zero_shr : ∀ b, b < 16 → (((0 : Int32) >>> (nI b &&& 31)) &&& 1) = 0 := by decide +kernel
theorem n_msk_0 (hb : b < 16) : ∀ i, (∀ j, j < i → g (73 + n_at l j) ≠ -1 → ∃ c, c < 16 ∧ g (73 + n_at l j) = nI c ∧ c ≠ b) → (n_msk g l i >>> (nI b &&& 31)) &&& 1 = 0 := by
  intro i
  induction i with
  | zero => intro _; exact zero_shr b hb
  | succ i ih =>
    intro h
    rw [n_msk]
    by_cases e : g (73 + n_at l i) = -1
    · rw [if_pos e]
      exact ih (fun j hj => h j (by omega))
    · rw [if_neg e]
      obtain ⟨c, hc, e2, hcb⟩ := h i (by omega) e
      rw [Int32.shiftRight_or, or_and, ih (fun j hj => h j (by omega)), e2, bit_bit b hb c hc, if_neg (fun z => hcb z.symm)]
      decide
theorem bI_and (b c : Bool) : bI b &&& bI c = bI (b && c) := by cases b <;> cases c <;> decide
theorem cc_isClean (hA : mOK κ A s l) (hl : lin s l a) (hb : g (73 + a) = nI b) (hb16 : b < 16) (K : Int32 → xH → Prop) (hK : K (bI (m_allB (m_cleanW g a b) 4)) (mput h A s l g)) : P_X2_isClean κ (A 5) (some (A (6 + a))) (mput h A s l g, w) K := by
  unfold P_X2_isClean
  refine x_for 4 (fun i v σ => v = (bI (m_allB (m_cleanW g a b) i), nI i) ∧ i ≤ 4 ∧ σ = (mput h A s l g, w)) ?_ ?_ ⟨rfl, by omega, rfl⟩
  · rintro i v σ ⟨rfl, -, rfl⟩ hi self hself
    unfold B_X2_isClean_4
    refine ⟨fun z => absurd ((nI_leI (a := 4) (b := i) (by decide) (by omega)).mp z) (by omega), fun _ => ?_⟩
    rw [t_nn, l_rc hA hl, true_and]
    refine c_pure (r := bI (b_at (g (89 + a)) i)) (fun w K hk => cc_isDirty3 hA hl K hk) ?_
    have fin : ∀ v : Int32, v = bI (m_cleanW g a b i) → self (bI (m_allB (m_cleanW g a b) i) &&& v, nI i + 1) (mput h A s l g, w) := fun v hv => by
      rw [hv, bI_and, (nI_succ i).symm]
      exact hself _ _ ⟨rfl, by omega, rfl⟩
    refine ⟨fun z => ?_, fun z => ?_⟩
    · have hz := (bI_0 _).mp z
      have e4 : (4 : Int32) * nI b + nI i = nI (4 * b + i) := by rw [a_m4, nI_add]
      rw [l_gq_1 hA hl, t_nn, l_ai hA hl hi, n_gq_0 hA, l_gi_2 hA hl, t_nn, hb, e4, n_ai_0 hA (by omega)]
      refine ⟨fun z2 => fin 1 ?_, fun z2 => fin 0 ?_⟩
      · unfold m_cleanW
        rw [hz, show 5 + 4 * b + i = 5 + (4 * b + i) by omega, z2]
        simp [bI]
      · unfold m_cleanW
        rw [hz, show 5 + 4 * b + i = 5 + (4 * b + i) by omega]
        simp [bI, z2]
    · have hz := bI_c z
      refine fin 1 ?_
      unfold m_cleanW
      rw [hz]
      simp [bI]
  · rintro v σ ⟨rfl, -, rfl⟩ self
    unfold B_X2_isClean_4
    exact ⟨fun _ => ⟨bI_nar _, hK⟩, fun z => absurd ((nI_leI (a := 4) (b := 4) (by decide) (by omega)).mpr (Nat.le_refl _)) z⟩
/-- what isBalanced asks of line a -/
def n_balP (g : Nat → Int32) (a : Nat) : Bool := decide (g (73 + a) = -1) || m_allB (m_cleanW g a (m_blk g a)) 4
theorem n_balP_eq (hG : GI g T N s l r) (hR : RM gc g s l) (hl : lin s l a) : n_balP gc a = m_balP g a := by
  obtain ⟨r1, r2, r3, r4, -⟩ := hR.2 a hl
  unfold n_balP m_balP
  by_cases e : g (73 + a) = -1
  · rw [r1, e]
    simp
  · rw [r1]
    obtain ⟨r5, r6, r7, r8⟩ := r4 e
    have hbk : m_blk gc a = m_blk g a := by unfold m_blk; rw [r1]
    rw [hbk]
    have hbl := (hG.2.2.1 a hl.1).blk
    rcases hbl with z | ⟨hb2, hb⟩
    · exact absurd z e
    · have hc : m_allB (m_cleanW gc a (m_blk g a)) 4 = m_allB (m_cleanW g a (m_blk g a)) 4 := by
        rw [Bool.eq_iff_iff, allB_iff, allB_iff]
        have hw : ∀ k, k < 4 → m_cleanW gc a (m_blk g a) k = m_cleanW g a (m_blk g a) k := fun k hk => by
          unfold m_cleanW
          rw [r2, r8 k hk, hR.1 _ (by omega)]
        exact ⟨fun h k hk => by rw [← hw k hk]; exact h k hk, fun h k hk => by rw [hw k hk]; exact h k hk⟩
      rw [hc]
      have hlw : m_lw g (m_blk g a) = some a := by
        unfold m_lw
        refine find_uq hl.1 (by simp [hb]) (fun j hj hP => ?_)
        by_cases hja : j = a
        · exact hja
        · have hj73 : g (73 + j) = nI (m_blk g a) := by simpa using hP
          exact absurd (hj73.trans hb.symm) (hG.2.2.2.1 j a hj hl.1 hja (by rw [hj73]; exact nI_ne _ (by omega)) e).1
      have : m_lineWith g (g (73 + a)) = nI a := by
        rw [hb, m_lw_I, hlw]
        rfl
      rw [this]
      simp
theorem cc_isBalanced2 (hM : MB κ A s l h) (hG : GI g T N s l r) (hR : RM gc g s l) {c0 s0 : Nat} (hc : 100 ≤ c0) (hs : 8000 ≤ s0) (K : Int32 → xH → Prop) (hK : ∀ h', Ext h h' → mD A s l h' → K (bI (m_balanced g)) (mput h' A s l gc)) : P_X2_isBalanced κ (A 5) (mput h A s l gc, c0, s0) K := by
  have hM0 := hM
  obtain ⟨hA, hD, hS, ⟨hs1, hs4⟩, ⟨hl1, hl4⟩, hκ2, F0, he2, hF0⟩ := id hM0
  have hsl : s * l ≤ 16 := Nat.mul_le_mul hs4 hl4
  have e283 : ∀ j, 283 ≤ j → j < 293 → gc j = g j := fun j h1 h2 => hR.1 j (by omega)
  -- the loop, from a flag
  have loop : ∀ (fl : Bool), (fl = decide (g 283 + g 284 = ((g 285 + g 286) + g 287) + g 288)) → ∀ (h2 : xH) (q d p : Nat) (m : Int32) (w0 : Nat × Nat), Ext h h2 → mD A s l h2 → AL κ h2 q d (s * l) (n_all A l) m → κ 0 ≤ p → (∀ k, mdm s l k → A k ≠ p) → h2 p = none → xwhile (B_X2_isBalanced_39 κ K (A 5) (some p)) (bI fl, (0 : Int32)) (mput (xup h2 p (itE 0 (-1) m q)) A s l gc, w0) := by
    intro fl hfl h2 q d p m w0 hE2 hD2 hL2 hκp hpA hpn
    refine x_for (s * l) (fun i v σ => v = (bI (fl && m_allB (fun i => n_balP gc (n_at l i)) i), n_msk gc l i) ∧ i ≤ s * l ∧ ∃ (w : Nat × Nat) (h1 : xH), σ = (mput h1 A s l gc, w) ∧ Ext h2 h1 ∧ mD A s l h1 ∧ IT h1 p q i m) ?_ ?_ ⟨by simp [m_allB, n_msk], Nat.zero_le _, _, _, rfl, Ext.new hpn, hD2.xup hpA, ⟨_, xup_eq⟩⟩
    · rintro i v σ ⟨rfl, -, w, h1, rfl, hE1, hD1, hI1⟩ hi self hself
      unfold B_X2_isBalanced_39
      have hlin := n_at_lin hM0 hi
      refine x_it ((hL2.mono hE1).mono (mput_ext hD1)) (hI1.mono (mput_ext hD1)) hκp (by omega) (fun z => absurd z (by omega)) (fun _ hI2 => ?_)
      obtain ⟨j0, ej⟩ := hI1
      have hp1 := hD1.ne ej
      rw [mput_xup hA hp1]
      show xnn (some (A (6 + n_at l i))) _
      rw [t_nn, l_rc hA hlin, true_and, true_and]
      refine c_pure (r := bI (decide (gc (73 + n_at l i) = -1))) (fun w K hk => cc_isEmpty hA hlin K hk) ?_
      have fin : ∀ (v : Int32), v = bI (fl && m_allB (fun i => n_balP gc (n_at l i)) (i + 1)) → ∀ w1 h3, w1 = n_msk gc l (i + 1) → h3 = xup h1 p (itE (i + 1) (nI i) m q) → self (v, w1) (mput h3 A s l gc, w) := fun v hv w1 h3 hw1 h3e => by
        subst hv hw1 h3e
        exact hself _ _ ⟨rfl, by omega, w, _, rfl, hE1.new2 hpn, hD1.xup hp1, ⟨_, xup_eq⟩⟩
      refine ⟨fun z => ?_, fun z => ?_⟩
      · have hz : ¬ gc (73 + n_at l i) = -1 := by simpa using (bI_0 _).mp z
        have h73 := (hR.2 _ hlin).1
        have hz' : ¬ g (73 + n_at l i) = -1 := by rw [← h73]; exact hz
        rcases (hG.2.2.1 _ hlin.1).blk with z0 | ⟨hb2, hb⟩
        · exact absurd z0 hz'
        · have hgb : gc (73 + n_at l i) = nI (m_blk g (n_at l i)) := h73.trans hb
          have hbit : (n_msk gc l i >>> (gc (73 + n_at l i) &&& 31)) &&& 1 = 0 := by
            rw [hgb]
            refine n_msk_0 hb2 i (fun j hj hne => ?_)
            have hlj := n_at_lin hM0 (show j < s * l by omega)
            have hne2 : g (73 + n_at l j) ≠ -1 := by rw [← (hR.2 _ hlj).1]; exact hne
            rcases (hG.2.2.1 _ hlj.1).blk with z0 | ⟨hbj2, hbj⟩
            · exact absurd z0 hne2
            · refine ⟨_, hbj2, (hR.2 _ hlj).1.trans hbj, fun ec => ?_⟩
              have hnn : n_at l j ≠ n_at l i := by
                unfold n_at
                intro e
                have h1 : j / l = i / l ∧ j % l = i % l := by
                  have := Nat.mod_lt j (show 0 < l by omega)
                  have := Nat.mod_lt i (show 0 < l by omega)
                  omega
                have e1 := Nat.div_add_mod j l
                have e2 := Nat.div_add_mod i l
                rw [h1.1, h1.2] at e1
                omega
              exact (hG.2.2.2.1 _ _ hlj.1 hlin.1 hnn hne2 hz').1 (by rw [hbj, hb, ec])
          have hmsk : n_msk gc l i ||| ((1 : Int32) <<< (gc (73 + n_at l i) &&& 31)) = n_msk gc l (i + 1) := by rw [n_msk, if_neg hz]
          have hbp : n_balP gc (n_at l i) = m_allB (m_cleanW gc (n_at l i) (m_blk g (n_at l i))) 4 := by
            unfold n_balP
            have : m_blk gc (n_at l i) = m_blk g (n_at l i) := by unfold m_blk; rw [h73]
            rw [this]
            simp [hz]
          rw [l_gi_2 hA hlin]
          refine ⟨fun _ => ?_, fun z2 => absurd hbit z2⟩
          rw [n_rc hA, true_and]
          refine c_pure (r := bI (m_allB (m_cleanW gc (n_at l i) (m_blk g (n_at l i))) 4)) (fun w K hk => cc_isClean hA hlin hgb hb2 K hk) ?_
          have e3 : (fl && m_allB (fun i => n_balP gc (n_at l i)) (i + 1)) = ((fl && m_allB (fun i => n_balP gc (n_at l i)) i) && m_allB (m_cleanW gc (n_at l i) (m_blk g (n_at l i))) 4) := by
            rw [m_allB, hbp, Bool.and_assoc]
          refine ⟨fun z3 => ?_, fun z3 => ?_⟩
          · rw [l_gi_2 hA hlin]
            refine fin _ ?_ _ _ hmsk rfl
            rw [e3, (bI_0 _).mp z3]
            exact bI_and _ false
          · rw [l_gi_2 hA hlin]
            refine fin _ ?_ _ _ hmsk rfl
            rw [e3, bI_c z3]
            exact bI_and _ true
      · have hz : gc (73 + n_at l i) = -1 := by simpa using bI_c z
        refine fin _ ?_ _ _ (by rw [n_msk, if_pos hz]) rfl
        rw [m_allB]
        have : n_balP gc (n_at l i) = true := by unfold n_balP; simp [hz]
        rw [this, Bool.and_true]
    · rintro v σ ⟨rfl, -, w, h1, rfl, hE1, hD1, hI1⟩ self
      unfold B_X2_isBalanced_39
      refine x_it ((hL2.mono hE1).mono (mput_ext hD1)) (hI1.mono (mput_ext hD1)) hκp (Nat.le_refl _) (fun _ => ⟨bI_nar _, ?_⟩) (fun z => absurd z (Nat.lt_irrefl _))
      have e : (fl && m_allB (fun i => n_balP gc (n_at l i)) (s * l)) = m_balanced g := by
        unfold m_balanced
        rw [hfl, allB_lines hs4 hl1 hl4 (Q := m_balP g) (fun a ha => n_balP_eq hG hR ha) (fun a ha ho => by
          unfold m_balP
          rw [(hG.off ha ho).1]
          simp)]
      rw [e]
      exact hK _ (hE2.trans hE1) hD1
  unfold P_X2_isBalanced
  rw [g_gi (k := 13) (mput_k (k := 5) hA (md (by omega))) rfl, g_gi (k := 14) (mput_k (k := 5) hA (md (by omega))) rfl, g_gi (k := 15) (mput_k (k := 5) hA (md (by omega))) rfl, n_rc hA, true_and]
  refine c_pure (r := ((0 + gc 286) + gc 287) + gc 288) (fun w K hk => cc_sumOfMisses hA K hk) ?_
  have ec : (gc 283 + gc 284 = gc 285 + (((0 + gc 286) + gc 287) + gc 288)) ↔ (g 283 + g 284 = ((g 285 + g 286) + g 287) + g 288) := by
    rw [e283 283 (by omega) (by omega), e283 284 (by omega) (by omega), e283 285 (by omega) (by omega), e283 286 (by omega) (by omega), e283 287 (by omega) (by omega), e283 288 (by omega) (by omega), Int32.zero_add, ← Int32.add_assoc, ← Int32.add_assoc]
  have go : ∀ fl : Bool, (fl = decide (g 283 + g 284 = ((g 285 + g 286) + g 287) + g 288)) → (xrc (mput h A s l gc, c0, s0) (A 5) 1 ∧ xcall (fun τ L => P_X2_allLines κ (A 5) τ L) (mput h A s l gc, c0, s0) fun v6 σ7 => xnn v6 fun b8 => xrc σ7 b8 3 ∧ xcall (fun τ L => P_J4_iterator κ b8 τ L) σ7 fun v9 σ10 => xwhile (B_X2_isBalanced_39 κ K (A 5) v9) (bI fl, (0 : Int32)) σ10) := fun fl hfl => by
    rw [n_rc hA, true_and]
    refine c_call 12 6000 (by omega) (by omega) (cc_allLines hA hD hS hs4 hl1 hl4 hκ2 he2 hF0 (Nat.le_refl _) (Nat.le_refl _) _ (fun h2 q d m hE2 hD2 hqn hκq hL2 => ?_))
    rw [t_nn, (hL2.mono (mput_ext hD2)).rc, true_and]
    refine c_call 1 4 (by omega) (by omega) (cc_iterator (hL2.mono (mput_ext hD2)) (Nat.le_refl _) (Nat.le_refl _) _ (fun p hp hκp hI => ?_))
    obtain ⟨hpA, hpn⟩ := mput_none hA hp
    rw [mput_xup hA hpA]
    exact loop fl hfl h2 q d p m _ hE2 hD2 hL2 hκp hpA hpn
  refine ⟨fun z => go true (by rw [decide_eq_true (ec.mp z)]), fun z => go false (by rw [decide_eq_false (fun y => z (ec.mpr y))])⟩
theorem cc_isBalanced1 (hR : RR κ c H xa t Tm) (hG : GI (t 0) T N s l r) {c0 s0 : Nat} (hc : 200 ≤ c0) (hs : 9000 ≤ s0) (K : Int32 → xH → Prop) (hK : ∀ H', RR κ c H' xa t Tm → KF H H' → K (bI (m_balanced (t 0))) H') : P_X1_isBalanced κ xa (H, c0, s0) K := by
  obtain ⟨A, gc, W, bl, h, h0, T', N', rfl, hM, hX, hG', hT', ⟨fs, ex2, hfs⟩, hk2⟩ := hR.ask hG
  unfold P_X1_isBalanced
  rw [g_gq (r := some (A 5)) ex2 rfl, t_nn, n_rc hM.1.1, true_and]
  refine c_call 100 8000 (by omega) (by omega) (cc_isBalanced2 hM.1 hG' hX.1 (by omega) (by omega) _ (fun h' hE hD' => ⟨bI_nar _, ?_⟩))
  obtain ⟨k8, k9⟩ := hk2 h' hE
  exact hK _ k8 k9
end I2
