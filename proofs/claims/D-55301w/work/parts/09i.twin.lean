-- wouldTake; the accounts
section H9
variable {κ c A An An' : Nat → Nat} {H H' H1 H2 h h' h0 : xH} {a s l n r s' l' r' hd dq dd sb ln xa oa Tm Tm' T N T' N' i M k b q o od : Nat} {p : Nat → Nat} {sv lt : Option Nat} {f bl : Nat → Nat} {t t' : Nat → Nat → Int32} {g g' gT gc W ch : Nat → Int32} {w : Nat × Nat} {x y z : Int32} {ex : Int32 → Nat}
theorem cc_existing {v : Int32} {c0 s0 : Nat} (hc : 1 ≤ c0) (hs : 6 ≤ s0) (K : Int32 → xH → Prop) (KX : Nat → xH → Prop) (hK : v ≠ -1 → K v H) (hX : v = -1 → ∀ q H', κ 0 ≤ q → H' q = some (.inl (18, [])) → Ext H H' → KX q H') : P_X1_existing κ v (H, c0, s0) K KX := by
  unfold P_X1_existing
  refine ⟨fun z => ?_, fun z => ?_⟩
  · exact c_callX 1 6 hc hs (cc_reqE (by omega) (by omega) _ _ (fun z => absurd rfl z) (fun _ q H' h1 h2 h3 => ⟨h1, ⟨_, h2⟩, hX z q H' h1 h2 h3⟩))
  · exact c_callX 1 6 hc hs (cc_reqE (by omega) (by omega) _ _ (fun _ => hK z) (fun z => absurd z (by decide)))
theorem cc_wouldTake1 (hR : RR κ c H xa t Tm) (hG : GI (t 0) T N s l r) (hT : Tm < 2 ^ 27) (x : Int32) {c0 s0 : Nat} (hc : 500 ≤ c0) (hs : 100000 ≤ s0) (hx : ex 1 = 16) (hx2 : ex 2 = 18) (K : Int32 → xH → Prop) (KX : Nat → xH → Prop) (hK : kQ κ c xa H ex (m_wouldTake (t 0) s l r x) t Tm K KX) : P_X1_wouldTake κ xa x (H, c0, s0) K KX := by
  unfold P_X1_wouldTake
  unfold m_wouldTake at hK
  refine c_callX 1 6 (by omega) (by omega) (cc_reqAddress (by omega) (by omega) _ _ (fun hi => ?_) (fun hi q H' h1 h2 h3 => ⟨h1, ⟨_, h2⟩, ?_⟩))
  · rw [hi, if_pos rfl] at hK
    obtain ⟨An, sv, dq, dd, n, hd, f, sb, ln, lt, e1, e2, e3, e4⟩ := id hR
    obtain ⟨q1, q2, ⟨s1, l1, r1, T1, N1, gc, W, bl, hS, hRX, hGI, hTT⟩, -⟩ := id e4
    obtain ⟨rfl, rfl, rfl⟩ := hG.uq hGI
    have hmo : H (An 5) = some (.inl (1, mFs An gc)) := hS.2.1 5 (md (by omega))
    rw [g_gq (r := some (An 5)) e1 rfl, t_nn, g_rc hmo, true_and]
    refine c_callX 400 95000 (by omega) (by omega) ?_
    unfold P_X2_wouldTake
    refine ⟨by dsimp only; omega, by dsimp only; omega, fun m hm hκm => ?_⟩
    have hm : H m = none := hm
    have hp : ∀ a, lin s l a → gc (105 + a) = 0 ∨ gc (105 + a) = 1 := fun a ha => by
      rw [(hRX.1.2 a ha).2.2.1]
      exact hGI.p01 ha.1
    have h4 : gc 4 = 0 ∨ gc 4 = 1 := by
      rw [hRX.1.1 4 (by omega)]
      exact hGI.1.2.2.2.2.1
    show xcall _ (xup H m (.inl (1, mZ)), 400 - 1, 95000 - 20) _
    refine c_call 190 40000 (by omega) (by omega) (cc_copy q1 hS hp h4 hm hκm (by omega) (by omega) _ (fun A h0 h' A5 hES hMM h0m => ?_))
    subst A5
    have hne : An 5 ≠ An 38 := fun z => by
      obtain ⟨v, w, r, x, y, e, -⟩ := hES.2
      rw [z, e] at hmo
      cases hmo
    have hmo2 : h0 (An 5) = some (.inl (1, mFs An gc)) := hES.1 _ _ hmo hne
    rw [n_rc hMM.1.1, true_and]
    refine c_callX 100 52000 (by omega) (by omega) (o_read hMM hRX hGI (by omega) x (by omega) (by omega) _ _ ⟨fun v g' ev A' s' l' gc' W' bl' r' h2 A5 hRX' hRS hM' => ?_, fun x2 y2 ey q h2 hRF hq hκq hE => ?_⟩)
    · have hE2 : Ext h0 (mput h2 A' s' l' gc') := fun b e hb => mput_ext hM'.1.2.1 _ _ (hM'.2.2.1 _ _ hb)
      have hR2 : RR κ c (mput h2 A' s' l' gc') xa t Tm := (hR.es hES).mono hE2
      have hF2 : KF H (mput h2 A' s' l' gc') := hES.kf.trans hE2.kf
      dsimp only
      rw [← A5, n_gi_10 hM'.1.1, g_gi (k := 10) (hE2 _ _ hmo2) rfl]
      unfold m_reads at ev
      rw [hi, if_pos rfl] at ev
      cases ha : m_acc (t 0) (x.toNatClampNeg / 4) s l r with
      | none => rw [ha] at ev; cases ev
      | some p =>
        rw [ha] at ev hK
        have ev := Sum.inr.inj ev
        obtain ⟨T2, r2, t1, t2, hG2⟩ := hGI.acc (by omega) (by
          obtain ⟨k, rfl, hk⟩ := m_inI (c := 63) (by decide) hi
          rw [c_n (by omega)]
          omega) ha
        have eg : gc' 0 = nI T2 := by
          rw [hRX'.1.1 0 (by omega), show g' = upd p.2 283 (p.2 283 + 1) from (congrArg Prod.snd ev).symm]
          show upd p.2 283 _ 0 = _
          rw [upd_ne (by omega)]
          exact hG2.2.1.1
        have eg0 : gc 0 = nI T1 := (hRX.1.1 0 (by omega)).trans hGI.2.1.1
        rw [eg, eg0, nI_sub (by omega)]
        refine c_callX 1 6 (by omega) (by omega) (cc_existing (by omega) (by omega) _ _ (fun _ => ?_) (fun z => absurd z (nI_ne _ (by omega))))
        have := (hK _ hR2 hF2).1 rfl
        dsimp only at this
        rw [hG2.2.1.1, hGI.2.1.1, nI_sub (by omega)] at this
        exact this
    · have hR2 : RR κ c h2 xa t Tm := (hR.es hES).mono hE
      have hF2 : KF H h2 := hES.kf.trans hE.kf
      refine ⟨hκq, hRF.rc, ?_⟩
      unfold m_reads at ey
      rw [hi, if_pos rfl] at ey
      cases ha : m_acc (t 0) (x.toNatClampNeg / 4) s l r with
      | some p => rw [ha] at ey; cases ey
      | none =>
        rw [ha] at hK
        refine c_callX 1 6 (by omega) (by omega) (cc_existing (by omega) (by omega) _ _ (fun z => absurd rfl z) (fun _ q H' h1 h2 h3 => ⟨h1, ⟨_, h2⟩, ?_⟩))
        refine kQ_x hK (show (2 : Int32) ≠ 0 by decide) hR2 hF2 h3 h1 ?_
        rw [hx2]; exact h2
  · rw [hi, if_neg (by simp)] at hK
    refine kQ_x hK (by decide) hR KF.refl h3 h1 ?_
    rw [hx]; exact h2
end H9
