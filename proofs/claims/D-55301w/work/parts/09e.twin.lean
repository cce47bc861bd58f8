-- through, undo, save, restore
section H5
variable {κ c A An An' : Nat → Nat} {H H' H1 h h' h0 : xH} {a s l n r s' l' r' hd dq dd sb ln xa oa Tm Tm' T N T' N' i M : Nat} {sv lt : Option Nat} {f bl : Nat → Nat} {t t' : Nat → Nat → Int32} {g g' gT gc W ch : Nat → Int32} {w : Nat × Nat} {x y : Int32}
theorem mput_mono (hE : Ext h h') (hD : mD A s l h) : Ext (mput h A s l g) (mput h' A s l g) := fun b e hb => by
  unfold mput at hb ⊢
  split at hb
  · exact hb
  · exact hE b e hb
/-- the machine as it stands, to be asked -/
theorem RR.ask (hR : RR κ c H xa t Tm) (hG : GI (t 0) T N s l r) : ∃ (A : Nat → Nat) (gc W : Nat → Int32) (bl : Nat → Nat) (h h0 : xH) (T' N' : Nat), H = mput h A s l gc ∧ MM κ A s l c W h0 r bl h ∧ RX gc (t 0) W bl s l r ∧ GI (t 0) T' N' s l r ∧ (T' ≤ Tm ∧ N' ≤ Tm) ∧ (∃ fs, H xa = some (.inl (0, .ref (A 5) :: fs)) ∧ fs.length = 6) ∧ ∀ h', Ext h h' → RR κ c (mput h' A s l gc) xa t Tm ∧ KF H (mput h' A s l gc) := by
  obtain ⟨An, sv, dq, dd, n, hd, f, sb, ln, lt, e1, e2, e3, e4⟩ := id hR
  obtain ⟨q1, q2, ⟨s1, l1, r1, T1, N1, gc, W, bl, hS, hRX, hGI, hTT⟩, -⟩ := e4
  obtain ⟨rfl, rfl, rfl⟩ := hG.uq hGI
  obtain ⟨z1, z2⟩ := hS.mm q1
  refine ⟨An, gc, W, bl, _, _, T1, N1, z1.symm, z2, hRX, hGI, hTT, ⟨_, e1, rfl⟩, fun h' hE => ?_⟩
  have hE2 : Ext H (mput h' An s l gc) := by
    have := mput_mono (g := gc) hE z2.1.2.1
    rw [z1] at this
    exact this
  exact ⟨hR.mono hE2, hE2.kf⟩
theorem cc_through1 (hR : RR κ c H xa t Tm) (hT : Tm < 2 ^ 27) (hx : x = 0 ∨ x = 1) {c0 s0 : Nat} (hc : 300 ≤ c0) (hs : 100000 ≤ s0) (K : Int32 → xH → Prop)
    (hK : ∀ n H', t 3 0 = nI n → n ≤ 8 → RR κ c H' xa (tg (t_done t (t 0) n) (m_thr (t 0) x)) Tm → KF H H' → K (m_dirty (m_thr (t 0) x)) H') : P_X1_through κ xa x (H, c0, s0) K := by
  obtain ⟨An, sv, dq, dd, n, hd, f, sb, ln, lt, e1, e2, e3, e4⟩ := id hR
  obtain ⟨q1, q2, ⟨s, l, r, T, N, gc, W, bl, hS, hRX, hGI, hTT⟩, q4, ⟨q5, q6, q7⟩, q8⟩ := id e4
  unfold P_X1_through
  refine ⟨by dsimp only; omega, by dsimp only; omega, fun m hm hκm => ?_⟩
  have hm : H m = none := hm
  have hXe : Ext H (xup H m (.inl (1, mZ))) := Ext.new hm
  show xgq (xup H m (.inl (1, mZ)), c0 - 1, s0 - 20) xa 0 0 _
  rw [g_gq (r := some (An 5)) (hXe _ _ e1) rfl]
  have hp : ∀ a, lin s l a → gc (105 + a) = 0 ∨ gc (105 + a) = 1 := fun a ha => by
    rw [(hRX.1.2 a ha).2.2.1]
    exact hGI.p01 ha.1
  have h4 : gc 4 = 0 ∨ gc 4 = 1 := by
    rw [hRX.1.1 4 (by omega)]
    exact hGI.1.2.2.2.2.1
  dsimp only
  refine c_call 190 40000 (by omega) (by omega) (cc_copy q1 hS hp h4 hm hκm (by omega) (by omega) _ (fun A h0 h' A5 hES hMM h0m => ?_))
  subst A5
  refine ⟨by rcases hx with rfl | rfl <;> decide, by rcases hx with rfl | rfl <;> decide, ?_⟩
  rw [n_pi_12 hMM.1.1]
  have ex : m_thr (t 0) x = upd (t 0) 4 x := by
    unfold m_thr
    rcases hx with rfl | rfl <;> rfl
  have hRX' : RX (upd gc 4 x) (m_thr (t 0) x) W bl s l r := by
    rw [ex]
    exact hRX.ub hGI.1.1.2 (by unfold bse; omega)
  have hG' : GI (m_thr (t 0) x) T N s l r := hGI.thr
  have hE0 : Ext h0 (mput h' A s l (upd gc 4 x)) := fun b e hb => mput_ext hMM.1.2.1 _ _ (hMM.2.2.1 _ _ hb)
  have hMT : MT κ c (mput h' A s l (upd gc 4 x)) A (m_thr (t 0) x) Tm := ⟨s, l, r, T, N, _, W, bl, hMM.st, hRX', hG', hTT⟩
  obtain ⟨An2, sv2, dq2, dd2, n2, hd2, f2, sb2, ln2, lt2, u1, u2, u3, u4⟩ := (hR.es hES).mono hE0
  rw [g_rc u1, true_and]
  refine c_call 0 0 (by omega) (by omega) (cc_remember u1 u2 u3 u4 hMT hG'.z _ (fun H' hRR hkf _ => ?_))
  obtain ⟨B, gB, WB, blB, hB, hB0, T', N', rfl, k1, k2, k3, k4, ⟨fs, k5, k6⟩, k7⟩ := hRR.ask (N := N) (T := T) hG'
  rw [g_gq (r := some (B 5)) k5 rfl, t_nn, g_rc (mput_k (k := 5) k1.1.1 (md (by omega))), true_and]
  have hp := k2.pre k3 (by omega)
  refine c_call 13 6004 (by omega) (by omega) (cc_dirtyWords2 k1.1 hp.2.2.1 (by omega) (by omega) _ (fun h2 hE2 hD2 => ?_))
  rw [dirty_eq k2.1 k3]
  obtain ⟨k8, k9⟩ := k7 h2 hE2
  exact hK n2 _ u4.2.2.2.2.1.1 u4.2.2.2.2.1.2.1 k8 (((hES.kf.trans (Ext.kf hE0)).trans hkf).trans k9)
/-- requireState, requireIndex, requireElement -/
theorem cc_reqS {w1 : Int32} {c0 s0 : Nat} (hc : 1 ≤ c0) (hs : 6 ≤ s0) (K : Unit → xH → Prop) (KX : Nat → xH → Prop) (hK : w1 ≠ 0 → K () H) (hX : w1 = 0 → ∀ q H', κ 0 ≤ q → H' q = some (.inl (32, [])) → Ext H H' → KX q H') : P_X1_requireState κ w1 (H, c0, s0) K KX := by
  unfold P_X1_requireState
  exact ⟨fun z => ⟨hc, hs, fun q hq hκ => ⟨hκ, ⟨_, xup_eq⟩, hX z q _ hκ xup_eq (Ext.new hq)⟩⟩, fun z => hK z⟩
theorem cc_reqI {w1 : Int32} {c0 s0 : Nat} (hc : 1 ≤ c0) (hs : 6 ≤ s0) (K : Unit → xH → Prop) (KX : Nat → xH → Prop) (hK : w1 ≠ 0 → K () H) (hX : w1 = 0 → ∀ q H', κ 0 ≤ q → H' q = some (.inl (16, [])) → Ext H H' → KX q H') : P_X1_requireIndex κ w1 (H, c0, s0) K KX := by
  unfold P_X1_requireIndex
  exact ⟨fun z => ⟨hc, hs, fun q hq hκ => ⟨hκ, ⟨_, xup_eq⟩, hX z q _ hκ xup_eq (Ext.new hq)⟩⟩, fun z => hK z⟩
theorem cc_reqE {w1 : Int32} {c0 s0 : Nat} (hc : 1 ≤ c0) (hs : 6 ≤ s0) (K : Unit → xH → Prop) (KX : Nat → xH → Prop) (hK : w1 ≠ 0 → K () H) (hX : w1 = 0 → ∀ q H', κ 0 ≤ q → H' q = some (.inl (18, [])) → Ext H H' → KX q H') : P_X1_requireElement κ w1 (H, c0, s0) K KX := by
  unfold P_X1_requireElement
  exact ⟨fun z => ⟨hc, hs, fun q hq hκ => ⟨hκ, ⟨_, xup_eq⟩, hX z q _ hκ xup_eq (Ext.new hq)⟩⟩, fun z => hK z⟩
/-- how a question answers: ex k is the class thrown for the twin's k -/
def kQ (κ c : Nat → Nat) (xa : Nat) (H : xH) (ex : Int32 → Nat) (q : Int32 × Int32) (t : Nat → Nat → Int32) (Tm : Nat) (K : Int32 → xH → Prop) (KX : Nat → xH → Prop) : Prop := ∀ H', RR κ c H' xa t Tm → KF H H' → (q.1 = 0 → K q.2 H') ∧ (q.1 ≠ 0 → ∀ p, κ 0 ≤ p → H' p = some (.inl (ex q.1, [])) → KX p H')
/-- the object's fields now, saved and the deque change -/
theorem RR.set (hx : H xa = some (.inl (0, xFs (An 5) sv dq sb ln (t 9 0) lt))) (hκx : κ 0 ≤ xa) (hA : AD κ H dq dd n hd f) (hR : RS κ c H An sv n f sb ln lt t Tm) {now' : Nat} {sv' : Option Nat} {n' hd' : Nat} {f' : Nat → Nat} {H2 : xH} (hx2 : H2 xa = some (.inl (0, xFs now' sv' dq sb ln (t 9 0) lt))) (hA2 : AD κ H2 dq dd n' hd' f') (hfr : ∀ b, b ≠ xa → b ≠ dq → b ≠ dd → H2 b = H b) : Fr H H2 dd ∧ RS κ c H2 An sv n f sb ln lt t Tm := by
  have hcl : ∀ i, i < n → ∃ fs, H (f i) = some (.inl (1, fs)) := fun i hi => by
    obtain ⟨Ai, z1, z2⟩ := hR.2.2.2.2.1.2.2 i hi
    rw [z1]
    exact z2.obj
  have hF : Fr H H2 dd := Fr.of hA hcl (fun b e hb h0 h7 hbd => by
    rw [hfr b (fun z => by rw [z, hx] at hb; exact h0 _ (Option.some.inj hb).symm) (fun z => by rw [z, hA.1] at hb; exact h7 _ (Option.some.inj hb).symm) hbd]
    exact hb)
  exact ⟨hF, hR.fr hF⟩
theorem cc_undo1 (hR : RR κ c H xa t Tm) {n : Nat} (h3 : t 3 0 = nI n) (hn : n ≤ 8) {c0 s0 : Nat} (hc : 10 ≤ c0) (hs : 100 ≤ s0) (K : Int32 → xH → Prop) (KX : Nat → xH → Prop)
    (hK : n ≠ 0 → ∀ H', RR κ c H' xa (tg (tset t 3 0 (nI (n - 1))) (m_undo t (n - 1))) Tm → KF H H' → K (nI (n - 1)) H') (hX : n = 0 → ∀ H', RR κ c H' xa t Tm → KF H H' → ∀ p, κ 0 ≤ p → H' p = some (.inl (32, [])) → KX p H') : P_X1_undo κ xa (H, c0, s0) K KX := by
  obtain ⟨An, sv, dq, dd, n1, hd, f, sb, ln, lt, e1, e2, e3, e4⟩ := id hR
  obtain ⟨q1, q2, q3, q4, ⟨q5, q6, q7⟩, q8, q9, q10, q11, q12, q13⟩ := id e4
  obtain rfl : n1 = n := (nI_eq (by omega) (by omega)).mp (q5.symm.trans h3)
  have hxq : xa ≠ dq := fun z => by rw [z, e3.1] at e1; cases e1
  have hxd : xa ≠ dd := fun z => by
    obtain ⟨F, e, -⟩ := e3.2.1
    rw [z, e] at e1
    cases e1
  unfold P_X1_undo
  rw [g_gq (r := some dq) e1 rfl, t_nn, e3.rc, true_and]
  refine c_pure (r := bI (decide (n1 = 0))) (fun w K hk => cc_isEmpty11 e3 K hk) ?_
  refine ⟨fun z => ?_, fun z => ?_⟩
  · have hz : n1 ≠ 0 := by simpa using (bI_0 _).mp z
    refine c_callX 1 6 (by omega) (by omega) (cc_reqS (by omega) (by omega) _ _ (fun _ => ?_) (fun z => absurd z (by decide)))
    rw [g_gq (r := some dq) e1 rfl, t_nn, e3.rc, true_and]
    refine c_call 0 0 (by omega) (by omega) (cc_removeLast11 e3 (by omega) _ (fun H2 hA2 hf2 => ?_))
    obtain ⟨Ai, z1, z2⟩ := q7 (n1 - 1) (by omega)
    have ex2 : H2 xa = some (.inl (0, xFs (An 5) sv dq sb ln (t 9 0) lt)) := (hf2 xa hxq hxd).trans e1
    have hF1 := (RR.set e1 e2 e3 e4 ex2 hA2 (fun b _ h1 h2 => hf2 b h1 h2)).1
    obtain ⟨fs, eo⟩ := (z2.fr hF1).obj
    rw [t_nn, z1, g_rc eo, true_and, g_pq ex2 e2 (by simp [xFs])]
    have hset : (xFs (An 5) sv dq sb ln (t 9 0) lt).set 0 (va_rf (some (Ai 5))) = xFs (Ai 5) sv dq sb ln (t 9 0) lt := rfl
    rw [hset]
    have ex3 : xup H2 xa (.inl (0, xFs (Ai 5) sv dq sb ln (t 9 0) lt)) xa = some (.inl (0, xFs (Ai 5) sv dq sb ln (t 9 0) lt)) := xup_eq
    have hA3 : AD κ (xup H2 xa (.inl (0, xFs (Ai 5) sv dq sb ln (t 9 0) lt))) dq dd (n1 - 1) hd f := by
      obtain ⟨e1, ⟨F, e2, e3⟩, e4⟩ := hA2
      exact ⟨(xup_ne (Ne.symm hxq)).trans e1, ⟨F, (xup_ne (Ne.symm hxd)).trans e2, e3⟩, e4⟩
    obtain ⟨hF, u1, u2, u3, u4, ⟨u5, u6, u7⟩, u8, u9, u10, u11, u12, u13⟩ := RR.set e1 e2 e3 e4 ex3 hA3 (fun b h0 h1 h2 => (xup_ne h0).trans (hf2 b h1 h2))
    rw [g_gq (r := some dq) ex3 rfl, t_nn, hA3.rc, true_and]
    refine c_pure (r := nI (n1 - 1)) (fun w K hk => cc_size11 hA3 K hk) ?_
    have eh : m_undo t (n1 - 1) = hst t (n1 - 1) := rfl
    have ht : ∀ k, k ≠ 0 → k ≠ 3 → tg (tset t 3 0 (nI (n1 - 1))) (m_undo t (n1 - 1)) k = t k := fun k h0 h3 => by
      funext j
      simp [tg, tset, h0, h3]
    have h20 : tg (tset t 3 0 (nI (n1 - 1))) (m_undo t (n1 - 1)) 0 = hst t (n1 - 1) := by
      funext j
      simp [tg, eh]
    refine hK hz _ ⟨Ai, sv, dq, dd, n1 - 1, hd, f, sb, ln, lt, ?_, e2, hA3, u1, u2, ?_, ?_, ⟨?_, by omega, fun i hi => ?_⟩, ?_, ?_, ?_, ?_, ?_, ?_⟩ hF.kf
    · rw [ht 9 (by omega) (by omega)]; exact ex3
    · rw [h20]
      obtain ⟨Ai2, v1, v2⟩ := u7 (n1 - 1) (by omega)
      exact z2.fr hF
    · rw [ht 5 (by omega) (by omega), ht 4 (by omega) (by omega)]; exact u4
    · simp [tg, tset]
    · have : hst (tg (tset t 3 0 (nI (n1 - 1))) (m_undo t (n1 - 1))) i = hst t i := by
        unfold hst
        rw [ht 2 (by omega) (by omega)]
      rw [this]
      exact u7 i (by omega)
    · rw [ht 8 (by omega) (by omega), ht 7 (by omega) (by omega)]; exact u8
    · rw [ht 15 (by omega) (by omega), ht 14 (by omega) (by omega)]; exact u9
    · rw [ht 10 (by omega) (by omega), ht 11 (by omega) (by omega), ht 12 (by omega) (by omega), ht 13 (by omega) (by omega)]; exact u10
    · rw [h20]
      obtain ⟨s, l, r, T, N, gc, W, bl, -, -, hG, -⟩ := z2
      exact hG.z
    · rw [ht 1 (by omega) (by omega)]; exact u12
    · rw [ht 4 (by omega) (by omega)]; exact u13
  · have hz : n1 = 0 := by simpa using bI_c z
    refine c_callX 1 6 (by omega) (by omega) (cc_reqS (by omega) (by omega) _ _ (fun z => absurd rfl z) (fun _ q H' hq hq2 hE => ?_))
    exact ⟨hq, ⟨_, hq2⟩, hX hz H' (hR.mono hE) hE.kf q hq hq2⟩
theorem cc_save1 (hR : RR κ c H xa t Tm) {c0 s0 : Nat} (K : Int32 → xH → Prop)
    (hK : ∀ H', RR κ c H' xa (tset (tsk t 4 (t 0)) 5 0 1) Tm → KF H H' → K (t 0 0) H') : P_X1_save κ xa (H, c0, s0) K := by
  obtain ⟨An, sv, dq, dd, n1, hd, f, sb, ln, lt, e1, e2, e3, e4⟩ := id hR
  obtain ⟨q1, q2, q3, q4, ⟨q5, q6, q7⟩, q8, q9, q10, q11, q12, q13⟩ := id e4
  have hxq : xa ≠ dq := fun z => by rw [z, e3.1] at e1; cases e1
  have hxd : xa ≠ dd := fun z => by
    obtain ⟨F, e, -⟩ := e3.2.1
    rw [z, e] at e1
    cases e1
  unfold P_X1_save
  rw [g_gq (r := some (An 5)) e1 rfl, g_pq e1 e2 (by simp [xFs])]
  have hset : (xFs (An 5) sv dq sb ln (t 9 0) lt).set 1 (va_rf (some (An 5))) = xFs (An 5) (some (An 5)) dq sb ln (t 9 0) lt := rfl
  rw [hset]
  have ex3 : xup H xa (.inl (0, xFs (An 5) (some (An 5)) dq sb ln (t 9 0) lt)) xa = some (.inl (0, xFs (An 5) (some (An 5)) dq sb ln (t 9 0) lt)) := xup_eq
  have hA3 : AD κ (xup H xa (.inl (0, xFs (An 5) (some (An 5)) dq sb ln (t 9 0) lt))) dq dd n1 hd f := by
    obtain ⟨e1, ⟨F, e2, e3⟩, e4⟩ := e3
    exact ⟨(xup_ne (Ne.symm hxq)).trans e1, ⟨F, (xup_ne (Ne.symm hxd)).trans e2, e3⟩, e4⟩
  obtain ⟨hF, u1, u2, u3, u4, ⟨u5, u6, u7⟩, u8, u9, u10, u11, u12, u13⟩ := RR.set e1 e2 e3 e4 ex3 hA3 (fun b h0 h1 h2 => xup_ne h0)
  have ht : ∀ k, k ≠ 4 → k ≠ 5 → tset (tsk t 4 (t 0)) 5 0 1 k = t k := fun k h4 h5 => by
    funext j
    simp [tset, tsk, h4, h5]
  have ht4 : tset (tsk t 4 (t 0)) 5 0 1 4 = t 0 := by
    funext j
    simp [tset, tsk]
  obtain ⟨s, l, r, T, N, gc, W, bl, hS, hRX, hG, hTT⟩ := id u3
  rw [g_gq (r := some (An 5)) ex3 rfl, t_nn, g_gi (k := 10) (hS.2.1 5 (md (by omega))) rfl, hRX.1.1 0 (by omega)]
  refine hK _ ⟨An, some (An 5), dq, dd, n1, hd, f, sb, ln, lt, ?_, e2, hA3, u1, u2, ?_, Or.inr ⟨An, rfl, ?_, ?_⟩, ⟨?_, u6, fun i hi => ?_⟩, ?_, ?_, ?_, ?_, ?_, ?_⟩ hF.kf
  · rw [ht 9 (by omega) (by omega)]; exact ex3
  · rw [ht 0 (by omega) (by omega)]; exact u3
  · simp [tset]
  · rw [ht4]; exact u3
  · rw [ht 3 (by omega) (by omega)]; exact u5
  · have : hst (tset (tsk t 4 (t 0)) 5 0 1) i = hst t i := by
      unfold hst
      rw [ht 2 (by omega) (by omega)]
    rw [this]
    exact u7 i (by omega)
  · rw [ht 8 (by omega) (by omega), ht 7 (by omega) (by omega)]; exact u8
  · rw [ht 15 (by omega) (by omega), ht 14 (by omega) (by omega)]; exact u9
  · rw [ht 10 (by omega) (by omega), ht 11 (by omega) (by omega), ht 12 (by omega) (by omega), ht 13 (by omega) (by omega)]; exact u10
  · rw [ht 0 (by omega) (by omega)]; exact u11
  · rw [ht 1 (by omega) (by omega)]; exact u12
  · rw [ht4]; exact u11
theorem cc_restore1 (hR : RR κ c H xa t Tm) {c0 s0 : Nat} (hc : 10 ≤ c0) (hs : 100 ≤ s0) (K : Int32 → xH → Prop) (KX : Nat → xH → Prop)
    (hK : t 5 0 ≠ 0 → ∀ H', RR κ c H' xa (tg (tset t 3 0 0) (t 4)) Tm → KF H H' → K (t 4 0) H') (hX : t 5 0 = 0 → ∀ H', RR κ c H' xa t Tm → KF H H' → ∀ p, κ 0 ≤ p → H' p = some (.inl (32, [])) → KX p H') : P_X1_restore κ xa (H, c0, s0) K KX := by
  obtain ⟨An, sv, dq, dd, n1, hd, f, sb, ln, lt, e1, e2, e3, e4⟩ := id hR
  obtain ⟨q1, q2, q3, q4, ⟨q5, q6, q7⟩, q8, q9, q10, q11, q12, q13⟩ := id e4
  have hxq : xa ≠ dq := fun z => by rw [z, e3.1] at e1; cases e1
  have hxd : xa ≠ dd := fun z => by
    obtain ⟨F, e, -⟩ := e3.2.1
    rw [z, e] at e1
    cases e1
  unfold P_X1_restore
  rw [g_gq (r := sv) e1 rfl]
  refine ⟨fun z => ?_, fun b2 z => ?_⟩
  · have hz : t 5 0 = 0 := by
      rcases q4 with y | ⟨As, y, -⟩
      · exact y.2
      · rw [z] at y; cases y
    refine c_callX 1 6 (by omega) (by omega) (cc_reqS (by omega) (by omega) _ _ (fun z => absurd rfl z) (fun _ q H' hq hq2 hE => ?_))
    exact ⟨hq, ⟨_, hq2⟩, hX hz H' (hR.mono hE) hE.kf q hq hq2⟩
  · obtain ⟨As, y, y5, y4⟩ : ∃ As : Nat → Nat, sv = some (As 5) ∧ t 5 0 = 1 ∧ MT κ c H As (t 4) Tm := by
      rcases q4 with y | y
      · rw [z] at y; cases y.1
      · exact y
    refine c_callX 1 6 (by omega) (by omega) (cc_reqS (by omega) (by omega) _ _ (fun _ => ?_) (fun z => absurd z (by decide)))
    rw [g_gq (r := sv) e1 rfl, g_pq e1 e2 (by simp [xFs])]
    have hset : (xFs (An 5) sv dq sb ln (t 9 0) lt).set 0 (va_rf sv) = xFs (As 5) sv dq sb ln (t 9 0) lt := by rw [y]; rfl
    rw [hset]
    have ex3 : xup H xa (.inl (0, xFs (As 5) sv dq sb ln (t 9 0) lt)) xa = some (.inl (0, xFs (As 5) sv dq sb ln (t 9 0) lt)) := xup_eq
    have hA3 : AD κ (xup H xa (.inl (0, xFs (As 5) sv dq sb ln (t 9 0) lt))) dq dd n1 hd f := by
      obtain ⟨e1, ⟨F, e2, e3⟩, e4⟩ := e3
      exact ⟨(xup_ne (Ne.symm hxq)).trans e1, ⟨F, (xup_ne (Ne.symm hxd)).trans e2, e3⟩, e4⟩
    rw [g_gq (r := some dq) ex3 rfl, t_nn, hA3.rc, true_and]
    refine c_call 0 0 (by omega) (by omega) (cc_clear11 hA3 _ (fun H4 hA4 hf4 => ?_))
    have ex4 : H4 xa = some (.inl (0, xFs (As 5) sv dq sb ln (t 9 0) lt)) := (hf4 xa hxq hxd).trans ex3
    obtain ⟨hF, u1, u2, u3, u4, ⟨u5, u6, u7⟩, u8, u9, u10, u11, u12, u13⟩ := RR.set e1 e2 e3 e4 ex4 hA4 (fun b h0 h1 h2 => (hf4 b h1 h2).trans (xup_ne h0))
    have y4' := y4.fr hF
    obtain ⟨s, l, r, T, N, gc, W, bl, hS, hRX, hG, hTT⟩ := id y4'
    rw [g_gq (r := some (As 5)) ex4 rfl, t_nn, g_gi (k := 10) (hS.2.1 5 (md (by omega))) rfl, hRX.1.1 0 (by omega)]
    have ht : ∀ k, k ≠ 0 → k ≠ 3 → tg (tset t 3 0 0) (t 4) k = t k := fun k h0 h3 => by
      funext j
      simp [tg, tset, h0, h3]
    have h20 : tg (tset t 3 0 0) (t 4) 0 = t 4 := by
      funext j
      simp [tg]
    refine hK (by rw [y5]; decide) _ ⟨As, sv, dq, dd, 0, 0, f, sb, ln, lt, ?_, e2, hA4, u1, u2, ?_, ?_, ⟨?_, by omega, fun i hi => absurd hi (Nat.not_lt_zero _)⟩, ?_, ?_, ?_, ?_, ?_, ?_⟩ hF.kf
    · rw [ht 9 (by omega) (by omega)]; exact ex4
    · rw [h20]; exact y4'
    · rw [ht 5 (by omega) (by omega), ht 4 (by omega) (by omega)]; exact u4
    · simp [tg, tset]; rfl
    · rw [ht 8 (by omega) (by omega), ht 7 (by omega) (by omega)]; exact u8
    · rw [ht 15 (by omega) (by omega), ht 14 (by omega) (by omega)]; exact u9
    · rw [ht 10 (by omega) (by omega), ht 11 (by omega) (by omega), ht 12 (by omega) (by omega), ht 13 (by omega) (by omega)]; exact u10
    · rw [h20]; exact hG.z
    · rw [ht 1 (by omega) (by omega)]; exact u12
    · rw [ht 4 (by omega) (by omega)]; exact u13
end H5
