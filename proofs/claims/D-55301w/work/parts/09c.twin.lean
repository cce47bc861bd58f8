-- a change is done on a copy
section H3
variable {κ c A An An' : Nat → Nat} {H H' H1 h h0 : xH} {a s l n r hd dq dd sb ln xa oa Tm Tm' T N i M : Nat} {sv lt : Option Nat} {f bl : Nat → Nat} {t t' : Nat → Nat → Int32} {g g' gT gc W ch : Nat → Int32} {w : Nat × Nat} {x y : Int32}
theorem RS.le (hT : Tm ≤ Tm') (hR : RS κ c H An sv n f sb ln lt t Tm) : RS κ c H An sv n f sb ln lt t Tm' := by
  obtain ⟨h1, h2, h3, h4, ⟨h5, h6, h7⟩, h8⟩ := hR
  refine ⟨h1, h2, h3.le hT, ?_, ⟨h5, h6, fun i hi => ?_⟩, h8⟩
  · rcases h4 with z | ⟨As, z1, z2, z3⟩
    · exact Or.inl z
    · exact Or.inr ⟨As, z1, z2, z3.le hT⟩
  · obtain ⟨Ai, z1, z2⟩ := h7 i hi
    exact ⟨Ai, z1, z2.le hT⟩
theorem RR.le (hT : Tm ≤ Tm') (hR : RR κ c H xa t Tm) : RR κ c H xa t Tm' := by
  obtain ⟨An, sv, dq, dd, n, hd, f, sb, ln, lt, h1, h2, h3, h4⟩ := hR
  exact ⟨An, sv, dq, dd, n, hd, f, sb, ln, lt, h1, h2, h3, h4.le hT⟩
theorem RR.mono (hE : Ext H H') (hR : RR κ c H xa t Tm) : RR κ c H' xa t Tm := by
  obtain ⟨An, sv, dq, dd, n, hd, f, sb, ln, lt, h1, h2, h3, h4⟩ := hR
  exact ⟨An, sv, dq, dd, n, hd, f, sb, ln, lt, hE _ _ h1, h2, h3.mono hE, h4.mono hE⟩
theorem AD.es (hE : ESr H H' a) (hA : AD κ H dq dd n hd f) : AD κ H' dq dd n hd f := by
  obtain ⟨hk, v, w, r, x, y, e, -⟩ := hE
  obtain ⟨h1, ⟨F, h2, h3⟩, h4⟩ := hA
  exact ⟨hk _ _ h1 (fun z => by rw [z, e] at h1; cases h1), ⟨F, hk _ _ h2 (fun z => by rw [z, e] at h2; cases h2), h3⟩, h4⟩
theorem RR.es (hE : ESr H H' a) (hR : RR κ c H xa t Tm) : RR κ c H' xa t Tm := by
  obtain ⟨An, sv, dq, dd, n, hd, f, sb, ln, lt, h1, h2, h3, h4⟩ := hR
  refine ⟨An, sv, dq, dd, n, hd, f, sb, ln, lt, ?_, h2, h3.es hE, h4.es hE⟩
  obtain ⟨hk, v, w, r, x, y, e, -⟩ := hE
  exact hk _ _ h1 (fun z => by rw [z, e] at h1; cases h1)
/-- what of the twin the class's object stands for -/
theorem RR.cg (hR : RR κ c H xa t Tm) (he : ∀ k, k = 0 ∨ (2 ≤ k ∧ k ≤ 5) ∨ (7 ≤ k ∧ k ≤ 15) → t' k = t k) (h1 : z357 (t' 1)) : RR κ c H xa t' Tm := by
  obtain ⟨An, sv, dq, dd, n, hd, f, sb, ln, lt, e1, e2, e3, q1, q2, q3, q4, ⟨q5, q6, q7⟩, q8, q9, q10, q11, q12, q13⟩ := hR
  have hh : ∀ i, hst t' i = hst t i := fun i => by
    unfold hst
    rw [he 2 (by omega)]
  refine ⟨An, sv, dq, dd, n, hd, f, sb, ln, lt, ?_, e2, e3, q1, q2, ?_, ?_, ⟨?_, q6, fun i hi => ?_⟩, ?_, ?_, ?_, ?_, h1, ?_⟩
  · rw [he 9 (by omega)]; exact e1
  · rw [he 0 (by omega)]; exact q3
  · rw [he 5 (by omega), he 4 (by omega)]; exact q4
  · rw [he 3 (by omega)]; exact q5
  · rw [hh]; exact q7 i hi
  · rw [he 8 (by omega), he 7 (by omega)]; exact q8
  · rw [he 15 (by omega), he 14 (by omega)]; exact q9
  · rw [he 10 (by omega), he 11 (by omega), he 12 (by omega), he 13 (by omega)]; exact q10
  · rw [he 0 (by omega)]; exact q11
  · rw [he 4 (by omega)]; exact q13
/-- the latest refusal is noted -/
theorem RR.refuse {q : Nat} (hR : RR κ c H xa t Tm) (hq : RF H q x y none) (hx : x ≠ 0) (K : xS → Prop) (hK : ∀ H' w', RR κ c H' xa (tg (tRef t x y) (t 0)) Tm → KF H H' → w' = w → K (H', w')) : xpq κ (H, w) xa 0 6 (some q) K := by
  obtain ⟨An, sv, dq, dd, n, hd, f, sb, ln, lt, e1, e2, e3, e4⟩ := hR
  rw [g_pq e1 e2 (by simp [xFs])]
  have hne : ∀ b, b ≠ xa → xup H xa (.inl (0, (xFs (An 5) sv dq sb ln (t 9 0) lt).set 6 (va_rf (some q)))) b = H b := fun b hb => xup_ne hb
  have hk : ∀ b e, H b = some e → (∀ fs, e ≠ .inl (0, fs)) → xup H xa (.inl (0, (xFs (An 5) sv dq sb ln (t 9 0) lt).set 6 (va_rf (some q)))) b = some e := fun b e hb h0 => by
    rw [hne b (fun z => by rw [z, e1] at hb; exact h0 _ (Option.some.inj hb).symm)]
    exact hb
  have hA2 : AD κ (xup H xa (.inl (0, (xFs (An 5) sv dq sb ln (t 9 0) lt).set 6 (va_rf (some q))))) dq dd n hd f := by
    obtain ⟨z1, ⟨F, z2, z3⟩, z4⟩ := e3
    exact ⟨hk _ _ z1 (fun fs z => by cases z), ⟨F, hk _ _ z2 (fun fs z => by cases z), z3⟩, z4⟩
  have hcl : ∀ i, i < n → ∃ fs, H (f i) = some (.inl (1, fs)) := fun i hi => by
    obtain ⟨Ai, z1, z2⟩ := e4.2.2.2.2.1.2.2 i hi
    rw [z1]
    exact z2.obj
  have hF := Fr.of (H' := xup H xa (.inl (0, (xFs (An 5) sv dq sb ln (t 9 0) lt).set 6 (va_rf (some q))))) e3 hcl (fun b e hb h0 _ _ => hk b e hb h0)
  have hRS := e4.fr hF
  obtain ⟨q1, q2, q3, q4, ⟨q5, q6, q7⟩, q8, q9, q10, q11, q12, q13⟩ := hRS
  refine hK _ _ ⟨An, sv, dq, dd, n, hd, f, sb, ln, some q, xup_eq, e2, hA2, q1, q2, q3, q4, ⟨q5, q6, q7⟩, q8, q9, ?_, q11, q12, q13⟩ hF.kf rfl
  obtain ⟨u, v, e⟩ := hq
  exact Or.inr ⟨q, none, rfl, hx, ⟨u, v, hk _ _ e (fun fs z => by cases z)⟩, Or.inl ⟨rfl, rfl⟩⟩
/-- how a change answers -/
def kC (κ c : Nat → Nat) (xa : Nat) (H : xH) (o : mO) (t : Nat → Nat → Int32) (Tm : Nat) (K : Int32 → xH → Prop) (KX : Nat → xH → Prop) : Prop := match o with
  | .inl p => ∀ H' q, κ 0 ≤ q → H' q = some (.inl (20, [])) → RR κ c H' xa (tg (tRef t p.1 p.2) (t 0)) Tm → KF H H' → KX q H'
  | .inr p => ∀ n H', t 3 0 = nI n → n ≤ 8 → RR κ c H' xa (tg (t_done t (t 0) n) p.2) (Tm + 200) → KF H H' → K p.1 H'
theorem kC.to {o : mO} {K : Int32 → xH → Prop} {KX KX' : Nat → xH → Prop} (hX : ∀ q H', κ 0 ≤ q → H' q = some (.inl (20, [])) → KX q H' → KX' q H') (hK : kC κ c xa H o t Tm K KX) : kC κ c xa H o t Tm K KX' := by
  cases o with
  | inl p => exact fun H' q h1 h2 h3 h4 => hX q H' h1 h2 (hK H' q h1 h2 h3 h4)
  | inr p => exact hK
theorem kC.fr {o : mO} {K : Int32 → xH → Prop} {KX : Nat → xH → Prop} (hF : KF H H1) (hK : kC κ c xa H o t Tm K KX) : kC κ c xa H1 o t Tm K KX := by
  cases o with
  | inl p => exact fun H' q h1 h2 h3 h4 => hK H' q h1 h2 h3 (hF.trans h4)
  | inr p => exact fun n H' h1 h2 h3 h4 => hK n H' h1 h2 h3 (hF.trans h4)
theorem cc_done (hR : RR κ c H xa t Tm) (hT : Tm < 2 ^ 27) {fo : List Value} {o : Nat → Nat → Nat → mO} {oo : mO} (hoo : ∀ T N s l r, T ≤ Tm → GI (t 0) T N s l r → o s l r = oo) (hx : ∀ x y, oo = .inl (x, y) → x ≠ 0)
    (hn : ∀ T N s l r p, T ≤ Tm → GI (t 0) T N s l r → oo = .inr p → ∃ s' l' r' T' N', GI p.2 T' N' s' l' r' ∧ T' ≤ T + 200 ∧ N' ≤ N + 1) (ho : H oa = some (.inl (11, fo)))
    (hdo : ∀ (A : Nat → Nat) (s l r : Nat) (gc W : Nat → Int32) (bl : Nat → Nat) (h h0 : xH) (c0 s0 T N : Nat) (K : Int32 → xH → Prop) (KX : Nat → xH → Prop), MM κ A s l c W h0 r bl h → RX gc (t 0) W bl s l r → GI (t 0) T N s l r → T < 2 ^ 28 → 90 ≤ c0 → 50000 ≤ s0 → WS κ (mput h A s l gc) → mput h A s l gc oa = some (.inl (11, fo)) → (∃ fs, mput h A s l gc (A 5) = some (.inl (1, fs))) → ORD κ c h0 (A 5) (o s l r) K (fun q h' => κ 0 ≤ q ∧ xrc (h', 0, 0) q 26 ∧ KX q h') → P_X5_does κ oa (some (A 5)) (mput h A s l gc, c0, s0) K KX)
    {c0 s0 : Nat} (hc : 300 ≤ c0) (hs : 100000 ≤ s0) (K : Int32 → xH → Prop) (KX : Nat → xH → Prop) (hK : kC κ c xa H oo t Tm K KX) : P_X1_done κ xa (some oa) (H, c0, s0) K KX := by
  obtain ⟨An, sv, dq, dd, n, hd, f, sb, ln, lt, e1, e2, e3, e4⟩ := id hR
  obtain ⟨q1, q2, ⟨s, l, r, T, N, gc, W, bl, hS, hRX, hGI, hTT, hNN⟩, q4, ⟨q5, q6, q7⟩, q8⟩ := id e4
  unfold P_X1_done
  refine ⟨by dsimp only; omega, by dsimp only; omega, fun m hm hκm => ?_⟩
  have hm : H m = none := hm
  have hXe : Ext H (xup H m (.inl (1, mZ))) := Ext.new hm
  show xgq (xup H m (.inl (1, mZ)), c0 - 1, s0 - 20) xa 0 0 _
  rw [g_gq (r := some (An 5)) (hXe _ _ e1) rfl]
  have hp : ∀ a, lin s l a → gc (105 + a) = 0 ∨ gc (105 + a) = 1 := fun a ha => by
    rw [(hRX.1.2 a ha).2.2.1]
    exact hGI.p01 ha.1
  have h4 : gc 4 = 0 ∨ gc 4 = 1 := by
    rw [hRX.1.1 4 (by omega)]
    exact hGI.1.2.2.2.2.1
  dsimp only
  refine c_call 190 40000 (by omega) (by omega) (cc_copy q1 hS hp h4 hm hκm (by omega) (by omega) _ (fun A h0 h' A5 hES hMM h0m => ?_))
  subst A5
  rw [t_nn]
  have hg0 := mput_ext (g := gc) hMM.1.2.1
  have hE0 : Ext h0 (mput h' A s l gc) := fun b e hb => hg0 _ _ (hMM.2.2.1 _ _ hb)
  have hmo : H (An 38) ≠ none := fun z => by
    obtain ⟨v, w, r, x, y, e, -⟩ := hES.2
    rw [z] at e
    cases e
  have ho2 : mput h' A s l gc oa = some (.inl (11, fo)) := hE0 _ _ (hES.1 _ _ ho (fun z => by
    obtain ⟨v, w, r, x, y, e, -⟩ := hES.2
    rw [z, e] at ho
    cases ho))
  rw [g_rc ho2, true_and]
  have hR1 : RR κ c h0 xa t Tm := hR.es hES
  have hWS : WS κ (mput h' A s l gc) := by
    intro i hi
    obtain ⟨vs, co, hs, hz, u1, u2⟩ := (e4.es hES).2.1 i hi
    exact ⟨vs, co, hs, hz, hE0 _ _ u1, u2⟩
  refine c_callX 100 55000 (by omega) (by omega) (hdo A s l r gc W bl h' h0 _ _ T N _ _ hMM hRX hGI (by omega) (by omega) (by omega) hWS ho2 ⟨_, mput_k hMM.1.1 (md (by omega))⟩ ?_)
  rw [hoo T N s l r hTT hGI]
  refine ⟨fun v g' ev A' s' l' gc' W' bl' r' h2 A5 hRX' hRS hM' => ?_, fun x y ex q h2 hRF hq hκq hE => ?_⟩
  · subst ev
    have hE2 : Ext h0 (mput h2 A' s' l' gc') := fun b e hb => mput_ext hM'.1.2.1 _ _ (hM'.2.2.1 _ _ hb)
    have hR2 : RR κ c (mput h2 A' s' l' gc') xa t (Tm + 200) := (hR1.mono hE2).le (by omega)
    obtain ⟨s1, l1, r1, T1, N1, hG1, hT1, hN1⟩ := hn T N s l r _ hTT hGI rfl
    have hs1 := hG1.1.2.1
    have hl1 := hG1.1.2.2.1
    have hr1 := hG1.1.1
    obtain ⟨z1, z2, z3⟩ := hRS
    have es : s1 = s' := (nI_eq (by omega) (by have := hM'.1.2.2.2.1; omega)).mp (hs1.1.symm.trans z1)
    have el : l1 = l' := (nI_eq (by omega) (by have := hM'.1.2.2.2.2.1; omega)).mp (hl1.1.symm.trans z2)
    have er : r1 = r' := (nI_eq (by omega) (by have := hM'.2.2.2.2.2.1; omega)).mp (hr1.1.symm.trans z3)
    subst es el er
    have hMT : MT κ c (mput h2 A' s1 l1 gc') A' g' (Tm + 200) := ⟨s1, l1, r1, T1, N1, gc', W', bl', hM'.st, hRX', hG1, by omega, by omega⟩
    obtain ⟨An2, sv2, dq2, dd2, n2, hd2, f2, sb2, ln2, lt2, u1, u2, u3, u4⟩ := hR2
    rw [g_rc u1, true_and, ← A5]
    refine c_call 0 0 (by omega) (by omega) (cc_remember u1 u2 u3 u4 hMT hG1.z _ (fun H' hRR hkf _ => ?_))
    exact hK n2 H' u4.2.2.2.2.1.1 u4.2.2.2.2.1.2.1 hRR ((hES.kf.trans (Ext.kf hE2)).trans hkf)
  · subst ex
    have hR2 := hR1.mono hE
    refine ⟨hκq, hRF.rc, hκq, hRF.rc, ?_⟩
    refine hR2.refuse hRF (hx _ _ rfl) _ (fun H2 w2 hR3 hkf ew => ?_)
    subst ew
    refine ⟨by dsimp only; omega, by dsimp only; omega, fun q2 hq2 hκ2 => ?_⟩
    refine ⟨hκ2, ⟨_, xup_eq⟩, ?_⟩
    exact hK _ q2 hκ2 xup_eq (hR3.mono (Ext.new hq2)) (((hES.kf.trans (Ext.kf hE)).trans hkf).trans (Ext.kf (Ext.new hq2)))
end H3
