-- the class's state
/-- the StringBuilder at a: n characters ch, room for M -/
def SBd (κ : Nat → Nat) (h : xH) (a n M : Nat) (ch : Nat → Int32) : Prop := n ≤ M ∧ M ≤ 500 ∧ κ 0 ≤ a ∧ ∃ (v : Nat) (co mc : Int32) (f : Nat → Int32) (N : Nat), h a = some (.inl (8, [.ref v, .int co, .int mc, .int (nI n)])) ∧ h v = some (.inr (.byte, N, .inl f)) ∧ κ 0 ≤ v ∧ (∀ i, fits .byte (.int (f i)) = true) ∧ ((co = 0 ∧ N = M ∧ ∀ i, i < n → ch8 (f i) = ch i) ∨ (co = 1 ∧ N = 2 * M ∧ ∀ i, i < n → ch16 (f (2 * i)) (f (2 * i + 1)) = ch i)) ∧ (mc = 0 ∨ mc = 1)
/-- a standing machine that is the twin's numbers gT -/
def MT (κ c : Nat → Nat) (H : xH) (A : Nat → Nat) (gT : Nat → Int32) (Tm : Nat) : Prop := ∃ (s l r T N : Nat) (gc W : Nat → Int32) (bl : Nat → Nat), ST κ H c A s l gc W r bl ∧ RX gc gT W bl s l r ∧ GI gT T N s l r ∧ T ≤ Tm ∧ N ≤ Tm
/-- the orders' words -/
def WS (κ : Nat → Nat) (H : xH) : Prop := ∀ i, i < 9 → ∃ (vs : Nat) (co hs hz : Int32), H (κ (11 + i)) = some (.inl (9, [.ref vs, .int co, .int hs, .int hz])) ∧ hs = (if i = 0 then 3496342 else if i = 1 then 113399775 else if i = 2 then 110997 else if i = 3 then 3151468 else if i = 4 then 97532676 else if i = 5 then -1335157162 else if i = 6 then 110355062 else if i = 7 then 109399969 else 3512060)
/-- the latest refusal: reason, detail, and the one behind (0: none) -/
def LR (H : xH) (lt : Option Nat) (x y x2 y2 : Int32) : Prop := (lt = none ∧ x = 0) ∨ ∃ (q : Nat) (bh : Option Nat), lt = some q ∧ x ≠ 0 ∧ RF H q x y bh ∧ ((bh = none ∧ x2 = 0) ∨ ∃ q2 : Nat, bh = some q2 ∧ x2 ≠ 0 ∧ RF H q2 x2 y2 none)
def hst (t : Nat → Nat → Int32) (i : Nat) : Nat → Int32 := fun j => if j < 357 then t 2 (i * 357 + j) else 0
/-- what stands but for the object itself and its deque -/
def RS (κ c : Nat → Nat) (H : xH) (An : Nat → Nat) (sv : Option Nat) (n : Nat) (f : Nat → Nat) (sb ln : Nat) (lt : Option Nat) (t : Nat → Nat → Int32) (Tm : Nat) : Prop :=
  GL κ H c ∧ WS κ H ∧ MT κ c H An (t 0) Tm ∧ ((sv = none ∧ t 5 0 = 0) ∨ ∃ As : Nat → Nat, sv = some (As 5) ∧ t 5 0 = 1 ∧ MT κ c H As (t 4) Tm) ∧
  (t 3 0 = nI n ∧ n ≤ 8 ∧ ∀ i, i < n → ∃ Ai : Nat → Nat, f i = Ai 5 ∧ MT κ c H Ai (hst t i) Tm) ∧
  (∃ (nt M : Nat) (ch : Nat → Int32), SBd κ H sb nt M ch ∧ t 8 0 = nI nt ∧ nt ≤ 60 ∧ ∀ i, i < nt → t 7 i = ch i) ∧
  (∃ (nl : Nat) (ch : Nat → Int32), isS H ln nl ch ∧ t 15 0 = nI nl ∧ nl ≤ 60 ∧ ∀ i, i < nl → t 14 i = ch i) ∧
  LR H lt (t 10 0) (t 11 0) (t 12 0) (t 13 0) ∧ (z357 (t 0) ∧ z357 (t 1) ∧ z357 (t 4))
def xFs (now : Nat) (sv : Option Nat) (dq sb ln : Nat) (fp : Int32) (lt : Option Nat) : List Value := [.ref now, va_rf sv, .ref dq, .ref sb, .ref ln, .int fp, va_rf lt]
/-- the object x of the class stands as the twin's t -/
def RR (κ c : Nat → Nat) (H : xH) (xa : Nat) (t : Nat → Nat → Int32) (Tm : Nat) : Prop := ∃ (An : Nat → Nat) (sv : Option Nat) (dq dd n hd : Nat) (f : Nat → Nat) (sb ln : Nat) (lt : Option Nat), H xa = some (.inl (0, xFs (An 5) sv dq sb ln (t 9 0) lt)) ∧ κ 0 ≤ xa ∧ AD κ H dq dd n hd f ∧ RS κ c H An sv n f sb ln lt t Tm
section H1
variable {κ c A An : Nat → Nat} {H H' H1 : xH} {a s l n r hd dq dd sb ln xa Tm Tm' i M : Nat} {sv lt : Option Nat} {f bl : Nat → Nat} {t t' : Nat → Nat → Int32} {g gT W ch : Nat → Int32}
/-- the twin's objects and the law's arrays stay -/
def KF (H H' : xH) : Prop := ∀ b e, H b = some e → (∀ ci fs, e = .inl (ci, fs) → ci = 10) → (∀ x, e ≠ .inr (.byte, x)) → (∀ C x, e ≠ .inr (.object C, x)) → H' b = some e
theorem KF.refl : KF H H := fun b e hb _ _ _ => hb
theorem KF.trans (h1 : KF H H1) (h2 : KF H1 H') : KF H H' := fun b e hb k1 k2 k3 => h2 b e (h1 b e hb k1 k2 k3) k1 k2 k3
theorem Ext.kf (h : Ext H H') : KF H H' := fun b e hb _ _ _ => h b e hb
theorem ESr.kf (h : ESr H H' a) : KF H H' := fun b e hb k1 _ _ => h.1 b e hb (fun z => by
  obtain ⟨v, w, r, x, y, e1, -⟩ := h.2
  rw [z, e1] at hb
  have := k1 2 _ (Option.some.inj hb).symm
  omega)
/-- all but objects of classes 0 and 7 and the array dd stay -/
def Fr (H H' : xH) (dd : Nat) : Prop := (∀ b e, H b = some e → (∀ fs, e ≠ .inl (0, fs)) → (∀ fs, e ≠ .inl (7, fs)) → b ≠ dd → H' b = some e) ∧ ∃ F, H dd = some (oA 17 F) ∧ ∀ j x, F j = some x → ∃ fs, H x = some (.inl (1, fs))
theorem Fr.kf (hF : Fr H H' dd) : KF H H' := fun b e hb k1 k2 k3 => by
  obtain ⟨hk, F, e1, -⟩ := hF
  refine hk b e hb (fun fs z => ?_) (fun fs z => ?_) (fun z => ?_)
  · have := k1 _ _ z
    omega
  · have := k1 _ _ z
    omega
  · rw [z, e1] at hb
    exact k3 _ _ (Option.some.inj hb).symm
theorem Fr.cl (hF : Fr H H' dd) {b ci : Nat} {fs : List Value} (hb : H b = some (.inl (ci, fs))) (h0 : ci ≠ 0) (h7 : ci ≠ 7) : H' b = some (.inl (ci, fs)) := by
  obtain ⟨hk, F, e, -⟩ := hF
  exact hk b _ hb (fun fs z => by cases z; exact h0 rfl) (fun fs z => by cases z; exact h7 rfl) (fun z => by rw [z, e] at hb; cases hb)
theorem Fr.by (hF : Fr H H' dd) {b N : Nat} {x : (Nat → Int32) ⊕ (Nat → Int64) ⊕ (Nat → UInt32) ⊕ (Nat → UInt64) ⊕ (Nat → Option Nat)} (hb : H b = some (.inr (.byte, N, x))) : H' b = some (.inr (.byte, N, x)) := by
  obtain ⟨hk, F, e, -⟩ := hF
  exact hk b _ hb (fun fs z => by cases z) (fun fs z => by cases z) (fun z => by rw [z, e] at hb; cases hb)
theorem Fr.it (hF : Fr H H' dd) {b N : Nat} {x : (Nat → Int32) ⊕ (Nat → Int64) ⊕ (Nat → UInt32) ⊕ (Nat → UInt64) ⊕ (Nat → Option Nat)} (hb : H b = some (.inr (.int, N, x))) : H' b = some (.inr (.int, N, x)) := by
  obtain ⟨hk, F, e, -⟩ := hF
  exact hk b _ hb (fun fs z => by cases z) (fun fs z => by cases z) (fun z => by rw [z, e] at hb; cases hb)
theorem Fr.ob (hF : Fr H H' dd) {b N : Nat} {C : String} {F : Nat → Option Nat} (hb : H b = some (.inr (.object C, N, .inr (.inr (.inr (.inr F)))))) (h : N ≠ 17 ∨ ∃ j x, F j = some x ∧ ∀ fs, H x ≠ some (.inl (1, fs))) : H' b = some (.inr (.object C, N, .inr (.inr (.inr (.inr F))))) := by
  obtain ⟨hk, F', e, hF'⟩ := hF
  refine hk b _ hb (fun fs z => by cases z) (fun fs z => by cases z) (fun z => ?_)
  rw [z, e] at hb
  cases hb
  rcases h with h | ⟨j, x, h1, h2⟩
  · exact h rfl
  · obtain ⟨fs, h3⟩ := hF' j x h1
    exact h2 fs h3
theorem Fr.al {d m1 : Nat} {m : Int32} {f : Nat → Option Nat} (hF : Fr H H' dd) (hn : 0 < n) (hf : ∃ x fs ci, f 0 = some x ∧ H x = some (.inl (ci, fs)) ∧ ci ≠ 1) (hL : AL κ H a d n f m) : AL κ H' a d n f m := by
  obtain ⟨N1, F1, x1, x2, x3, x4, x5, x6⟩ := hL
  obtain ⟨x, fs, ci, y1, y2, y3⟩ := hf
  refine ⟨N1, F1, hF.cl x1 (by omega) (by omega), hF.ob x2 (Or.inr ⟨0, x, ?_, fun fs' z => ?_⟩), x3, x4, x5, x6⟩
  · rw [x5 0 hn]; exact y1
  · rw [y2] at z
    cases z
    exact y3 rfl
theorem ST.fr (hF : Fr H H' dd) (hS : ST κ H c A s l g W n bl) : ST κ H' c A s l g W n bl := by
  obtain ⟨h1, h2, h3, h4, ⟨N, m, h5⟩, h6, h7, h8⟩ := hS
  refine ⟨h1, fun k hk => ?_, ?_, h4, ⟨N, m, h5.keepc (fun b ci fs hb hci => hF.cl hb (by omega) (by omega))⟩, h6, h7.keepC (fun b ci fs hb hci => hF.cl hb (by omega) (by omega)), ?_⟩
  · have := h2 k hk
    cases hm : mE A g k with
    | inl p =>
      obtain ⟨ci, fs⟩ := p
      rw [hm] at this
      have hc := mE_cl hm
      exact hF.cl this (by omega) (by omega)
    | inr p =>
      obtain ⟨ty, N, x⟩ := p
      rw [hm] at this
      have : ty = .int := by
        unfold mE at hm
        repeat' split at hm
        all_goals first | (cases hm; done) | (cases hm; rfl)
      subst this
      exact hF.it (by assumption)
  · obtain ⟨d0, m0, B, D, M, hS1, hS2⟩ := h3
    have hB : ∀ q, q < s → ∃ fs, H (B q) = some (.inl (3, fs)) := fun q hq => by
      obtain ⟨N1, F1, x1, -⟩ := hS2 q hq
      exact ⟨_, x1⟩
    obtain ⟨f0, e0⟩ := hB 0 (by omega)
    refine ⟨d0, m0, B, D, M, hF.al (m1 := 0) (by omega) ⟨_, _, _, rfl, e0, by omega⟩ hS1, fun q hq => hF.al (m1 := 0) (by omega) ⟨_, lFs A g (4 * q), 5, rfl, ?_, by omega⟩ (hS2 q hq)⟩
    have hl := lin_q (k := 0) h4.1.2 h4.2.2 hq (by omega)
    have := h2 _ (mdl hl)
    rw [mE_l hl.1] at this
    exact this
  · obtain ⟨f1, f2, mm, x, d, f3, f4⟩ := h8
    exact ⟨f1, f2, mm, x, d, hF.cl f3 (by omega) (by omega), f4⟩
theorem MT.fr (hF : Fr H H' dd) (hM : MT κ c H A gT Tm) : MT κ c H' A gT Tm := by
  obtain ⟨s, l, r, T, N, gc, W, bl, h1, h2⟩ := hM
  exact ⟨s, l, r, T, N, gc, W, bl, h1.fr hF, h2⟩
theorem MT.mono (hE : Ext H H') (hM : MT κ c H A gT Tm) : MT κ c H' A gT Tm := by
  obtain ⟨s, l, r, T, N, gc, W, bl, h1, h2⟩ := hM
  exact ⟨s, l, r, T, N, gc, W, bl, h1.mono hE, h2⟩
theorem MT.es (hE : ESr H H' a) (hM : MT κ c H A gT Tm) : MT κ c H' A gT Tm := by
  obtain ⟨s, l, r, T, N, gc, W, bl, h1, h2⟩ := hM
  exact ⟨s, l, r, T, N, gc, W, bl, h1.es hE, h2⟩
theorem MT.le (hT : Tm ≤ Tm') (hM : MT κ c H A gT Tm) : MT κ c H A gT Tm' := by
  obtain ⟨s, l, r, T, N, gc, W, bl, h1, h2, h3, h4, h5⟩ := hM
  exact ⟨s, l, r, T, N, gc, W, bl, h1, h2, h3, by omega, by omega⟩
theorem GL.fr (hF : Fr H H' dd) (hG : GL κ H c) : GL κ H' c := by
  obtain ⟨⟨⟨C, f, eC, hf, hj⟩, hcI⟩, h2, F0, h3, h4⟩ := hG
  refine ⟨⟨⟨C, f, hF.ob eC (Or.inl (by omega)), hf, fun j hj' => ?_⟩, fun b hb => hF.cl (hcI b hb) (by omega) (by omega)⟩, h2, F0, hF.ob h3 (Or.inl (by omega)), h4⟩
  obtain ⟨q, q1, q2⟩ := hj j hj'
  exact ⟨q, q1, hF.cl q2 (by omega) (by omega)⟩
end H1
