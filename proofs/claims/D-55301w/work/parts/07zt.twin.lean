-- a machine's bare parts; Machine()
def mZ : List Value := [va_rf none, va_rf none, va_rf none, va_rf none, va_rf none, va_rf none, va_rf none, va_rf none, .int 0, .int 0, .int 0, .int 0, .int 0, .int 0, .int 0, .int 0, .int 0, .int 0, .int 0, .int 0]
/-- what makes a machine's parts; L: what follows -/
def skel (κ : Nat → Nat) (a0 : Nat) (σ : xS) (L : xS → Prop) : Prop :=
  xnea κ σ .int (64 : Int32) (fun N => (N, .inl fun _ => 0)) fun q1 σ2 => xpq κ σ2 a0 1 0 (some q1) fun σ3 => xnew κ σ3 2 9 [va_rf none, va_rf none, va_rf none, va_rf none, .int 0, .int 0, va_rf none, va_rf none, va_rf none] fun q4 σ5 => xcall (fun τ L => P_J1_init κ q4 τ L) σ5 fun _ σ6 => xpq κ σ6 a0 1 1 (some q4) fun σ7 => xnew κ σ7 3 3 [.int 0, va_rf none, .int 0] fun q8 σ9 => xcall (fun τ L => P_J4_init κ q8 τ L) σ9 fun _ σ10 => xpq κ σ10 a0 1 2 (some q8) fun σ11 => xnew κ σ11 4 4 [.int 0, .int 0, va_rf none, va_rf none] fun q12 σ13 => xcall (fun τ L => P_J6_init κ q12 τ L) σ13 fun _ σ14 => xpq κ σ14 a0 1 3 (some q12) fun σ15 => xnea κ σ15 .int (4 : Int32) (fun N => (N, .inl fun _ => 0)) fun q16 σ17 => xpq κ σ17 a0 1 4 (some q16) fun σ18 => xnea κ σ18 .int (16 : Int32) (fun N => (N, .inl fun _ => 0)) fun q19 σ20 => xpq κ σ20 a0 1 5 (some q19) fun σ21 => xnea κ σ21 .int (16 : Int32) (fun N => (N, .inl fun _ => 0)) fun q22 σ23 => xpq κ σ23 a0 1 6 (some q22) fun σ24 => xnea κ σ24 .int (3 : Int32) (fun N => (N, .inl fun _ => 0)) fun q25 σ26 => xpq κ σ26 a0 1 7 (some q25) fun σ27 => L σ27
section FK
variable {κ A A' : Nat → Nat} {h h' h0 H H0 X : xH} {g : Nat → Int32} {s l r a a2 b d n q k o T mach i : Nat} {c bl : Nat → Nat} {W W' : Nat → Int32} {w : Nat × Nat} {m m2 : Int32} {fs : List Value} {F0 : Nat → Option Nat}
theorem sk_arr {c1 s1 : Nat} (hX : X mach = some (.inl (1, fs))) (hκm : κ 0 ≤ mach) (hi : i < fs.length) (lit : Int32) (hlit : lit = nI n) (hn : n ≤ 64) (hc : 1 ≤ c1) (hs : n ≤ s1) {L : xS → Prop} (hL : ∀ q X', X q = none → κ 0 ≤ q → X' q = some (.inr (.int, n, .inl fun _ => 0)) → X' mach = some (.inl (1, fs.set i (va_rf (some q)))) → (∀ b e, X b = some e → b ≠ mach → X' b = some e) → L (X', c1 - 1, s1 - n)) : xnea κ (X, c1, s1) .int lit (fun N => (N, .inl fun _ => 0)) fun q σ2 => xpq κ σ2 mach 1 i (some q) fun σ3 => L σ3 := by
  refine ⟨n, hlit, by omega, hc, hs, fun q hq hκ => ?_⟩
  have hq : X q = none := hq
  have hne : mach ≠ q := fun z => by rw [z, hq] at hX; cases hX
  show xpq κ (xup X q _, c1 - 1, s1 - n) mach 1 i (some q) _
  rw [g_pq ((xup_ne hne).trans hX) hκm hi]
  refine hL q _ hq hκ ((xup_ne (Ne.symm hne)).trans xup_eq) xup_eq (fun b e hb hbm => ?_)
  rw [xup_ne hbm, xup_ne (fun z => by rw [z, hq] at hb; cases hb)]
  exact hb
theorem sk_obj {c1 s1 : Nat} {P : Nat → xS → (Unit → xH → Prop) → Prop} {ci N : Nat} {f1 : List Value} {Fin : Nat → xH → Prop} (hX : X mach = some (.inl (1, fs))) (hκm : κ 0 ≤ mach) (hi : i < fs.length) (hc : 1 ≤ c1) (hs : N ≤ s1)
    (hP : ∀ (q : Nat) (h : xH) (w : Nat × Nat) (K : Unit → xH → Prop), h q = some (.inl (ci, f1)) → κ 0 ≤ q → (∀ h', Fin q h' → (∀ b, b ≠ q → h' b = h b) → K () h') → P q (h, w) K) (hFin : ∀ q h h', Fin q h → (∃ f2, h mach = some (.inl (1, f2))) → q ≠ mach → (∀ b e, h b = some e → b ≠ mach → h' b = some e) → Fin q h')
    {L : xS → Prop} (hL : ∀ q X', X q = none → κ 0 ≤ q → Fin q X' → X' mach = some (.inl (1, fs.set i (va_rf (some q)))) → (∀ b e, X b = some e → b ≠ mach → X' b = some e) → L (X', c1 - 1, s1 - N)) : xnew κ (X, c1, s1) ci N f1 fun q σ5 => xcall (fun τ L => P q τ L) σ5 fun _ σ6 => xpq κ σ6 mach 1 i (some q) fun σ7 => L σ7 := by
  refine ⟨hc, hs, fun q hq hκ => ?_⟩
  have hq : X q = none := hq
  have hne : mach ≠ q := fun z => by rw [z, hq] at hX; cases hX
  refine ⟨0, 0, Nat.zero_le _, Nat.zero_le _, hP q _ _ _ xup_eq hκ (fun h' hF hfr => ?_)⟩
  have hm : h' mach = some (.inl (1, fs)) := (hfr _ hne).trans ((xup_ne hne).trans hX)
  show xpq κ (h', c1 - 1, s1 - N) mach 1 i (some q) _
  rw [g_pq hm hκm hi]
  refine hL q _ hq hκ (hFin q h' _ hF ⟨_, hm⟩ (Ne.symm hne) (fun b e hb hbm => (xup_ne hbm).trans hb)) xup_eq (fun b e hb hbm => ?_)
  have hbq : b ≠ q := fun z => by rw [z, hq] at hb; cases hb
  rw [xup_ne hbm, hfr b hbq]
  show xup X q _ b = some e
  rw [xup_ne hbq]
  exact hb
theorem cc_init6 (e : h a = some (.inl (4, [.int 0, .int 0, va_rf none, va_rf none]))) (hκ : κ 0 ≤ a) (K : Unit → xH → Prop) (hK : ∀ h', h' a = some (.inl (4, [.int 0, .int 0, va_rf none, va_rf none])) → (∀ b, b ≠ a → h' b = h b) → K () h') : P_J6_init κ a (h, w) K := by
  unfold P_J6_init
  refine ⟨0, 0, Nat.zero_le _, Nat.zero_le _, ?_⟩
  unfold P_J5_init
  refine ⟨0, 0, Nat.zero_le _, Nat.zero_le _, ?_⟩
  unfold P_J3_init_J6
  refine t_pure (r := ()) (fun τ K hk => hk) ?_
  show xpi κ (h, _) a 4 0 0 _
  rw [g_pi e hκ (by simp)]
  show xpi κ (xup h a (.inl (4, [.int 0, .int 0, va_rf none, va_rf none])), _) a 4 1 0 _
  rw [g_pi xup_eq hκ (by simp), xup_xup]
  exact hK _ xup_eq (fun b hb => xup_ne hb)
def cdE (e : xE) : Nat := match e with
  | .inl (ci, _) => 1000 + ci
  | .inr (_, n, _) => n
theorem cc_skel (hX : X mach = some (.inl (1, mZ))) (hκm : κ 0 ≤ mach) (hκ2 : κ 2 < κ 0) (he2 : X (κ 2) = some (oA 0 F0)) (hF0 : ∀ i, F0 i = none) {c0 s0 : Nat} (hc : 8 ≤ c0) (hs : 119 ≤ s0) {L : xS → Prop}
    (hL : ∀ A h, A 5 = mach → mOK κ A 0 0 → mD A 0 0 h → (∀ k, k = 0 ∨ k = 1 ∨ k = 2 ∨ k = 3 ∨ k = 4 ∨ k = 38 ∨ k = 39 ∨ k = 40 → X (A k) = none) → (∃ N ky vA, TM κ h (A 38) 0 N ky vA) → AL κ h (A 39) (κ 2) 0 (fun _ => none) 0 → κ 0 ≤ A 39 → h (A 40) = some (.inl (4, [.int 0, .int 0, va_rf none, va_rf none])) → κ 0 ≤ A 40 → (∀ b e, X b = some e → b ≠ mach → h b = some e) → L (mput h A 0 0 (fun _ => 0), c0 - 8, s0 - 119)) : skel κ mach (X, c0, s0) L := by
  unfold skel
  refine sk_arr (n := 64) hX hκm (by simp [mZ]) 64 rfl (by omega) (by omega) (by omega) (fun q1 X1 a1 b1 c1 m1 f1 => ?_)
  refine sk_obj (P := P_J1_init κ) (Fin := fun q h => ∃ N ky vA, TM κ h q 0 N ky vA) m1 hκm (by simp [mZ]) (by omega) (by omega) (fun q h w K e hκ hK => cc_initTM e hκ (vA := fun _ => 0) (N := fun _ => 0) (fun _ => 0) K (fun h' hT hfr => hK h' ⟨_, _, _, hT⟩ hfr)) (fun q h h' hF hm hq hfr => ?_) (fun q4 X2 a2 b2 c2 m2 f2 => ?_)
  · obtain ⟨N, ky, vA, hT⟩ := hF
    obtain ⟨fm, em⟩ := hm
    refine ⟨N, ky, vA, hT.keepC (fun b ci fs hb hci => hfr b _ hb (fun z => ?_))⟩
    rw [z, em] at hb
    cases hb
    omega
  refine sk_obj (P := P_J4_init κ) (Fin := fun q h => h q = some (.inl (3, [.int 0, .ref (κ 2), .int 0]))) m2 hκm (by simp [mZ]) (by omega) (by omega) (fun q h w K e hκ hK => cc_init3 (c := 0) (fs := []) e hκ K (hK _ xup_eq (fun b hb => xup_ne hb))) (fun q h h' hF _ hq hfr => hfr _ _ hF hq) (fun q8 X3 a3 b3 c3 m3 f3 => ?_)
  refine sk_obj (P := P_J6_init κ) (Fin := fun q h => h q = some (.inl (4, [.int 0, .int 0, va_rf none, va_rf none]))) m3 hκm (by simp [mZ]) (by omega) (by omega) (fun q h w K e hκ hK => cc_init6 e hκ K (fun h' e' hfr => hK h' e' hfr)) (fun q h h' hF _ hq hfr => hfr _ _ hF hq) (fun q12 X4 a4 b4 c4 m4 f4 => ?_)
  refine sk_arr (n := 4) m4 hκm (by simp [mZ]) 4 rfl (by omega) (by omega) (by omega) (fun q16 X5 a5 b5 c5 m5 f5 => ?_)
  refine sk_arr (n := 16) m5 hκm (by simp [mZ]) 16 rfl (by omega) (by omega) (by omega) (fun q19 X6 a6 b6 c6 m6 f6 => ?_)
  refine sk_arr (n := 16) m6 hκm (by simp [mZ]) 16 rfl (by omega) (by omega) (by omega) (fun q22 X7 a7 b7 c7 m7 f7 => ?_)
  refine sk_arr (n := 3) m7 hκm (by simp [mZ]) 3 rfl (by omega) (by omega) (by omega) (fun q25 X8 a8 b8 c8 m8 f8 => ?_)
  -- where each lies at the end
  have g7 : ∀ b e, X7 b = some e → b ≠ mach → X8 b = some e := f8
  have g6 : ∀ b e, X6 b = some e → b ≠ mach → X8 b = some e := fun b e hb hm => g7 b e (f7 b e hb hm) hm
  have g5 : ∀ b e, X5 b = some e → b ≠ mach → X8 b = some e := fun b e hb hm => g6 b e (f6 b e hb hm) hm
  have g4 : ∀ b e, X4 b = some e → b ≠ mach → X8 b = some e := fun b e hb hm => g5 b e (f5 b e hb hm) hm
  have g3 : ∀ b e, X3 b = some e → b ≠ mach → X8 b = some e := fun b e hb hm => g4 b e (f4 b e hb hm) hm
  have g2 : ∀ b e, X2 b = some e → b ≠ mach → X8 b = some e := fun b e hb hm => g3 b e (f3 b e hb hm) hm
  have g1 : ∀ b e, X1 b = some e → b ≠ mach → X8 b = some e := fun b e hb hm => g2 b e (f2 b e hb hm) hm
  have g0 : ∀ b e, X b = some e → b ≠ mach → X8 b = some e := fun b e hb hm => g1 b e (f1 b e hb hm) hm
  have nf : ∀ {Y Z : xH} {fz : List Value}, (∀ b e, Y b = some e → b ≠ mach → Z b = some e) → Z mach = some (.inl (1, fz)) → ∀ b, Z b = none → Y b = none := fun {Y Z fz} hf hm b hb => by
    cases hh : Y b with
    | none => rfl
    | some e =>
      by_cases hbm : b = mach
      · rw [hbm, hm] at hb; cases hb
      · rw [hf b e hh hbm] at hb; cases hb
  have n1 := nf f1 m1
  have n2 := fun b hb => n1 b (nf f2 m2 b hb)
  have n3 := fun b hb => n2 b (nf f3 m3 b hb)
  have n4 := fun b hb => n3 b (nf f4 m4 b hb)
  have n5 := fun b hb => n4 b (nf f5 m5 b hb)
  have n6 := fun b hb => n5 b (nf f6 m6 b hb)
  have n7 := fun b hb => n6 b (nf f7 m7 b hb)
  have d1 : q1 ≠ mach := fun z => by rw [z, m1] at c1; cases c1
  have d8 : q8 ≠ mach := fun z => by rw [z, m3] at c3; cases c3
  have d12 : q12 ≠ mach := fun z => by rw [z, m4] at c4; cases c4
  have d16 : q16 ≠ mach := fun z => by rw [z, m5] at c5; cases c5
  have d19 : q19 ≠ mach := fun z => by rw [z, m6] at c6; cases c6
  have d22 : q22 ≠ mach := fun z => by rw [z, m7] at c7; cases c7
  have d25 : q25 ≠ mach := fun z => by rw [z, m8] at c8; cases c8
  have d3 : q19 ≠ q22 := fun z => by rw [← z, c6] at a7; cases a7
  generalize hAd : (fun k => if k = 0 then q1 else if k = 1 then q16 else if k = 2 then q19 else if k = 3 then q22 else if k = 4 then q25 else if k = 5 then mach else if k = 38 then q4 else if k = 39 then q8 else if k = 40 then q12 else mach : Nat → Nat) = A
  have A0 : A 0 = q1 := by rw [← hAd]; rfl
  have A1 : A 1 = q16 := by rw [← hAd]; rfl
  have A2 : A 2 = q19 := by rw [← hAd]; rfl
  have A3 : A 3 = q22 := by rw [← hAd]; rfl
  have A4 : A 4 = q25 := by rw [← hAd]; rfl
  have A5 : A 5 = mach := by rw [← hAd]; rfl
  have A38 : A 38 = q4 := by rw [← hAd]; rfl
  have A39 : A 39 = q8 := by rw [← hAd]; rfl
  have A40 : A 40 = q12 := by rw [← hAd]; rfl
  have mz : ∀ o n, m_arr (fun _ => 0) o n = fun _ => 0 := fun o n => by
    funext i
    unfold m_arr
    split <;> rfl
  have k6 : ∀ k, k < 6 → k = 0 ∨ k = 1 ∨ k = 2 ∨ k = 3 ∨ k = 4 ∨ k = 5 := fun k hk => by omega
  have hat : ∀ k, k < 6 → X8 (A k) = some (mE A (fun _ => 0) k) ∧ κ 0 ≤ A k ∧ cdE (mE A (fun _ => 0) k) = if k = 0 then 64 else if k = 1 then 4 else if k = 2 ∨ k = 3 then 16 else if k = 4 then 3 else 1001 := fun k hk => by
    rcases k6 k hk with rfl | rfl | rfl | rfl | rfl | rfl
    · refine ⟨?_, by rw [A0]; exact b1, rfl⟩
      rw [A0, g1 _ _ c1 d1]
      show _ = some (Sum.inr (FieldType.int, 64, Sum.inl (m_arr (fun _ => 0) 5 64)))
      rw [mz]
    · refine ⟨?_, by rw [A1]; exact b5, rfl⟩
      rw [A1, g5 _ _ c5 d16]
      show _ = some (Sum.inr (FieldType.int, 4, Sum.inl (m_arr (fun _ => 0) 69 4)))
      rw [mz]
    · refine ⟨?_, by rw [A2]; exact b6, rfl⟩
      rw [A2, g6 _ _ c6 d19]
      show _ = some (Sum.inr (FieldType.int, 16, Sum.inl (m_arr (fun _ => 0) 251 16)))
      rw [mz]
    · refine ⟨?_, by rw [A3]; exact b7, rfl⟩
      rw [A3, g7 _ _ c7 d22]
      show _ = some (Sum.inr (FieldType.int, 16, Sum.inl (m_arr (fun _ => 0) 267 16)))
      rw [mz]
    · refine ⟨?_, by rw [A4]; exact b8, rfl⟩
      rw [A4, c8]
      show _ = some (Sum.inr (FieldType.int, 3, Sum.inl (m_arr (fun _ => 0) 286 3)))
      rw [mz]
    · refine ⟨?_, by rw [A5]; exact hκm, rfl⟩
      rw [A5, m8]
      show _ = some (Sum.inl (1, mFs A (fun _ => 0)))
      unfold mFs
      rw [A0, A1, A2, A3, A4, A38, A39, A40]
      rfl
  have hOK : mOK κ A 0 0 := ⟨fun k hk => (hat k (mdm00 hk)).2.1, fun k k' hk hk' he => by
    obtain ⟨p1, -, p3⟩ := hat k (mdm00 hk)
    obtain ⟨r1, -, r3⟩ := hat k' (mdm00 hk')
    rw [he, r1] at p1
    have := Option.some.inj p1
    rw [← this, r3] at p3
    have hk6 := mdm00 hk
    have hk6' := mdm00 hk'
    by_cases e : k = k'
    · exact e
    · exfalso
      have : (k = 2 ∧ k' = 3) ∨ (k = 3 ∧ k' = 2) := by
        rcases k6 k hk6 with rfl | rfl | rfl | rfl | rfl | rfl <;> rcases k6 k' hk6' with rfl | rfl | rfl | rfl | rfl | rfl <;> simp at p3 e <;> omega
      rcases this with ⟨rfl, rfl⟩ | ⟨rfl, rfl⟩
      · rw [A2, A3] at he; exact d3 he
      · rw [A2, A3] at he; exact d3 he.symm⟩
  have hback := mput_back (g := fun _ => 0) hOK (fun k hk => (hat k (mdm00 hk)).1)
  have hcut : ∀ b ci fs, X8 b = some (.inl (ci, fs)) → ci ≠ 1 → mcut X8 A 0 0 b = some (.inl (ci, fs)) := fun b ci fs hb hci => by
    rw [mcut_in (fun k hk z => ?_)]
    · exact hb
    · have h1 := (hat k (mdm00 hk)).1
      have h2 := (hat k (mdm00 hk)).2.2
      rw [z, hb] at h1
      rw [← Option.some.inj h1] at h2
      have h3 : 1000 + ci = (if k = 0 then 64 else if k = 1 then 4 else if k = 2 ∨ k = 3 then 16 else if k = 4 then 3 else 1001) := h2
      have := mdm00 hk
      rcases k6 k this with rfl | rfl | rfl | rfl | rfl | rfl <;> simp at h3 <;> omega
  have hXk : ∀ k, k < 6 → A k ≠ mach → X (A k) = none := fun k hk hne => by
    rcases k6 k hk with rfl | rfl | rfl | rfl | rfl | rfl
    · rw [A0]; exact a1
    · rw [A1]; exact n4 _ a5
    · rw [A2]; exact n5 _ a6
    · rw [A3]; exact n6 _ a7
    · rw [A4]; exact n7 _ a8
    · exact absurd A5 hne
  have hfrX : ∀ b e, X b = some e → b ≠ mach → mcut X8 A 0 0 b = some e := fun b e hb hm => by
    rw [mcut_in (fun k hk z => ?_)]
    · exact g0 b e hb hm
    · have := hXk k (mdm00 hk) (fun y => hm (z.symm.trans y))
      rw [z, hb] at this
      cases this
  have hne2 : κ 2 ≠ mach := by omega
  rw [← hback]
  have e1 : c0 - 1 - 1 - 1 - 1 - 1 - 1 - 1 - 1 = c0 - 8 := by omega
  have e2 : s0 - 64 - 9 - 3 - 4 - 4 - 16 - 16 - 3 = s0 - 119 := by omega
  rw [e1, e2]
  refine hL A (mcut X8 A 0 0) A5 hOK mcut_D (fun k hk => ?_) ?_ ⟨0, F0, ?_, hfrX _ _ he2 hne2, Nat.le_refl _, by omega, fun i hi => absurd hi (Nat.not_lt_zero _), fun i _ => hF0 i, Or.inl ⟨rfl, rfl⟩⟩ (by rw [A39]; exact b3) ?_ (by rw [A40]; exact b4) hfrX
  · rcases hk with rfl | rfl | rfl | rfl | rfl | rfl | rfl | rfl
    · rw [A0]; exact a1
    · rw [A1]; exact n4 _ a5
    · rw [A2]; exact n5 _ a6
    · rw [A3]; exact n6 _ a7
    · rw [A4]; exact n7 _ a8
    · rw [A38]; exact n1 _ a2
    · rw [A39]; exact n2 _ a3
    · rw [A40]; exact n3 _ a4
  · obtain ⟨N, ky, vA, hT⟩ := c2
    rw [A38]
    refine ⟨N, ky, vA, hT.keepC (fun b ci fs hb hci => hcut b ci fs (g2 _ _ hb (fun z => ?_)) (by omega))⟩
    rw [z, m2] at hb
    cases hb
    omega
  · rw [A39, nI_0]
    exact hcut _ _ _ (g3 _ _ c3 d8) (by omega)
  · rw [A40]
    exact hcut _ _ _ (g4 _ _ c4 d12) (by omega)
theorem cc_initM (hX : X mach = some (.inl (1, mZ))) (hκm : κ 0 ≤ mach) (hκ2 : κ 2 < κ 0) (he2 : X (κ 2) = some (oA 0 F0)) (hF0 : ∀ i, F0 i = none) (hIC : IC κ h0 c) (hE : Ext h0 X) (h0m : h0 mach = none) {c0 s0 : Nat} (hc : 70 ≤ c0) (hs : 41000 ≤ s0) (K : Unit → xH → Prop)
    (hK : ∀ A h', A 5 = mach → MM κ A 2 2 c (fun _ => 0) h0 0 (fun _ => 0) h' → K () (mput h' A 2 2 (n_anew (fun _ => 0) 2))) : P_X2_init κ mach (X, c0, s0) K := by
  unfold P_X2_init
  refine cc_skel (L := fun σ27 => xrc σ27 mach 1 ∧ xcall (fun τ L => P_X2_shapesAnew κ mach (2 : Int32) (2 : Int32) τ L) σ27 fun _ σ28 => K () σ28.1) hX hκm hκ2 he2 hF0 (by omega) (by omega) (fun A h A5 hA hD hno hT hAL hκ39 e40 hκ40 hfr => ?_)
  have hEh : Ext h0 h := fun b e hb => hfr b e (hE b e hb) (fun z => by rw [z, h0m] at hb; cases hb)
  have h0n : ∀ k, k = 0 ∨ k = 1 ∨ k = 2 ∨ k = 3 ∨ k = 4 ∨ k = 38 ∨ k = 39 ∨ k = 40 → h0 (A k) = none := fun k hk => hE.none (hno k hk)
  obtain ⟨N, ky, vA, hT⟩ := hT
  have e5 : mach = A 5 := A5.symm
  rw [e5, n_rc hA, true_and]
  have hsh := cc_shapesAnew (s := 2) (l := 2) (n := 0) (bl := fun _ => 0) (c := c) (N := fun _ => 0) (m := 0) (h0 := h0) (W := fun _ => 0) (g := fun _ => 0) (n3 := 0) hA hD (fun k hk => by
      by_cases h5 : k = 5
      · rw [h5, A5]; exact h0m
      · exact h0n k (by omega)) hIC hEh hκ2 (hfr _ _ he2 (by omega)) hF0 hAL (by omega) (h0n 39 (by omega)) hκ39 (Or.inl rfl) ⟨e40.trans (by unfold lO; rw [nI_0]; rfl), fun i hi => absurd hi (Nat.not_lt_zero _), fun i j hi => absurd hi (Nat.not_lt_zero _), hκ40, fun i hi => absurd hi (Nat.not_lt_zero _)⟩ (h0n 40 (by omega)) (fun i hi => absurd hi (Nat.not_lt_zero _)) (fun i hi => absurd hi (Nat.not_lt_zero _)) (Nat.zero_le _) ⟨0, N, ky, vA, hT, h0n 38 (by omega), fun i hi => absurd hi (Nat.not_lt_zero _), fun i hi => absurd hi (Nat.not_lt_zero _), fun _ _ _ => rfl⟩ ⟨by omega, by omega⟩ ⟨by omega, by omega⟩ (c0 := 60) (s0 := 40000) (Nat.le_refl _) (Nat.le_refl _)
  refine c_call 60 40000 (by omega) (by omega) (hsh _ (fun A' h' hA' hM' => ?_))
  exact hK A' h' (by rw [hA' 5 (by omega), A5]) hM'
end FK
