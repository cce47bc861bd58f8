def Ext (h h' : xH) : Prop := ∀ b e, h b = some e → h' b = some e
def itE (i : Nat) (j m : Int32) (a : Nat) : xE := .inl (21, [.int (nI i), .int j, .int m, .ref a])
/-- the machine's numbers lie outside the rest -/
def mD (A : Nat → Nat) (s l : Nat) (h : xH) : Prop := ∀ k, mdm s l k → h (A k) = none
/-- the sets: lists of lines -/
def SA (κ : Nat → Nat) (h : xH) (A : Nat → Nat) (s l : Nat) : Prop := ∃ (d0 : Nat) (m0 : Int32) (B D : Nat → Nat) (M : Nat → Int32), AL κ h (A 39) d0 s (fun q => some (B q)) m0 ∧ ∀ q, q < s → AL κ h (B q) (D q) l (fun k => some (A (6 + (4 * q + k)))) (M q)
section C6
variable {κ A : Nat → Nat} {h h' h1 H : xH} {g g' : Nat → Int32} {s l k j a b d n i q : Nat} {f : Nat → Option Nat} {m : Int32} {w : Nat × Nat} {e : xE}
theorem Ext.rfl : Ext h h := fun _ _ z => z
theorem Ext.trans (h12 : Ext h h') (h23 : Ext h' h1) : Ext h h1 := fun b e z => h23 b e (h12 b e z)
theorem Ext.new (hq : h q = none) : Ext h (xup h q e) := fun b e' z => by
  rw [xup_ne (fun y => by rw [y, hq] at z; cases z)]
  exact z
theorem Ext.new2 (hE : Ext h h1) (hq : h q = none) : Ext h (xup h1 q e) := fun b e' z => by
  rw [xup_ne (fun y => by rw [y, hq] at z; cases z)]
  exact hE b e' z
theorem mput_in (hD : mD A s l h) (hb : h b = some e) : mput h A s l g b = some e := by
  rw [mput_o (fun k hk z => by rw [← z, hD k hk] at hb; cases hb)]
  exact hb
theorem mput_ext (hD : mD A s l h) : Ext h (mput h A s l g) := fun _ _ z => mput_in hD z
theorem mput_none (hA : mOK κ A s l) (hq : mput h A s l g q = none) : (∀ k, mdm s l k → A k ≠ q) ∧ h q = none := by
  have h1 : ∀ k, mdm s l k → A k ≠ q := fun k hk z => by
    rw [← z, mput_k hA hk] at hq
    cases hq
  exact ⟨h1, by rw [mput_o h1] at hq; exact hq⟩
theorem mput_xup (hA : mOK κ A s l) (hq : ∀ k, mdm s l k → A k ≠ q) : xup (mput h A s l g) q e = mput (xup h q e) A s l g := by
  funext b
  by_cases hb : b = q
  · subst hb
    rw [xup_eq, mput_o hq, xup_eq]
  · rw [xup_ne hb]
    by_cases hx : ∃ k, mdm s l k ∧ A k = b
    · obtain ⟨k, hk, rfl⟩ := hx
      rw [mput_k hA hk, mput_k hA hk]
    · have hx' : ∀ k', mdm s l k' → A k' ≠ b := fun k' h1 h2 => hx ⟨k', h1, h2⟩
      rw [mput_o hx', mput_o hx', xup_ne hb]
theorem mD.xup (hD : mD A s l h) (hq : ∀ k, mdm s l k → A k ≠ q) : mD A s l (xup h q e) := fun k hk => by
  rw [xup_ne (hq k hk)]
  exact hD k hk
theorem mD.ne (hD : mD A s l h) (hb : h b = some e) : ∀ k, mdm s l k → A k ≠ b := fun k hk z => by
  rw [← z, hD k hk] at hb
  cases hb
theorem SA.mono (hE : Ext h h') (hS : SA κ h A s l) : SA κ h' A s l := by
  obtain ⟨d0, m0, B, D, M, h1, h2⟩ := hS
  exact ⟨d0, m0, B, D, M, h1.mono hE, fun q hq => (h2 q hq).mono hE⟩
theorem IT.rc {m' : Int32} (hI : IT h q a i m') : xrc (h, w) q 21 ↔ True := by
  obtain ⟨j, e⟩ := hI
  exact g_rc e
theorem IT.mono {m' : Int32} (hE : Ext h h') (hI : IT h q a i m') : IT h' q a i m' := by
  obtain ⟨j, e⟩ := hI
  exact ⟨j, hE _ _ e⟩
/-- a step of: for each of a list -/
theorem x_it (hL : AL κ H a d n f m) (hI : IT H q a i m) (hκ : κ 0 ≤ q) (hi : i ≤ n) {E : xS → Prop} {Bd : Option Nat → xS → Prop} (hE : i = n → E (H, w)) (hB : i < n → IT (xup H q (itE (i + 1) (nI i) m a)) q a (i + 1) m → Bd (f i) (xup H q (itE (i + 1) (nI i) m a), w)) :
    xnn (some q) fun b => xrc (H, w) b 21 ∧ xcall (fun τ L => P_J35_hasNext κ b τ L) (H, w) fun v σ' => ((v = 0 → E σ') ∧ (¬ v = 0 → (xrc σ' b 21 ∧ xcall (fun τ L => P_J35_next κ b τ L) σ' fun v σ'' => Bd v σ''))) := by
  rw [t_nn, hI.rc, true_and]
  refine c_pure (r := bI (decide (i ≠ n))) (fun w K hk => cc_hasNext hL hI hi K hk) ?_
  refine ⟨fun z => ?_, fun z => ?_⟩
  · have z := (bI_0 _).mp z
    simp only [decide_eq_false_iff_not, Decidable.not_not] at z
    exact hE z
  · have z := bI_c z
    simp only [decide_eq_true_eq] at z
    rw [hI.rc, true_and]
    exact ⟨0, 0, Nat.zero_le _, Nat.zero_le _, cc_next hL hI hκ (by omega) _ (fun hI' => hB (by omega) hI')⟩
theorem cc_setOf (hA : mOK κ A s l) (hD : mD A s l h) (hS : SA κ h A s l) (h1 : 1 ≤ s) (h4 : s ≤ 4) (hb : b < 64) (K : Int32 → xH → Prop) (hK : K (nI (b % s)) (mput h A s l g)) : P_X2_setOf κ (A 5) (nI b) (mput h A s l g, w) K := by
  obtain ⟨d0, m0, B, D, M, hS, -⟩ := hS.mono (mput_ext (g := g) hD)
  unfold P_X2_setOf
  rw [n_gq_2 hA, t_nn, hS.rc, true_and]
  refine c_pure (r := nI s) (fun w K hk => cc_size4 hS K hk) ?_
  refine ⟨nI_ne0 (by omega) (by omega), ?_⟩
  rw [m_mods b (by omega) s (by omega) (by omega)]
  exact hK
/-- the line of set q that holds b -/
def n_in (g : Nat → Int32) (q l : Nat) (x : Int32) : Option Nat := (List.range l).find? (fun k => decide (g (73 + (4 * q + k)) = x))
theorem lin_q (h4 : s ≤ 4) (hl4 : l ≤ 4) {q k : Nat} (hq : q < s) (hk : k < l) : lin s l (4 * q + k) := ⟨by omega, by omega, by omega⟩
theorem cc_holder (hA : mOK κ A s l) (hD : mD A s l h) (hS : SA κ h A s l) (h1 : 1 ≤ s) (h4 : s ≤ 4) (hl4 : l ≤ 4) (hb : b < 64) {c0 s0 : Nat} (hc : 1 ≤ c0) (hs : 4 ≤ s0) (K : Option Nat → xH → Prop)
    (hK : ∀ h', Ext h h' → mD A s l h' → K ((n_in g (b % s) l (nI b)).map fun k => A (6 + (4 * (b % s) + k))) (mput h' A s l g)) : P_X2_holder κ (A 5) (nI b) (mput h A s l g, c0, s0) K := by
  have hq : b % s < s := Nat.mod_lt _ (by omega)
  have hS0 := hS
  obtain ⟨d0, m0, B, D, M, hS1, hS2⟩ := hS
  have hE := mput_ext (g := g) hD
  unfold P_X2_holder
  rw [n_gq_2 hA, n_rc hA, true_and]
  refine c_pure (r := nI (b % s)) (fun w K hk => cc_setOf hA hD hS0 h1 h4 hb K hk) ?_
  rw [t_nn, (hS1.mono hE).rc, true_and]
  refine c_pure (r := some (B (b % s))) (fun w K hk => cc_get4 (hS1.mono hE) hq K hk) ?_
  rw [t_nn, ((hS2 _ hq).mono hE).rc, true_and, true_and]
  refine c_call 1 4 hc hs (cc_iterator ((hS2 _ hq).mono hE) (Nat.le_refl _) (Nat.le_refl _) _ (fun q hq0 hκ hI => ?_))
  obtain ⟨hqA, hqn⟩ := mput_none hA hq0
  rw [mput_xup hA hqA] at hI ⊢
  generalize b % s = c at hq hK hI
  have hD1 : mD A s l (xup h q (itE 0 (-1) (M c) (B c))) := hD.xup hqA
  refine x_for l (fun i v σ => i ≤ l ∧ ∃ (w : Nat × Nat) (h1 : xH), σ = (mput h1 A s l g, w) ∧ Ext h h1 ∧ mD A s l h1 ∧ IT h1 q (B c) i (M c) ∧ ∀ j, j < i → g (73 + (4 * c + j)) ≠ nI b) ?_ ?_ (v := ()) (σ := (mput (xup h q (itE 0 (-1) (M c) (B c))) A s l g, _)) ⟨Nat.zero_le _, _, _, rfl, Ext.new hqn, hD1, ⟨-1, xup_eq⟩, fun j hj => absurd hj (Nat.not_lt_zero _)⟩
  · rintro i v σ ⟨-, w, h1, rfl, hE1, hD1, hI1, hj⟩ hi self hself
    unfold B_X2_holder_23
    have hlin := lin_q h4 hl4 hq hi
    refine x_it (((hS2 c hq).mono hE1).mono (mput_ext hD1)) (hI1.mono (mput_ext hD1)) hκ (by omega) (fun z => absurd z (by omega)) (fun _ hI2 => ?_)
    obtain ⟨j0, ej⟩ := hI1
    have hq1 := hD1.ne ej
    rw [mput_xup hA hq1]
    rw [t_nn, l_rc hA hlin, true_and, l_gi_2 hA hlin]
    have hE2 : Ext h (xup h1 q (itE (i + 1) (nI i) (M c) (B c))) := hE1.new2 hqn
    refine ⟨fun z => ?_, fun z => ?_⟩
    · have := hK _ hE2 (hD1.xup hq1)
      unfold n_in at this
      rw [m_hit (i := i) (fun j hj' => by simp [hj j hj']) hi (by simp [z])] at this
      exact this
    · refine hself _ _ ⟨by omega, w, _, rfl, hE2, hD1.xup hq1, ⟨_, xup_eq⟩, fun j hj' => ?_⟩
      rcases Nat.lt_succ_iff_lt_or_eq.mp hj' with h1 | h1
      · exact hj j h1
      · rw [h1]; exact z
  · rintro v σ ⟨-, w, h1, rfl, hE1, hD1, hI1, hj⟩ self
    unfold B_X2_holder_23
    refine x_it (((hS2 c hq).mono hE1).mono (mput_ext hD1)) (hI1.mono (mput_ext hD1)) hκ (Nat.le_refl _) (fun _ => ?_) (fun z => absurd z (Nat.lt_irrefl _))
    have := hK _ hE1 hD1
    unfold n_in at this
    rw [List.find?_eq_none.mpr (fun x hx => by simp [hj x (List.mem_range.mp hx)])] at this
    exact this
end C6
