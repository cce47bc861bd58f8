section FB
variable {κ : Nat → Nat} {h h' h0 H H' S0 : xH} {a a2 n n2 i j k x y p q r u t md it f : Nat} {N ky vA kA N2 ky2 vA2 kA2 Q QL QR : Nat → Nat} {v v2 : Nat → Value} {sz m m2 red col lev : Int32} {T T2 T' TL TR' : Nat → Nat → Option Nat} {cl cl2 cl' clL clR : Nat → Int32} {w : Nat × Nat} {lo hi lo2 hi2 loL hiL : Nat → Nat} {W : Nat → Int32} {x6 rL rR : Option Nat}
theorem TMo.mono (hE : Ext h h') (hT : TMo κ h a n N ky vA kA T lo hi cl m v) : TMo κ h' a n N ky vA kA T lo hi cl m v := by
  obtain ⟨o1, o2, o3, o4, o5, o6, o7, es, e8, e9⟩ := hT
  exact ⟨hE _ _ o1, fun i hi' => hE _ _ (o2 i hi'), o3, fun i hi' => ⟨hE _ _ (o4 i hi').1, (o4 i hi').2⟩, o5, o6, o7, es, e8, fun q hq => hE _ _ (e9 q hq)⟩
theorem cc_build (hT : TMo κ S0 a n N ky vA kA T lo hi cl m v) (ha2 : ∃ fs, S0 a2 = some (.inl (2, fs))) (hit0 : S0 it = none) (hκit : κ 0 ≤ it) (hn : n ≤ 64) : ∀ f, BSp κ S0 a a2 n N kA vA it m red x6 f := by
  intro f
  induction f with
  | zero => intro u t lev H c0 s0 K h1 h2 h3; omega
  | succ f ih =>
    intro u t lev H c0 s0 K hut htn hf hc hs hE hI hK
    have hpow : 2 ^ (f + 1) = 2 * 2 ^ f := by rw [Nat.pow_succ, Nat.mul_comm]
    generalize hmd : (u + (t - 1)) / 2 = md
    have em : ((nI u + nI (t - 1)).toUInt32 >>> ((1 : Int32).toUInt32 &&& Int32.toUInt32 31)).toInt32 = nI md := by
      rw [nI_add, nI_ushr _ (by omega), hmd]
    have hum : u ≤ md := by omega
    have hmt : md < t := by omega
    rw [P_J1_buildFromSorted_2]
    refine ⟨fun _ => ?_, fun z => absurd ((nI_leI (by omega) (by omega)).mpr (by omega)) z⟩
    rw [em]
    have hTm : ∀ H : xH, Ext S0 H → TMo κ H a n N ky vA kA T lo hi cl m v := fun H hE => hT.mono hE
    have hK1 : ∀ (w : Nat × Nat) (H : xH) (L : Option Nat → xH → Prop), Ext S0 H → L (some (kA md)) H → P_J31_getKey κ (N md) (H, w) L := fun w H L hE hL => by
      have en := (hTm H hE).2.1 md (by omega)
      unfold tNd tN at en
      unfold P_J31_getKey
      rw [g_gq (r := some (kA md)) en rfl]
      exact hL
    have hK2 : ∀ (w : Nat × Nat) (H : xH) (L : Option Nat → xH → Prop), Ext S0 H → L (some (vA md)) H → P_J31_getValue κ (N md) (H, w) L := fun w H L hE hL => by
      have en := (hTm H hE).2.1 md (by omega)
      unfold tNd tN at en
      unfold P_J31_getValue
      rw [g_gq (r := some (vA md)) en rfl]
      exact hL
    have hrcN : ∀ (w : Nat × Nat) (H : xH), Ext S0 H → (xrc (H, w) (N md) 19 ↔ True) := fun w H hE => g_rc ((hTm H hE).2.1 md (by omega))
    have hits : ∃ e, H it = some e := by
      obtain ⟨lr, e⟩ := hI
      exact ⟨_, e⟩
    refine ⟨fun z1 => ?_, fun z1 => ?_⟩
    · -- no left side
      have hmu : md = u := by
        have := (nI_leI (by omega) (by omega)).mp z1
        omega
      refine ⟨fun z => (by cases z), fun b z => ?_⟩
      cases z
      refine ⟨fun _ => ?_, fun b z => (by cases z)⟩
      have hrcI : ∀ w : Nat × Nat, xrc (H, w) it 13 ↔ True := fun w => by
        obtain ⟨lr, e⟩ := hI
        exact g_rc e
      rw [hrcI, true_and]
      refine ⟨0, 0, Nat.zero_le _, Nat.zero_le _, cc_next21 (hTm H hE) (by rw [← hmu] at hI; exact hI) hκit (by omega) _ (fun H1 hI1 hfr1 => ?_)⟩
      have hE1 : Ext S0 H1 := fun b e hb => by
        rw [hfr1 b (fun z => by rw [z, hit0] at hb; cases hb)]
        exact hE b e hb
      show xnn (some (N md)) _
      rw [t_nn, hrcN _ _ hE1, true_and, true_and]
      refine c_pure (r := some (kA md)) (fun w L hL => hK1 w H1 L hE1 hL) ?_
      rw [hrcN _ _ hE1, true_and]
      refine c_pure (r := some (vA md)) (fun w L hL => hK2 w H1 L hE1 hL) ?_
      show xnew κ (H1, c0, s0) 19 6 _ _
      refine ⟨by show 1 ≤ c0; omega, by show 6 ≤ s0; omega, fun q hq hκ => ?_⟩
      have hq : H1 q = none := hq
      refine ⟨0, 0, Nat.zero_le _, Nat.zero_le _, ?_⟩
      unfold P_J31_init
      show xpi κ (xup H1 q _, _) q 19 5 1 _
      rw [g_pi xup_eq hκ (by simp), xup_xup, g_pq xup_eq hκ (by simp), xup_xup, g_pq xup_eq hκ (by simp), xup_xup, g_pq xup_eq hκ (by simp), xup_xup]
      have hqit : q ≠ it := fun z => by
        obtain ⟨lr, e⟩ := hI1
        rw [z, e] at hq
        cases hq
      have hHq : H q = none := by rw [← hfr1 q hqit]; exact hq
      have fin : ∀ col : Int32, (col = 0 ∨ col = 1) → bT κ f a2 lev (nI md) (nI (t - 1)) red it x6 q (xup H1 q (.inl (19, [.ref (kA md), .ref (vA md), va_rf none, va_rf none, va_rf none, .int col])), c0 - 1, s0 - 6) K := fun col hcol => by
        refine cc_bRight (QL := fun _ => 0) (TL := fun _ _ => none) (clL := fun _ => 0) (loL := fun _ => 0) (hiL := fun _ => 0) (rL := none) (u := u) (h0 := H) ih ha2 (by omega) hmt htn hn (fun b e hb => ?_) ?_ hκ hHq hqit (Or.inl ⟨hmu.symm, rfl⟩) hum hcol (fun i h1 h2 => by omega) (fun i j h1 h2 => by omega) (fun i h1 h2 => by omega) (fun b e hb hbit => ?_) hits xup_eq (by omega) (by omega) K hK
        · rw [xup_ne (fun z => by rw [z] at hb; rw [hE1 _ _ hb] at hq; cases hq)]
          exact hE1 b e hb
        · obtain ⟨lr, e⟩ := hI1
          exact ⟨lr, by rw [xup_ne (Ne.symm hqit)]; exact e⟩
        · rw [xup_ne (fun z => by rw [z, hHq] at hb; cases hb), hfr1 b hbit]
          exact hb
      refine ⟨fun _ => ?_, fun _ => fin 1 (Or.inr rfl)⟩
      rw [g_pi xup_eq hκ (by simp)]
      show bT κ f a2 lev (nI md) (nI (t - 1)) red it x6 q (xup (xup H1 q _) q _, c0 - 1, s0 - 6) K
      rw [xup_xup]
      exact fin 0 (Or.inl rfl)
    · have hmu : u < md := Nat.lt_of_not_le (fun z => z1 ((nI_leI (by omega) (by omega)).mpr z))
      have e1 : nI md - 1 = nI (md - 1) := by
        rw [← nI_pred (md - 1), show md - 1 + 1 = md by omega]
      obtain ⟨fs, efs⟩ := ha2
      rw [g_rc (hE _ _ efs), true_and, e1]
      refine c_call (md - u) (6 * (md - u)) (by omega) (by omega) (ih u md _ H _ _ _ hmu (by omega) (by omega) (Nat.le_refl _) (Nat.le_refl _) hE hI (fun rL QL TL loL hiL clL HL hTL hBL hFL hIL => ?_))
      have hEL : Ext S0 HL := fun b e hb => hFL b e (hE b e hb) (fun z => by rw [z, hit0] at hb; cases hb)
      refine ⟨fun z => (by cases z), fun b z => ?_⟩
      cases z
      refine ⟨fun _ => ?_, fun b z => (by cases z)⟩
      have hrcI : ∀ w : Nat × Nat, xrc (HL, w) it 13 ↔ True := fun w => by
        obtain ⟨lr, e⟩ := hIL
        exact g_rc e
      rw [hrcI, true_and]
      refine ⟨0, 0, Nat.zero_le _, Nat.zero_le _, cc_next21 (hTm HL hEL) hIL hκit (by omega) _ (fun H1 hI1 hfr1 => ?_)⟩
      have hE1 : Ext S0 H1 := fun b e hb => by
        rw [hfr1 b (fun z => by rw [z, hit0] at hb; cases hb)]
        exact hEL b e hb
      show xnn (some (N md)) _
      rw [t_nn, hrcN _ _ hE1, true_and, true_and]
      refine c_pure (r := some (kA md)) (fun w L hL => hK1 w H1 L hE1 hL) ?_
      rw [hrcN _ _ hE1, true_and]
      refine c_pure (r := some (vA md)) (fun w L hL => hK2 w H1 L hE1 hL) ?_
      show xnew κ (H1, c0 - (md - u), s0 - 6 * (md - u)) 19 6 _ _
      refine ⟨by show 1 ≤ c0 - (md - u); omega, by show 6 ≤ s0 - 6 * (md - u); omega, fun q hq hκ => ?_⟩
      have hq : H1 q = none := hq
      refine ⟨0, 0, Nat.zero_le _, Nat.zero_le _, ?_⟩
      unfold P_J31_init
      show xpi κ (xup H1 q _, _) q 19 5 1 _
      rw [g_pi xup_eq hκ (by simp), xup_xup, g_pq xup_eq hκ (by simp), xup_xup, g_pq xup_eq hκ (by simp), xup_xup, g_pq xup_eq hκ (by simp), xup_xup]
      have hqit : q ≠ it := fun z => by
        obtain ⟨lr, e⟩ := hI1
        rw [z, e] at hq
        cases hq
      have hHLq : HL q = none := by rw [← hfr1 q hqit]; exact hq
      have hHq : H q = none := by
        cases hh : H q with
        | none => rfl
        | some e => rw [hFL _ _ hh hqit] at hHLq; cases hHLq
      obtain ⟨r1, r2, r3, r4, r5⟩ := hTL.1
      have dit : ∀ i, u ≤ i → i < md → QL i ≠ it := fun i h1 h2 z => by
        have := (hBL.1 i h1 h2).2.1
        obtain ⟨e, he⟩ := hits
        rw [z, he] at this
        cases this
      have dq : ∀ i, u ≤ i → i < md → QL i ≠ q := fun i h1 h2 z => by
        have := (hBL.1 i h1 h2).1
        rw [z, hHLq] at this
        cases this
      have hN1 : ∀ i, u ≤ i → i < md → H1 (QL i) = some (tNd QL kA vA TL clL i) := fun i h1 h2 => by
        rw [hfr1 _ (dit i h1 h2)]
        exact (hBL.1 i h1 h2).1
      have fin : ∀ col : Int32, (col = 0 ∨ col = 1) → xpq κ (xup H1 q (.inl (19, [.ref (kA md), .ref (vA md), va_rf none, va_rf none, va_rf none, .int col])), c0 - (md - u) - 1, s0 - 6 * (md - u) - 6) q 19 2 (some (QL rL)) (fun σ61 => xpq κ σ61 (QL rL) 19 4 (some q) fun σ62 => bT κ f a2 lev (nI md) (nI (t - 1)) red it x6 q σ62 K) := fun col hcol => by
        have ep := hN1 rL r1 r2
        unfold tNd tN at ep
        rw [g_pq xup_eq hκ (by simp), xup_xup, g_pq ((xup_ne (dq rL r1 r2)).trans ep) (hBL.1 rL r1 r2).2.2.1 (by simp)]
        have hne : ∀ b, b ≠ q → b ≠ QL rL → ∀ e e' : xE, xup (xup H1 q e) (QL rL) e' b = H1 b := fun b h1 h2 e e' => by rw [xup_ne h2, xup_ne h1]
        refine cc_bRight (QL := QL) (TL := TL) (clL := clL) (loL := loL) (hiL := hiL) (rL := some rL) (u := u) (h0 := H) (col := col) ih ⟨fs, efs⟩ (by omega) hmt htn hn (fun b e hb => ?_) ?_ hκ hHq hqit (Or.inr ⟨rL, rfl, hTL⟩) hum hcol (fun i h1 h2 => ⟨?_, (hBL.1 i h1 h2).2.1, (hBL.1 i h1 h2).2.2.1, (hBL.1 i h1 h2).2.2.2⟩) hBL.2 dq (fun b e hb hbit => ?_) hits ?_ (by omega) (by omega) K hK
        · rw [hne b (fun z => by rw [z] at hb; rw [hE1 _ _ hb] at hq; cases hq) (fun z => by rw [z] at hb; have := (hBL.1 rL r1 r2).2.1; rw [hE _ _ hb] at this; cases this)]
          exact hE1 b e hb
        · obtain ⟨lr, e⟩ := hI1
          exact ⟨lr, by rw [hne it (Ne.symm hqit) (Ne.symm (dit rL r1 r2))]; exact e⟩
        · unfold ndP
          by_cases hir : i = rL
          · subst hir
            rw [xup_eq, if_pos rfl]
            rfl
          · rw [hne _ (dq i h1 h2) (hBL.2 i rL h1 h2 r1 r2 hir), if_neg (fun z => hir (Option.some.inj z).symm)]
            exact hN1 i h1 h2
        · rw [hne b (fun z => by rw [z, hHq] at hb; cases hb) (fun z => by rw [z, (hBL.1 rL r1 r2).2.1] at hb; cases hb), hfr1 b hbit]
          exact hFL b e hb hbit
        · rw [xup_ne (Ne.symm (dq rL r1 r2)), xup_eq]
          rfl
      refine ⟨fun _ => ?_, fun _ => ⟨fun z => (by cases z), fun b z => ?_⟩⟩
      · rw [g_pi xup_eq hκ (by simp), xup_xup]
        refine ⟨fun z => (by cases z), fun b z => ?_⟩
        cases z
        exact fin 0 (Or.inl rfl)
      · cases z
        exact fin 1 (Or.inr rfl)
theorem cc_lz {x : Int32} {σ : xS} (K : Int32 → xH → Prop) (hK : ∀ v, K v σ.1) : P_J23_numberOfLeadingZeros κ x σ K := by
  unfold P_J23_numberOfLeadingZeros
  repeat' (first | exact hK _ | refine ⟨fun _ => ?_, fun _ => ?_⟩)
theorem cc_entrySet (hS : TMo κ H a n N ky vA kA T lo hi cl m v) {c0 s0 : Nat} (hc : 1 ≤ c0) (hs : 1 ≤ s0) (K : Option Nat → xH → Prop) (hK : ∀ q H' v', H' q = some (.inl (12, [.ref a])) → TMo κ H' a n N ky vA kA T lo hi cl m v' → (∀ k, k ≠ 6 → v' k = v k) → (∀ b e, H b = some e → b ≠ a → H' b = some e) → K (some q) H') : P_J1_entrySet κ a (H, c0, s0) K := by
  have hS0 := hS
  obtain ⟨o1, o2, o3, o4, o5, o6, o7, es, e8, e9⟩ := hS
  have e1 : H a = some (.inl (2, _)) := o1
  unfold P_J1_entrySet
  rw [g_gq (r := es) e1 (by rw [← e8]; rfl)]
  refine ⟨fun z => ?_, fun b z => hK b H v (e9 b z) hS0 (fun k _ => rfl) (fun b e hb _ => hb)⟩
  refine ⟨hc, hs, fun q hq hκ => ?_⟩
  have hq : H q = none := hq
  have haq : a ≠ q := fun z => by rw [z, hq] at e1; cases e1
  refine ⟨0, 0, Nat.zero_le _, Nat.zero_le _, ?_⟩
  unfold P_J19_init
  show xpq κ (xup H q _, _) q 12 0 (some a) _
  rw [g_pq xup_eq hκ (by simp), xup_xup]
  refine c_pure (r := ()) (fun w K hk => ?_) ?_
  · unfold P_J18_init
    exact c_pure (r := ()) (fun w K hk => hk) hk
  show xpq κ (xup H q _, _) a 2 6 (some q) _
  rw [g_pq ((xup_ne haq).trans e1) o3.2.2.1 (by simp)]
  have hfr : ∀ (e' : xE) b e, H b = some e → b ≠ a → xup (xup H q (.inl (12, [.ref a]))) a e' b = some e := fun e' b e hb hba => by rw [xup_ne hba, xup_ne (fun z => by rw [z, hq] at hb; cases hb)]; exact hb
  have hq2 : ∀ e', xup (xup H q (.inl (12, [.ref a]))) a e' q = some (.inl (12, [.ref a])) := fun e' => by rw [xup_ne (Ne.symm haq), xup_eq]
  have hne : ∀ b e, H b = some e → (∀ fs, e ≠ .inl (2, fs)) → b ≠ a := fun b e hb k2 z => by rw [z, e1] at hb; exact k2 _ (Option.some.inj hb).symm
  refine hK q (xup (xup H q (.inl (12, [.ref a]))) a (.inl (2, [v 0, v 1, va_rf none, va_rf ((T 3 0).map N), .int (nI n), .int m, va_rf (some q), v 7, v 8]))) (fun k => if k = 6 then va_rf (some q) else v k) (hq2 _) ⟨xup_eq, fun i hi' => hfr _ _ _ (o2 i hi') (o3.2.1 i hi'), o3, fun i hi' => ⟨hfr _ _ _ (o4 i hi').1 (hne _ _ (o4 i hi').1 (fun fs z => by cases z)), (o4 i hi').2⟩, o5, o6, o7, some q, rfl, fun b hb => ?_⟩ (fun k hk => if_neg hk) (hfr _)
  cases hb
  exact hq2 _
theorem cc_iter19 (hS : TMo κ H a n N ky vA kA T lo hi cl m v) (he : H q = some (.inl (12, [.ref a]))) {c0 s0 : Nat} (hc : 1 ≤ c0) (hs : 4 ≤ s0) (K : Option Nat → xH → Prop) (hK : ∀ it H', H it = none → κ 0 ≤ it → ITm H' it a 0 n N m → (∀ b, b ≠ it → H' b = H b) → K (some it) H') : P_J19_iterator κ q (H, c0, s0) K := by
  have e1 : H a = some (.inl (2, _)) := hS.1
  unfold P_J19_iterator
  refine ⟨hc, hs, fun it hit hκ => ?_⟩
  have hit : H it = none := hit
  have d1 : q ≠ it := fun z => by rw [z, hit] at he; cases he
  have d2 : a ≠ it := fun z => by rw [z, hit] at e1; cases e1
  have hX : Ext H (xup H it (.inl (13, [va_rf none, va_rf none, .int 0, va_rf none]))) := fun b e hb => by rw [xup_ne (fun z => by rw [z, hit] at hb; cases hb)]; exact hb
  have hS' := hS.mono hX
  show xgq (xup H it _, _) q 12 0 _
  rw [g_gq (r := some a) (hX _ _ he) rfl, g_gq (r := some a) (hX _ _ he) rfl, t_nn, g_rc (hX _ _ e1), true_and]
  refine c_pure (r := if 0 < n then some (N 0) else none) (fun w K hk => cc_getFirstEntry (hX _ _ e1) rfl hS'.2.1 (TS_TQ.mpr hS'.2.2.2.2.2.1) K hk) ?_
  refine ⟨0, 0, Nat.zero_le _, Nat.zero_le _, ?_⟩
  unfold P_J21_init
  refine ⟨0, 0, Nat.zero_le _, Nat.zero_le _, ?_⟩
  unfold P_J20_init
  show xpq κ (xup H it _, _) it 13 3 (some a) _
  rw [g_pq xup_eq hκ (by simp), xup_xup, t_nn, g_gi ((xup_ne d2).trans e1) rfl, g_pi xup_eq hκ (by simp), xup_xup, g_pq xup_eq hκ (by simp), xup_xup, g_pq xup_eq hκ (by simp), xup_xup]
  show K (some it) (xup H it (.inl (13, [va_rf (if 0 < n then some (N 0) else none), va_rf none, .int m, .ref a])))
  exact hK it _ hit hκ ⟨none, xup_eq⟩ (fun b hb => xup_ne hb)
theorem cc_buildFS (hT : TMo κ S0 a n N ky vA kA T lo hi cl m v) (hit0 : S0 it = none) (hκit : κ 0 ≤ it) (hn0 : 0 < n) (hn : n ≤ 64) (hI : ITm H it a 0 n N m) (hSH : ∀ b, b ≠ it → H b = S0 b) (hκ2 : κ 0 ≤ a2) (hne : a ≠ a2) (e2 : S0 a2 = some (.inl (2, [v2 0, v2 1, va_rf none, va_rf none, .int 0, .int m2, v2 6, v2 7, v2 8]))) {c0 s0 : Nat} (hc : 64 ≤ c0) (hs : 384 ≤ s0) (K : Unit → xH → Prop)
    (hK : ∀ H' Q T' lo' hi' cl', H' a2 = some (tMo Q T' (nI n) m2 v2) → (∀ i, i < n → H' (Q i) = some (tNd Q kA vA T' cl' i) ∧ S0 (Q i) = none ∧ κ 0 ≤ Q i ∧ (cl' i = 0 ∨ cl' i = 1)) → (∀ i j, i < n → j < n → i ≠ j → Q i ≠ Q j) → TQ n T' lo' hi' → (∀ b e, S0 b = some e → b ≠ a2 → H' b = some e) → K () H') : P_J1_buildFromSorted κ a2 (nI n) (some it) none none (H, c0, s0) K := by
  have d2 : a2 ≠ it := fun z => by rw [z, hit0] at e2; cases e2
  have e2H : H a2 = some (.inl (2, [v2 0, v2 1, va_rf none, va_rf none, .int 0, .int m2, v2 6, v2 7, v2 8])) := (hSH a2 d2).trans e2
  unfold P_J1_buildFromSorted
  rw [g_pi e2H hκ2 (by simp)]
  refine ⟨0, 0, Nat.zero_le _, Nat.zero_le _, ?_⟩
  unfold P_J1_computeRedLevel
  refine ⟨0, 0, Nat.zero_le _, Nat.zero_le _, cc_lz _ (fun lv => ?_)⟩
  -- the map's object has its size
  have hX : ∀ b, b ≠ it → b ≠ a2 → xup H a2 (.inl (2, [v2 0, v2 1, va_rf none, va_rf none, .int (nI n), .int m2, v2 6, v2 7, v2 8])) b = S0 b := fun b h1 h2 => by rw [xup_ne h2, hSH b h1]
  have hES : Ext (xup S0 a2 (.inl (2, [v2 0, v2 1, va_rf none, va_rf none, .int (nI n), .int m2, v2 6, v2 7, v2 8]))) (xup H a2 (.inl (2, [v2 0, v2 1, va_rf none, va_rf none, .int (nI n), .int m2, v2 6, v2 7, v2 8]))) := fun b e hb => by
    by_cases hba : b = a2
    · subst hba
      rw [xup_eq] at hb ⊢
      exact hb
    · rw [xup_ne hba] at hb
      rw [hX b (fun z => by rw [z, hit0] at hb; cases hb) hba]
      exact hb
  have hT' : TMo κ (xup S0 a2 (.inl (2, [v2 0, v2 1, va_rf none, va_rf none, .int (nI n), .int m2, v2 6, v2 7, v2 8]))) a n N ky vA kA T lo hi cl m v := by
    obtain ⟨o1, o2, o3, o4, o5, o6, o7, es, e8, e9⟩ := hT
    have hkp : ∀ b e, S0 b = some e → (∀ fs, e ≠ .inl (2, fs)) → xup S0 a2 (.inl (2, [v2 0, v2 1, va_rf none, va_rf none, .int (nI n), .int m2, v2 6, v2 7, v2 8])) b = some e := fun b e hb k2 => by
      rw [xup_ne (fun z => by rw [z, e2] at hb; exact k2 _ (Option.some.inj hb).symm)]
      exact hb
    exact ⟨(xup_ne hne).trans o1, fun i hi' => hkp _ _ (o2 i hi') (fun fs z => by unfold tNd tN at z; cases z), o3, fun i hi' => ⟨hkp _ _ (o4 i hi').1 (fun fs z => by cases z), (o4 i hi').2⟩, o5, o6, o7, es, e8, fun b hb => hkp _ _ (e9 b hb) (fun fs z => by cases z)⟩
  have hI' : ITm (xup H a2 (.inl (2, [v2 0, v2 1, va_rf none, va_rf none, .int (nI n), .int m2, v2 6, v2 7, v2 8]))) it a 0 n N m := by
    obtain ⟨lr, e⟩ := hI
    exact ⟨lr, by rw [xup_ne (Ne.symm d2)]; exact e⟩
  have e0 : nI n - 1 = nI (n - 1) := by rw [← nI_pred (n - 1), show n - 1 + 1 = n by omega]
  show xrc (xup H a2 _, _) a2 2 ∧ _
  rw [g_rc xup_eq, true_and, e0]
  refine c_call 64 384 hc hs ?_
  have hb := cc_build (red := (31 : Int32) - lv) (x6 := none) hT' ⟨_, xup_eq⟩ (by rw [xup_ne (Ne.symm d2)]; exact hit0) hκit hn 8 0 n (0 : Int32) (xup H a2 (.inl (2, [v2 0, v2 1, va_rf none, va_rf none, .int (nI n), .int m2, v2 6, v2 7, v2 8]))) 64 384
  rw [nI_0] at hb
  refine hb _ hn0 (Nat.le_refl _) (by omega) (by omega) (by omega) hES hI' (fun r Q T' lo' hi' cl' H' hTR hBN hF hI'' => ?_)
  have h2' : H' a2 = some (.inl (2, [v2 0, v2 1, va_rf none, va_rf none, .int (nI n), .int m2, v2 6, v2 7, v2 8])) := hF _ _ xup_eq d2
  dsimp only
  rw [g_pq h2' hκ2 (by simp)]
  have dQ : ∀ i, i < n → Q i ≠ a2 := fun i hi' z => by
    have := (hBN.1 i (Nat.zero_le _) hi').2.1
    rw [z, xup_eq] at this
    cases this
  refine hK (xup H' a2 (.inl (2, [v2 0, v2 1, va_rf none, va_rf (some (Q r)), .int (nI n), .int m2, v2 6, v2 7, v2 8]))) Q (fun k i => if k = 3 then some r else T' k i) lo' hi' cl' xup_eq (fun i hi' => ?_) (fun i j h1 h2 h3 => hBN.2 i j (Nat.zero_le _) h1 (Nat.zero_le _) h2 h3) ?_ (fun b e hb hba => ?_)
  · obtain ⟨b1, b2, b3, b4⟩ := hBN.1 i (Nat.zero_le _) hi'
    refine ⟨?_, ?_, b3, b4⟩
    · rw [xup_ne (dQ i hi'), b1]
      rfl
    · rw [xup_ne (dQ i hi')] at b2
      rw [← hSH (Q i) (fun z => ?_)]
      · exact b2
      · obtain ⟨lr, e⟩ := hI
        rw [z, e] at b2
        cases b2
  · have h1 : TR 0 n r (fun k i => if k = 3 then some r else T' k i) lo' hi' := hTR
    exact h1.toTQ rfl
  · rw [xup_ne hba]
    have hbit : b ≠ it := fun z => by rw [z, hit0] at hb; cases hb
    exact hF _ _ (by rw [hX b hbit hba]; exact hb) hbit
end FB
