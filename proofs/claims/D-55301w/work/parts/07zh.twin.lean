section F8
variable {κ : Nat → Nat} {h h' h0 H : xH} {a n i j k x y p q r : Nat} {N ky vA kA : Nat → Nat} {v : Nat → Value} {sz m : Int32} {T T' : Nat → Nat → Option Nat} {cl cl' : Nat → Int32} {w : Nat × Nat} {lo hi : Nat → Nat} {W : Nat → Int32}
/-- all but the map's own objects -/
def FrN (h h' : xH) (a n : Nat) (N : Nat → Nat) : Prop := ∀ b e, h b = some e → b ≠ a → (∀ i, i < n → N i ≠ b) → h' b = some e
theorem FrN.toM (hO : TMo κ h a n N ky vA kA T lo hi cl m v) (hF : FrN h h' a n N) : FrM h h' := fun b e hb k2 k19 => hF b e hb (fun z => by
  rw [z, hO.1] at hb
  exact k2 _ (Option.some.inj hb).symm) (fun i hi' z => by
  rw [← z, hO.2.1 i hi'] at hb
  exact k19 _ (Option.some.inj hb).symm)
theorem FrN.ext (hF : FrN h h' a n N) (hE : Ext h0 h) (h1 : h0 a = none) (h2 : ∀ i, i < n → h0 (N i) = none) : Ext h0 h' := fun b e hb => hF b e (hE b e hb) (fun z => by rw [z, h1] at hb; cases hb) (fun i hi' z => by rw [← z, h2 i hi'] at hb; cases hb)
/-- behind the link: colours, size, count of changes -/
theorem cc_addTail (f1 : H a = some (tMo N T sz m v)) (f2 : ∀ i, i < n → H (N i) = some (tNd N kA vA T cl i)) (f3 : rOK κ a n N) (f4 : ∀ i, i < n → H (kA i) = some (.inl (14, [.int (nI (ky i))])) ∧ ky i < 64) (f5 : ∀ i j, i < j → j < n → ky i < ky j) (f6 : TQ n T lo hi) (f7 : colOK n cl) (f8 : ∃ es : Option Nat, v 6 = va_rf es ∧ ∀ q, es = some q → H q = some (.inl (12, [.ref a]))) (hsz : sz + 1 = nI n) (hr : r < n) (hq : N r = q)
    (K : Unit → xH → Prop) (hK : ∀ h' T' lo' hi' cl', TMo κ h' a n N ky vA kA T' lo' hi' cl' (m + 1) v → FrN H h' a n N → K () h') : xcall (fun τ L => P_J1_fixAfterInsertion κ a (some q) τ L) (H, w) (fun _ σ6 => xgi σ6 a 2 4 fun v7 => xpi κ σ6 a 2 4 (v7 + (1 : Int32)) fun σ8 => xgi σ8 a 2 5 fun v9 => xpi κ σ8 a 2 5 (v9 + (1 : Int32)) fun σ10 => K () σ10.1) := by
  have hS := rput_self f1 f2 f3
  subst hq
  refine ⟨0, 0, Nat.zero_le _, Nat.zero_le _, ?_⟩
  show P_J1_fixAfterInsertion κ a (some (N r)) (H, 0, 0) _
  suffices hh : ∀ G : xH, G = H → P_J1_fixAfterInsertion κ a (some (N r)) (G, 0, 0) (fun _ h' => xgi (h', w.1 - 0, w.2 - 0) a 2 4 fun v7 => xpi κ (h', w.1 - 0, w.2 - 0) a 2 4 (v7 + (1 : Int32)) fun σ8 => xgi σ8 a 2 5 fun v9 => xpi κ σ8 a 2 5 (v9 + (1 : Int32)) fun σ10 => K () σ10.1) from hh H rfl
  intro G hG
  rw [hG, ← hS]
  refine cc_fixAfter f3 f6 f7 hr _ (fun T' cl' lo' hi' hT' hc' => ?_)
  rw [r_gs, r_ws f3, r_gm, r_wm f3, hsz]
  have hfr0 : FrN H (rput H a n N kA vA v (nI n) (m + 1) T' cl') a n N := fun b e hb b1 b2 => by rw [rput_o b1 b2]; exact hb
  have hfr : FrM H (rput H a n N kA vA v (nI n) (m + 1) T' cl') := fun _ _ hb k2 k19 => rput_keep f1 f2 hb k2 k19
  refine hK _ T' lo' hi' cl' ⟨rput_a, fun i hi' => rput_n f3 hi', f3, fun i hi' => ⟨hfr _ _ (f4 i hi').1 (fun fs z => by cases z) (fun fs z => by cases z), (f4 i hi').2⟩, f5, hT', hc', ?_⟩ hfr0
  obtain ⟨es, e8, e9⟩ := f8
  exact ⟨es, e8, fun q hq => hfr _ _ (e9 q hq) (fun fs z => by cases z) (fun fs z => by cases z)⟩
theorem cc_addEntry {l : Bool} (hO : TMo κ h a n N ky vA kA T lo hi cl m v) (hx : h x = some (.inl (14, [.int (nI k)]))) (hk : k < 64) (hp : p < n) (hr : r ≤ n) (h0' : (l = true ∧ p = r ∧ T 0 p = none) ∨ (l = false ∧ p + 1 = r ∧ T 1 p = none)) (hl : ∀ i, i < r → ky i < k) (hg : ∀ i, r ≤ i → i < n → k < ky i)
    {c0 s0 : Nat} (hc : 1 ≤ c0) (hs : 6 ≤ s0) (K : Unit → xH → Prop) (hK : ∀ q h' T' lo' hi' cl', h q = none → TMo κ h' a (n + 1) (ins r q N) (ins r k ky) (ins r y vA) (ins r x kA) T' lo' hi' cl' (m + 1) v → FrN h h' a n N → K () h') : P_J1_addEntry κ a (some x) (some y) (some (N p)) (bI l) (h, c0, s0) K := by
  unfold P_J1_addEntry
  refine ⟨hc, hs, fun q hq hκ => ?_⟩
  have hq : h q = none := hq
  refine ⟨0, 0, Nat.zero_le _, Nat.zero_le _, ?_⟩
  unfold P_J31_init
  show xpi κ (xup h q _, _) q 19 5 1 _
  rw [g_pi xup_eq hκ (by simp), xup_xup, g_pq xup_eq hκ (by simp), xup_xup, g_pq xup_eq hκ (by simp), xup_xup, g_pq xup_eq hκ (by simp), xup_xup]
  have e1 : h a = some (.inl (2, _)) := hO.1
  have ep := hO.2.1 p hp
  have dpq : N p ≠ q := fun z => by rw [z, hq] at ep; cases ep
  have dap : a ≠ N p := fun z => hO.2.2.1.2.1 p hp z.symm
  have daq : a ≠ q := fun z => by rw [z, hq] at e1; cases e1
  have hκp := hO.2.2.1.2.2.2 p hp
  -- both sides alike
  have main : ∀ (H : xH), H a = h a → H q = some (.inl (19, [.ref x, .ref y, va_rf none, va_rf none, va_rf (some (N p)), .int 1])) → H (N p) = some (.inl (19, [.ref (kA p), .ref (vA p), va_rf (if l = true then some q else (T 0 p).map N), va_rf (if l = true then (T 1 p).map N else some q), va_rf ((T 2 p).map N), .int (cl p)])) → (∀ b, b ≠ q → b ≠ N p → H b = h b) →
      xrc (H, c0 - 1, s0 - 6) a 2 ∧ xcall (fun τ L => P_J1_fixAfterInsertion κ a (some q) τ L) (H, c0 - 1, s0 - 6) (fun _ σ6 => xgi σ6 a 2 4 fun v7 => xpi κ σ6 a 2 4 (v7 + (1 : Int32)) fun σ8 => xgi σ8 a 2 5 fun v9 => xpi κ σ8 a 2 5 (v9 + (1 : Int32)) fun σ10 => K () σ10.1) := by
    intro H fA fq fp fo
    obtain ⟨f1, f2, f3, f4, f5, f6, f7, f8⟩ := TMo_ins (k := k) (kx := x) (vx := y) hO hq hκ hp hr h0' hx hk hl hg fA fq fp fo
    rw [g_rc (fA.trans e1), true_and]
    refine cc_addTail (r := r) f1 f2 f3 f4 f5 f6 f7 f8 (nI_1 n) (by omega) ins_r K (fun h' T' lo' hi' cl' hT' hfr => hK q h' T' lo' hi' cl' hq hT' (fun b e hb b1 b2 => ?_))
    have bq : b ≠ q := fun z => by rw [z, hq] at hb; cases hb
    refine hfr b e ((fo b bq (fun z => b2 p hp z.symm)).trans hb) b1 (fun i hi' z => ?_)
    rcases sh_sur hr hi' with rfl | ⟨j, hj, rfl⟩
    · rw [ins_r] at z; exact bq z.symm
    · rw [ins_sh] at z; exact b2 j hj z
  unfold tNd tN at ep
  cases l with
  | false =>
    refine ⟨fun _ => ?_, fun z => absurd rfl z⟩
    rw [t_nn, g_pq ((xup_ne dpq).trans ep) hκp (by simp)]
    refine main _ ((xup_ne dap).trans (xup_ne daq)) ((xup_ne (Ne.symm dpq)).trans xup_eq) (xup_eq.trans rfl) (fun b b1 b2 => (xup_ne b2).trans (xup_ne b1))
  | true =>
    refine ⟨fun z => absurd z (by decide), fun _ => ?_⟩
    rw [t_nn, g_pq ((xup_ne dpq).trans ep) hκp (by simp)]
    refine main _ ((xup_ne dap).trans (xup_ne daq)) ((xup_ne (Ne.symm dpq)).trans xup_eq) (xup_eq.trans rfl) (fun b b1 b2 => (xup_ne b2).trans (xup_ne b1))
theorem cc_put (hW : WM κ h0 h a W) (hE : Ext h0 h) (hx : h x = some (.inl (14, [.int (nI k)]))) (hk : k < 64) {u : Int32} (hy : h y = some (.inl (14, [.int u]))) {c0 s0 : Nat} (hc : 1 ≤ c0) (hs : 6 ≤ s0) (K : Option Nat → xH → Prop)
    (hK : ∀ r h', WM κ h0 h' a (upd W k u) → Ext h0 h' → FrM h h' → K r h') : P_J1_put κ a (some x) (some y) (h, c0, s0) K := by
  obtain ⟨n, N, ky, vA, hT, hf1, hf2, hv, hz⟩ := hW
  obtain ⟨kA, T, lo, hi, cl, m, v, hO⟩ := TM_op hT
  have e1 : h a = some (.inl (2, _)) := hO.1
  have hκa := hO.2.2.1.2.2.1
  unfold P_J1_put
  rw [g_rc e1, true_and]
  refine c_call c0 s0 (Nat.le_refl _) (Nat.le_refl _) ?_
  unfold P_J1_put_2
  rw [g_gq (r := (T 3 0).map N) e1 rfl]
  -- an entry more
  have grow : ∀ (r p q : Nat) (h' : xH) (T' : Nat → Nat → Option Nat) (lo' hi' : Nat → Nat) (cl' : Nat → Int32) (res : Option Nat), r ≤ n → (∀ i, i < r → ky i < k) → (∀ i, r ≤ i → i < n → k < ky i) → h q = none → TMo κ h' a (n + 1) (ins r q N) (ins r k ky) (ins r y vA) (ins r x kA) T' lo' hi' cl' (m + 1) v → FrN h h' a n N → K res h' := by
    intro r p q h' T' lo' hi' cl' res hr hl hg hq hT' hfr
    have hfm := hfr.toM hO
    refine hK _ _ ⟨n + 1, _, _, _, hT'.close, hf1, fun i hi' => ?_, fun i hi' => ?_, fun k' hk' hf => ?_⟩ (hfr.ext hE hf1 hf2) hfm
    · rcases sh_sur hr hi' with rfl | ⟨j, hj, rfl⟩
      · rw [ins_r]
        cases hh : h0 q with
        | none => rfl
        | some e => rw [hE _ _ hh] at hq; cases hq
      · rw [ins_sh]; exact hf2 j hj
    · rcases sh_sur hr hi' with rfl | ⟨j, hj, rfl⟩
      · rw [ins_r, ins_r, upd_eq]; exact hfm _ _ hy (fun fs z => by cases z) (fun fs z => by cases z)
      · have hne : ky j ≠ k := by
          by_cases hjr : j < r
          · have := hl j hjr; omega
          · have := hg j (by omega) hj; omega
        rw [ins_sh, ins_sh, upd_ne hne]; exact hfm _ _ (hv j hj) (fun fs z => by cases z) (fun fs z => by cases z)
    · rw [t_find_none] at hf
      have h1 : k' ≠ k := fun z => hf r (by omega) (by rw [ins_r, z])
      rw [upd_ne h1]
      refine hz k' hk' (t_find_none.mpr (fun i hi' z => hf (sh r i) (sh_lt hi') (by rw [ins_sh, z])))
  cases eR : T 3 0 with
  | none =>
    have hn : n = 0 := hO.2.2.2.2.2.1.2.2.2.2.2.2.1 eR
    subst hn
    refine ⟨fun _ => ?_, fun b z => (by cases z)⟩
    rw [g_rc e1, true_and]
    refine c_call c0 s0 (Nat.le_refl _) (Nat.le_refl _) ?_
    unfold P_J1_addEntryToEmptyMap
    rw [g_rc e1, true_and]
    refine c_pure (r := (0 : Int32)) (fun w K hk' => ?_) ?_
    · unfold P_J1_compare
      rw [g_gq (r := none) e1 rfl]
      refine ⟨fun _ => ?_, fun b z => (by cases z)⟩
      rw [t_nn, g_rc hx, true_and, true_and]
      refine c_pure (r := (0 : Int32)) (fun w K hk' => cc_compareTo (u := k) (v := k) (by omega) (by omega) hx hx K (by rw [if_neg (by omega), if_pos rfl]; exact hk')) ?_
      exact hk'
    refine ⟨hc, hs, fun q hq hκ => ?_⟩
    have hq : h q = none := hq
    have daq : a ≠ q := fun z => by rw [z, hq] at e1; cases e1
    refine ⟨0, 0, Nat.zero_le _, Nat.zero_le _, ?_⟩
    unfold P_J31_init
    show xpi κ (xup h q _, _) q 19 5 1 _
    rw [g_pi xup_eq hκ (by simp), xup_xup, g_pq xup_eq hκ (by simp), xup_xup, g_pq xup_eq hκ (by simp), xup_xup, g_pq xup_eq hκ (by simp), xup_xup]
    show xpq κ (xup h q _, _) a 2 3 (some q) _
    rw [g_pq ((xup_ne daq).trans e1) hκa (by simp), g_pi xup_eq hκa (by simp), xup_xup, g_gi xup_eq rfl, g_pi xup_eq hκa (by simp), xup_xup]
    obtain ⟨es, e8, e9⟩ := hO.2.2.2.2.2.2.2
    have hfr : FrN h (xup (xup h q (.inl (19, [.ref x, .ref y, va_rf none, va_rf none, va_rf none, .int 1]))) a (.inl (2, [v 0, v 1, va_rf none, va_rf (some q), .int 1, .int (m + 1), v 6, v 7, v 8]))) a 0 N := fun b e hb b1 _ => by
      rw [xup_ne b1, xup_ne (fun z => by rw [z, hq] at hb; cases hb)]
      exact hb
    have hfm := hfr.toM hO
    show K none (xup (xup h q (.inl (19, [.ref x, .ref y, va_rf none, va_rf none, va_rf none, .int 1]))) a (.inl (2, [v 0, v 1, va_rf none, va_rf (some q), .int 1, .int (m + 1), v 6, v 7, v 8])))
    refine grow 0 0 q _ (fun k _ => if k = 3 then some 0 else none) (fun _ => 0) (fun _ => 1) (fun _ => 1) none (Nat.zero_le _) (fun i hi' => absurd hi' (Nat.not_lt_zero _)) (fun i _ hi' => absurd hi' (Nat.not_lt_zero _)) hq ⟨?_, fun i hi' => ?_, ⟨fun i j hi' hj hne => ?_, fun i hi' => ?_, hκa, fun i hi' => ?_⟩, fun i hi' => ?_, fun i j hij hj => ?_, ⟨?_, ?_, ?_, ?_, ?_, ?_, ?_, ?_, ?_⟩, fun i hi' => Or.inr rfl, es, e8, fun b hb => hfm _ _ (e9 b hb) (fun fs z => by cases z) (fun fs z => by cases z)⟩ hfr
    · rw [xup_eq]; rfl
    · have : i = 0 := by omega
      subst this
      rw [ins_r, xup_ne (Ne.symm daq), xup_eq]
      rfl
    · omega
    · have : i = 0 := by omega
      subst this
      rw [ins_r]; exact Ne.symm daq
    · have : i = 0 := by omega
      subst this
      rw [ins_r]; exact hκ
    · have : i = 0 := by omega
      subst this
      rw [ins_r, ins_r]; exact ⟨hfm _ _ hx (fun fs z => by cases z) (fun fs z => by cases z), hk⟩
    · omega
    all_goals simp
    all_goals omega
  | some r0 =>
    have hroot := hO.2.2.2.2.2.1.2.2.2.2.2.1 r0 eR
    refine ⟨fun z => (by cases z), fun b z => ?_⟩
    cases z
    rw [g_gq (r := none) e1 rfl]
    refine ⟨fun _ => ?_, fun b z => (by cases z)⟩
    refine c_pure (r := some x) (fun w K hk' => ?_) ?_
    · unfold P_J16_requireNonNull
      refine ⟨fun z => (by cases z), fun b z => ?_⟩
      cases z
      exact hk'
    rw [t_nn, g_rc hx, true_and]
    refine ⟨n + 1, cc_putGo hO hx hk (fun i hi' hki => ?_) (fun p hp hT0 hl hg => ?_) (fun p hp hT1 hl hg => ?_) n r0 hroot.1 (by omega) (fun i hi' => by omega) (fun i hi' hin => by omega)⟩
    · -- there is an entry
      have en : h (N i) = some (.inl (19, _)) := hO.2.1 i hi'
      rw [t_nn, g_gq (r := some (vA i)) en rfl]
      refine ⟨fun z => absurd z (by decide), fun _ => ?_⟩
      rw [g_pq en (hO.2.2.1.2.2.2 i hi') (by simp)]
      obtain ⟨o1, o2, o3, o4, o5, o6, o7, es, e8, e9⟩ := hO
      have hna : a ≠ N i := fun z => o3.2.1 i hi' z.symm
      have hne : ∀ b e, h b = some e → (∀ fs, e ≠ .inl (19, fs)) → b ≠ N i := fun b e hb k19 z => by
        rw [z, en] at hb
        exact k19 _ (Option.some.inj hb).symm
      have hfr : FrN h (xup h (N i) (.inl (19, [.ref (kA i), .ref y, va_rf ((T 0 i).map N), va_rf ((T 1 i).map N), va_rf ((T 2 i).map N), .int (cl i)]))) a n N := fun b e hb b1 b2 => by rw [xup_ne (fun z => b2 i hi' z.symm)]; exact hb
      have hkp : ∀ b e, h b = some e → (∀ fs, e ≠ .inl (19, fs)) → xup h (N i) (.inl (19, [.ref (kA i), .ref y, va_rf ((T 0 i).map N), va_rf ((T 1 i).map N), va_rf ((T 2 i).map N), .int (cl i)])) b = some e := fun b e hb k19 => by rw [xup_ne (hne b e hb k19)]; exact hb
      have hT' : TMo κ (xup h (N i) (.inl (19, [.ref (kA i), .ref y, va_rf ((T 0 i).map N), va_rf ((T 1 i).map N), va_rf ((T 2 i).map N), .int (cl i)]))) a n N ky (va_up vA i y) kA T lo hi cl m v := by
        refine ⟨(xup_ne hna).trans o1, fun j hj => ?_, o3, fun j hj => ⟨hkp _ _ (o4 j hj).1 (fun fs z => by cases z), (o4 j hj).2⟩, o5, o6, o7, es, e8, fun b hb => hkp _ _ (e9 b hb) (fun fs z => by cases z)⟩
        by_cases hji : j = i
        · subst hji
          rw [xup_eq]
          unfold tNd tN va_up
          rw [if_pos rfl]
        · rw [xup_ne (o3.1 j i hj hi' hji), o2 j hj]
          unfold tNd tN va_up
          rw [if_neg hji]
      refine hK _ _ ⟨n, N, ky, va_up vA i y, hT'.close, hf1, hf2, fun j hj => ?_, fun k' hk' hf => ?_⟩ (hfr.ext hE hf1 hf2) (fun b e hb _ k19 => hkp b e hb k19)
      · by_cases hji : j = i
        · subst hji
          unfold va_up
          rw [if_pos rfl, hki, upd_eq]
          exact hkp _ _ hy (fun fs z => by cases z)
        · have hne2 : ky j ≠ k := by
            rcases Nat.lt_or_gt_of_ne hji with q | q
            · have := o5 j i q hi'; omega
            · have := o5 i j q hj; omega
          unfold va_up
          rw [if_neg hji, upd_ne hne2]
          exact hkp _ _ (hv j hj) (fun fs z => by cases z)
      · rw [upd_ne (fun z => by rw [t_find_none] at hf; exact hf i hi' (by rw [hki, z]))]
        exact hz k' hk' hf
    · refine ⟨fun z => absurd z (show ¬ (0 : Int32) ≤ -1 by decide), fun _ => ?_⟩
      rw [g_rc e1, true_and]
      refine c_call c0 s0 (Nat.le_refl _) (Nat.le_refl _) ?_
      exact cc_addEntry (l := true) hO hx hk hp (by omega) (Or.inl ⟨rfl, rfl, hT0⟩) hl hg hc hs _ (fun q h' T' lo' hi' cl' g1 g2 g3 => grow p p q h' T' lo' hi' cl' none (by omega) hl hg g1 g2 g3)
    · refine ⟨fun _ => ?_, fun z => absurd (show (0 : Int32) ≤ 1 by decide) z⟩
      rw [g_rc e1, true_and]
      refine c_call c0 s0 (Nat.le_refl _) (Nat.le_refl _) ?_
      exact cc_addEntry (l := false) (r := p + 1) hO hx hk hp (by omega) (Or.inr ⟨rfl, rfl, hT1⟩) (fun i hi' => hl i (by omega)) (fun i hi' hin => hg i (by omega) hin) hc hs _ (fun q h' T' lo' hi' cl' g1 g2 g3 => grow (p + 1) p q h' T' lo' hi' cl' none (by omega) (fun i hi' => hl i (by omega)) (fun i hi' hin => hg i (by omega) hin) g1 g2 g3)
end F8
