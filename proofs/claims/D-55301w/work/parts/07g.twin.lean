section C8
variable {κ A : Nat → Nat} {h h' h1 H : xH} {g g' : Nat → Int32} {s l k j a b c d n n2 i q N : Nat} {f f2 F : Nat → Option Nat} {m m2 : Int32} {w : Nat × Nat} {e : xE} {sz : Value}
/-- an array's copy of another length -/
theorem cc_copyOf {N' : Nat} (e2 : h d = some (oA N F)) (hκ : κ 0 ≤ d) (hN : N ≤ 1000) (hN' : N' ≤ 1000) (hF : ∀ i, i < min N' N → oOK h (F i)) {c0 s0 : Nat} (hc : 1 ≤ c0) (hs : N' ≤ s0) (K : Option Nat → xH → Prop)
    (hK : ∀ q, h q = none → κ 0 ≤ q → K (some q) (xup h q (oA N' fun i => if i < min N' N then F i else none))) : P_J9_copyOf κ (some d) (nI N') (h, c0, s0) K := by
  unfold P_J9_copyOf
  rw [t_nn]
  refine ⟨⟨hκ, _, e2⟩, c_call c0 s0 (Nat.le_refl _) (Nat.le_refl _) ?_⟩
  unfold P_J9_copyOf_2
  refine ⟨fun _ => ?_, fun z => absurd rfl z⟩
  refine ⟨N', rfl, by omega, hc, hs, fun q hq hκq => ?_⟩
  have hq : h q = none := hq
  have hqd : q ≠ d := fun z => by rw [z, e2] at hq; cases hq
  have ed2 : xup h q (oA N' fun _ => none) d = some (oA N F) := by rw [xup_ne (Ne.symm hqd)]; exact e2
  dsimp only
  rw [t_nn, g_an ed2]
  have emin : (if nI N' < nI N then nI N' else nI N) = nI (min N' N) := by
    by_cases hx : N' < N
    · rw [if_pos (nI_lt hx (by omega)), Nat.min_eq_left (by omega)]
    · rw [if_neg (fun z => hx ((nI_ltI (by omega) (by omega)).mp z)), Nat.min_eq_right (by omega)]
  show xcpq κ (_, _) d 0 q 0 (if nI N' < nI N then nI N' else nI N) _
  rw [emin]
  have c0' : (0 : Int32).toNatClampNeg = 0 := by decide
  have hmn : min N' N ≤ N := Nat.min_le_right _ _
  have hmn' : min N' N ≤ N' := Nat.min_le_left _ _
  generalize min N' N = r at hmn hmn' hF hK
  have cn : (nI r).toNatClampNeg = r := nI_clamp (by omega)
  refine ⟨N, F, N', fun _ => none, ed2, xup_eq, hκq, by decide, by decide, nI_pos (by omega), by rw [c0', cn]; omega, by rw [c0', cn]; omega, fun i hi => ?_, ?_⟩
  · rw [c0', Nat.zero_add]
    rw [cn] at hi
    intro b hb
    obtain ⟨ci, fs, z1, z2⟩ := hF i hi b hb
    exact ⟨ci, fs, (Ext.new hq) _ _ z1, z2⟩
  · rw [c0', cn]
    have : va_cpy F (fun _ => none) 0 0 r = fun i => if i < r then F i else none := by
      funext i
      unfold va_cpy
      by_cases hi : i < r
      · rw [if_pos (by omega), if_pos hi]
        congr 1
        omega
      · rw [if_neg (by omega), if_neg hi]
    rw [this]
    show K (some q) (xup (xup h q _) q _)
    rw [xup_xup]
    exact hK q hq hκq
theorem cc_grow2 (e1 : h a = some (.inl (3, [.int m, .ref d, sz]))) (e2 : h d = some (oA N F)) (h7 : (N = 0 ∧ d = κ 2) ∨ (0 < N ∧ κ 0 ≤ d)) (hc : N < c) (hc2 : c ≤ 300) (hF : ∀ i, i < N → oOK h (F i)) (hκ : κ 0 ≤ a) {c0 s0 : Nat} (hc0 : 1 ≤ c0) (hs : 1000 ≤ s0) (K : Option Nat → xH → Prop)
    (hK : ∀ q N' G, h q = none → κ 0 ≤ q → c ≤ N' → N' ≤ 1000 → (∀ i, i < N → G i = F i) → (∀ i, N ≤ i → G i = none) → K (some q) (xup (xup h q (oA N' G)) a (.inl (3, [.int m, .ref q, sz])))) : P_J4_grow_2 κ a (nI c) (h, c0, s0) K := by
  have hne : a ≠ d := fun z => by rw [z, e2] at e1; cases e1
  unfold P_J4_grow_2
  rw [g_gq (r := some d) e1 rfl, t_nn, g_an e2]
  show (0 < nI N → _) ∧ (¬ 0 < nI N → _)
  have h0n : (0 : Int32) < nI N ↔ 0 < N := by
    have := nI_ltI (a := 0) (b := N) (by omega) (by omega)
    rwa [nI_0] at this
  rw [h0n]
  refine ⟨fun z => ?_, fun z => ?_⟩
  · rw [nI_half N (by omega)]
    show xcall (fun τ L => P_J7_newLength κ (nI N) (nI c - nI N) (nI (N / 2)) τ L) (h, c0, s0) _
    rw [nI_sub (by omega)]
    refine c_pure (r := nI (N + max (c - N) (N / 2))) (fun w K hk => cc_newLength (by omega) (by omega) (by omega) (by omega) _ K hk) ?_
    rw [g_gq (r := some d) e1 rfl]
    have h1 : c ≤ N + max (c - N) (N / 2) := by omega
    have h2 : N + max (c - N) (N / 2) ≤ 1000 := by omega
    generalize N + max (c - N) (N / 2) = N' at h1 h2
    have hmin : min N' N = N := Nat.min_eq_right (by omega)
    refine c_call 1 1000 hc0 hs (cc_copyOf e2 (by omega) (by omega) h2 (by rw [hmin]; exact hF) (Nat.le_refl _) h2 _ (fun q hq hκq => ?_))
    rw [hmin]
    have hqa : q ≠ a := fun z => by rw [z, e1] at hq; cases hq
    rw [g_pq (fs := [.int m, .ref d, sz]) (by rw [xup_ne (Ne.symm hqa)]; exact e1) hκ (by simp)]
    exact hK q N' _ hq hκq h1 h2 (fun i hi => if_pos hi) (fun i hi => if_neg (by omega))
  · obtain rfl : N = 0 := by omega
    rw [g_gq (r := some d) e1 rfl]
    refine ⟨fun _ => ?_, fun y => absurd (by rw [show d = κ 2 by omega]) y⟩
    have e10 : (if (10 : Int32) < nI c then nI c else 10) = nI (max 10 c) := by
      have e : (10 : Int32) = nI 10 := by decide
      rw [e]
      by_cases hx : 10 < c
      · rw [if_pos (nI_lt hx (by omega)), Nat.max_eq_right (by omega)]
      · rw [if_neg (fun z => hx ((nI_ltI (by omega) (by omega)).mp z)), Nat.max_eq_left (by omega)]
    rw [e10]
    refine ⟨max 10 c, rfl, by omega, hc0, by show max 10 c ≤ s0; omega, fun q hq hκq => ?_⟩
    have hq : h q = none := hq
    have hqa : q ≠ a := fun z => by rw [z, e1] at hq; cases hq
    dsimp only
    rw [g_pq (fs := [.int m, .ref d, sz]) (by rw [xup_ne (Ne.symm hqa)]; exact e1) hκ (by simp)]
    exact hK q (max 10 c) (fun _ => none) hq hκq (by omega) (by omega) (fun i hi => absurd hi (Nat.not_lt_zero _)) (fun i _ => rfl)
theorem cc_addAll {d2 : Nat} (hL : AL κ h a d n f m) (hL2 : AL κ h b d2 n2 f2 m2) (hab : a ≠ b) (hκ : κ 0 ≤ a) (hn0 : 0 < n2) (hn2 : n2 ≤ 20) (hn : n ≤ 60) (hf : ∀ i, i < n → oOK h (f i)) (hf2 : ∀ i, i < n2 → oOK h (f2 i)) {c0 s0 : Nat} (hc : 2 ≤ c0) (hs : 1100 ≤ s0) (K : Int32 → xH → Prop)
    (hdd : d ≠ d2) (hK : ∀ (h' : xH) (d' : Nat), AL κ h' a d' (n + n2) (fun i => if i < n then f i else f2 (i - n)) (m + 1) → (∀ b e, h b = some e → b ≠ a → b ≠ d' → h' b = some e) → (d' = d ∨ h d' = none) → κ 0 ≤ d' → (∀ b, h' b = none → h b = none) → K 1 h') : P_J4_addAll κ a (some b) (h, c0, s0) K := by
  have hne := hL.ne
  obtain ⟨N, F, e1, e2, e3, e4, e5, e6, e7⟩ := hL
  obtain ⟨N2, F2, u1, u2, u3, u4, u5, u6, u7⟩ := hL2
  have hd2 : κ 0 ≤ d2 := by omega
  unfold P_J4_addAll
  rw [t_nn, g_rc u1, true_and]
  have had2 : a ≠ d2 := fun z => by rw [z, u2] at e1; cases e1
  -- toArray
  refine c_call 1 50 (by omega) (by omega) ?_
  unfold P_J4_toArray
  rw [g_gq (r := some d2) u1 rfl, g_gi u1 rfl]
  have hmin : min n2 N2 = n2 := Nat.min_eq_left (by omega)
  refine c_call 1 50 (Nat.le_refl _) (Nat.le_refl _) (cc_copyOf u2 hd2 u4 (by omega) (by rw [hmin]; intro i hi; rw [u5 i hi]; exact hf2 i hi) (Nat.le_refl _) (by omega) _ (fun p hp hκp => ?_))
  rw [hmin]
  have hpa : p ≠ a := fun z => by rw [z, e1] at hp; cases hp
  have hpd : p ≠ d := fun z => by rw [z, e2] at hp; cases hp
  have hX : Ext h (xup h p (oA n2 fun i => if i < n2 then F2 i else none)) := Ext.new hp
  show xgi (xup h p (oA n2 fun i => if i < n2 then F2 i else none), _) a 3 0 _
  have x1 := hX _ _ e1
  have x2 := hX _ _ e2
  have xp : xup h p (oA n2 fun i => if i < n2 then F2 i else none) p = some (oA n2 fun i => if i < n2 then F2 i else none) := xup_eq
  have xno : ∀ b, xup h p (oA n2 fun i => if i < n2 then F2 i else none) b = none → h b = none := fun b hb => (xup_none hb).2
  have xo : ∀ r, oOK h r → oOK (xup h p (oA n2 fun i => if i < n2 then F2 i else none)) r := fun r hr b hb => by
    obtain ⟨ci, fs, z1, z2⟩ := hr b hb
    exact ⟨ci, fs, hX _ _ z1, z2⟩
  generalize xup h p (oA n2 fun i => if i < n2 then F2 i else none) = h2 at *
  have hp2 : n2 < 2 ^ 31 := by omega
  rw [g_gi x1 rfl, g_pi x1 hκ (by simp), t_nn, show ([.int m, .ref d, .int (nI n)] : List Value).set 0 (.int (m + 1)) = [.int (m + 1), .ref d, .int (nI n)] from rfl]
  have yp : xup h2 a (.inl (3, [.int (m + 1), .ref d, .int (nI n)])) p = some (oA n2 fun i => if i < n2 then F2 i else none) := by rw [xup_ne hpa]; exact xp
  have yd : xup h2 a (.inl (3, [.int (m + 1), .ref d, .int (nI n)])) d = some (oA N F) := by rw [xup_ne (Ne.symm hne)]; exact x2
  have yo : ∀ r, oOK h r → oOK (xup h2 a (.inl (3, [.int (m + 1), .ref d, .int (nI n)]))) r := fun r hr b hb => by
    obtain ⟨ci, fs, z1, z2⟩ := xo r hr b hb
    by_cases hba : b = a
    · subst hba
      rw [x1] at z1
      cases z1
      exact ⟨3, _, xup_eq, z2⟩
    · exact ⟨ci, fs, by rw [xup_ne hba]; exact z1, z2⟩
  show xan (xup h2 a (.inl (3, [.int (m + 1), .ref d, .int (nI n)])), _) p _
  rw [g_an yp]
  refine ⟨fun z => absurd z (nI_ne0 hn0 hp2), fun _ => ?_⟩
  rw [g_gq (r := some d) xup_eq rfl, t_nn, g_an yd, g_gi xup_eq rfl]
  show (nI n2 ≤ nI N - nI n → _) ∧ (¬ nI n2 ≤ nI N - nI n → _)
  rw [nI_sub e3, nI_leI hp2 (by omega)]
  have c0' : (0 : Int32).toNatClampNeg = 0 := by decide
  have cn : (nI n).toNatClampNeg = n := nI_clamp (by omega)
  have cn2 : (nI n2).toNatClampNeg = n2 := nI_clamp (by omega)
  have hob : ∀ (H : xH) (w : Nat × Nat), (∀ r, oOK h r → oOK H r) → ∀ i, i < n2 → xob2 (H, w) ((fun i => if i < n2 then F2 i else none) (0 + i)) := fun H w hH i hi => by
    show oOK H (if 0 + i < n2 then F2 (0 + i) else none)
    rw [Nat.zero_add, if_pos hi, u5 i hi]
    exact hH _ (hf2 i hi)
  -- the end: the array d' of the list has room
  have fin : ∀ (H : xH) (w : Nat × Nat) (d' N' : Nat) (G : Nat → Option Nat), (∀ r, oOK h r → oOK H r) → H a = some (.inl (3, [.int (m + 1), .ref d', .int (nI n)])) → H d' = some (oA N' G) → H p = some (oA n2 fun i => if i < n2 then F2 i else none) → a ≠ d' → n + n2 ≤ N' → N' ≤ 1000 → (∀ i, i < n → G i = F i) → (∀ i, n ≤ i → G i = none) → κ 0 ≤ d' → (d' = d ∨ h d' = none) → (∀ b e, h b = some e → b ≠ a → b ≠ d' → H b = some e) → (∀ b, H b = none → h b = none) →
      (xcpq κ (H, w) p 0 d' (nI n) (nI n2) fun σ12 => xpi κ σ12 a 3 2 (nI (n + n2)) fun σ13 => K 1 σ13.1) := by
    intro H w d' N' G hH k1 k2 k3 k4 k5 k6 k7 k8 k9 k10 k11 k12
    refine ⟨n2, _, N', G, k3, k2, k9, by decide, nI_pos (by omega), nI_pos (by omega), by rw [c0', cn2]; omega, by rw [cn, cn2]; omega, fun i hi => by rw [c0']; rw [cn2] at hi; exact hob H w hH i hi, ?_⟩
    rw [c0', cn, cn2]
    show xpi κ (xup H d' (oA N' (va_cpy (fun i => if i < n2 then F2 i else none) G 0 n n2)), w) a 3 2 (nI (n + n2)) _
    rw [g_pi (fs := [.int (m + 1), .ref d', .int (nI n)]) (by rw [xup_ne k4]; exact k1) hκ (by simp)]
    show K 1 (xup _ a _)
    refine hK _ d' ⟨N', _, xup_eq, by rw [xup_ne (Ne.symm k4)]; exact xup_eq, k5, k6, fun i hi => ?_, fun i hi => ?_, Or.inr ⟨by omega, k9⟩⟩ (fun b e hb hba hbd => ?_) k10 k9 (fun b hb => ?_)
    · show va_cpy _ G 0 n n2 i = if i < n then f i else f2 (i - n)
      unfold va_cpy
      by_cases hin : i < n
      · rw [if_neg (by omega), if_pos hin, k7 i hin, e5 i hin]
      · rw [if_pos (by omega), if_neg hin]
        show (if 0 + (i - n) < n2 then F2 (0 + (i - n)) else none) = _
        rw [Nat.zero_add, if_pos (by omega), u5 _ (by omega)]
    · show va_cpy _ G 0 n n2 i = none
      unfold va_cpy
      rw [if_neg (by omega), k8 i (by omega)]
    · rw [xup_ne hba, xup_ne hbd]
      exact k11 b e hb hba hbd
    · obtain ⟨y1, y2⟩ := xup_none hb
      exact k12 b (xup_none y2).2
  refine ⟨fun z => ?_, fun z => ?_⟩
  · show xcpq κ (_, _) p 0 d (nI n) (nI n2) fun σ12 => xpi κ σ12 a 3 2 (nI n + nI n2) fun σ13 => K 1 σ13.1
    rw [nI_add]
    refine fin _ _ d N F (fun r hr => yo r hr) xup_eq yd yp hne (by omega) e4 (fun i _ => rfl) e6 (by omega) (Or.inl rfl) (fun b e hb hba _ => by rw [xup_ne hba]; exact hX _ _ hb) (fun b hb => xno b (xup_none hb).2)
  · rw [g_rc xup_eq, true_and]
    show xcall (fun τ L => P_J4_grow_2 κ a (nI n + nI n2) τ L) (_, _, _) _
    rw [nI_add]
    have hF : ∀ i, i < N → oOK (xup h2 a (.inl (3, [.int (m + 1), .ref d, .int (nI n)]))) (F i) := fun i hi => by
      by_cases hin : i < n
      · rw [e5 i hin]; exact yo _ (hf i hin)
      · rw [e6 i (by omega)]
        intro b hb
        cases hb
    refine c_call 1 1000 (by omega) (by omega) (cc_grow2 xup_eq yd e7 (by omega) (by omega) hF hκ (Nat.le_refl _) (Nat.le_refl _) _ (fun q N' G hq hκq h1 h2' hG1 hG2 => ?_))
    obtain ⟨hqa, hq2⟩ := xup_none hq
    have hqp : q ≠ p := fun z => by rw [z, xp] at hq2; cases hq2
    rw [t_nn]
    refine fin _ _ q N' G (fun r hr b hb => ?_) xup_eq (by rw [xup_ne hqa, xup_eq]) (by rw [xup_ne hpa, xup_ne (Ne.symm hqp)]; exact yp) (Ne.symm hqa) h1 h2' (fun i hi => hG1 i (by omega)) (fun i hi => ?_) hκq (Or.inr (xno q hq2)) (fun b e hb hba hbq => ?_) (fun b hb => xno b (xup_none (xup_none (xup_none hb).2).2).2)
    · obtain ⟨ci, fs, z1, z2⟩ := yo r hr b hb
      by_cases hba : b = a
      · subst hba
        rw [xup_eq] at z1
        cases z1
        exact ⟨3, _, xup_eq, z2⟩
      · refine ⟨ci, fs, ?_, z2⟩
        rw [xup_ne hba, xup_ne (fun y => by rw [y] at z1; rw [z1] at hq; cases hq)]
        exact z1
    · by_cases hiN : i < N
      · rw [hG1 i hiN]; exact e6 i hi
      · exact hG2 i (by omega)
    · rw [xup_ne hba, xup_ne hbq, xup_ne hba]
      exact hX _ _ hb
end C8
