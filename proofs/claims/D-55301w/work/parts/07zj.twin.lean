-- TreeMap.putAll: the walk
def ITm (H : xH) (it a i n : Nat) (N : Nat → Nat) (m : Int32) : Prop := ∃ lr : Option Nat, H it = some (.inl (13, [va_rf (if i < n then some (N i) else none), va_rf lr, .int m, .ref a]))
def BN (κ : Nat → Nat) (H H' : xH) (Q kA vA : Nat → Nat) (T : Nat → Nat → Option Nat) (cl : Nat → Int32) (u t : Nat) : Prop :=
  (∀ i, u ≤ i → i < t → H' (Q i) = some (tNd Q kA vA T cl i) ∧ H (Q i) = none ∧ κ 0 ≤ Q i ∧ (cl i = 0 ∨ cl i = 1)) ∧ ∀ i j, u ≤ i → i < t → u ≤ j → j < t → i ≠ j → Q i ≠ Q j
def FrI (H H' : xH) (it : Nat) : Prop := ∀ b e, H b = some e → b ≠ it → H' b = some e
/-- what follows behind a middle node that has its left side -/
def bT (κ : Nat → Nat) (f a0 : Nat) (lev mi x3 red : Int32) (it : Nat) (x6 : Option Nat) (q : Nat) (σ : xS) (K : Option Nat → xH → Prop) : Prop :=
  ((x3 ≤ mi → K (some q) σ.1) ∧ (¬ x3 ≤ mi → (xrc σ a0 2 ∧ xcall (fun τ L => P_J1_buildFromSorted_2 κ f a0 (lev + (1 : Int32)) (mi + (1 : Int32)) x3 red (some it) x6 none τ L) σ fun v σ' => xpq κ σ' q 19 3 v fun σ'' => xnn v fun b => xpq κ σ'' b 19 4 (some q) fun σ''' => K (some q) σ'''.1)))
def BSp (κ : Nat → Nat) (S0 : xH) (a a2 n : Nat) (N kA vA : Nat → Nat) (it : Nat) (m red : Int32) (x6 : Option Nat) (f : Nat) : Prop :=
  ∀ (u t : Nat) (lev : Int32) (H : xH) (c0 s0 : Nat) (K : Option Nat → xH → Prop), u < t → t ≤ n → t - u < 2 ^ f → t - u ≤ c0 → 6 * (t - u) ≤ s0 → Ext S0 H → ITm H it a u n N m →
    (∀ r Q T lo hi cl H', TR u t r T lo hi → BN κ H H' Q kA vA T cl u t → FrI H H' it → ITm H' it a t n N m → K (some (Q r)) H') → P_J1_buildFromSorted_2 κ f a2 lev (nI u) (nI (t - 1)) red (some it) x6 none (H, c0, s0) K
section FA
variable {κ : Nat → Nat} {h h' h0 H H' S0 : xH} {a a2 n i j k x y p q r u t md it f : Nat} {N ky vA kA Q QL QR : Nat → Nat} {v : Nat → Value} {sz m red col lev : Int32} {T T' TL TR' : Nat → Nat → Option Nat} {cl cl' clL clR : Nat → Int32} {w : Nat × Nat} {lo hi loL hiL : Nat → Nat} {W : Nat → Int32} {x6 rL rR : Option Nat}
theorem cc_next21 (hT : TMo κ H a n N ky vA kA T lo hi cl m v) (hI : ITm H it a i n N m) (hκ : κ 0 ≤ it) (hi' : i < n) (K : Option Nat → xH → Prop) (hK : ∀ H', ITm H' it a (i + 1) n N m → (∀ b, b ≠ it → H' b = H b) → K (some (N i)) H') : P_J21_next κ it (H, w) K := by
  obtain ⟨lr, e⟩ := hI
  rw [if_pos hi'] at e
  have e1 : H a = some (.inl (2, _)) := hT.1
  unfold P_J21_next
  rw [g_rc e, true_and]
  refine ⟨0, 0, Nat.zero_le _, Nat.zero_le _, ?_⟩
  unfold P_J21_next_2
  show xrc (H, _) it 13 ∧ _
  rw [g_rc e, true_and]
  refine ⟨0, 0, Nat.zero_le _, Nat.zero_le _, ?_⟩
  unfold P_J20_nextEntry
  show xgq (H, _) it 13 0 _
  rw [g_gq (r := some (N i)) e rfl]
  refine ⟨fun z => (by cases z), fun b z => ?_⟩
  cases z
  rw [g_gq (r := some a) e rfl, t_nn, g_gi e1 rfl, g_gi e rfl]
  refine ⟨fun _ => ?_, fun z => absurd rfl z⟩
  refine c_pure (r := if i + 1 < n then some (N (i + 1)) else none) (fun w K hk => cc_successor hT.2.1 hT.2.2.1.1 (TS_TQ.mpr hT.2.2.2.2.2.1) hi' K hk) ?_
  rw [g_pq e hκ (by simp), g_pq xup_eq hκ (by simp), xup_xup]
  show K (some (N i)) (xup H it (.inl (13, [va_rf (if i + 1 < n then some (N (i + 1)) else none), va_rf (some (N i)), .int m, .ref a])))
  exact hK _ ⟨some (N i), xup_eq⟩ (fun b hb => xup_ne hb)
theorem hang_map {o : Option Nat} (ho : ∀ j, o = some j → j < md) : o.map (hangN md q QL QR) = o.map QL := by
  cases o with
  | none => rfl
  | some j => show some (hangN md q QL QR j) = _; unfold hangN; rw [if_pos (ho j rfl)]; rfl
theorem hang_mapR {o : Option Nat} (ho : ∀ j, o = some j → md < j) : o.map (hangN md q QL QR) = o.map QR := by
  cases o with
  | none => rfl
  | some j => show some (hangN md q QL QR j) = _; have := ho j rfl; unfold hangN; rw [if_neg (by omega), if_pos this]; rfl
theorem hang_q : hangN md q QL QR md = q := by unfold hangN; simp
theorem TR_in {u t r : Nat} {lo hi : Nat → Nat} (h : TR u t r T lo hi) (h1 : u ≤ i) (h2 : i < t) : (∀ j, T 0 i = some j → u ≤ j ∧ j < t) ∧ (∀ j, T 1 i = some j → u ≤ j ∧ j < t) ∧ ∀ j, T 2 i = some j → u ≤ j ∧ j < t := by
  have b := h.2.1 i h1 h2
  refine ⟨fun j z => ?_, fun j z => ?_, fun j z => ?_⟩
  · have := h.2.2.2.1 i j h1 h2 z; omega
  · have := h.2.2.2.2.2.1 i j h1 h2 z; omega
  · have := h.2.2.2.2.2.2.2 i j h1 h2 z; omega
/-- a side: none, or a tree -/
def sideT (u t : Nat) (r : Option Nat) (T : Nat → Nat → Option Nat) (lo hi : Nat → Nat) : Prop := (u = t ∧ r = none) ∨ ∃ x, r = some x ∧ TR u t x T lo hi
def ndP (Q kA vA : Nat → Nat) (T : Nat → Nat → Option Nat) (cl : Nat → Int32) (r : Option Nat) (q i : Nat) : xE := .inl (19, [.ref (kA i), .ref (vA i), va_rf ((T 0 i).map Q), va_rf ((T 1 i).map Q), va_rf (if r = some i then some q else (T 2 i).map Q), .int (cl i)])
theorem BN_hang {loR hiR : Nat → Nat} (hsL : sideT u md rL TL loL hiL) (hsR : sideT (md + 1) t rR TR' loR hiR) (hL : ∀ i, u ≤ i → i < md → H' (QL i) = some (ndP QL kA vA TL clL rL q i)) (hR : ∀ i, md < i → i < t → H' (QR i) = some (ndP QR kA vA TR' clR rR q i))
    (hq : H' q = some (.inl (19, [.ref (kA md), .ref (vA md), va_rf (rL.map QL), va_rf (rR.map QR), va_rf none, .int col]))) : ∀ i, u ≤ i → i < t → H' (hangN md q QL QR i) = some (tNd (hangN md q QL QR) kA vA (hangT md rL rR TL TR') (fun i => if i < md then clL i else if md < i then clR i else col) i) := by
  intro i h1 h2
  unfold tNd tN
  dsimp only
  rcases Nat.lt_trichotomy i md with z | z | z
  · obtain ⟨x, ex, hT⟩ : ∃ x, rL = some x ∧ TR u md x TL loL hiL := by
      rcases hsL with ⟨y, -⟩ | hT
      · omega
      · exact hT
    obtain ⟨i0, i1, i2⟩ := TR_in hT h1 z
    have e0 : hangT md rL rR TL TR' 0 i = TL 0 i := by unfold hangT; rw [if_pos z, if_neg (by omega)]
    have e1 : hangT md rL rR TL TR' 1 i = TL 1 i := by unfold hangT; rw [if_pos z, if_neg (by omega)]
    have e2 : (hangT md rL rR TL TR' 2 i).map (hangN md q QL QR) = if rL = some i then some q else (TL 2 i).map QL := by
      unfold hangT
      rw [if_pos z]
      by_cases c : rL = some i
      · rw [if_pos ⟨rfl, c⟩, if_pos c]
        show some (hangN md q QL QR md) = _
        rw [hang_q]
      · rw [if_neg (fun y => c y.2), if_neg c]
        exact hang_map (fun j hj => (i2 j hj).2)
    have eQ : hangN md q QL QR i = QL i := by unfold hangN; rw [if_pos z]
    rw [eQ, hL i h1 z, e0, e1, e2, hang_map (fun j hj => (i0 j hj).2), hang_map (fun j hj => (i1 j hj).2), if_pos z]
    rfl
  · subst z
    have e0 : hangT i rL rR TL TR' 0 i = rL := by unfold hangT; simp
    have e1 : hangT i rL rR TL TR' 1 i = rR := by unfold hangT; simp
    have e2 : hangT i rL rR TL TR' 2 i = none := by unfold hangT; simp
    rw [hang_q, hq, e0, e1, e2, hang_map (fun j hj => ?_), hang_mapR (fun j hj => ?_), if_neg (Nat.lt_irrefl _), if_neg (Nat.lt_irrefl _)]
    · rfl
    · rcases hsR with ⟨-, y⟩ | ⟨x, y, hT⟩
      · rw [y] at hj; cases hj
      · rw [y] at hj; cases hj; have := hT.1.1; omega
    · rcases hsL with ⟨-, y⟩ | ⟨x, y, hT⟩
      · rw [y] at hj; cases hj
      · rw [y] at hj; cases hj; exact hT.1.2.1
  · obtain ⟨x, ex, hT⟩ : ∃ x, rR = some x ∧ TR (md + 1) t x TR' loR hiR := by
      rcases hsR with ⟨y, -⟩ | hT
      · omega
      · exact hT
    obtain ⟨i0, i1, i2⟩ := TR_in hT z h2
    have e0 : hangT md rL rR TL TR' 0 i = TR' 0 i := by unfold hangT; rw [if_neg (by omega), if_pos z, if_neg (by omega)]
    have e1 : hangT md rL rR TL TR' 1 i = TR' 1 i := by unfold hangT; rw [if_neg (by omega), if_pos z, if_neg (by omega)]
    have e2 : (hangT md rL rR TL TR' 2 i).map (hangN md q QL QR) = if rR = some i then some q else (TR' 2 i).map QR := by
      unfold hangT
      rw [if_neg (by omega), if_pos z]
      by_cases c : rR = some i
      · rw [if_pos ⟨rfl, c⟩, if_pos c]
        show some (hangN md q QL QR md) = _
        rw [hang_q]
      · rw [if_neg (fun y => c y.2), if_neg c]
        exact hang_mapR (fun j hj => (i2 j hj).1)
    have eQ : hangN md q QL QR i = QR i := by unfold hangN; rw [if_neg (by omega), if_pos z]
    rw [eQ, hR i z h2, e0, e1, e2, hang_mapR (fun j hj => (i0 j hj).1), hang_mapR (fun j hj => (i1 j hj).1), if_neg (show ¬ i < md by omega), if_pos z]
    rfl
/-- the right side -/
theorem cc_bRight (ih : BSp κ S0 a a2 n N kA vA it m red x6 f) (ha2 : ∃ fs, S0 a2 = some (.inl (2, fs))) (hf : t - (md + 1) < 2 ^ f) (hmt : md < t) (htn : t ≤ n) (hn : n ≤ 64) (hE : Ext S0 H) (hI : ITm H it a (md + 1) n N m) (hq : κ 0 ≤ q) (hH0 : h0 q = none) (hqit : q ≠ it)
    (hsL : sideT u md rL TL loL hiL) (hum : u ≤ md) (hcol : col = 0 ∨ col = 1)
    (hL : ∀ i, u ≤ i → i < md → H (QL i) = some (ndP QL kA vA TL clL rL q i) ∧ h0 (QL i) = none ∧ κ 0 ≤ QL i ∧ (clL i = 0 ∨ clL i = 1)) (hLi : ∀ i j, u ≤ i → i < md → u ≤ j → j < md → i ≠ j → QL i ≠ QL j) (hLq : ∀ i, u ≤ i → i < md → QL i ≠ q) (hfr : FrI h0 H it) (hit : ∃ e, h0 it = some e)
    (hqn : H q = some (.inl (19, [.ref (kA md), .ref (vA md), va_rf (rL.map QL), va_rf none, va_rf none, .int col]))) {c0 s0 : Nat} (hc : t - (md + 1) ≤ c0) (hs : 6 * (t - (md + 1)) ≤ s0) (K : Option Nat → xH → Prop)
    (hK : ∀ r Q T lo hi cl H', TR u t r T lo hi → BN κ h0 H' Q kA vA T cl u t → FrI h0 H' it → ITm H' it a t n N m → K (some (Q r)) H') : bT κ f a2 lev (nI md) (nI (t - 1)) red it x6 q (H, c0, s0) K := by
  unfold bT
  rw [nI_leI (by omega) (by omega)]
  have hitL : ∀ i, u ≤ i → i < md → QL i ≠ it := fun i h1 h2 z => by
    have := (hL i h1 h2).2.1
    obtain ⟨e, he⟩ := hit
    rw [z, he] at this
    cases this
  refine ⟨fun z => ?_, fun z => ?_⟩
  · -- no right side
    have ht : md + 1 = t := by omega
    have key := hK md (hangN md q QL QL) (hangT md rL none TL TL) (hangN md u loL loL) (hangN md t hiL hiL) (fun i => if i < md then clL i else if md < i then clL i else col) H (TR_hang hum hmt hsL (Or.inl ⟨ht, rfl⟩)) ⟨fun i h1 h2 => ⟨BN_hang (loR := loL) (hiR := hiL) (TR' := TL) hsL (Or.inl ⟨ht, rfl⟩) (fun i h1 h2 => (hL i h1 h2).1) (fun i h1 h2 => by omega) hqn i h1 h2, ?_⟩, fun i j h1 h2 h3 h4 h5 => ?_⟩ hfr (by rw [ht] at hI; exact hI)
    · rw [hang_q] at key
      exact key
    · by_cases hi2 : i < md
      · have eQ : hangN md q QL QL i = QL i := by unfold hangN; rw [if_pos hi2]
        rw [eQ]
        show _ ∧ _ ∧ ((if i < md then clL i else if md < i then clL i else col) = 0 ∨ (if i < md then clL i else if md < i then clL i else col) = 1)
        rw [if_pos hi2]
        exact (hL i h1 hi2).2
      · have : i = md := by omega
        subst this
        rw [hang_q]
        show _ ∧ _ ∧ ((if i < i then clL i else if i < i then clL i else col) = 0 ∨ (if i < i then clL i else if i < i then clL i else col) = 1)
        rw [if_neg (Nat.lt_irrefl _), if_neg (Nat.lt_irrefl _)]
        exact ⟨hH0, hq, hcol⟩
    · unfold hangN
      by_cases hi2 : i < md
      · rw [if_pos hi2]
        by_cases hj2 : j < md
        · rw [if_pos hj2]; exact hLi i j h1 hi2 h3 hj2 h5
        · rw [if_neg hj2, if_neg (by omega)]; exact hLq i h1 hi2
      · rw [if_neg hi2, if_neg (by omega)]
        by_cases hj2 : j < md
        · rw [if_pos hj2]; exact fun z => hLq j h3 hj2 z.symm
        · omega
  · obtain ⟨fs, efs⟩ := ha2
    rw [g_rc (hE _ _ efs), true_and, nI_1]
    refine c_call (t - (md + 1)) (6 * (t - (md + 1))) hc hs (ih (md + 1) t _ H _ _ _ (by omega) htn hf (Nat.le_refl _) (Nat.le_refl _) hE hI (fun r Q T lo hi cl H' hT hB hF hI' => ?_))
    have hq' : H' q = some (.inl (19, [.ref (kA md), .ref (vA md), va_rf (rL.map QL), va_rf none, va_rf none, .int col])) := hF _ _ hqn hqit
    obtain ⟨r1, r2, r3, r4, r5⟩ := hT.1
    obtain ⟨b1, b2, b3, b4⟩ := hB.1 r r1 r2
    have dq : ∀ i, md + 1 ≤ i → i < t → Q i ≠ q := fun i h1 h2 z => by
      have := (hB.1 i h1 h2).2.1
      rw [z, hqn] at this
      cases this
    have dL : ∀ i j, md + 1 ≤ i → i < t → u ≤ j → j < md → Q i ≠ QL j := fun i j h1 h2 h3 h4 z => by
      have := (hB.1 i h1 h2).2.1
      rw [z, (hL j h3 h4).1] at this
      cases this
    have dit : ∀ i, md + 1 ≤ i → i < t → Q i ≠ it := fun i h1 h2 z => by
      have := (hB.1 i h1 h2).2.1
      obtain ⟨lr, e⟩ := hI
      rw [z, e] at this
      cases this
    unfold tNd tN at b1
    rw [g_pq hq' hq (by simp), t_nn, g_pq ((xup_ne (dq r r1 r2)).trans b1) b3 (by simp)]
    have hfin : ∀ b, b ≠ q → b ≠ Q r → ∀ e e' : xE, xup (xup H' q e) (Q r) e' b = H' b := fun b h1 h2 e e' => by rw [xup_ne h2, xup_ne h1]
    have hh0 : ∀ i, md + 1 ≤ i → i < t → h0 (Q i) = none := fun i h1 h2 => by
      cases hh : h0 (Q i) with
      | none => rfl
      | some e =>
        have := hfr _ _ hh (dit i h1 h2)
        rw [(hB.1 i h1 h2).2.1] at this
        cases this
    have key := hK md (hangN md q QL Q) (hangT md rL (some r) TL T) (hangN md u loL lo) (hangN md t hiL hi) (fun i => if i < md then clL i else if md < i then cl i else col) (xup (xup H' q (.inl (19, [.ref (kA md), .ref (vA md), va_rf (rL.map QL), va_rf (some (Q r)), va_rf none, .int col]))) (Q r) (.inl (19, [.ref (kA r), .ref (vA r), va_rf ((T 0 r).map Q), va_rf ((T 1 r).map Q), va_rf (some q), .int (cl r)]))) (TR_hang hum hmt hsL (Or.inr ⟨r, rfl, hT⟩)) ⟨fun i h1 h2 => ⟨BN_hang hsL (Or.inr ⟨r, rfl, hT⟩) (fun i h1 h2 => ?_) (fun i h1 h2 => ?_) ?_ i h1 h2, ?_⟩, fun i j h1 h2 h3 h4 h5 => ?_⟩ (fun b e hb hbit => ?_) ?_
    · rw [hang_q] at key
      exact key
    · rw [hfin _ (hLq i h1 h2) (fun z => dL r i r1 r2 h1 h2 z.symm)]
      exact hF _ _ (hL i h1 h2).1 (hitL i h1 h2)
    · unfold ndP
      by_cases hir : i = r
      · subst hir
        rw [xup_eq, if_pos rfl]
      · rw [hfin _ (dq i h1 h2) (hB.2 i r h1 h2 r1 r2 hir), if_neg (fun z => hir (Option.some.inj z).symm)]
        exact (hB.1 i h1 h2).1
    · rw [xup_ne (Ne.symm (dq r r1 r2)), xup_eq]
      rfl
    · rcases Nat.lt_trichotomy i md with z | z | z
      · have eQ : hangN md q QL Q i = QL i := by unfold hangN; rw [if_pos z]
        rw [eQ]
        show _ ∧ _ ∧ ((if i < md then clL i else if md < i then cl i else col) = 0 ∨ (if i < md then clL i else if md < i then cl i else col) = 1)
        rw [if_pos z]
        exact (hL i h1 z).2
      · subst z
        rw [hang_q]
        show _ ∧ _ ∧ ((if i < i then clL i else if i < i then cl i else col) = 0 ∨ (if i < i then clL i else if i < i then cl i else col) = 1)
        rw [if_neg (Nat.lt_irrefl _), if_neg (Nat.lt_irrefl _)]
        exact ⟨hH0, hq, hcol⟩
      · have eQ : hangN md q QL Q i = Q i := by unfold hangN; rw [if_neg (by omega), if_pos z]
        rw [eQ]
        show _ ∧ _ ∧ ((if i < md then clL i else if md < i then cl i else col) = 0 ∨ (if i < md then clL i else if md < i then cl i else col) = 1)
        rw [if_neg (by omega), if_pos z]
        exact ⟨hh0 i z h2, (hB.1 i z h2).2.2⟩
    · unfold hangN
      rcases Nat.lt_trichotomy i md with z | z | z
      · rw [if_pos z]
        rcases Nat.lt_trichotomy j md with z2 | z2 | z2
        · rw [if_pos z2]; exact hLi i j h1 z h3 z2 h5
        · rw [if_neg (by omega), if_neg (by omega)]; exact hLq i h1 z
        · rw [if_neg (by omega), if_pos z2]; exact fun y => dL j i z2 h4 h1 z y.symm
      · rw [if_neg (by omega), if_neg (by omega)]
        rcases Nat.lt_trichotomy j md with z2 | z2 | z2
        · rw [if_pos z2]; exact fun y => hLq j h3 z2 y.symm
        · omega
        · rw [if_neg (by omega), if_pos z2]; exact fun y => dq j z2 h4 y.symm
      · rw [if_neg (by omega), if_pos z]
        rcases Nat.lt_trichotomy j md with z2 | z2 | z2
        · rw [if_pos z2]; exact dL i j z h2 h3 z2
        · rw [if_neg (by omega), if_neg (by omega)]; exact dq i z h2
        · rw [if_neg (by omega), if_pos z2]; exact hB.2 i j z h2 z2 h4 h5
    · rw [hfin b (fun z => by rw [z, hH0] at hb; cases hb) (fun z => by rw [z, hh0 r r1 r2] at hb; cases hb)]
      exact hF _ _ (hfr _ _ hb hbit) hbit
    · obtain ⟨lr, e⟩ := hI'
      exact ⟨lr, by rw [hfin it (Ne.symm hqit) (Ne.symm (dit r r1 r2))]; exact e⟩
end FA
