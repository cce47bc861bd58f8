section F3
variable {κ : Nat → Nat} {h h' : xH} {a n x k : Nat} {N kA vA lo hi : Nat → Nat} {lf rt pr : Nat → Option Nat} {root : Option Nat} {cl : Nat → Int32} {w : Nat × Nat} {fs : List Value}
theorem cc_firstGo (e2 : ∀ i, i < n → h (N i) = some (tN N kA vA lf rt pr cl i)) (hT : TS n lf rt pr lo hi root) (K : Option Nat → xH → Prop) : ∀ (f j : Nat), j < n → j ≤ lo j + f → K (some (N (lo j))) h → xloop (B_J1_getFirstEntry_9 κ K) (f + 1) (some (N j)) (h, w) := by
  intro f
  induction f with
  | zero =>
    intro j hj hf hK
    obtain ⟨h1, hL, -⟩ := hT.1 j hj
    have en := e2 j hj
    unfold tN at en
    unfold xloop B_J1_getFirstEntry_9
    rw [t_nn, g_gq (r := (lf j).map N) en rfl]
    rcases hL with ⟨g1, g2⟩ | ⟨j', g1, g2, g3, -⟩
    · rw [g1]
      rw [g2] at hK
      exact ⟨fun _ => hK, fun b z => (by cases z)⟩
    · omega
  | succ f ih =>
    intro j hj hf hK
    obtain ⟨h1, hL, -⟩ := hT.1 j hj
    have en := e2 j hj
    unfold tN at en
    unfold xloop B_J1_getFirstEntry_9
    rw [t_nn, g_gq (r := (lf j).map N) en rfl]
    rcases hL with ⟨g1, g2⟩ | ⟨j', g1, g2, g3, g4, -⟩
    · rw [g1]
      rw [g2] at hK
      exact ⟨fun _ => hK, fun b z => (by cases z)⟩
    · rw [g1]
      refine ⟨fun z => (by cases z), fun b z => ?_⟩
      rw [g_gq (r := (lf j).map N) en rfl, g1]
      exact ih j' (by omega) (by omega) (by rw [g4]; exact hK)
theorem cc_getFirstEntry (e1 : h a = some (.inl (2, fs))) (ef : fs[3]? = some (va_rf (root.map N))) (e2 : ∀ i, i < n → h (N i) = some (tN N kA vA lf rt pr cl i)) (hT : TS n lf rt pr lo hi root) (K : Option Nat → xH → Prop) (hK : K (if 0 < n then some (N 0) else none) h) : P_J1_getFirstEntry κ a (h, w) K := by
  unfold P_J1_getFirstEntry
  rw [g_gq (r := root.map N) e1 ef]
  rcases hT.2.1 with ⟨g1, g2⟩ | ⟨j, g1, g2, g3, g4, -⟩
  · rw [g2]
    rw [if_neg (by omega)] at hK
    exact ⟨fun _ => hK, fun b z => (by cases z)⟩
  · rw [g1]
    refine ⟨fun z => (by cases z), fun b z => ?_⟩
    cases z
    rw [if_pos (by omega)] at hK
    exact ⟨n + 1, cc_firstGo e2 hT K n j g2 (by omega) (by rw [g3]; exact hK)⟩
theorem cc_initTM (e : h a = some (.inl (2, [va_rf none, va_rf none, va_rf none, va_rf none, .int 0, .int 0, va_rf none, va_rf none, va_rf none]))) (hκ : κ 0 ≤ a) (ky : Nat → Nat) (K : Unit → xH → Prop) (hK : ∀ h', TM κ h' a 0 N ky vA → (∀ b, b ≠ a → h' b = h b) → K () h') : P_J1_init κ a (h, w) K := by
  unfold P_J1_init
  refine c_pure (r := ()) (fun w K hk => hk) ?_
  rw [g_pi e hκ (by simp), g_pi xup_eq hκ (by simp), xup_xup, g_pq xup_eq hκ (by simp), xup_xup]
  refine hK _ ⟨fun _ => 0, fun _ => none, fun _ => none, fun _ => none, fun _ => 0, fun _ => 0, none, fun _ => 0, 0, va_rf none, va_rf none, va_rf none, va_rf none, va_rf none, ?_, fun i hi => absurd hi (Nat.not_lt_zero _), fun i j hi => absurd hi (Nat.not_lt_zero _), fun i hi => absurd hi (Nat.not_lt_zero _), fun i j _ hj => absurd hj (Nat.not_lt_zero _), ⟨fun i hi => absurd hi (Nat.not_lt_zero _), Or.inl ⟨rfl, rfl⟩, fun i hi => absurd hi (Nat.not_lt_zero _)⟩, Nat.zero_le _, ⟨hκ, fun i hi => absurd hi (Nat.not_lt_zero _)⟩, fun i hi => absurd hi (Nat.not_lt_zero _), none, rfl, fun q hq => by cases hq⟩ (fun b hb => ?_)
  · show xup h a _ a = _
    rw [xup_eq, nI_0]
    rfl
  · show xup h a _ b = _
    rw [xup_ne hb]
end F3
