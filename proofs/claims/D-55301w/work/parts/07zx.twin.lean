-- Order.does, for each word
section FO
variable {κ : Nat → Nat} {H : xH} {oa mo vs : Nat} {x y co hz : Int32} {fs : List Value}
theorem cc_hash {a : Nat} {hs : Int32} {w : Nat × Nat} (hS : H a = some (.inl (9, [.ref vs, .int co, .int hs, .int hz]))) (hh : ¬ hs = 0) (K : Int32 → xH → Prop) (hK : K hs H) : P_J14_hashCode κ a (H, w) K := by
  unfold P_J14_hashCode
  rw [g_gi hS rfl]
  exact ⟨fun z => absurd z hh, fun _ => hK⟩
theorem cc_equalsS {a : Nat} {w : Nat × Nat} (K : Int32 → xH → Prop) (hK : K 1 H) : P_J14_equals κ a (some a) (H, w) K := by
  unfold P_J14_equals
  exact ⟨fun _ => hK, fun z => absurd rfl z⟩
theorem cc_does_read (ho : H oa = some (.inl (11, [.ref (κ 11), .int x, .int y]))) (hS : H (κ 11) = some (.inl (9, [.ref vs, .int co, .int (3496342 : Int32), .int hz]))) (hm : H mo = some (.inl (1, fs))) {c0 s0 : Nat} (K : Int32 → xH → Prop) (KX : Nat → xH → Prop) (hP : P_X2_readsWord κ mo x (H, c0, s0) K (fun q h' => κ 0 ≤ q ∧ xrc (h', 0, 0) q 26 ∧ KX q h')) : P_X5_does κ oa (some mo) (H, c0, s0) K KX := by
  unfold P_X5_does
  rw [g_gq (r := some (κ 11)) ho rfl, t_nn, g_rc hS, true_and]
  refine c_pure (r := (3496342 : Int32)) (fun w K hk => cc_hash hS (by decide) K hk) ?_
  refine ⟨fun z => absurd z (by decide), fun _ => ?_⟩
  refine ⟨fun z => absurd z (by decide), fun _ => ?_⟩
  refine ⟨fun z => absurd z (by decide), fun _ => ?_⟩
  refine ⟨fun _ => ?_, fun z => absurd rfl z⟩
  rw [g_rc hS, true_and]
  refine c_pure (r := (1 : Int32)) (fun w K hk => cc_equalsS K hk) ?_
  refine ⟨fun z => absurd z (by decide), fun _ => ?_⟩
  refine ⟨fun _ => ?_, fun z => absurd rfl z⟩
  rw [g_gi ho rfl, t_nn, g_rc hm, true_and]
  exact c_callX c0 s0 (Nat.le_refl _) (Nat.le_refl _) hP
theorem cc_does_write (ho : H oa = some (.inl (11, [.ref (κ 12), .int x, .int y]))) (hS : H (κ 12) = some (.inl (9, [.ref vs, .int co, .int (113399775 : Int32), .int hz]))) (hm : H mo = some (.inl (1, fs))) {c0 s0 : Nat} (K : Int32 → xH → Prop) (KX : Nat → xH → Prop) (hP : P_X2_writesWord κ mo x y (H, c0, s0) K (fun q h' => κ 0 ≤ q ∧ xrc (h', 0, 0) q 26 ∧ KX q h')) : P_X5_does κ oa (some mo) (H, c0, s0) K KX := by
  unfold P_X5_does
  rw [g_gq (r := some (κ 12)) ho rfl, t_nn, g_rc hS, true_and]
  refine c_pure (r := (113399775 : Int32)) (fun w K hk => cc_hash hS (by decide) K hk) ?_
  refine ⟨fun z => absurd z (by decide), fun _ => ?_⟩
  refine ⟨fun z => absurd z (by decide), fun _ => ?_⟩
  refine ⟨fun z => absurd z (by decide), fun _ => ?_⟩
  refine ⟨fun z => absurd z (by decide), fun _ => ?_⟩
  refine ⟨fun z => absurd z (by decide), fun _ => ?_⟩
  refine ⟨fun z => absurd z (by decide), fun _ => ?_⟩
  refine ⟨fun z => absurd z (by decide), fun _ => ?_⟩
  refine ⟨fun _ => ?_, fun z => absurd rfl z⟩
  rw [g_rc hS, true_and]
  refine c_pure (r := (1 : Int32)) (fun w K hk => cc_equalsS K hk) ?_
  refine ⟨fun z => absurd z (by decide), fun _ => ?_⟩
  refine ⟨fun z => absurd z (by decide), fun _ => ?_⟩
  refine ⟨fun _ => ?_, fun z => absurd rfl z⟩
  rw [g_gi ho rfl, g_gi ho rfl, t_nn, g_rc hm, true_and]
  exact c_callX c0 s0 (Nat.le_refl _) (Nat.le_refl _) hP
theorem cc_does_pin (ho : H oa = some (.inl (11, [.ref (κ 13), .int x, .int y]))) (hS : H (κ 13) = some (.inl (9, [.ref vs, .int co, .int (110997 : Int32), .int hz]))) (hm : H mo = some (.inl (1, fs))) {c0 s0 : Nat} (K : Int32 → xH → Prop) (KX : Nat → xH → Prop) (hP : P_X2_pins κ mo x (H, c0, s0) K (fun q h' => κ 0 ≤ q ∧ xrc (h', 0, 0) q 26 ∧ KX q h')) : P_X5_does κ oa (some mo) (H, c0, s0) K KX := by
  unfold P_X5_does
  rw [g_gq (r := some (κ 13)) ho rfl, t_nn, g_rc hS, true_and]
  refine c_pure (r := (110997 : Int32)) (fun w K hk => cc_hash hS (by decide) K hk) ?_
  refine ⟨fun z => absurd z (by decide), fun _ => ?_⟩
  refine ⟨fun _ => ?_, fun z => absurd rfl z⟩
  rw [g_rc hS, true_and]
  refine c_pure (r := (1 : Int32)) (fun w K hk => cc_equalsS K hk) ?_
  refine ⟨fun z => absurd z (by decide), fun _ => ?_⟩
  refine ⟨fun z => absurd z (by decide), fun _ => ?_⟩
  refine ⟨fun z => absurd z (by decide), fun _ => ?_⟩
  refine ⟨fun _ => ?_, fun z => absurd rfl z⟩
  rw [g_gi ho rfl, t_nn, g_rc hm, true_and]
  exact c_callX c0 s0 (Nat.le_refl _) (Nat.le_refl _) hP
theorem cc_does_free (ho : H oa = some (.inl (11, [.ref (κ 14), .int x, .int y]))) (hS : H (κ 14) = some (.inl (9, [.ref vs, .int co, .int (3151468 : Int32), .int hz]))) (hm : H mo = some (.inl (1, fs))) {c0 s0 : Nat} (K : Int32 → xH → Prop) (KX : Nat → xH → Prop) (hP : P_X2_frees κ mo x (H, c0, s0) K (fun q h' => κ 0 ≤ q ∧ xrc (h', 0, 0) q 26 ∧ KX q h')) : P_X5_does κ oa (some mo) (H, c0, s0) K KX := by
  unfold P_X5_does
  rw [g_gq (r := some (κ 14)) ho rfl, t_nn, g_rc hS, true_and]
  refine c_pure (r := (3151468 : Int32)) (fun w K hk => cc_hash hS (by decide) K hk) ?_
  refine ⟨fun z => absurd z (by decide), fun _ => ?_⟩
  refine ⟨fun z => absurd z (by decide), fun _ => ?_⟩
  refine ⟨fun _ => ?_, fun z => absurd rfl z⟩
  rw [g_rc hS, true_and]
  refine c_pure (r := (1 : Int32)) (fun w K hk => cc_equalsS K hk) ?_
  refine ⟨fun z => absurd z (by decide), fun _ => ?_⟩
  refine ⟨fun z => absurd z (by decide), fun _ => ?_⟩
  refine ⟨fun z => absurd z (by decide), fun _ => ?_⟩
  refine ⟨fun z => absurd z (by decide), fun _ => ?_⟩
  refine ⟨fun _ => ?_, fun z => absurd rfl z⟩
  rw [g_gi ho rfl, t_nn, g_rc hm, true_and]
  exact c_callX c0 s0 (Nat.le_refl _) (Nat.le_refl _) hP
theorem cc_does_flush (ho : H oa = some (.inl (11, [.ref (κ 15), .int x, .int y]))) (hS : H (κ 15) = some (.inl (9, [.ref vs, .int co, .int (97532676 : Int32), .int hz]))) (hm : H mo = some (.inl (1, fs))) {c0 s0 : Nat} (K : Int32 → xH → Prop) (KX : Nat → xH → Prop) (hP : P_X2_flushes κ mo  (H, c0, s0) K (fun q h' => κ 0 ≤ q ∧ xrc (h', 0, 0) q 26 ∧ KX q h')) : P_X5_does κ oa (some mo) (H, c0, s0) K KX := by
  unfold P_X5_does
  rw [g_gq (r := some (κ 15)) ho rfl, t_nn, g_rc hS, true_and]
  refine c_pure (r := (97532676 : Int32)) (fun w K hk => cc_hash hS (by decide) K hk) ?_
  refine ⟨fun z => absurd z (by decide), fun _ => ?_⟩
  refine ⟨fun z => absurd z (by decide), fun _ => ?_⟩
  refine ⟨fun z => absurd z (by decide), fun _ => ?_⟩
  refine ⟨fun z => absurd z (by decide), fun _ => ?_⟩
  refine ⟨fun _ => ?_, fun z => absurd rfl z⟩
  rw [g_rc hS, true_and]
  refine c_pure (r := (1 : Int32)) (fun w K hk => cc_equalsS K hk) ?_
  refine ⟨fun z => absurd z (by decide), fun _ => ?_⟩
  refine ⟨fun z => absurd z (by decide), fun _ => ?_⟩
  refine ⟨fun z => absurd z (by decide), fun _ => ?_⟩
  refine ⟨fun z => absurd z (by decide), fun _ => ?_⟩
  refine ⟨fun z => absurd z (by decide), fun _ => ?_⟩
  refine ⟨fun _ => ?_, fun z => absurd rfl z⟩
  rw [t_nn, g_rc hm, true_and]
  exact c_callX c0 s0 (Nat.le_refl _) (Nat.le_refl _) hP
theorem cc_does_device (ho : H oa = some (.inl (11, [.ref (κ 16), .int x, .int y]))) (hS : H (κ 16) = some (.inl (9, [.ref vs, .int co, .int (-1335157162 : Int32), .int hz]))) (hm : H mo = some (.inl (1, fs))) {c0 s0 : Nat} (K : Int32 → xH → Prop) (KX : Nat → xH → Prop) (hP : P_X2_deviceWrites κ mo x y (H, c0, s0) K (fun q h' => κ 0 ≤ q ∧ xrc (h', 0, 0) q 26 ∧ KX q h')) : P_X5_does κ oa (some mo) (H, c0, s0) K KX := by
  unfold P_X5_does
  rw [g_gq (r := some (κ 16)) ho rfl, t_nn, g_rc hS, true_and]
  refine c_pure (r := (-1335157162 : Int32)) (fun w K hk => cc_hash hS (by decide) K hk) ?_
  refine ⟨fun _ => ?_, fun z => absurd rfl z⟩
  rw [g_rc hS, true_and]
  refine c_pure (r := (1 : Int32)) (fun w K hk => cc_equalsS K hk) ?_
  refine ⟨fun z => absurd z (by decide), fun _ => ?_⟩
  refine ⟨fun z => absurd z (by decide), fun _ => ?_⟩
  refine ⟨fun z => absurd z (by decide), fun _ => ?_⟩
  refine ⟨fun z => absurd z (by decide), fun _ => ?_⟩
  refine ⟨fun z => absurd z (by decide), fun _ => ?_⟩
  refine ⟨fun z => absurd z (by decide), fun _ => ?_⟩
  refine ⟨fun _ => ?_, fun z => absurd rfl z⟩
  rw [g_gi ho rfl, g_gi ho rfl, t_nn, g_rc hm, true_and]
  exact c_callX c0 s0 (Nat.le_refl _) (Nat.le_refl _) hP
theorem cc_does_ticks (ho : H oa = some (.inl (11, [.ref (κ 17), .int x, .int y]))) (hS : H (κ 17) = some (.inl (9, [.ref vs, .int co, .int (110355062 : Int32), .int hz]))) (hm : H mo = some (.inl (1, fs))) {c0 s0 : Nat} (K : Int32 → xH → Prop) (KX : Nat → xH → Prop) (hP : P_X2_waits κ mo x (H, c0, s0) K (fun q h' => κ 0 ≤ q ∧ xrc (h', 0, 0) q 26 ∧ KX q h')) : P_X5_does κ oa (some mo) (H, c0, s0) K KX := by
  unfold P_X5_does
  rw [g_gq (r := some (κ 17)) ho rfl, t_nn, g_rc hS, true_and]
  refine c_pure (r := (110355062 : Int32)) (fun w K hk => cc_hash hS (by decide) K hk) ?_
  refine ⟨fun z => absurd z (by decide), fun _ => ?_⟩
  refine ⟨fun z => absurd z (by decide), fun _ => ?_⟩
  refine ⟨fun z => absurd z (by decide), fun _ => ?_⟩
  refine ⟨fun z => absurd z (by decide), fun _ => ?_⟩
  refine ⟨fun z => absurd z (by decide), fun _ => ?_⟩
  refine ⟨fun z => absurd z (by decide), fun _ => ?_⟩
  refine ⟨fun _ => ?_, fun z => absurd rfl z⟩
  rw [g_rc hS, true_and]
  refine c_pure (r := (1 : Int32)) (fun w K hk => cc_equalsS K hk) ?_
  refine ⟨fun z => absurd z (by decide), fun _ => ?_⟩
  refine ⟨fun z => absurd z (by decide), fun _ => ?_⟩
  refine ⟨fun z => absurd z (by decide), fun _ => ?_⟩
  refine ⟨fun z => absurd z (by decide), fun _ => ?_⟩
  refine ⟨fun z => absurd z (by decide), fun _ => ?_⟩
  refine ⟨fun z => absurd z (by decide), fun _ => ?_⟩
  refine ⟨fun z => absurd z (by decide), fun _ => ?_⟩
  refine ⟨fun _ => ?_, fun z => absurd rfl z⟩
  rw [g_gi ho rfl, t_nn, g_rc hm, true_and]
  exact c_callX c0 s0 (Nat.le_refl _) (Nat.le_refl _) hP
theorem cc_does_shape (ho : H oa = some (.inl (11, [.ref (κ 18), .int x, .int y]))) (hS : H (κ 18) = some (.inl (9, [.ref vs, .int co, .int (109399969 : Int32), .int hz]))) (hm : H mo = some (.inl (1, fs))) {c0 s0 : Nat} (K : Int32 → xH → Prop) (KX : Nat → xH → Prop) (hP : P_X2_shapes κ mo x y (H, c0, s0) K (fun q h' => κ 0 ≤ q ∧ xrc (h', 0, 0) q 26 ∧ KX q h')) : P_X5_does κ oa (some mo) (H, c0, s0) K KX := by
  unfold P_X5_does
  rw [g_gq (r := some (κ 18)) ho rfl, t_nn, g_rc hS, true_and]
  refine c_pure (r := (109399969 : Int32)) (fun w K hk => cc_hash hS (by decide) K hk) ?_
  refine ⟨fun z => absurd z (by decide), fun _ => ?_⟩
  refine ⟨fun z => absurd z (by decide), fun _ => ?_⟩
  refine ⟨fun z => absurd z (by decide), fun _ => ?_⟩
  refine ⟨fun z => absurd z (by decide), fun _ => ?_⟩
  refine ⟨fun z => absurd z (by decide), fun _ => ?_⟩
  refine ⟨fun _ => ?_, fun z => absurd rfl z⟩
  rw [g_rc hS, true_and]
  refine c_pure (r := (1 : Int32)) (fun w K hk => cc_equalsS K hk) ?_
  refine ⟨fun z => absurd z (by decide), fun _ => ?_⟩
  refine ⟨fun z => absurd z (by decide), fun _ => ?_⟩
  refine ⟨fun z => absurd z (by decide), fun _ => ?_⟩
  refine ⟨fun z => absurd z (by decide), fun _ => ?_⟩
  refine ⟨fun z => absurd z (by decide), fun _ => ?_⟩
  refine ⟨fun z => absurd z (by decide), fun _ => ?_⟩
  refine ⟨fun z => absurd z (by decide), fun _ => ?_⟩
  refine ⟨fun z => absurd z (by decide), fun _ => ?_⟩
  refine ⟨fun _ => ?_, fun z => absurd rfl z⟩
  rw [g_gi ho rfl, g_gi ho rfl, t_nn, g_rc hm, true_and]
  exact c_callX c0 s0 (Nat.le_refl _) (Nat.le_refl _) hP
theorem cc_does_rule (ho : H oa = some (.inl (11, [.ref (κ 19), .int x, .int y]))) (hS : H (κ 19) = some (.inl (9, [.ref vs, .int co, .int (3512060 : Int32), .int hz]))) (hm : H mo = some (.inl (1, fs))) {c0 s0 : Nat} (K : Int32 → xH → Prop) (KX : Nat → xH → Prop) (hP : P_X2_rules κ mo x (H, c0, s0) K (fun q h' => κ 0 ≤ q ∧ xrc (h', 0, 0) q 26 ∧ KX q h')) : P_X5_does κ oa (some mo) (H, c0, s0) K KX := by
  unfold P_X5_does
  rw [g_gq (r := some (κ 19)) ho rfl, t_nn, g_rc hS, true_and]
  refine c_pure (r := (3512060 : Int32)) (fun w K hk => cc_hash hS (by decide) K hk) ?_
  refine ⟨fun z => absurd z (by decide), fun _ => ?_⟩
  refine ⟨fun z => absurd z (by decide), fun _ => ?_⟩
  refine ⟨fun z => absurd z (by decide), fun _ => ?_⟩
  refine ⟨fun z => absurd z (by decide), fun _ => ?_⟩
  refine ⟨fun z => absurd z (by decide), fun _ => ?_⟩
  refine ⟨fun z => absurd z (by decide), fun _ => ?_⟩
  refine ⟨fun z => absurd z (by decide), fun _ => ?_⟩
  refine ⟨fun z => absurd z (by decide), fun _ => ?_⟩
  refine ⟨fun z => absurd z (by decide), fun _ => ?_⟩
  refine ⟨fun z => absurd z (by decide), fun _ => ?_⟩
  refine ⟨fun z => absurd z (by decide), fun _ => ?_⟩
  refine ⟨fun z => absurd z (by decide), fun _ => ?_⟩
  refine ⟨fun z => absurd z (by decide), fun _ => ?_⟩
  refine ⟨fun z => absurd z (by decide), fun _ => ?_⟩
  refine ⟨fun z => absurd z (by decide), fun _ => ?_⟩
  refine ⟨fun z => absurd z (by decide), fun _ => ?_⟩
  rw [g_gi ho rfl, t_nn, g_rc hm, true_and]
  exact c_callX c0 s0 (Nat.le_refl _) (Nat.le_refl _) hP
end FO
