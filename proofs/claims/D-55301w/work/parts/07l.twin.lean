section D4
variable {κ : Nat → Nat} {h h' : xH} {a n i b : Nat} {N I : Nat → Nat} {c bl : Nat → Nat} {m : Int32} {w : Nat × Nat}
def l_nx (n : Nat) (N : Nat → Nat) (i : Nat) : Option Nat := if i + 1 < n then some (N (i + 1)) else none
def l_pv (N : Nat → Nat) (i : Nat) : Option Nat := if i = 0 then none else some (N (i - 1))
def l_out (N : Nat → Nat) (i : Nat) : Nat → Nat := fun j => if j < i then N j else N (j + 1)
theorem LL.cut (hL : LL κ h a n N I m) (hi : i < n) (F1 : h' a = some (.inl (4, [.int (m + 1), .int (nI (n - 1)), va_rf (if i = 0 then l_nx n N 0 else some (N 0)), va_rf (if i + 1 = n then l_pv N i else some (N (n - 1)))])))
    (F2 : ∀ j, j < n → j ≠ i → h' (N j) = some (.inl (6, [.ref (I j), va_rf (if j + 1 = i then l_nx n N i else l_nx n N j), va_rf (if j = i + 1 then l_pv N i else l_pv N j)]))) : LL κ h' a (n - 1) (l_out N i) (l_out I i) (m + 1) := by
  obtain ⟨e1, e2, e3, e4, e5⟩ := hL
  refine ⟨?_, fun j hj => ?_, fun j k hj hk hjk => ?_, e4, fun j hj => ?_⟩
  · rw [F1]
    unfold lO
    have x1 : (if i = 0 then l_nx n N 0 else some (N 0)) = (if n - 1 = 0 then none else some (l_out N i 0)) := by
      unfold l_nx l_out
      by_cases h0 : i = 0
      · subst h0
        by_cases h1 : n = 1
        · simp [h1]
        · rw [if_pos rfl, if_pos (by omega), if_neg (by omega), if_neg (by omega)]
      · rw [if_neg h0, if_neg (by omega), if_pos (by omega)]
    have x2 : (if i + 1 = n then l_pv N i else some (N (n - 1))) = (if n - 1 = 0 then none else some (l_out N i (n - 1 - 1))) := by
      unfold l_pv l_out
      by_cases h0 : i + 1 = n
      · rw [if_pos h0]
        by_cases h1 : i = 0
        · rw [if_pos h1, if_pos (by omega)]
        · rw [if_neg h1, if_neg (by omega), if_pos (by omega)]
          congr 2
          omega
      · rw [if_neg h0, if_neg (by omega), if_neg (by omega)]
        congr 2
        omega
    rw [x1, x2]
  · by_cases hji : j < i
    · have : l_out N i j = N j := if_pos hji
      rw [this, F2 j (by omega) (by omega)]
      unfold lND
      have x0 : l_out I i j = I j := if_pos hji
      have x1 : (if j + 1 = i then l_nx n N i else l_nx n N j) = (if j + 1 < n - 1 then some (l_out N i (j + 1)) else none) := by
        unfold l_nx l_out
        by_cases h0 : j + 1 = i
        · rw [if_pos h0]
          by_cases h1 : i + 1 < n
          · rw [if_pos h1, if_pos (by omega), if_neg (by omega), h0]
          · rw [if_neg h1, if_neg (by omega)]
        · rw [if_neg h0, if_pos (by omega), if_pos (by omega), if_pos (by omega)]
      have x2 : (if j = i + 1 then l_pv N i else l_pv N j) = (if j = 0 then none else some (l_out N i (j - 1))) := by
        unfold l_pv l_out
        rw [if_neg (by omega)]
        by_cases h0 : j = 0
        · rw [if_pos h0, if_pos h0]
        · rw [if_neg h0, if_neg h0, if_pos (by omega)]
      rw [x0, x1, x2]
    · have : l_out N i j = N (j + 1) := if_neg hji
      rw [this, F2 (j + 1) (by omega) (by omega)]
      unfold lND
      have x0 : l_out I i j = I (j + 1) := if_neg hji
      have x1 : (if j + 1 + 1 = i then l_nx n N i else l_nx n N (j + 1)) = (if j + 1 < n - 1 then some (l_out N i (j + 1)) else none) := by
        unfold l_nx l_out
        rw [if_neg (by omega)]
        by_cases h1 : j + 1 + 1 < n
        · rw [if_pos h1, if_pos (by omega), if_neg (by omega)]
        · rw [if_neg h1, if_neg (by omega)]
      have x2 : (if j + 1 = i + 1 then l_pv N i else l_pv N (j + 1)) = (if j = 0 then none else some (l_out N i (j - 1))) := by
        unfold l_pv l_out
        by_cases h0 : j = i
        · subst h0
          rw [if_pos rfl]
          by_cases h1 : j = 0
          · rw [if_pos h1, if_pos h1]
          · rw [if_neg h1, if_neg h1, if_pos (by omega)]
        · rw [if_neg (by omega), if_neg (by omega), if_neg (by omega), if_neg (by omega)]
          congr 2
          omega
      rw [x0, x1, x2]
  · unfold l_out
    split <;> split <;> exact e3 _ _ (by omega) (by omega) (by omega)
  · unfold l_out
    split <;> exact e5 _ (by omega)
theorem cc_unlink (hL : LL κ h a n N I m) (hi : i < n) (hn : n < 1000) (K : Option Nat → xH → Prop)
    (hK : ∀ h', LL κ h' a (n - 1) (l_out N i) (l_out I i) (m + 1) → (∀ b e, h b = some e → b ≠ a → (∀ j, j < n → N j ≠ b) → h' b = some e) → (∀ b, h' b = none → h b = none) → K (some (I i)) h') : P_J6_unlink κ a (some (N i)) (h, w) K := by
  have hL0 := hL
  have hNa : ∀ i, i < n → N i ≠ a := fun i hi => hL.na hi
  obtain ⟨e1, e2, e3, e4, e5⟩ := hL
  have e1' : h a = some (.inl (4, [.int m, .int (nI n), va_rf (if n = 0 then none else some (N 0)), va_rf (if n = 0 then none else some (N (n - 1)))])) := e1
  rw [if_neg (by omega), if_neg (by omega)] at e1'
  have e2' : ∀ j, j < n → h (N j) = some (.inl (6, [.ref (I j), va_rf (l_nx n N j), va_rf (l_pv N j)])) := e2
  have hs : nI n - 1 = nI (n - 1) := nI_m1 (by omega)
  unfold P_J6_unlink
  rw [t_nn, g_gq (r := some (I i)) (e2' i hi) rfl, g_gq (r := l_nx n N i) (e2' i hi) rfl, g_gq (r := l_pv N i) (e2' i hi) rfl]
  by_cases hp : i = 0
  · have hpv : l_pv N i = none := by unfold l_pv; rw [if_pos hp]
    rw [hpv]
    refine ⟨fun _ => ?_, fun b z => (by cases z)⟩
    rw [g_pq e1' e4 (by simp)]
    by_cases hx : i + 1 < n
    · have hnx : l_nx n N i = some (N (i + 1)) := by unfold l_nx; rw [if_pos hx]
      rw [hnx]
      refine ⟨fun z => (by cases z), fun b z => ?_⟩
      cases z
      show xpq κ (xup h a (.inl (4, [.int m, .int (nI n), .ref (N (i + 1)), .ref (N (n - 1))])), _) (N (i + 1)) 6 2 none _
      have k1 : xup h a (.inl (4, [.int m, .int (nI n), .ref (N (i + 1)), .ref (N (n - 1))])) (N (i + 1)) = some (.inl (6, [.ref (I (i + 1)), va_rf (l_nx n N (i + 1)), va_rf (l_pv N (i + 1))])) := by rw [xup_ne (hNa _ hx)]; exact e2' _ hx
      rw [g_pq k1 (e5 _ hx) (by simp), show ([.ref (I (i + 1)), va_rf (l_nx n N (i + 1)), va_rf (l_pv N (i + 1))] : List Value).set 2 (va_rf none) = [.ref (I (i + 1)), va_rf (l_nx n N (i + 1)), va_rf none] from rfl]
      have hii : N i ≠ N (i + 1) := e3 _ _ hi hx (by omega)
      rw [g_pq (fs := [.ref (I i), va_rf (l_nx n N i), va_rf (l_pv N i)]) (by rw [xup_ne hii, xup_ne (hNa _ hi)]; exact e2' i hi) (e5 _ hi) (by simp), g_pq xup_eq (e5 _ hi) (by simp), xup_xup]
      rw [g_gi (fs := [.int m, .int (nI n), .ref (N (i + 1)), .ref (N (n - 1))]) (by rw [xup_ne (hNa i hi).symm, xup_ne (hNa _ hx).symm, xup_eq]) rfl, g_pi (fs := [.int m, .int (nI n), .ref (N (i + 1)), .ref (N (n - 1))]) (by rw [xup_ne (hNa i hi).symm, xup_ne (hNa _ hx).symm, xup_eq]) e4 (by simp), g_gi xup_eq rfl, g_pi xup_eq e4 (by simp), xup_xup, hs]
      refine hK _ (hL0.cut hi ?_ (fun j hj hji => ?_)) (fun b e hb hba hbN => ?_) (fun b hb => ?_)
      · show xup _ a _ a = _
        rw [xup_eq, if_pos hp, if_neg (by omega)]
        subst hp
        rw [hnx]
        rfl
      · show xup (xup (xup (xup h a _) (N (i + 1)) _) (N i) _) a _ (N j) = _
        rw [xup_ne (hNa j hj), xup_ne (e3 _ _ hj hi hji), if_neg (show ¬ j + 1 = i by omega)]
        by_cases hj1 : j = i + 1
        · subst hj1
          rw [xup_eq, if_pos rfl, hpv]
        · rw [xup_ne (e3 _ _ hj hx hj1), xup_ne (hNa j hj), if_neg hj1]
          exact e2' j hj
      · show xup (xup (xup (xup h a _) (N (i + 1)) _) (N i) _) a _ b = _
        rw [xup_ne hba, xup_ne (hbN i hi).symm, xup_ne (hbN _ hx).symm, xup_ne hba]
        exact hb
      · exact (xup_none (xup_none (xup_none (xup_none hb).2).2).2).2
    · have hnx : l_nx n N i = none := by unfold l_nx; rw [if_neg hx]
      rw [hnx]
      refine ⟨fun _ => ?_, fun b z => (by cases z)⟩
      show xpq κ (xup h a (.inl (4, [.int m, .int (nI n), va_rf none, .ref (N (n - 1))])), _) a 4 3 none _
      rw [g_pq xup_eq e4 (by simp), xup_xup, g_pq (fs := [.ref (I i), va_rf (l_nx n N i), va_rf (l_pv N i)]) (by rw [xup_ne (hNa _ hi)]; exact e2' i hi) (e5 _ hi) (by simp), g_gi (fs := [.int m, .int (nI n), va_rf none, va_rf none]) (by rw [xup_ne (hNa i hi).symm, xup_eq]; rfl) rfl, g_pi (fs := [.int m, .int (nI n), va_rf none, va_rf none]) (by rw [xup_ne (hNa i hi).symm, xup_eq]; rfl) e4 (by simp), g_gi xup_eq rfl, g_pi xup_eq e4 (by simp), xup_xup, hs]
      refine hK _ (hL0.cut hi ?_ (fun j hj hji => absurd hji (by omega))) (fun b e hb hba hbN => ?_) (fun b hb => ?_)
      · show xup _ a _ a = _
        rw [xup_eq, if_pos hp, if_pos (by omega), hpv]
        subst hp
        rw [hnx]
        rfl
      · show xup (xup (xup h a _) (N i) _) a _ b = _
        rw [xup_ne hba, xup_ne (hbN i hi).symm, xup_ne hba]
        exact hb
      · exact (xup_none (xup_none (xup_none hb).2).2).2
  · have hi1 : i - 1 < n := by omega
    have hpv : l_pv N i = some (N (i - 1)) := by unfold l_pv; rw [if_neg hp]
    rw [hpv]
    refine ⟨fun z => (by cases z), fun b z => ?_⟩
    cases z
    have hip : N i ≠ N (i - 1) := e3 _ _ hi hi1 (by omega)
    rw [g_pq (e2' _ hi1) (e5 _ hi1) (by simp), show ([.ref (I (i - 1)), va_rf (l_nx n N (i - 1)), va_rf (l_pv N (i - 1))] : List Value).set 1 (va_rf (l_nx n N i)) = [.ref (I (i - 1)), va_rf (l_nx n N i), va_rf (l_pv N (i - 1))] from rfl]
    rw [g_pq (fs := [.ref (I i), va_rf (l_nx n N i), va_rf (l_pv N i)]) (by rw [xup_ne hip]; exact e2' i hi) (e5 _ hi) (by simp), show ([.ref (I i), va_rf (l_nx n N i), va_rf (l_pv N i)] : List Value).set 2 (va_rf none) = [.ref (I i), va_rf (l_nx n N i), va_rf none] from rfl]
    by_cases hx : i + 1 < n
    · have hnx : l_nx n N i = some (N (i + 1)) := by unfold l_nx; rw [if_pos hx]
      have hii : N i ≠ N (i + 1) := e3 _ _ hi hx (by omega)
      have hpi : N (i + 1) ≠ N (i - 1) := e3 _ _ hx hi1 (by omega)
      rw [hnx]
      refine ⟨fun z => (by cases z), fun b z => ?_⟩
      cases z
      rw [g_pq (fs := [.ref (I (i + 1)), va_rf (l_nx n N (i + 1)), va_rf (l_pv N (i + 1))]) (by rw [xup_ne hii.symm, xup_ne hpi]; exact e2' _ hx) (e5 _ hx) (by simp), show ([.ref (I (i + 1)), va_rf (l_nx n N (i + 1)), va_rf (l_pv N (i + 1))] : List Value).set 2 (va_rf (some (N (i - 1)))) = [.ref (I (i + 1)), va_rf (l_nx n N (i + 1)), va_rf (some (N (i - 1)))] from rfl]
      rw [g_pq (fs := [.ref (I i), va_rf (some (N (i + 1))), va_rf none]) (by rw [xup_ne hii, xup_eq]) (e5 _ hi) (by simp), g_pq xup_eq (e5 _ hi) (by simp), xup_xup]
      have ka : ∀ (E1 E2 E3 E4 : xE), xup (xup (xup (xup h (N (i - 1)) E1) (N i) E2) (N (i + 1)) E3) (N i) E4 a = some (.inl (4, [.int m, .int (nI n), va_rf (some (N 0)), va_rf (some (N (n - 1)))])) := fun E1 E2 E3 E4 => by
        rw [xup_ne (hNa i hi).symm, xup_ne (hNa _ hx).symm, xup_ne (hNa i hi).symm, xup_ne (hNa _ hi1).symm]
        exact e1'
      rw [g_gi (ka _ _ _ _) rfl, g_pi (ka _ _ _ _) e4 (by simp), g_gi xup_eq rfl, g_pi xup_eq e4 (by simp), xup_xup, hs]
      refine hK _ (hL0.cut hi ?_ (fun j hj hji => ?_)) (fun b e hb hba hbN => ?_) (fun b hb => ?_)
      · show xup _ a _ a = _
        rw [xup_eq, if_neg hp, if_neg (by omega)]
        rfl
      · show xup (xup (xup (xup (xup h (N (i - 1)) _) (N i) _) (N (i + 1)) _) (N i) _) a _ (N j) = _
        rw [xup_ne (hNa j hj), xup_ne (e3 _ _ hj hi hji)]
        by_cases hj1 : j = i + 1
        · subst hj1
          rw [xup_eq, if_pos rfl, if_neg (by omega), hpv]
        · rw [xup_ne (e3 _ _ hj hx hj1), xup_ne (e3 _ _ hj hi hji), if_neg hj1]
          by_cases hj2 : j + 1 = i
          · have : j = i - 1 := by omega
            subst this
            rw [xup_eq, if_pos hj2, hnx]
          · rw [xup_ne (e3 _ _ hj hi1 (by omega)), if_neg hj2]
            exact e2' j hj
      · show xup (xup (xup (xup (xup h (N (i - 1)) _) (N i) _) (N (i + 1)) _) (N i) _) a _ b = _
        rw [xup_ne hba, xup_ne (hbN i hi).symm, xup_ne (hbN _ hx).symm, xup_ne (hbN i hi).symm, xup_ne (hbN _ hi1).symm]
        exact hb
      · exact (xup_none (xup_none (xup_none (xup_none (xup_none hb).2).2).2).2).2
    · have hnx : l_nx n N i = none := by unfold l_nx; rw [if_neg hx]
      rw [hnx]
      refine ⟨fun _ => ?_, fun b z => (by cases z)⟩
      have ka : ∀ (E1 E2 : xE), xup (xup h (N (i - 1)) E1) (N i) E2 a = some (.inl (4, [.int m, .int (nI n), va_rf (some (N 0)), va_rf (some (N (n - 1)))])) := fun E1 E2 => by
        rw [xup_ne (hNa i hi).symm, xup_ne (hNa _ hi1).symm]
        exact e1'
      rw [g_pq (ka _ _) e4 (by simp), show ([.int m, .int (nI n), va_rf (some (N 0)), va_rf (some (N (n - 1)))] : List Value).set 3 (va_rf (some (N (i - 1)))) = [.int m, .int (nI n), va_rf (some (N 0)), va_rf (some (N (i - 1)))] from rfl]
      rw [g_pq (fs := [.ref (I i), va_rf none, va_rf none]) (by rw [xup_ne (hNa i hi), xup_eq]) (e5 _ hi) (by simp)]
      have kb : ∀ (E1 E2 E3 E4 : xE), xup (xup (xup (xup h (N (i - 1)) E1) (N i) E2) a E3) (N i) E4 a = some E3 := fun E1 E2 E3 E4 => by
        rw [xup_ne (hNa i hi).symm, xup_eq]
      rw [g_gi (kb _ _ _ _) rfl, g_pi (kb _ _ _ _) e4 (by simp), g_gi xup_eq rfl, g_pi xup_eq e4 (by simp), xup_xup, hs]
      refine hK _ (hL0.cut hi ?_ (fun j hj hji => ?_)) (fun b e hb hba hbN => ?_) (fun b hb => ?_)
      · show xup _ a _ a = _
        rw [xup_eq, if_neg hp, if_pos (by omega), hpv]
        rfl
      · show xup (xup (xup (xup (xup h (N (i - 1)) _) (N i) _) a _) (N i) _) a _ (N j) = _
        rw [xup_ne (hNa j hj), xup_ne (e3 _ _ hj hi hji), xup_ne (hNa j hj), xup_ne (e3 _ _ hj hi hji), if_neg (show ¬ j = i + 1 by omega)]
        by_cases hj2 : j + 1 = i
        · have : j = i - 1 := by omega
          subst this
          rw [xup_eq, if_pos hj2, hnx]
        · rw [xup_ne (e3 _ _ hj hi1 (by omega)), if_neg hj2]
          exact e2' j hj
      · show xup (xup (xup (xup (xup h (N (i - 1)) _) (N i) _) a _) (N i) _) a _ b = _
        rw [xup_ne hba, xup_ne (hbN i hi).symm, xup_ne hba, xup_ne (hbN i hi).symm, xup_ne (hbN _ hi1).symm]
        exact hb
      · exact (xup_none (xup_none (xup_none (xup_none (xup_none hb).2).2).2).2).2
theorem cc_remove6 (hI : IC κ h c) (hL : LL κ h a n N (fun i => c (bl i)) m) (hn : n < 1000) (hbl : ∀ i, i < n → bl i < 128) (hb : b < 128) (K : Int32 → xH → Prop)
    (hK0 : n_idx bl n b = none → K 0 h) (hK1 : ∀ i, n_idx bl n b = some i → i < n → ∀ h', LL κ h' a (n - 1) (l_out N i) (l_out (fun i => c (bl i)) i) (m + 1) → (∀ b e, h b = some e → b ≠ a → (∀ j, j < n → N j ≠ b) → h' b = some e) → (∀ b, h' b = none → h b = none) → K 1 h') : P_J6_remove κ a (some (c b)) (h, w) K := by
  unfold P_J6_remove
  refine ⟨fun z => (by cases z), fun b1 z => ?_⟩
  cases z
  rw [g_gq (r := if n = 0 then none else some (N 0)) hL.1 rfl]
  refine x_for n (fun i v σ => v = (if i < n then some (N i) else none) ∧ i ≤ n ∧ σ = (h, w) ∧ ∀ j, j < i → bl j ≠ b) ?_ ?_ ⟨?_, by omega, rfl, fun j hj => absurd hj (Nat.not_lt_zero _)⟩
  · rintro i v σ ⟨rfl, -, rfl, hj⟩ hi self hself
    unfold B_J6_remove_44
    refine ⟨fun z => (by simp [hi] at z), fun p z => ?_⟩
    have z : some (N i) = some p := by simpa [hi] using z
    cases z
    rw [g_gq (r := some (c (bl i))) (hL.2.1 i hi) rfl, g_rc (hI.2 b hb), true_and]
    refine c_pure (r := bI (decide (nI b = nI (bl i)))) (fun w K hk => cc_equals23 (hI.2 b hb) (hI.2 _ (hbl i hi)) K hk) ?_
    have e : (nI b = nI (bl i)) ↔ b = bl i := nI_eq (by omega) (by have := hbl i hi; omega)
    refine ⟨fun z => ?_, fun z => ?_⟩
    · have z := (bI_0 _).mp z
      simp only [decide_eq_false_iff_not, e] at z
      rw [g_gq (r := if i + 1 < n then some (N (i + 1)) else none) (hL.2.1 i hi) rfl]
      refine hself _ _ ⟨rfl, by omega, rfl, fun j hj' => ?_⟩
      rcases Nat.lt_succ_iff_lt_or_eq.mp hj' with h1 | h1
      · exact hj j h1
      · rw [h1]; exact fun y => z y.symm
    · have z := bI_c z
      simp only [decide_eq_true_eq, e] at z
      have hx : n_idx bl n b = some i := by
        unfold n_idx
        rw [m_hit (i := i) (fun j hj' => by simp [hj j hj']) hi (by simp [z])]
      rw [hL.rc, true_and]
      exact ⟨0, 0, Nat.zero_le _, Nat.zero_le _, cc_unlink hL hi hn _ (fun h' k1 k2 k3 => hK1 i hx hi h' k1 k2 k3)⟩
  · rintro v σ ⟨rfl, -, rfl, hj⟩ self
    unfold B_J6_remove_44
    refine ⟨fun _ => ?_, fun p z => (by simp at z)⟩
    refine hK0 ?_
    unfold n_idx
    rw [List.find?_eq_none.mpr (fun x hx => by simp [hj x (List.mem_range.mp hx)])]
  · by_cases h0 : n = 0
    · simp [h0]
    · simp [h0, Nat.pos_of_ne_zero h0]
end D4
