section U20
variable {g g' g1 : Nat → Int32} {T T' T1 N s l r a b c : Nat}
/-- the invariant a step later -/
def nxt (g' : Nat → Int32) (T N s l : Nat) : Prop := ∃ T' N' r', T' ≤ T + 200 ∧ N' ≤ N + 1 ∧ GI g' T' N' s l r'
theorem m_acc_blk {p : Nat × (Nat → Int32)} (hb : b < 16) (h : GI g T N s l r) (ha : m_acc g b s l r = some p) : p.1 < 16 ∧ p.2 (73 + p.1) = nI b := by
  have hr := h.1.1.2
  have ho : ∀ (g : Nat → Int32) (a : Nat) (v : Int32), a < 16 → GR g r → m_touch g a b r v (73 + a) = g (73 + a) := fun g a v ha hR => by
    rw [m_touch_eq ha hb, m_latest_o _ hr (by omega)]
    unfold m_tc
    rw [upd_ne (by omega), upd_ne (by omega), upd_ne (by omega)]
  unfold m_acc at ha
  cases hw : m_lw g b with
  | some k =>
    rw [hw] at ha
    cases ha
    obtain ⟨hk, hkb⟩ := m_lw_lt hw
    refine ⟨hk, ?_⟩
    show m_touch (m_hits g) k b r (g 0) (73 + k) = nI b
    have o : ∀ j, j ≠ 0 → j ≠ 285 → m_hits g j = g j := fun j h1 h2 => by
      simp only [m_hits]
      rw [upd_ne h1, upd_ne h2]
    rw [ho _ _ _ hk (GR.congr (fun i hi => o _ (by omega) (by omega)) h.2.2.2.2.1), o _ (by omega) (by omega)]
    exact hkb
  | none =>
    rw [hw] at ha
    cases hf : m_lineFor g b s l with
    | none => rw [hf] at ha; cases ha
    | some k =>
      rw [hf] at ha
      cases ha
      obtain ⟨hk, -⟩ := m_lineFor_in h.1.2.1.2.1 h.1.2.1.2.2 h.1.2.2.1.2.2 hf
      refine ⟨hk, ?_⟩
      show m_touch (m_misses g b k (m_blk g k) (m_cause g b r s l)) k b r (g 0) (73 + k) = nI b
      rw [m_touch_eq hk hb, m_latest_o _ hr (by omega)]
      unfold m_tc
      rw [upd_ne (by omega), upd_ne (by omega), upd_ne (by omega)]
      simp only [m_misses]
      rw [upd_ne (by omega), m_load_lo _ _ _ _ _ (by omega), upd_ne (by omega), upd_eq]
theorem GI.reads {x : Int32} {p : Int32 × (Nat → Int32)} (hT : T < 2 ^ 28) (h : GI g T N s l r) (he : m_reads g x s l r = .inr p) : nxt p.2 T N s l := by
  unfold m_reads at he
  cases hi : m_in x 0 63 with
  | false => rw [hi] at he; cases he
  | true =>
    rw [hi] at he
    obtain ⟨k, rfl, hk⟩ := m_inI (c := 63) (by decide) hi
    simp only [if_true, c_n (show k < 2 ^ 31 by omega)] at he
    cases hq : m_acc g (k / 4) s l r with
    | none => rw [hq] at he; cases he
    | some q =>
      rw [hq] at he
      cases he
      obtain ⟨T', r', t1, t2, h'⟩ := h.acc hT (by omega) hq
      exact ⟨T', N + 1, r', by omega, by omega, h'.updf (by unfold fQ; omega)⟩
theorem GI.dirtyTo {d : Nat} (ha : a < 16) (hd : d < 16) (hb : g (73 + a) ≠ -1) (h : GI g T N s l r) : GI (upd g (89 + a) (nI d)) T N s l r := by
  obtain ⟨hA, hG, hL, hD, hR, hC⟩ := h
  have o : ∀ j, j ≠ 89 + a → upd g (89 + a) (nI d) j = g j := fun j hj => upd_ne hj
  refine ⟨?_, ?_, fun c hc => ?_, ?_, ?_, ?_⟩
  · exact GA.congr (r' := r) (by rw [o _ (by omega)]; exact hA.1.1) hA.1.2 (o _ (by omega)) (o _ (by omega)) (o _ (by omega)) (o _ (by omega)) (z_upd (by omega) hA.2.2.2.2.2) hA
  · exact GT.of (o _ (by omega)) (fun k hk => o _ (by omega)) hG
  · by_cases hca : c = a
    · subst hca
      rcases hL c hc with ⟨e, -⟩ | ⟨b, d', x, y, n, e1, e2, e3, e4, e5, e6, e7, e8, e9, e10, e11, e12, e13⟩
      · exact absurd e hb
      · exact Or.inr ⟨b, d, x, y, n, e1, by rw [o _ (by omega)]; exact e2, e3, e4, hd, upd_eq, by rw [o _ (by omega)]; exact e7, e8, by rw [o _ (by omega)]; exact e9, e10, by rw [o _ (by omega)]; exact e11, e12, by rw [o _ (by omega)]; exact e13⟩
    · exact LOK.congr (Nat.le_refl _) (o _ (by omega)) (o _ (by omega)) (o _ (by omega)) (o _ (by omega)) (o _ (by omega)) (o _ (by omega)) (hL c hc)
  · exact GD.congr (fun c hc => ⟨o _ (by omega), o _ (by omega), o _ (by omega)⟩) hD
  · exact GR.congr (fun i hi => o _ (by omega)) hR
  · exact GC.congr (Nat.le_refl _) (fun c hc => ⟨o _ (by omega), o _ (by omega)⟩) hC
theorem m_bitOr : ∀ d, d < 16 → ∀ k, k < 4 → ∃ d', d' < 16 ∧ nI d ||| m_bit k = nI d' := by decide +kernel
theorem m_bitAnd : ∀ d, d < 16 → ∀ k, k < 4 → ∃ d', d' < 16 ∧ nI d &&& (m_bit k ^^^ -1) = nI d' := by decide +kernel
theorem GI.writes {x y : Int32} {p : Int32 × (Nat → Int32)} (hT : T < 2 ^ 28) (h : GI g T N s l r) (he : m_writes g x y s l r = .inr p) : nxt p.2 T N s l := by
  unfold m_writes at he
  cases hi : m_in x 0 63 with
  | false => rw [hi] at he; cases he
  | true =>
    cases hj : m_in y (-999) 999 with
    | false => rw [hi, hj] at he; cases he
    | true =>
      rw [hi, hj] at he
      obtain ⟨k, rfl, hk⟩ := m_inI (c := 63) (by decide) hi
      simp only [if_true, c_n (show k < 2 ^ 31 by omega)] at he
      cases hq : m_acc g (k / 4) s l r with
      | none => rw [hq] at he; cases he
      | some q =>
        obtain ⟨a, gq⟩ := q
        rw [hq] at he
        obtain ⟨T', r', t1, t2, h'⟩ := h.acc hT (by omega) hq
        obtain ⟨ha, hab⟩ := m_acc_blk (by omega) h hq
        have ha : a < 16 := ha
        have hab : gq (73 + a) = nI (k / 4) := hab
        have hn : gq (73 + a) ≠ -1 := by rw [hab]; exact nI_ne _ (by omega)
        have h3 := ((h'.updf (i := 284) (v := gq 284 + 1) (by unfold fQ; omega)).updf (i := 169 + 4 * a + k % 4) (v := y) (by unfold fQ; omega)).updf (i := 293 + k) (v := y) (by unfold fQ; omega)
        have n3 : (upd (upd (upd gq 284 (gq 284 + 1)) (169 + 4 * a + k % 4) y) (293 + k) y) (73 + a) ≠ -1 := by
          rw [upd_ne (by omega), upd_ne (by omega), upd_ne (by omega)]; exact hn
        simp only at he
        generalize upd (upd (upd gq 284 (gq 284 + 1)) (169 + 4 * a + k % 4) y) (293 + k) y = g3 at he h3 n3
        split at he
        · cases he
          have e1 : nI 1 = (1 : Int32) := by decide
          obtain ⟨T2, v1, v2, h4⟩ := GI.uses (k := k / 4 % 4) (m := 1) (by omega) (by omega) (Nat.mod_lt _ (by decide)) h3
          rw [e1] at h4
          have n4 : m_uses g3 (k / 4 % 4) 1 (73 + a) ≠ -1 := by rw [m_uses_hi _ _ (Nat.mod_lt _ (by decide)) _ _ (by omega) (by omega)]; exact n3
          have h5 := h4.updf (i := 5 + k) (v := y) (by unfold fQ; omega)
          have n5 : upd (m_uses g3 (k / 4 % 4) 1) (5 + k) y (73 + a) ≠ -1 := by rw [upd_ne (by omega)]; exact n4
          obtain ⟨d, hd, hd2⟩ := (h5.2.2.1 a ha).d
          obtain ⟨d', hd', e⟩ := m_bitAnd d hd (k % 4) (Nat.mod_lt _ (by decide))
          refine ⟨T2, N + 1, r', by omega, by omega, GI.updf (by unfold fQ; omega) ?_⟩
          rw [hd2, e]
          exact GI.dirtyTo ha hd' n5 h5
        · cases he
          obtain ⟨d, hd, hd2⟩ := (h3.2.2.1 a ha).d
          obtain ⟨d', hd', e⟩ := m_bitOr d hd (k % 4) (Nat.mod_lt _ (by decide))
          refine ⟨T', N + 1, r', by omega, by omega, ?_⟩
          show GI (upd g3 (89 + a) (g3 (89 + a) ||| m_bit (k % 4))) T' (N + 1) s l r'
          rw [hd2, e]
          exact GI.dirtyTo ha hd' n3 h3
theorem GI.devices {x y : Int32} {p : Int32 × (Nat → Int32)} (hT : T < 2 ^ 28) (h : GI g T N s l r) (he : m_devices g x y = .inr p) : nxt p.2 T N s l := by
  unfold m_devices at he
  cases hi : m_in x 0 63 with
  | false => rw [hi] at he; cases he
  | true =>
    cases hj : m_in y (-999) 999 with
    | false => rw [hi, hj] at he; cases he
    | true =>
      rw [hi, hj] at he
      obtain ⟨k, rfl, hk⟩ := m_inI (c := 63) (by decide) hi
      simp only [if_true, c_n (show k < 2 ^ 31 by omega)] at he
      cases hq : m_lw g (k / 4) with
      | none =>
        rw [hq] at he
        cases he
        exact ⟨T, N, r, by omega, by omega, ((h.updf (i := 5 + k) (v := y) (by unfold fQ; omega)).updf (by unfold fQ; omega)).updf (by unfold fQ; omega)⟩
      | some a =>
        rw [hq] at he
        cases he
        have ha := (m_lw_lt hq).1
        obtain ⟨T2, u1, u2, h3⟩ := GI.wB (by omega) ha h
        exact ⟨T2, N, r, by omega, by omega, (((GI.empties ha h3).updf (i := 5 + k) (v := y) (by unfold fQ; omega)).updf (by unfold fQ; omega)).updf (by unfold fQ; omega)⟩
/-- one number of the five ahead, or a line's pin, anew -/
theorem GI.tick {M : Nat} (hM : T ≤ M) (h : GI g T N s l r) : GI (upd g 0 (nI M)) M N s l r := by
  obtain ⟨hA, hG, hL, hD, hR, hC⟩ := h
  have o : ∀ j, j ≠ 0 → upd g 0 (nI M) j = g j := fun j hj => upd_ne hj
  refine ⟨?_, ⟨upd_eq, fun k hk => ?_⟩, fun c hc => ?_, ?_, ?_, ?_⟩
  · exact GA.congr (r' := r) (by rw [o _ (by omega)]; exact hA.1.1) hA.1.2 (o _ (by omega)) (o _ (by omega)) (o _ (by omega)) (o _ (by omega)) (z_upd (by omega) hA.2.2.2.2.2) hA
  · obtain ⟨y, hy, e⟩ := hG.2 k hk
    exact ⟨y, by omega, by rw [o _ (by omega)]; exact e⟩
  · exact LOK.congr hM (o _ (by omega)) (o _ (by omega)) (o _ (by omega)) (o _ (by omega)) (o _ (by omega)) (o _ (by omega)) (hL c hc)
  · exact GD.congr (fun c hc => ⟨o _ (by omega), o _ (by omega), o _ (by omega)⟩) hD
  · exact GR.congr (fun i hi => o _ (by omega)) hR
  · exact GC.congr (Nat.le_refl _) (fun c hc => ⟨o _ (by omega), o _ (by omega)⟩) hC
theorem m_inJ {x : Int32} {u c : Nat} (hu : u ≤ c) (hc : c < 1000) (h : m_in x (nI u) (nI c) = true) : ∃ k : Nat, x = nI k ∧ u ≤ k ∧ k ≤ c := by
  unfold m_in at h
  simp only [Bool.and_eq_true, decide_eq_true_eq] at h
  have h0 : ¬ x < 0 := fun z => h.1 (Int32.lt_of_lt_of_le z (nI_pos' (by omega)))
  obtain ⟨k, hk1, hk⟩ := nI_of h0
  subst hk
  have h1 : ¬ k < u := fun z => h.1 (nI_lt z (by omega))
  have h2 : ¬ c < k := fun z => h.2 (nI_lt z hk1)
  exact ⟨k, rfl, by omega, by omega⟩
theorem GI.passes {x : Int32} {p : Int32 × (Nat → Int32)} (h : GI g T N s l r) (he : m_passes g x = .inr p) : nxt p.2 T N s l := by
  unfold m_passes at he
  cases hi : m_in x 1 99 with
  | false => rw [hi] at he; cases he
  | true =>
    rw [hi] at he
    obtain ⟨k, rfl, hk1, hk⟩ := m_inJ (u := 1) (c := 99) (by decide) (by decide) hi
    cases he
    refine ⟨T + k, N, r, by omega, by omega, ?_⟩
    show GI (upd g 0 (g 0 + nI k)) (T + k) N s l r
    rw [h.2.1.1, nI_add]
    exact GI.tick (by omega) h
theorem GI.pins {x is : Int32} {p : Int32 × (Nat → Int32)} (his : is = 0 ∨ is = 1) (h : GI g T N s l r) (he : m_pins g x is = .inr p) : nxt p.2 T N s l := by
  unfold m_pins at he
  cases hi : m_in x 0 15 with
  | false => rw [hi] at he; cases he
  | true =>
    rw [hi] at he
    obtain ⟨k, rfl, hk⟩ := m_inI (c := 15) (by decide) hi
    simp only [if_true, c_n (show k < 2 ^ 31 by omega)] at he
    cases hq : m_lw g k with
    | none => rw [hq] at he; cases he
    | some a =>
      rw [hq] at he
      simp only at he
      obtain ⟨ha, hab⟩ := m_lw_lt hq
      have hb : g (73 + a) ≠ -1 := by rw [hab]; exact nI_ne _ (by omega)
      split at he
      · cases he
      · cases he
        refine ⟨T, N, r, by omega, by omega, ?_⟩
        show GI (upd g (105 + a) is) T N s l r
        obtain ⟨hA, hG, hL, hD, hR, hC⟩ := h
        have o : ∀ j, j ≠ 105 + a → upd g (105 + a) is j = g j := fun j hj => upd_ne hj
        refine ⟨?_, ?_, fun c hc => ?_, ?_, ?_, ?_⟩
        · exact GA.congr (r' := r) (by rw [o _ (by omega)]; exact hA.1.1) hA.1.2 (o _ (by omega)) (o _ (by omega)) (o _ (by omega)) (o _ (by omega)) (z_upd (by omega) hA.2.2.2.2.2) hA
        · exact GT.of (o _ (by omega)) (fun k hk => o _ (by omega)) hG
        · by_cases hca : c = a
          · subst hca
            rcases hL c hc with ⟨e, -⟩ | ⟨b, d', x, y, n, e1, e2, e3, e4, e5, e6, e7, e8, e9, e10, e11, e12, e13⟩
            · exact absurd e hb
            · exact Or.inr ⟨b, d', x, y, n, e1, by rw [o _ (by omega)]; exact e2, e3, e4, e5, by rw [o _ (by omega)]; exact e6, by show upd g (105 + c) is (105 + c) = 0 ∨ upd g (105 + c) is (105 + c) = 1; rw [upd_eq]; exact his, e8, by rw [o _ (by omega)]; exact e9, e10, by rw [o _ (by omega)]; exact e11, e12, by rw [o _ (by omega)]; exact e13⟩
          · exact LOK.congr (Nat.le_refl _) (o _ (by omega)) (o _ (by omega)) (o _ (by omega)) (o _ (by omega)) (o _ (by omega)) (o _ (by omega)) (hL c hc)
        · exact GD.congr (fun c hc => ⟨o _ (by omega), o _ (by omega), o _ (by omega)⟩) hD
        · exact GR.congr (fun i hi => o _ (by omega)) hR
        · exact GC.congr (Nat.le_refl _) (fun c hc => ⟨o _ (by omega), o _ (by omega)⟩) hC
theorem GI.wAin {q : Nat} (hq : q < 4) : ∀ (k T : Nat) (p : Int32 × (Nat → Int32)), k ≤ 4 → T + 8 * k < 2 ^ 29 → GI p.2 T N s l r → ∃ T', T' ≤ T + 8 * k ∧ GI (m_wAin p q k).2 T' N s l r := by
  intro k
  induction k with
  | zero => intro T p _ _ h; exact ⟨T, by omega, h⟩
  | succ k ih =>
    intro T p hk hT h
    obtain ⟨T1, t1, h1⟩ := ih T p (by omega) (by omega) h
    obtain ⟨T2, t2, t3, h2⟩ := GI.wB (a := 4 * q + k) (by omega) (by omega) h1
    exact ⟨T2, by omega, h2⟩
theorem GI.wAll (hl4 : l ≤ 4) : ∀ (q T : Nat) (p : Int32 × (Nat → Int32)), q ≤ 4 → T + 32 * q < 2 ^ 29 → GI p.2 T N s l r → ∃ T', T' ≤ T + 32 * q ∧ GI (m_wAll p l q).2 T' N s l r := by
  intro q
  induction q with
  | zero => intro T p _ _ h; exact ⟨T, by omega, h⟩
  | succ q ih =>
    intro T p hk hT h
    obtain ⟨T1, t1, h1⟩ := ih T p (by omega) (by omega) h
    obtain ⟨T2, t2, h2⟩ := GI.wAin (q := q) (by omega) l T1 _ hl4 (by omega) h1
    exact ⟨T2, by omega, h2⟩
theorem GI.flushes {p : Int32 × (Nat → Int32)} (hT : T < 2 ^ 28) (h : GI g T N s l r) (he : m_flushes g s l = .inr p) : nxt p.2 T N s l := by
  unfold m_flushes at he
  split at he
  · cases he
  · cases he
    have h4 := h.1.2.1.2.2
    obtain ⟨T1, t1, h1⟩ := GI.wAll h.1.2.2.1.2.2 s T (0, g) h4 (by omega) h
    exact ⟨T1, N, r, by omega, by omega, h1⟩
end U20
