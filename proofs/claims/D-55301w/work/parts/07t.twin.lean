section E3
variable {κ A : Nat → Nat} {h h' H M0 : xH} {g : Nat → Int32} {s l r a b b3 d n q : Nat} {w : Nat × Nat} {S E E' : Nat → Prop} {rk : Nat → Nat}
theorem cc_mayGiveH {k : Nat} (ea : H a = some (.inl (5, lFs A g k))) (K : Int32 → xH → Prop) (hK : K (bI (m_canGive g k)) H) : P_X3_mayGive κ a (H, w) K := by
  unfold P_X3_mayGive
  unfold m_canGive at hK
  rw [g_rc ea, true_and]
  refine c_pure (r := bI (decide (g (73 + k) = -1))) (fun w K hk => ?_) ?_
  · unfold P_X3_isEmpty
    rw [g_gi ea rfl]
    exact ⟨fun z => by simpa [z, bI] using hk, fun z => by simpa [z, bI] using hk⟩
  · refine ⟨fun z => ?_, fun z => ?_⟩
    · have z := (bI_0 _).mp z
      simp only [decide_eq_false_iff_not] at z
      rw [g_gi ea rfl]
      exact ⟨fun y => by simpa [z, y, bI] using hK, fun y => by simpa [z, y, bI] using hK⟩
    · have z := bI_c z
      simp only [decide_eq_true_eq] at z
      simpa [z, bI] using hK
theorem PQ.congr (hE : ∀ y, E y ↔ E' y) (h : PQ κ H a d b3 n S rk E) : PQ κ H a d b3 n S rk E' := by
  obtain ⟨N, F, p, m, e1, e2, e3, e4, e5, e6, ⟨e7, e8⟩, e9⟩ := h
  exact ⟨N, F, p, m, e1, e2, e3, e4, e5, e6, ⟨e7, fun y => (hE y).symm.trans (e8 y)⟩, e9⟩
theorem PQ.same (h1 : h' a = H a) (h2 : h' d = H d) (h : PQ κ H a d b3 n S rk E) : PQ κ h' a d b3 n S rk E := by
  obtain ⟨N, F, p, m, e1, e2, e3⟩ := h
  exact ⟨N, F, p, m, h1.trans e1, h2.trans e2, e3⟩
/-- E's n elements, lowest rank first -/
def SRT (p : Nat → Nat) (n : Nat) (E : Nat → Prop) (rk : Nat → Nat) : Prop := PE p n E ∧ ∀ i j, i < j → j < n → rk (p i) ≤ rk (p j)
/-- all of a queue into a list -/
theorem cc_drain {o od : Nat} {m : Int32} {cS : Nat} (hQ : PQ κ H a d b3 n S rk E) (hL : AL κ H o od 0 (fun _ => none) m) (hSO : SO H b3 cS S) (hcl : ∀ y, S y → ∃ fs, H y = some (.inl (5, fs))) (hCM : CM κ H b3 S rk) (hn : n ≤ 20) (hκo : κ 0 ≤ o) (hod : od = κ 2) (hda : d ≠ κ 2) (hκ2 : κ 2 < κ 0) (hκa : κ 0 ≤ a) (hb3c : ∀ fs, H b3 ≠ some (.inl (3, fs))) (hM : Ext M0 H) (fa : M0 a = none) (fd : M0 d = none) (fo : M0 o = none) {c0 s0 : Nat} (hc : n ≤ c0) (hs : 1500 * n ≤ s0) (K : Option Nat → xH → Prop)
    (hK : ∀ (H' : xH) (p : Nat → Nat) (od' : Nat) (m' : Int32), Ext M0 H' → AL κ H' o od' n (fun i => some (p i)) m' → SRT p n E rk → (∀ b, H' b = none → H b = none) → K (some o) H') : xwhile (B_X2_giving_80 κ K a o) () (H, c0, s0) := by
  have hoa : o ≠ a := by
    obtain ⟨N, F, p, m, e1, -⟩ := hQ
    obtain ⟨N', F', k1, -⟩ := hL
    intro z
    rw [z, e1] at k1
    cases k1
  refine x_for n (fun j v σ => j ≤ n ∧ ∃ (H1 : xH) (c1 s1 : Nat) (p : Nat → Nat) (od1 : Nat) (m1 : Int32) (E1 : Nat → Prop), σ = (H1, c1, s1) ∧ n ≤ c1 + j ∧ 1500 * n ≤ s1 + 1500 * j ∧ Ext M0 H1 ∧ (∀ y, (S y ∨ y = b3) → H1 y = H y) ∧ (∀ b, H1 b = none → H b = none) ∧ PQ κ H1 a d b3 (n - j) S rk E1 ∧ AL κ H1 o od1 j (fun i => if i < j then some (p i) else none) m1 ∧ (od1 = κ 2 ∨ M0 od1 = none) ∧ od1 ≠ a ∧ od1 ≠ d ∧ (∀ i, i < j → S (p i)) ∧ (∀ y, E y ↔ (E1 y ∨ ∃ i, i < j ∧ p i = y)) ∧ (∀ i, i < j → ¬ E1 (p i)) ∧ (∀ i i', i < j → i' < j → i ≠ i' → p i ≠ p i') ∧ (∀ i i', i < i' → i' < j → rk (p i) ≤ rk (p i')) ∧ (∀ i z, i < j → E1 z → rk (p i) ≤ rk z)) ?_ ?_ ⟨Nat.zero_le _, H, c0, s0, fun _ => 0, od, m, E, rfl, by omega, by omega, hM, fun _ _ => rfl, fun _ z => z, hQ, ?_, Or.inl hod, ?_, ?_, fun i hi => absurd hi (Nat.not_lt_zero _), fun y => ⟨Or.inl, fun z => z.elim id (fun ⟨i, hi, _⟩ => absurd hi (Nat.not_lt_zero _))⟩, fun i hi => absurd hi (Nat.not_lt_zero _), fun i i' hi => absurd hi (Nat.not_lt_zero _), fun i i' _ hi => absurd hi (Nat.not_lt_zero _), fun i z hi => absurd hi (Nat.not_lt_zero _)⟩
  · rintro j v σ ⟨-, H1, c1, s1, p, od1, m1, E1, rfl, hc1, hs1, x1, x2, x3, x4, x5, x6, x6a, x6d, x7, x8, x9, x10, x11, x12⟩ hj self hself
    unfold B_X2_giving_80
    have hSO1 := hSO.same x2
    have hCM1 := hCM.same x2
    rw [x4.rc, true_and]
    refine c_pure (r := bI (decide (n - j = 0))) (fun w K hk => cc_isEmpty42 x4 K hk) ?_
    refine ⟨fun _ => ?_, fun z => absurd (bI_c z) (by simp; omega)⟩
    rw [x4.rc, true_and]
    refine ⟨0, 0, Nat.zero_le _, Nat.zero_le _, cc_remove42 x4 hSO1 hCM1 (by omega) _ (fun H2 y hEy hmin hSy hQ2 hfr hno => ?_)⟩
    obtain ⟨fy, ey⟩ := hcl y hSy
    have hne1 : ∀ y, (S y ∨ y = b3) → y ≠ a ∧ y ≠ d := by
      obtain ⟨N, F, p, m, e1, e2, -⟩ := x4
      exact hSO1.ne e1 e2
    have hS2 : ∀ y, (S y ∨ y = b3) → H2 y = H y := fun z hz => by
      have hnz := hne1 z hz
      rw [← x2 z hz]
      rcases hz with hz' | hz'
      · obtain ⟨fs, e⟩ := hSO1.1 z hz'
        rw [hfr _ _ e hnz.1 hnz.2, e]
      · obtain ⟨cb, fs, e, -⟩ := hSO1.2.2
        rw [← hz'] at e
        rw [hfr _ _ e hnz.1 hnz.2, e]
    have hod2 : o ≠ d := by
      obtain ⟨N, F, p, m, -, e2, -⟩ := x4
      obtain ⟨N', F', k1, -⟩ := x5
      intro z
      rw [z, e2] at k1
      cases k1
    have hL2 : AL κ H2 o od1 j (fun i => if i < j then some (p i) else none) m1 := by
      obtain ⟨N', F', k1, k2, k3⟩ := x5
      exact ⟨N', F', hfr _ _ k1 hoa hod2, hfr _ _ k2 x6a x6d, k3⟩
    have ey2 : H2 y = some (.inl (5, fy)) := by rw [hS2 y (Or.inl hSy)]; exact ey
    have hok : ∀ z, S z → oOK H2 (some z) := fun z hz b hb => by
      cases hb
      obtain ⟨fs, e⟩ := hcl z hz
      exact ⟨5, fs, by rw [hS2 z (Or.inl hz)]; exact e, rfl, by decide⟩
    show xnn (some y) _
    rw [t_nn, g_rc ey2, true_and, hL2.rc, true_and]
    have hX2 : Ext M0 H2 := fun b e hb => hfr b e (x1 b e hb) (fun z => by rw [z, fa] at hb; cases hb) (fun z => by rw [z, fd] at hb; cases hb)
    refine c_call 1 1500 (by show 1 ≤ c1 - 0; omega) (by show 1500 ≤ s1 - 0; omega) (cc_add hL2 hκo (hok y hSy) (fun i hi => ?_) (by omega) (Nat.le_refl _) (Nat.le_refl _) _ (fun H3 od3 g1 g2 g3 => ?_))
    · show oOK H2 (if i < j then some (p i) else none)
      rw [if_pos hi]
      exact hok _ (x7 i hi)
    · have h3κ : κ 0 ≤ od3 := by
        obtain ⟨N9, F9, -, -, y3, -, -, -, y7⟩ := g1
        omega
      have hM3 : M0 od3 = none := by
        rcases g3 with g3 | ⟨g3, -⟩
        · rcases x6 with x6 | x6
          · omega
          · rw [g3]; exact x6
        · cases hh : M0 od3 with
          | none => rfl
          | some e => rw [hX2 _ _ hh] at g3; cases g3
      have hin : ∀ b e, H2 b = some e → (∀ N F, e ≠ oA N F) → b ≠ od3 := fun b e hb hne z => by
        rcases g3 with g3 | ⟨g3, -⟩
        · obtain ⟨N', F', k1, k2, k3⟩ := hL2
          rw [z, g3, k2] at hb
          exact hne _ _ (Option.some.inj hb).symm
        · rw [z, g3] at hb
          cases hb
      obtain ⟨Nq, Fq, qq, mq, q1, q2, q3⟩ := hQ2
      have ha3 : a ≠ od3 := hin a _ q1 (fun N F z => by cases z)
      have hd3 : d ≠ od3 := fun z => by
        rcases g3 with g3 | ⟨g3, -⟩
        · exact x6d (g3.symm.trans z.symm)
        · rw [← z, q2] at g3; cases g3
      have hS3 : ∀ y, (S y ∨ y = b3) → y ≠ o ∧ y ≠ od3 := fun z hz => by
        obtain ⟨N', F', k1, -⟩ := hL2
        rcases hz with hz' | hz'
        · obtain ⟨fs, e⟩ := hcl z hz'
          rw [← hS2 z (Or.inl hz')] at e
          exact ⟨fun u => (by rw [u, k1] at e; cases e), hin z _ e (fun N F u => by cases u)⟩
        · obtain ⟨cb, fs, e, hcb⟩ := hSO.2.2
          subst hz'
          rw [← hS2 z (Or.inr rfl)] at e
          exact ⟨fun u => (by rw [u, k1] at e; have e9 := hS2 z (Or.inr rfl); rw [u, k1] at e9; rw [u] at hb3c; exact hb3c _ e9.symm), hin z _ e (fun N F u => by cases u)⟩
      have hH3 : ∀ y, (S y ∨ y = b3) → H3 y = H y := fun z hz => by rw [g2 z (hS3 z hz).1 (hS3 z hz).2]; exact hS2 z hz
      refine hself _ _ ⟨by omega, H3, _, _, fun i => if i = j then y else p i, od3, m1 + 1, fun z => E1 z ∧ z ≠ y, rfl, by show n ≤ c1 - 0 - 1 + (j + 1); omega, by show 1500 * n ≤ s1 - 0 - 1500 + 1500 * (j + 1); omega, fun b e hb => ?_, hH3, fun b hb => ?_, ?_, ?_, Or.inr hM3, Ne.symm ha3, Ne.symm hd3, fun i hi => ?_, fun z => ?_, fun i hi => ?_, fun i i' hi hi' hii => ?_, fun i i' hi hi' => ?_, fun i z hi hz => ?_⟩
      · rw [g2 b (fun z => by rw [z, fo] at hb; cases hb) (fun z => by rw [z, hM3] at hb; cases hb)]
        exact hX2 b e hb
      · by_cases hbo : b = o
        · obtain ⟨N9, F9, y1, -⟩ := g1
          rw [hbo, y1] at hb
          cases hb
        · by_cases hb3' : b = od3
          · obtain ⟨N9, F9, -, y2, -⟩ := g1
            rw [hb3', y2] at hb
            cases hb
          · rw [g2 b hbo hb3'] at hb
            exact x3 b (hno b hb)
      · rw [show n - (j + 1) = n - j - 1 by omega]
        exact PQ.same (g2 a (Ne.symm hoa) ha3) (g2 d (Ne.symm hod2) hd3) ⟨Nq, Fq, qq, mq, q1, q2, q3⟩
      · obtain ⟨N9, F9, y1, y2, y3, y4, y5, y6⟩ := g1
        refine ⟨N9, F9, y1, y2, y3, y4, fun i hi => (y5 i hi).trans ?_, y6⟩
        show (if i = j then some y else if i < j then some (p i) else none) = if i < j + 1 then some (if i = j then y else p i) else none
        rw [if_pos (show i < j + 1 from hi)]
        by_cases hij : i = j
        · rw [if_pos hij, if_pos hij]
        · rw [if_neg hij, if_neg hij, if_pos (by omega)]
      · show S (if i = j then y else p i)
        split
        · exact hSy
        · exact x7 i (by omega)
      · rw [x8 z]
        constructor
        · rintro (hz | ⟨i, hi, e⟩)
          · by_cases hzy : z = y
            · exact Or.inr ⟨j, by omega, by show (if j = j then y else p j) = z; rw [if_pos rfl]; exact hzy.symm⟩
            · exact Or.inl ⟨hz, hzy⟩
          · exact Or.inr ⟨i, by omega, by show (if i = j then y else p i) = z; rw [if_neg (by omega)]; exact e⟩
        · rintro (⟨hz, -⟩ | ⟨i, hi, e⟩)
          · exact Or.inl hz
          · have e : (if i = j then y else p i) = z := e
            by_cases hij : i = j
            · rw [if_pos hij] at e
              rw [← e]
              exact Or.inl hEy
            · rw [if_neg hij] at e
              exact Or.inr ⟨i, by omega, e⟩
      · show ¬ (E1 (if i = j then y else p i) ∧ (if i = j then y else p i) ≠ y)
        by_cases hij : i = j
        · rw [if_pos hij]
          exact fun z => z.2 rfl
        · rw [if_neg hij]
          exact fun z => x9 i (by omega) z.1
      · show (if i = j then y else p i) ≠ (if i' = j then y else p i')
        by_cases h1 : i = j
        · rw [if_pos h1, if_neg (by omega)]
          exact fun z => x9 i' (by omega) (z ▸ hEy)
        · rw [if_neg h1]
          by_cases h2 : i' = j
          · rw [if_pos h2]
            exact fun z => x9 i (by omega) (z ▸ hEy)
          · rw [if_neg h2]
            exact x10 i i' (by omega) (by omega) hii
      · show rk (if i = j then y else p i) ≤ rk (if i' = j then y else p i')
        rw [if_neg (by omega)]
        by_cases h2 : i' = j
        · rw [if_pos h2]
          exact x12 i y (by omega) hEy
        · rw [if_neg h2]
          exact x11 i i' hi (by omega)
      · show rk (if i = j then y else p i) ≤ rk z
        by_cases hij : i = j
        · rw [if_pos hij]
          exact hmin z hz.1
        · rw [if_neg hij]
          exact x12 i z (by omega) hz.1
  · rintro v σ ⟨-, H1, c1, s1, p, od1, m1, E1, rfl, hc1, hs1, x1, x2, x3, x4, x5, x6, x6a, x6d, x7, x8, x9, x10, x11, x12⟩ self
    unfold B_X2_giving_80
    rw [x4.rc, true_and]
    refine c_pure (r := bI (decide (n - n = 0))) (fun w K hk => cc_isEmpty42 x4 K hk) ?_
    refine ⟨fun z => absurd ((bI_0 _).mp z) (by simp), fun _ => ?_⟩
    have hE1 : ∀ z, ¬ E1 z := fun z hz => by
      obtain ⟨N, F, qq, m, -, -, -, -, -, -, ⟨-, e8⟩, -⟩ := x4
      obtain ⟨i, hi, -⟩ := (e8 z).mp hz
      omega
    refine hK H1 p od1 m1 x1 ?_ ⟨⟨x10, fun y => ?_⟩, x11⟩ x3
    · obtain ⟨N9, F9, y1, y2, y3, y4, y5, y6⟩ := x5
      refine ⟨N9, F9, y1, y2, y3, y4, fun i hi => (y5 i hi).trans ?_, y6⟩
      show (if i < n then some (p i) else none) = some (p i)
      rw [if_pos hi]
    · rw [x8 y]
      exact ⟨fun z => z.elim (fun u => absurd u (hE1 y)) id, Or.inr⟩
  · obtain ⟨N9, F9, y1, y2, y3, y4, y5, y6⟩ := hL
    exact ⟨N9, F9, y1, y2, y3, y4, fun i hi => absurd hi (Nat.not_lt_zero _), y6⟩
  · rw [hod]
    intro z
    rw [← z] at hκa
    omega
  · rw [hod]
    exact Ne.symm hda
end E3
