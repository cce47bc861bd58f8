-- the twin (WordCacheModel, class 10): t k i = array field k at i; t k 0 = scalar field k; A k: the array's address, A 20: the object's
def tFs (A : Nat → Nat) (t : Nat → Nat → Int32) : List Value := [.ref (A 0), .ref (A 1), .ref (A 2), .int (t 3 0), .ref (A 4), .int (t 5 0), .ref (A 6), .ref (A 7), .int (t 8 0), .int (t 9 0), .int (t 10 0), .int (t 11 0), .int (t 12 0), .int (t 13 0), .ref (A 14), .int (t 15 0), .int (t 16 0), .int (t 17 0), .int (t 18 0), .ref (A 19)]
def tE (A : Nat → Nat) (t : Nat → Nat → Int32) (k : Nat) : xE := match k with
  | 0 => .inr (.int, 357, .inl (t 0))
  | 1 => .inr (.int, 357, .inl (t 1))
  | 2 => .inr (.int, 2856, .inl (t 2))
  | 4 => .inr (.int, 357, .inl (t 4))
  | 6 => .inr (.int, 357, .inl (t 6))
  | 7 => .inr (.char, 60, .inl (t 7))
  | 14 => .inr (.char, 60, .inl (t 14))
  | 19 => .inr (.int, 180, .inl (t 19))
  | _ => .inl (10, tFs A t)
def tput (h : xH) (A : Nat → Nat) (t : Nat → Nat → Int32) : xH := fun b => if b = A 0 then some (tE A t 0) else if b = A 1 then some (tE A t 1) else if b = A 2 then some (tE A t 2) else if b = A 4 then some (tE A t 4) else if b = A 6 then some (tE A t 6) else if b = A 7 then some (tE A t 7) else if b = A 14 then some (tE A t 14) else if b = A 19 then some (tE A t 19) else if b = A 20 then some (tE A t 20) else h b
def tOK (κ : Nat → Nat) (A : Nat → Nat) : Prop := (κ 0 ≤ A 0 ∧ κ 0 ≤ A 1 ∧ κ 0 ≤ A 2 ∧ κ 0 ≤ A 4 ∧ κ 0 ≤ A 6 ∧ κ 0 ≤ A 7 ∧ κ 0 ≤ A 14 ∧ κ 0 ≤ A 19 ∧ κ 0 ≤ A 20) ∧ A 0 ≠ A 1 ∧ A 0 ≠ A 2 ∧ A 0 ≠ A 4 ∧ A 0 ≠ A 6 ∧ A 0 ≠ A 7 ∧ A 0 ≠ A 14 ∧ A 0 ≠ A 19 ∧ A 0 ≠ A 20 ∧ A 1 ≠ A 2 ∧ A 1 ≠ A 4 ∧ A 1 ≠ A 6 ∧ A 1 ≠ A 7 ∧ A 1 ≠ A 14 ∧ A 1 ≠ A 19 ∧ A 1 ≠ A 20 ∧ A 2 ≠ A 4 ∧ A 2 ≠ A 6 ∧ A 2 ≠ A 7 ∧ A 2 ≠ A 14 ∧ A 2 ≠ A 19 ∧ A 2 ≠ A 20 ∧ A 4 ≠ A 6 ∧ A 4 ≠ A 7 ∧ A 4 ≠ A 14 ∧ A 4 ≠ A 19 ∧ A 4 ≠ A 20 ∧ A 6 ≠ A 7 ∧ A 6 ≠ A 14 ∧ A 6 ≠ A 19 ∧ A 6 ≠ A 20 ∧ A 7 ≠ A 14 ∧ A 7 ≠ A 19 ∧ A 7 ≠ A 20 ∧ A 14 ≠ A 19 ∧ A 14 ≠ A 20 ∧ A 19 ≠ A 20
def tset (t : Nat → Nat → Int32) (k i : Nat) (v : Int32) : Nat → Nat → Int32 := fun k1 i1 => if k1 = k then (if i1 = i then v else t k1 i1) else t k1 i1
theorem t_nar (v : Int32) : vp_nar .int v = v := by
  simp [vp_nar, vp_nar_int]
section T1
variable {κ A : Nat → Nat} {h : xH} {t : Nat → Nat → Int32} {w : Nat × Nat} {ρ : Type}
theorem tput_0 (hA : tOK κ A) : tput h A t (A 0) = some (tE A t 0) := by
  obtain ⟨-, h0_1, h0_2, h0_4, h0_6, h0_7, h0_14, h0_19, h0_20, h1_2, h1_4, h1_6, h1_7, h1_14, h1_19, h1_20, h2_4, h2_6, h2_7, h2_14, h2_19, h2_20, h4_6, h4_7, h4_14, h4_19, h4_20, h6_7, h6_14, h6_19, h6_20, h7_14, h7_19, h7_20, h14_19, h14_20, h19_20⟩ := hA
  simp only [tput]
  simp only [if_true]
theorem tput_1 (hA : tOK κ A) : tput h A t (A 1) = some (tE A t 1) := by
  obtain ⟨-, h0_1, h0_2, h0_4, h0_6, h0_7, h0_14, h0_19, h0_20, h1_2, h1_4, h1_6, h1_7, h1_14, h1_19, h1_20, h2_4, h2_6, h2_7, h2_14, h2_19, h2_20, h4_6, h4_7, h4_14, h4_19, h4_20, h6_7, h6_14, h6_19, h6_20, h7_14, h7_19, h7_20, h14_19, h14_20, h19_20⟩ := hA
  simp only [tput]
  simp only [if_neg h0_1.symm]; simp only [if_true]
theorem tput_2 (hA : tOK κ A) : tput h A t (A 2) = some (tE A t 2) := by
  obtain ⟨-, h0_1, h0_2, h0_4, h0_6, h0_7, h0_14, h0_19, h0_20, h1_2, h1_4, h1_6, h1_7, h1_14, h1_19, h1_20, h2_4, h2_6, h2_7, h2_14, h2_19, h2_20, h4_6, h4_7, h4_14, h4_19, h4_20, h6_7, h6_14, h6_19, h6_20, h7_14, h7_19, h7_20, h14_19, h14_20, h19_20⟩ := hA
  simp only [tput]
  simp only [if_neg h0_2.symm, if_neg h1_2.symm]; simp only [if_true]
theorem tput_4 (hA : tOK κ A) : tput h A t (A 4) = some (tE A t 4) := by
  obtain ⟨-, h0_1, h0_2, h0_4, h0_6, h0_7, h0_14, h0_19, h0_20, h1_2, h1_4, h1_6, h1_7, h1_14, h1_19, h1_20, h2_4, h2_6, h2_7, h2_14, h2_19, h2_20, h4_6, h4_7, h4_14, h4_19, h4_20, h6_7, h6_14, h6_19, h6_20, h7_14, h7_19, h7_20, h14_19, h14_20, h19_20⟩ := hA
  simp only [tput]
  simp only [if_neg h0_4.symm, if_neg h1_4.symm, if_neg h2_4.symm]; simp only [if_true]
theorem tput_6 (hA : tOK κ A) : tput h A t (A 6) = some (tE A t 6) := by
  obtain ⟨-, h0_1, h0_2, h0_4, h0_6, h0_7, h0_14, h0_19, h0_20, h1_2, h1_4, h1_6, h1_7, h1_14, h1_19, h1_20, h2_4, h2_6, h2_7, h2_14, h2_19, h2_20, h4_6, h4_7, h4_14, h4_19, h4_20, h6_7, h6_14, h6_19, h6_20, h7_14, h7_19, h7_20, h14_19, h14_20, h19_20⟩ := hA
  simp only [tput]
  simp only [if_neg h0_6.symm, if_neg h1_6.symm, if_neg h2_6.symm, if_neg h4_6.symm]; simp only [if_true]
theorem tput_7 (hA : tOK κ A) : tput h A t (A 7) = some (tE A t 7) := by
  obtain ⟨-, h0_1, h0_2, h0_4, h0_6, h0_7, h0_14, h0_19, h0_20, h1_2, h1_4, h1_6, h1_7, h1_14, h1_19, h1_20, h2_4, h2_6, h2_7, h2_14, h2_19, h2_20, h4_6, h4_7, h4_14, h4_19, h4_20, h6_7, h6_14, h6_19, h6_20, h7_14, h7_19, h7_20, h14_19, h14_20, h19_20⟩ := hA
  simp only [tput]
  simp only [if_neg h0_7.symm, if_neg h1_7.symm, if_neg h2_7.symm, if_neg h4_7.symm, if_neg h6_7.symm]; simp only [if_true]
theorem tput_14 (hA : tOK κ A) : tput h A t (A 14) = some (tE A t 14) := by
  obtain ⟨-, h0_1, h0_2, h0_4, h0_6, h0_7, h0_14, h0_19, h0_20, h1_2, h1_4, h1_6, h1_7, h1_14, h1_19, h1_20, h2_4, h2_6, h2_7, h2_14, h2_19, h2_20, h4_6, h4_7, h4_14, h4_19, h4_20, h6_7, h6_14, h6_19, h6_20, h7_14, h7_19, h7_20, h14_19, h14_20, h19_20⟩ := hA
  simp only [tput]
  simp only [if_neg h0_14.symm, if_neg h1_14.symm, if_neg h2_14.symm, if_neg h4_14.symm, if_neg h6_14.symm, if_neg h7_14.symm]; simp only [if_true]
theorem tput_19 (hA : tOK κ A) : tput h A t (A 19) = some (tE A t 19) := by
  obtain ⟨-, h0_1, h0_2, h0_4, h0_6, h0_7, h0_14, h0_19, h0_20, h1_2, h1_4, h1_6, h1_7, h1_14, h1_19, h1_20, h2_4, h2_6, h2_7, h2_14, h2_19, h2_20, h4_6, h4_7, h4_14, h4_19, h4_20, h6_7, h6_14, h6_19, h6_20, h7_14, h7_19, h7_20, h14_19, h14_20, h19_20⟩ := hA
  simp only [tput]
  simp only [if_neg h0_19.symm, if_neg h1_19.symm, if_neg h2_19.symm, if_neg h4_19.symm, if_neg h6_19.symm, if_neg h7_19.symm, if_neg h14_19.symm]; simp only [if_true]
theorem tput_20 (hA : tOK κ A) : tput h A t (A 20) = some (tE A t 20) := by
  obtain ⟨-, h0_1, h0_2, h0_4, h0_6, h0_7, h0_14, h0_19, h0_20, h1_2, h1_4, h1_6, h1_7, h1_14, h1_19, h1_20, h2_4, h2_6, h2_7, h2_14, h2_19, h2_20, h4_6, h4_7, h4_14, h4_19, h4_20, h6_7, h6_14, h6_19, h6_20, h7_14, h7_19, h7_20, h14_19, h14_20, h19_20⟩ := hA
  simp only [tput]
  simp only [if_neg h0_20.symm, if_neg h1_20.symm, if_neg h2_20.symm, if_neg h4_20.symm, if_neg h6_20.symm, if_neg h7_20.symm, if_neg h14_20.symm, if_neg h19_20.symm]; simp only [if_true]
theorem tup_0 (hA : tOK κ A) (t2 : Nat → Nat → Int32) (h2 : ∀ j, j ≠ 0 → t2 j = t j) : xup (tput h A t) (A 0) (tE A t2 0) = tput h A t2 := by
  have hF : tFs A t2 = tFs A t := by simp only [tFs, h2 3 (by decide), h2 5 (by decide), h2 8 (by decide), h2 9 (by decide), h2 10 (by decide), h2 11 (by decide), h2 12 (by decide), h2 13 (by decide), h2 15 (by decide), h2 16 (by decide), h2 17 (by decide), h2 18 (by decide)]
  funext b
  by_cases hb : b = A 0
  · rw [hb, tput_0 hA]
    simp only [xup, if_true]
  · simp only [xup, if_neg hb, tput, tE, hF, h2 1 (by decide), h2 2 (by decide), h2 4 (by decide), h2 6 (by decide), h2 7 (by decide), h2 14 (by decide), h2 19 (by decide)]
theorem tup_1 (hA : tOK κ A) (t2 : Nat → Nat → Int32) (h2 : ∀ j, j ≠ 1 → t2 j = t j) : xup (tput h A t) (A 1) (tE A t2 1) = tput h A t2 := by
  have hF : tFs A t2 = tFs A t := by simp only [tFs, h2 3 (by decide), h2 5 (by decide), h2 8 (by decide), h2 9 (by decide), h2 10 (by decide), h2 11 (by decide), h2 12 (by decide), h2 13 (by decide), h2 15 (by decide), h2 16 (by decide), h2 17 (by decide), h2 18 (by decide)]
  funext b
  by_cases hb : b = A 1
  · rw [hb, tput_1 hA]
    simp only [xup, if_true]
  · simp only [xup, if_neg hb, tput, tE, hF, h2 0 (by decide), h2 2 (by decide), h2 4 (by decide), h2 6 (by decide), h2 7 (by decide), h2 14 (by decide), h2 19 (by decide)]
theorem tup_2 (hA : tOK κ A) (t2 : Nat → Nat → Int32) (h2 : ∀ j, j ≠ 2 → t2 j = t j) : xup (tput h A t) (A 2) (tE A t2 2) = tput h A t2 := by
  have hF : tFs A t2 = tFs A t := by simp only [tFs, h2 3 (by decide), h2 5 (by decide), h2 8 (by decide), h2 9 (by decide), h2 10 (by decide), h2 11 (by decide), h2 12 (by decide), h2 13 (by decide), h2 15 (by decide), h2 16 (by decide), h2 17 (by decide), h2 18 (by decide)]
  funext b
  by_cases hb : b = A 2
  · rw [hb, tput_2 hA]
    simp only [xup, if_true]
  · simp only [xup, if_neg hb, tput, tE, hF, h2 0 (by decide), h2 1 (by decide), h2 4 (by decide), h2 6 (by decide), h2 7 (by decide), h2 14 (by decide), h2 19 (by decide)]
theorem tup_4 (hA : tOK κ A) (t2 : Nat → Nat → Int32) (h2 : ∀ j, j ≠ 4 → t2 j = t j) : xup (tput h A t) (A 4) (tE A t2 4) = tput h A t2 := by
  have hF : tFs A t2 = tFs A t := by simp only [tFs, h2 3 (by decide), h2 5 (by decide), h2 8 (by decide), h2 9 (by decide), h2 10 (by decide), h2 11 (by decide), h2 12 (by decide), h2 13 (by decide), h2 15 (by decide), h2 16 (by decide), h2 17 (by decide), h2 18 (by decide)]
  funext b
  by_cases hb : b = A 4
  · rw [hb, tput_4 hA]
    simp only [xup, if_true]
  · simp only [xup, if_neg hb, tput, tE, hF, h2 0 (by decide), h2 1 (by decide), h2 2 (by decide), h2 6 (by decide), h2 7 (by decide), h2 14 (by decide), h2 19 (by decide)]
theorem tup_6 (hA : tOK κ A) (t2 : Nat → Nat → Int32) (h2 : ∀ j, j ≠ 6 → t2 j = t j) : xup (tput h A t) (A 6) (tE A t2 6) = tput h A t2 := by
  have hF : tFs A t2 = tFs A t := by simp only [tFs, h2 3 (by decide), h2 5 (by decide), h2 8 (by decide), h2 9 (by decide), h2 10 (by decide), h2 11 (by decide), h2 12 (by decide), h2 13 (by decide), h2 15 (by decide), h2 16 (by decide), h2 17 (by decide), h2 18 (by decide)]
  funext b
  by_cases hb : b = A 6
  · rw [hb, tput_6 hA]
    simp only [xup, if_true]
  · simp only [xup, if_neg hb, tput, tE, hF, h2 0 (by decide), h2 1 (by decide), h2 2 (by decide), h2 4 (by decide), h2 7 (by decide), h2 14 (by decide), h2 19 (by decide)]
theorem tup_7 (hA : tOK κ A) (t2 : Nat → Nat → Int32) (h2 : ∀ j, j ≠ 7 → t2 j = t j) : xup (tput h A t) (A 7) (tE A t2 7) = tput h A t2 := by
  have hF : tFs A t2 = tFs A t := by simp only [tFs, h2 3 (by decide), h2 5 (by decide), h2 8 (by decide), h2 9 (by decide), h2 10 (by decide), h2 11 (by decide), h2 12 (by decide), h2 13 (by decide), h2 15 (by decide), h2 16 (by decide), h2 17 (by decide), h2 18 (by decide)]
  funext b
  by_cases hb : b = A 7
  · rw [hb, tput_7 hA]
    simp only [xup, if_true]
  · simp only [xup, if_neg hb, tput, tE, hF, h2 0 (by decide), h2 1 (by decide), h2 2 (by decide), h2 4 (by decide), h2 6 (by decide), h2 14 (by decide), h2 19 (by decide)]
theorem tup_14 (hA : tOK κ A) (t2 : Nat → Nat → Int32) (h2 : ∀ j, j ≠ 14 → t2 j = t j) : xup (tput h A t) (A 14) (tE A t2 14) = tput h A t2 := by
  have hF : tFs A t2 = tFs A t := by simp only [tFs, h2 3 (by decide), h2 5 (by decide), h2 8 (by decide), h2 9 (by decide), h2 10 (by decide), h2 11 (by decide), h2 12 (by decide), h2 13 (by decide), h2 15 (by decide), h2 16 (by decide), h2 17 (by decide), h2 18 (by decide)]
  funext b
  by_cases hb : b = A 14
  · rw [hb, tput_14 hA]
    simp only [xup, if_true]
  · simp only [xup, if_neg hb, tput, tE, hF, h2 0 (by decide), h2 1 (by decide), h2 2 (by decide), h2 4 (by decide), h2 6 (by decide), h2 7 (by decide), h2 19 (by decide)]
theorem tup_19 (hA : tOK κ A) (t2 : Nat → Nat → Int32) (h2 : ∀ j, j ≠ 19 → t2 j = t j) : xup (tput h A t) (A 19) (tE A t2 19) = tput h A t2 := by
  have hF : tFs A t2 = tFs A t := by simp only [tFs, h2 3 (by decide), h2 5 (by decide), h2 8 (by decide), h2 9 (by decide), h2 10 (by decide), h2 11 (by decide), h2 12 (by decide), h2 13 (by decide), h2 15 (by decide), h2 16 (by decide), h2 17 (by decide), h2 18 (by decide)]
  funext b
  by_cases hb : b = A 19
  · rw [hb, tput_19 hA]
    simp only [xup, if_true]
  · simp only [xup, if_neg hb, tput, tE, hF, h2 0 (by decide), h2 1 (by decide), h2 2 (by decide), h2 4 (by decide), h2 6 (by decide), h2 7 (by decide), h2 14 (by decide)]
theorem t_ai_0 (hA : tOK κ A) {i : Int32} {K : Int32 → Prop} : xai .int (tput h A t, w) (A 0) i K ↔ vp_in i 357 ∧ K (t 0 i.toNatClampNeg) := by
  constructor
  · rintro ⟨n, f, e, hi, hK⟩
    have e := (tput_0 (h := h) (t := t) hA).symm.trans e
    cases e
    exact ⟨hi, hK⟩
  · rintro ⟨hi, hK⟩
    exact ⟨_, _, tput_0 hA, hi, hK⟩
theorem t_si_0 (hA : tOK κ A) {i v : Int32} {K : xS → Prop} : xsi κ .int (tput h A t, w) (A 0) i v K ↔ vp_in i 357 ∧ K (tput h A (tset t 0 i.toNatClampNeg v), w) := by
  have key : ∀ i : Nat, xup (tput h A t) (A 0) (.inr (.int, 357, .inl (upd (t 0) i v))) = tput h A (tset t 0 i v) := fun i => by
    have e9 : upd (t 0) i v = tset t 0 i v 0 := by funext j; simp [tset, upd]
    rw [e9]
    exact tup_0 (h := h) (t := t) hA (tset t 0 i v) (fun j hj => by funext i1; simp [tset, hj])
  constructor
  · rintro ⟨n, f, e, -, hi, hK⟩
    have e := (tput_0 (h := h) (t := t) hA).symm.trans e
    cases e
    refine ⟨hi, ?_⟩
    rw [← key]
    rw [t_nar] at hK; exact hK
  · rintro ⟨hi, hK⟩
    refine ⟨_, _, tput_0 hA, hA.1.1, hi, ?_⟩
    rw [← key] at hK
    rw [t_nar]; exact hK
theorem t_gq_0 (hA : tOK κ A) {K : Option Nat → Prop} : xgq (tput h A t, w) (A 20) 10 0 K ↔ K (some (A 0)) := by
  constructor
  · rintro ⟨fs, r, e, e2, hK⟩
    have e := (tput_20 (h := h) (t := t) hA).symm.trans e
    cases e
    have e2 : va_rf (some (A 0)) = va_rf r := Option.some.inj e2
    cases r with
    | none => cases e2
    | some b => cases e2; exact hK
  · intro hK
    exact ⟨_, some (A 0), tput_20 hA, rfl, hK⟩
theorem t_an_0 (hA : tOK κ A) {K : Int32 → Prop} : xan (tput h A t, w) (A 0) K ↔ K (nI 357) := by
  constructor
  · rintro ⟨x, e, hK⟩
    have e := (tput_0 (h := h) (t := t) hA).symm.trans e
    cases e
    exact hK
  · intro hK
    exact ⟨_, tput_0 hA, hK⟩
theorem t_ai_1 (hA : tOK κ A) {i : Int32} {K : Int32 → Prop} : xai .int (tput h A t, w) (A 1) i K ↔ vp_in i 357 ∧ K (t 1 i.toNatClampNeg) := by
  constructor
  · rintro ⟨n, f, e, hi, hK⟩
    have e := (tput_1 (h := h) (t := t) hA).symm.trans e
    cases e
    exact ⟨hi, hK⟩
  · rintro ⟨hi, hK⟩
    exact ⟨_, _, tput_1 hA, hi, hK⟩
theorem t_si_1 (hA : tOK κ A) {i v : Int32} {K : xS → Prop} : xsi κ .int (tput h A t, w) (A 1) i v K ↔ vp_in i 357 ∧ K (tput h A (tset t 1 i.toNatClampNeg v), w) := by
  have key : ∀ i : Nat, xup (tput h A t) (A 1) (.inr (.int, 357, .inl (upd (t 1) i v))) = tput h A (tset t 1 i v) := fun i => by
    have e9 : upd (t 1) i v = tset t 1 i v 1 := by funext j; simp [tset, upd]
    rw [e9]
    exact tup_1 (h := h) (t := t) hA (tset t 1 i v) (fun j hj => by funext i1; simp [tset, hj])
  constructor
  · rintro ⟨n, f, e, -, hi, hK⟩
    have e := (tput_1 (h := h) (t := t) hA).symm.trans e
    cases e
    refine ⟨hi, ?_⟩
    rw [← key]
    rw [t_nar] at hK; exact hK
  · rintro ⟨hi, hK⟩
    refine ⟨_, _, tput_1 hA, hA.1.2.1, hi, ?_⟩
    rw [← key] at hK
    rw [t_nar]; exact hK
theorem t_gq_1 (hA : tOK κ A) {K : Option Nat → Prop} : xgq (tput h A t, w) (A 20) 10 1 K ↔ K (some (A 1)) := by
  constructor
  · rintro ⟨fs, r, e, e2, hK⟩
    have e := (tput_20 (h := h) (t := t) hA).symm.trans e
    cases e
    have e2 : va_rf (some (A 1)) = va_rf r := Option.some.inj e2
    cases r with
    | none => cases e2
    | some b => cases e2; exact hK
  · intro hK
    exact ⟨_, some (A 1), tput_20 hA, rfl, hK⟩
theorem t_an_1 (hA : tOK κ A) {K : Int32 → Prop} : xan (tput h A t, w) (A 1) K ↔ K (nI 357) := by
  constructor
  · rintro ⟨x, e, hK⟩
    have e := (tput_1 (h := h) (t := t) hA).symm.trans e
    cases e
    exact hK
  · intro hK
    exact ⟨_, tput_1 hA, hK⟩
theorem t_ai_2 (hA : tOK κ A) {i : Int32} {K : Int32 → Prop} : xai .int (tput h A t, w) (A 2) i K ↔ vp_in i 2856 ∧ K (t 2 i.toNatClampNeg) := by
  constructor
  · rintro ⟨n, f, e, hi, hK⟩
    have e := (tput_2 (h := h) (t := t) hA).symm.trans e
    cases e
    exact ⟨hi, hK⟩
  · rintro ⟨hi, hK⟩
    exact ⟨_, _, tput_2 hA, hi, hK⟩
theorem t_si_2 (hA : tOK κ A) {i v : Int32} {K : xS → Prop} : xsi κ .int (tput h A t, w) (A 2) i v K ↔ vp_in i 2856 ∧ K (tput h A (tset t 2 i.toNatClampNeg v), w) := by
  have key : ∀ i : Nat, xup (tput h A t) (A 2) (.inr (.int, 2856, .inl (upd (t 2) i v))) = tput h A (tset t 2 i v) := fun i => by
    have e9 : upd (t 2) i v = tset t 2 i v 2 := by funext j; simp [tset, upd]
    rw [e9]
    exact tup_2 (h := h) (t := t) hA (tset t 2 i v) (fun j hj => by funext i1; simp [tset, hj])
  constructor
  · rintro ⟨n, f, e, -, hi, hK⟩
    have e := (tput_2 (h := h) (t := t) hA).symm.trans e
    cases e
    refine ⟨hi, ?_⟩
    rw [← key]
    rw [t_nar] at hK; exact hK
  · rintro ⟨hi, hK⟩
    refine ⟨_, _, tput_2 hA, hA.1.2.2.1, hi, ?_⟩
    rw [← key] at hK
    rw [t_nar]; exact hK
theorem t_gq_2 (hA : tOK κ A) {K : Option Nat → Prop} : xgq (tput h A t, w) (A 20) 10 2 K ↔ K (some (A 2)) := by
  constructor
  · rintro ⟨fs, r, e, e2, hK⟩
    have e := (tput_20 (h := h) (t := t) hA).symm.trans e
    cases e
    have e2 : va_rf (some (A 2)) = va_rf r := Option.some.inj e2
    cases r with
    | none => cases e2
    | some b => cases e2; exact hK
  · intro hK
    exact ⟨_, some (A 2), tput_20 hA, rfl, hK⟩
theorem t_an_2 (hA : tOK κ A) {K : Int32 → Prop} : xan (tput h A t, w) (A 2) K ↔ K (nI 2856) := by
  constructor
  · rintro ⟨x, e, hK⟩
    have e := (tput_2 (h := h) (t := t) hA).symm.trans e
    cases e
    exact hK
  · intro hK
    exact ⟨_, tput_2 hA, hK⟩
theorem t_ai_4 (hA : tOK κ A) {i : Int32} {K : Int32 → Prop} : xai .int (tput h A t, w) (A 4) i K ↔ vp_in i 357 ∧ K (t 4 i.toNatClampNeg) := by
  constructor
  · rintro ⟨n, f, e, hi, hK⟩
    have e := (tput_4 (h := h) (t := t) hA).symm.trans e
    cases e
    exact ⟨hi, hK⟩
  · rintro ⟨hi, hK⟩
    exact ⟨_, _, tput_4 hA, hi, hK⟩
theorem t_si_4 (hA : tOK κ A) {i v : Int32} {K : xS → Prop} : xsi κ .int (tput h A t, w) (A 4) i v K ↔ vp_in i 357 ∧ K (tput h A (tset t 4 i.toNatClampNeg v), w) := by
  have key : ∀ i : Nat, xup (tput h A t) (A 4) (.inr (.int, 357, .inl (upd (t 4) i v))) = tput h A (tset t 4 i v) := fun i => by
    have e9 : upd (t 4) i v = tset t 4 i v 4 := by funext j; simp [tset, upd]
    rw [e9]
    exact tup_4 (h := h) (t := t) hA (tset t 4 i v) (fun j hj => by funext i1; simp [tset, hj])
  constructor
  · rintro ⟨n, f, e, -, hi, hK⟩
    have e := (tput_4 (h := h) (t := t) hA).symm.trans e
    cases e
    refine ⟨hi, ?_⟩
    rw [← key]
    rw [t_nar] at hK; exact hK
  · rintro ⟨hi, hK⟩
    refine ⟨_, _, tput_4 hA, hA.1.2.2.2.1, hi, ?_⟩
    rw [← key] at hK
    rw [t_nar]; exact hK
theorem t_gq_4 (hA : tOK κ A) {K : Option Nat → Prop} : xgq (tput h A t, w) (A 20) 10 4 K ↔ K (some (A 4)) := by
  constructor
  · rintro ⟨fs, r, e, e2, hK⟩
    have e := (tput_20 (h := h) (t := t) hA).symm.trans e
    cases e
    have e2 : va_rf (some (A 4)) = va_rf r := Option.some.inj e2
    cases r with
    | none => cases e2
    | some b => cases e2; exact hK
  · intro hK
    exact ⟨_, some (A 4), tput_20 hA, rfl, hK⟩
theorem t_an_4 (hA : tOK κ A) {K : Int32 → Prop} : xan (tput h A t, w) (A 4) K ↔ K (nI 357) := by
  constructor
  · rintro ⟨x, e, hK⟩
    have e := (tput_4 (h := h) (t := t) hA).symm.trans e
    cases e
    exact hK
  · intro hK
    exact ⟨_, tput_4 hA, hK⟩
theorem t_ai_6 (hA : tOK κ A) {i : Int32} {K : Int32 → Prop} : xai .int (tput h A t, w) (A 6) i K ↔ vp_in i 357 ∧ K (t 6 i.toNatClampNeg) := by
  constructor
  · rintro ⟨n, f, e, hi, hK⟩
    have e := (tput_6 (h := h) (t := t) hA).symm.trans e
    cases e
    exact ⟨hi, hK⟩
  · rintro ⟨hi, hK⟩
    exact ⟨_, _, tput_6 hA, hi, hK⟩
theorem t_si_6 (hA : tOK κ A) {i v : Int32} {K : xS → Prop} : xsi κ .int (tput h A t, w) (A 6) i v K ↔ vp_in i 357 ∧ K (tput h A (tset t 6 i.toNatClampNeg v), w) := by
  have key : ∀ i : Nat, xup (tput h A t) (A 6) (.inr (.int, 357, .inl (upd (t 6) i v))) = tput h A (tset t 6 i v) := fun i => by
    have e9 : upd (t 6) i v = tset t 6 i v 6 := by funext j; simp [tset, upd]
    rw [e9]
    exact tup_6 (h := h) (t := t) hA (tset t 6 i v) (fun j hj => by funext i1; simp [tset, hj])
  constructor
  · rintro ⟨n, f, e, -, hi, hK⟩
    have e := (tput_6 (h := h) (t := t) hA).symm.trans e
    cases e
    refine ⟨hi, ?_⟩
    rw [← key]
    rw [t_nar] at hK; exact hK
  · rintro ⟨hi, hK⟩
    refine ⟨_, _, tput_6 hA, hA.1.2.2.2.2.1, hi, ?_⟩
    rw [← key] at hK
    rw [t_nar]; exact hK
theorem t_gq_6 (hA : tOK κ A) {K : Option Nat → Prop} : xgq (tput h A t, w) (A 20) 10 6 K ↔ K (some (A 6)) := by
  constructor
  · rintro ⟨fs, r, e, e2, hK⟩
    have e := (tput_20 (h := h) (t := t) hA).symm.trans e
    cases e
    have e2 : va_rf (some (A 6)) = va_rf r := Option.some.inj e2
    cases r with
    | none => cases e2
    | some b => cases e2; exact hK
  · intro hK
    exact ⟨_, some (A 6), tput_20 hA, rfl, hK⟩
theorem t_an_6 (hA : tOK κ A) {K : Int32 → Prop} : xan (tput h A t, w) (A 6) K ↔ K (nI 357) := by
  constructor
  · rintro ⟨x, e, hK⟩
    have e := (tput_6 (h := h) (t := t) hA).symm.trans e
    cases e
    exact hK
  · intro hK
    exact ⟨_, tput_6 hA, hK⟩
theorem t_ai_7 (hA : tOK κ A) {i : Int32} {K : Int32 → Prop} : xai .char (tput h A t, w) (A 7) i K ↔ vp_in i 60 ∧ K (t 7 i.toNatClampNeg) := by
  constructor
  · rintro ⟨n, f, e, hi, hK⟩
    have e := (tput_7 (h := h) (t := t) hA).symm.trans e
    cases e
    exact ⟨hi, hK⟩
  · rintro ⟨hi, hK⟩
    exact ⟨_, _, tput_7 hA, hi, hK⟩
theorem t_si_7 (hA : tOK κ A) {i v : Int32} {K : xS → Prop} : xsi κ .char (tput h A t, w) (A 7) i v K ↔ vp_in i 60 ∧ K (tput h A (tset t 7 i.toNatClampNeg (vp_nar .char v)), w) := by
  have key : ∀ i : Nat, xup (tput h A t) (A 7) (.inr (.char, 60, .inl (upd (t 7) i (vp_nar .char v)))) = tput h A (tset t 7 i (vp_nar .char v)) := fun i => by
    have e9 : upd (t 7) i (vp_nar .char v) = tset t 7 i (vp_nar .char v) 7 := by funext j; simp [tset, upd]
    rw [e9]
    exact tup_7 (h := h) (t := t) hA (tset t 7 i (vp_nar .char v)) (fun j hj => by funext i1; simp [tset, hj])
  constructor
  · rintro ⟨n, f, e, -, hi, hK⟩
    have e := (tput_7 (h := h) (t := t) hA).symm.trans e
    cases e
    refine ⟨hi, ?_⟩
    rw [← key]
    exact hK
  · rintro ⟨hi, hK⟩
    refine ⟨_, _, tput_7 hA, hA.1.2.2.2.2.2.1, hi, ?_⟩
    rw [← key] at hK
    exact hK
theorem t_gq_7 (hA : tOK κ A) {K : Option Nat → Prop} : xgq (tput h A t, w) (A 20) 10 7 K ↔ K (some (A 7)) := by
  constructor
  · rintro ⟨fs, r, e, e2, hK⟩
    have e := (tput_20 (h := h) (t := t) hA).symm.trans e
    cases e
    have e2 : va_rf (some (A 7)) = va_rf r := Option.some.inj e2
    cases r with
    | none => cases e2
    | some b => cases e2; exact hK
  · intro hK
    exact ⟨_, some (A 7), tput_20 hA, rfl, hK⟩
theorem t_an_7 (hA : tOK κ A) {K : Int32 → Prop} : xan (tput h A t, w) (A 7) K ↔ K (nI 60) := by
  constructor
  · rintro ⟨x, e, hK⟩
    have e := (tput_7 (h := h) (t := t) hA).symm.trans e
    cases e
    exact hK
  · intro hK
    exact ⟨_, tput_7 hA, hK⟩
theorem t_ai_14 (hA : tOK κ A) {i : Int32} {K : Int32 → Prop} : xai .char (tput h A t, w) (A 14) i K ↔ vp_in i 60 ∧ K (t 14 i.toNatClampNeg) := by
  constructor
  · rintro ⟨n, f, e, hi, hK⟩
    have e := (tput_14 (h := h) (t := t) hA).symm.trans e
    cases e
    exact ⟨hi, hK⟩
  · rintro ⟨hi, hK⟩
    exact ⟨_, _, tput_14 hA, hi, hK⟩
theorem t_si_14 (hA : tOK κ A) {i v : Int32} {K : xS → Prop} : xsi κ .char (tput h A t, w) (A 14) i v K ↔ vp_in i 60 ∧ K (tput h A (tset t 14 i.toNatClampNeg (vp_nar .char v)), w) := by
  have key : ∀ i : Nat, xup (tput h A t) (A 14) (.inr (.char, 60, .inl (upd (t 14) i (vp_nar .char v)))) = tput h A (tset t 14 i (vp_nar .char v)) := fun i => by
    have e9 : upd (t 14) i (vp_nar .char v) = tset t 14 i (vp_nar .char v) 14 := by funext j; simp [tset, upd]
    rw [e9]
    exact tup_14 (h := h) (t := t) hA (tset t 14 i (vp_nar .char v)) (fun j hj => by funext i1; simp [tset, hj])
  constructor
  · rintro ⟨n, f, e, -, hi, hK⟩
    have e := (tput_14 (h := h) (t := t) hA).symm.trans e
    cases e
    refine ⟨hi, ?_⟩
    rw [← key]
    exact hK
  · rintro ⟨hi, hK⟩
    refine ⟨_, _, tput_14 hA, hA.1.2.2.2.2.2.2.1, hi, ?_⟩
    rw [← key] at hK
    exact hK
theorem t_gq_14 (hA : tOK κ A) {K : Option Nat → Prop} : xgq (tput h A t, w) (A 20) 10 14 K ↔ K (some (A 14)) := by
  constructor
  · rintro ⟨fs, r, e, e2, hK⟩
    have e := (tput_20 (h := h) (t := t) hA).symm.trans e
    cases e
    have e2 : va_rf (some (A 14)) = va_rf r := Option.some.inj e2
    cases r with
    | none => cases e2
    | some b => cases e2; exact hK
  · intro hK
    exact ⟨_, some (A 14), tput_20 hA, rfl, hK⟩
theorem t_an_14 (hA : tOK κ A) {K : Int32 → Prop} : xan (tput h A t, w) (A 14) K ↔ K (nI 60) := by
  constructor
  · rintro ⟨x, e, hK⟩
    have e := (tput_14 (h := h) (t := t) hA).symm.trans e
    cases e
    exact hK
  · intro hK
    exact ⟨_, tput_14 hA, hK⟩
theorem t_ai_19 (hA : tOK κ A) {i : Int32} {K : Int32 → Prop} : xai .int (tput h A t, w) (A 19) i K ↔ vp_in i 180 ∧ K (t 19 i.toNatClampNeg) := by
  constructor
  · rintro ⟨n, f, e, hi, hK⟩
    have e := (tput_19 (h := h) (t := t) hA).symm.trans e
    cases e
    exact ⟨hi, hK⟩
  · rintro ⟨hi, hK⟩
    exact ⟨_, _, tput_19 hA, hi, hK⟩
theorem t_si_19 (hA : tOK κ A) {i v : Int32} {K : xS → Prop} : xsi κ .int (tput h A t, w) (A 19) i v K ↔ vp_in i 180 ∧ K (tput h A (tset t 19 i.toNatClampNeg v), w) := by
  have key : ∀ i : Nat, xup (tput h A t) (A 19) (.inr (.int, 180, .inl (upd (t 19) i v))) = tput h A (tset t 19 i v) := fun i => by
    have e9 : upd (t 19) i v = tset t 19 i v 19 := by funext j; simp [tset, upd]
    rw [e9]
    exact tup_19 (h := h) (t := t) hA (tset t 19 i v) (fun j hj => by funext i1; simp [tset, hj])
  constructor
  · rintro ⟨n, f, e, -, hi, hK⟩
    have e := (tput_19 (h := h) (t := t) hA).symm.trans e
    cases e
    refine ⟨hi, ?_⟩
    rw [← key]
    rw [t_nar] at hK; exact hK
  · rintro ⟨hi, hK⟩
    refine ⟨_, _, tput_19 hA, hA.1.2.2.2.2.2.2.2.1, hi, ?_⟩
    rw [← key] at hK
    rw [t_nar]; exact hK
theorem t_gq_19 (hA : tOK κ A) {K : Option Nat → Prop} : xgq (tput h A t, w) (A 20) 10 19 K ↔ K (some (A 19)) := by
  constructor
  · rintro ⟨fs, r, e, e2, hK⟩
    have e := (tput_20 (h := h) (t := t) hA).symm.trans e
    cases e
    have e2 : va_rf (some (A 19)) = va_rf r := Option.some.inj e2
    cases r with
    | none => cases e2
    | some b => cases e2; exact hK
  · intro hK
    exact ⟨_, some (A 19), tput_20 hA, rfl, hK⟩
theorem t_an_19 (hA : tOK κ A) {K : Int32 → Prop} : xan (tput h A t, w) (A 19) K ↔ K (nI 180) := by
  constructor
  · rintro ⟨x, e, hK⟩
    have e := (tput_19 (h := h) (t := t) hA).symm.trans e
    cases e
    exact hK
  · intro hK
    exact ⟨_, tput_19 hA, hK⟩
theorem t_gi_3 (hA : tOK κ A) {K : Int32 → Prop} : xgi (tput h A t, w) (A 20) 10 3 K ↔ K (t 3 0) := by
  constructor
  · rintro ⟨fs, r, e, e2, hK⟩
    have e := (tput_20 (h := h) (t := t) hA).symm.trans e
    cases e
    have e2 : Value.int (t 3 0) = Value.int r := Option.some.inj e2
    cases e2
    exact hK
  · intro hK
    exact ⟨_, _, tput_20 hA, rfl, hK⟩
theorem t_pi_3 (hA : tOK κ A) {v : Int32} {K : xS → Prop} : xpi κ (tput h A t, w) (A 20) 10 3 v K ↔ K (tput h A (tset t 3 0 v), w) := by
  have key : xup (tput h A t) (A 20) (.inl (10, (tFs A t).set 3 (.int v))) = tput h A (tset t 3 0 v) := by
    funext b
    by_cases hb : b = A 20
    · rw [hb, tput_20 hA]
      simp only [xup, if_true, tE]
      rfl
    · simp only [xup, if_neg hb, tput, tE]
      rfl
  constructor
  · rintro ⟨fs, e, -, -, hK⟩
    have e := (tput_20 (h := h) (t := t) hA).symm.trans e
    cases e
    rw [← key]
    exact hK
  · intro hK
    refine ⟨_, tput_20 hA, hA.1.2.2.2.2.2.2.2.2, by simp [tFs], ?_⟩
    rw [← key] at hK
    exact hK
theorem t_gi_5 (hA : tOK κ A) {K : Int32 → Prop} : xgi (tput h A t, w) (A 20) 10 5 K ↔ K (t 5 0) := by
  constructor
  · rintro ⟨fs, r, e, e2, hK⟩
    have e := (tput_20 (h := h) (t := t) hA).symm.trans e
    cases e
    have e2 : Value.int (t 5 0) = Value.int r := Option.some.inj e2
    cases e2
    exact hK
  · intro hK
    exact ⟨_, _, tput_20 hA, rfl, hK⟩
theorem t_pi_5 (hA : tOK κ A) {v : Int32} {K : xS → Prop} : xpi κ (tput h A t, w) (A 20) 10 5 v K ↔ K (tput h A (tset t 5 0 v), w) := by
  have key : xup (tput h A t) (A 20) (.inl (10, (tFs A t).set 5 (.int v))) = tput h A (tset t 5 0 v) := by
    funext b
    by_cases hb : b = A 20
    · rw [hb, tput_20 hA]
      simp only [xup, if_true, tE]
      rfl
    · simp only [xup, if_neg hb, tput, tE]
      rfl
  constructor
  · rintro ⟨fs, e, -, -, hK⟩
    have e := (tput_20 (h := h) (t := t) hA).symm.trans e
    cases e
    rw [← key]
    exact hK
  · intro hK
    refine ⟨_, tput_20 hA, hA.1.2.2.2.2.2.2.2.2, by simp [tFs], ?_⟩
    rw [← key] at hK
    exact hK
theorem t_gi_8 (hA : tOK κ A) {K : Int32 → Prop} : xgi (tput h A t, w) (A 20) 10 8 K ↔ K (t 8 0) := by
  constructor
  · rintro ⟨fs, r, e, e2, hK⟩
    have e := (tput_20 (h := h) (t := t) hA).symm.trans e
    cases e
    have e2 : Value.int (t 8 0) = Value.int r := Option.some.inj e2
    cases e2
    exact hK
  · intro hK
    exact ⟨_, _, tput_20 hA, rfl, hK⟩
theorem t_pi_8 (hA : tOK κ A) {v : Int32} {K : xS → Prop} : xpi κ (tput h A t, w) (A 20) 10 8 v K ↔ K (tput h A (tset t 8 0 v), w) := by
  have key : xup (tput h A t) (A 20) (.inl (10, (tFs A t).set 8 (.int v))) = tput h A (tset t 8 0 v) := by
    funext b
    by_cases hb : b = A 20
    · rw [hb, tput_20 hA]
      simp only [xup, if_true, tE]
      rfl
    · simp only [xup, if_neg hb, tput, tE]
      rfl
  constructor
  · rintro ⟨fs, e, -, -, hK⟩
    have e := (tput_20 (h := h) (t := t) hA).symm.trans e
    cases e
    rw [← key]
    exact hK
  · intro hK
    refine ⟨_, tput_20 hA, hA.1.2.2.2.2.2.2.2.2, by simp [tFs], ?_⟩
    rw [← key] at hK
    exact hK
theorem t_gi_9 (hA : tOK κ A) {K : Int32 → Prop} : xgi (tput h A t, w) (A 20) 10 9 K ↔ K (t 9 0) := by
  constructor
  · rintro ⟨fs, r, e, e2, hK⟩
    have e := (tput_20 (h := h) (t := t) hA).symm.trans e
    cases e
    have e2 : Value.int (t 9 0) = Value.int r := Option.some.inj e2
    cases e2
    exact hK
  · intro hK
    exact ⟨_, _, tput_20 hA, rfl, hK⟩
theorem t_pi_9 (hA : tOK κ A) {v : Int32} {K : xS → Prop} : xpi κ (tput h A t, w) (A 20) 10 9 v K ↔ K (tput h A (tset t 9 0 v), w) := by
  have key : xup (tput h A t) (A 20) (.inl (10, (tFs A t).set 9 (.int v))) = tput h A (tset t 9 0 v) := by
    funext b
    by_cases hb : b = A 20
    · rw [hb, tput_20 hA]
      simp only [xup, if_true, tE]
      rfl
    · simp only [xup, if_neg hb, tput, tE]
      rfl
  constructor
  · rintro ⟨fs, e, -, -, hK⟩
    have e := (tput_20 (h := h) (t := t) hA).symm.trans e
    cases e
    rw [← key]
    exact hK
  · intro hK
    refine ⟨_, tput_20 hA, hA.1.2.2.2.2.2.2.2.2, by simp [tFs], ?_⟩
    rw [← key] at hK
    exact hK
theorem t_gi_10 (hA : tOK κ A) {K : Int32 → Prop} : xgi (tput h A t, w) (A 20) 10 10 K ↔ K (t 10 0) := by
  constructor
  · rintro ⟨fs, r, e, e2, hK⟩
    have e := (tput_20 (h := h) (t := t) hA).symm.trans e
    cases e
    have e2 : Value.int (t 10 0) = Value.int r := Option.some.inj e2
    cases e2
    exact hK
  · intro hK
    exact ⟨_, _, tput_20 hA, rfl, hK⟩
theorem t_pi_10 (hA : tOK κ A) {v : Int32} {K : xS → Prop} : xpi κ (tput h A t, w) (A 20) 10 10 v K ↔ K (tput h A (tset t 10 0 v), w) := by
  have key : xup (tput h A t) (A 20) (.inl (10, (tFs A t).set 10 (.int v))) = tput h A (tset t 10 0 v) := by
    funext b
    by_cases hb : b = A 20
    · rw [hb, tput_20 hA]
      simp only [xup, if_true, tE]
      rfl
    · simp only [xup, if_neg hb, tput, tE]
      rfl
  constructor
  · rintro ⟨fs, e, -, -, hK⟩
    have e := (tput_20 (h := h) (t := t) hA).symm.trans e
    cases e
    rw [← key]
    exact hK
  · intro hK
    refine ⟨_, tput_20 hA, hA.1.2.2.2.2.2.2.2.2, by simp [tFs], ?_⟩
    rw [← key] at hK
    exact hK
theorem t_gi_11 (hA : tOK κ A) {K : Int32 → Prop} : xgi (tput h A t, w) (A 20) 10 11 K ↔ K (t 11 0) := by
  constructor
  · rintro ⟨fs, r, e, e2, hK⟩
    have e := (tput_20 (h := h) (t := t) hA).symm.trans e
    cases e
    have e2 : Value.int (t 11 0) = Value.int r := Option.some.inj e2
    cases e2
    exact hK
  · intro hK
    exact ⟨_, _, tput_20 hA, rfl, hK⟩
theorem t_pi_11 (hA : tOK κ A) {v : Int32} {K : xS → Prop} : xpi κ (tput h A t, w) (A 20) 10 11 v K ↔ K (tput h A (tset t 11 0 v), w) := by
  have key : xup (tput h A t) (A 20) (.inl (10, (tFs A t).set 11 (.int v))) = tput h A (tset t 11 0 v) := by
    funext b
    by_cases hb : b = A 20
    · rw [hb, tput_20 hA]
      simp only [xup, if_true, tE]
      rfl
    · simp only [xup, if_neg hb, tput, tE]
      rfl
  constructor
  · rintro ⟨fs, e, -, -, hK⟩
    have e := (tput_20 (h := h) (t := t) hA).symm.trans e
    cases e
    rw [← key]
    exact hK
  · intro hK
    refine ⟨_, tput_20 hA, hA.1.2.2.2.2.2.2.2.2, by simp [tFs], ?_⟩
    rw [← key] at hK
    exact hK
theorem t_gi_12 (hA : tOK κ A) {K : Int32 → Prop} : xgi (tput h A t, w) (A 20) 10 12 K ↔ K (t 12 0) := by
  constructor
  · rintro ⟨fs, r, e, e2, hK⟩
    have e := (tput_20 (h := h) (t := t) hA).symm.trans e
    cases e
    have e2 : Value.int (t 12 0) = Value.int r := Option.some.inj e2
    cases e2
    exact hK
  · intro hK
    exact ⟨_, _, tput_20 hA, rfl, hK⟩
theorem t_pi_12 (hA : tOK κ A) {v : Int32} {K : xS → Prop} : xpi κ (tput h A t, w) (A 20) 10 12 v K ↔ K (tput h A (tset t 12 0 v), w) := by
  have key : xup (tput h A t) (A 20) (.inl (10, (tFs A t).set 12 (.int v))) = tput h A (tset t 12 0 v) := by
    funext b
    by_cases hb : b = A 20
    · rw [hb, tput_20 hA]
      simp only [xup, if_true, tE]
      rfl
    · simp only [xup, if_neg hb, tput, tE]
      rfl
  constructor
  · rintro ⟨fs, e, -, -, hK⟩
    have e := (tput_20 (h := h) (t := t) hA).symm.trans e
    cases e
    rw [← key]
    exact hK
  · intro hK
    refine ⟨_, tput_20 hA, hA.1.2.2.2.2.2.2.2.2, by simp [tFs], ?_⟩
    rw [← key] at hK
    exact hK
theorem t_gi_13 (hA : tOK κ A) {K : Int32 → Prop} : xgi (tput h A t, w) (A 20) 10 13 K ↔ K (t 13 0) := by
  constructor
  · rintro ⟨fs, r, e, e2, hK⟩
    have e := (tput_20 (h := h) (t := t) hA).symm.trans e
    cases e
    have e2 : Value.int (t 13 0) = Value.int r := Option.some.inj e2
    cases e2
    exact hK
  · intro hK
    exact ⟨_, _, tput_20 hA, rfl, hK⟩
theorem t_pi_13 (hA : tOK κ A) {v : Int32} {K : xS → Prop} : xpi κ (tput h A t, w) (A 20) 10 13 v K ↔ K (tput h A (tset t 13 0 v), w) := by
  have key : xup (tput h A t) (A 20) (.inl (10, (tFs A t).set 13 (.int v))) = tput h A (tset t 13 0 v) := by
    funext b
    by_cases hb : b = A 20
    · rw [hb, tput_20 hA]
      simp only [xup, if_true, tE]
      rfl
    · simp only [xup, if_neg hb, tput, tE]
      rfl
  constructor
  · rintro ⟨fs, e, -, -, hK⟩
    have e := (tput_20 (h := h) (t := t) hA).symm.trans e
    cases e
    rw [← key]
    exact hK
  · intro hK
    refine ⟨_, tput_20 hA, hA.1.2.2.2.2.2.2.2.2, by simp [tFs], ?_⟩
    rw [← key] at hK
    exact hK
theorem t_gi_15 (hA : tOK κ A) {K : Int32 → Prop} : xgi (tput h A t, w) (A 20) 10 15 K ↔ K (t 15 0) := by
  constructor
  · rintro ⟨fs, r, e, e2, hK⟩
    have e := (tput_20 (h := h) (t := t) hA).symm.trans e
    cases e
    have e2 : Value.int (t 15 0) = Value.int r := Option.some.inj e2
    cases e2
    exact hK
  · intro hK
    exact ⟨_, _, tput_20 hA, rfl, hK⟩
theorem t_pi_15 (hA : tOK κ A) {v : Int32} {K : xS → Prop} : xpi κ (tput h A t, w) (A 20) 10 15 v K ↔ K (tput h A (tset t 15 0 v), w) := by
  have key : xup (tput h A t) (A 20) (.inl (10, (tFs A t).set 15 (.int v))) = tput h A (tset t 15 0 v) := by
    funext b
    by_cases hb : b = A 20
    · rw [hb, tput_20 hA]
      simp only [xup, if_true, tE]
      rfl
    · simp only [xup, if_neg hb, tput, tE]
      rfl
  constructor
  · rintro ⟨fs, e, -, -, hK⟩
    have e := (tput_20 (h := h) (t := t) hA).symm.trans e
    cases e
    rw [← key]
    exact hK
  · intro hK
    refine ⟨_, tput_20 hA, hA.1.2.2.2.2.2.2.2.2, by simp [tFs], ?_⟩
    rw [← key] at hK
    exact hK
theorem t_gi_16 (hA : tOK κ A) {K : Int32 → Prop} : xgi (tput h A t, w) (A 20) 10 16 K ↔ K (t 16 0) := by
  constructor
  · rintro ⟨fs, r, e, e2, hK⟩
    have e := (tput_20 (h := h) (t := t) hA).symm.trans e
    cases e
    have e2 : Value.int (t 16 0) = Value.int r := Option.some.inj e2
    cases e2
    exact hK
  · intro hK
    exact ⟨_, _, tput_20 hA, rfl, hK⟩
theorem t_pi_16 (hA : tOK κ A) {v : Int32} {K : xS → Prop} : xpi κ (tput h A t, w) (A 20) 10 16 v K ↔ K (tput h A (tset t 16 0 v), w) := by
  have key : xup (tput h A t) (A 20) (.inl (10, (tFs A t).set 16 (.int v))) = tput h A (tset t 16 0 v) := by
    funext b
    by_cases hb : b = A 20
    · rw [hb, tput_20 hA]
      simp only [xup, if_true, tE]
      rfl
    · simp only [xup, if_neg hb, tput, tE]
      rfl
  constructor
  · rintro ⟨fs, e, -, -, hK⟩
    have e := (tput_20 (h := h) (t := t) hA).symm.trans e
    cases e
    rw [← key]
    exact hK
  · intro hK
    refine ⟨_, tput_20 hA, hA.1.2.2.2.2.2.2.2.2, by simp [tFs], ?_⟩
    rw [← key] at hK
    exact hK
theorem t_gi_17 (hA : tOK κ A) {K : Int32 → Prop} : xgi (tput h A t, w) (A 20) 10 17 K ↔ K (t 17 0) := by
  constructor
  · rintro ⟨fs, r, e, e2, hK⟩
    have e := (tput_20 (h := h) (t := t) hA).symm.trans e
    cases e
    have e2 : Value.int (t 17 0) = Value.int r := Option.some.inj e2
    cases e2
    exact hK
  · intro hK
    exact ⟨_, _, tput_20 hA, rfl, hK⟩
theorem t_pi_17 (hA : tOK κ A) {v : Int32} {K : xS → Prop} : xpi κ (tput h A t, w) (A 20) 10 17 v K ↔ K (tput h A (tset t 17 0 v), w) := by
  have key : xup (tput h A t) (A 20) (.inl (10, (tFs A t).set 17 (.int v))) = tput h A (tset t 17 0 v) := by
    funext b
    by_cases hb : b = A 20
    · rw [hb, tput_20 hA]
      simp only [xup, if_true, tE]
      rfl
    · simp only [xup, if_neg hb, tput, tE]
      rfl
  constructor
  · rintro ⟨fs, e, -, -, hK⟩
    have e := (tput_20 (h := h) (t := t) hA).symm.trans e
    cases e
    rw [← key]
    exact hK
  · intro hK
    refine ⟨_, tput_20 hA, hA.1.2.2.2.2.2.2.2.2, by simp [tFs], ?_⟩
    rw [← key] at hK
    exact hK
theorem t_gi_18 (hA : tOK κ A) {K : Int32 → Prop} : xgi (tput h A t, w) (A 20) 10 18 K ↔ K (t 18 0) := by
  constructor
  · rintro ⟨fs, r, e, e2, hK⟩
    have e := (tput_20 (h := h) (t := t) hA).symm.trans e
    cases e
    have e2 : Value.int (t 18 0) = Value.int r := Option.some.inj e2
    cases e2
    exact hK
  · intro hK
    exact ⟨_, _, tput_20 hA, rfl, hK⟩
theorem t_pi_18 (hA : tOK κ A) {v : Int32} {K : xS → Prop} : xpi κ (tput h A t, w) (A 20) 10 18 v K ↔ K (tput h A (tset t 18 0 v), w) := by
  have key : xup (tput h A t) (A 20) (.inl (10, (tFs A t).set 18 (.int v))) = tput h A (tset t 18 0 v) := by
    funext b
    by_cases hb : b = A 20
    · rw [hb, tput_20 hA]
      simp only [xup, if_true, tE]
      rfl
    · simp only [xup, if_neg hb, tput, tE]
      rfl
  constructor
  · rintro ⟨fs, e, -, -, hK⟩
    have e := (tput_20 (h := h) (t := t) hA).symm.trans e
    cases e
    rw [← key]
    exact hK
  · intro hK
    refine ⟨_, tput_20 hA, hA.1.2.2.2.2.2.2.2.2, by simp [tFs], ?_⟩
    rw [← key] at hK
    exact hK
theorem t_rc (hA : tOK κ A) : xrc (tput h A t, w) (A 20) 10 ↔ True := ⟨fun _ => trivial, fun _ => ⟨_, tput_20 hA⟩⟩
theorem t_nn {b : Nat} {K : Nat → Prop} : xnn (some b) K ↔ K b := ⟨fun h => x_nnS h, fun h => ⟨b, rfl, h⟩⟩
/-- a call within the twin: no new cells -/
theorem t_call {P : xS → (ρ → xH → Prop) → Prop} {r : ρ} {t' : Nat → Nat → Int32} {K : ρ → xS → Prop} (hP : ∀ (w : Nat × Nat) (K : ρ → xH → Prop), K r (tput h A t') → P (tput h A t, w) K) (hK : K r (tput h A t', w)) : xcall P (tput h A t, w) K :=
  ⟨0, 0, Nat.zero_le _, Nat.zero_le _, hP _ _ hK⟩
end T1
