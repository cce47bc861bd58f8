section U21
variable {κ A : Nat → Nat} {h : xH} {t : Nat → Nat → Int32} {w : Nat × Nat} {g g' g1 : Nat → Int32} {T T' T1 N s l r a b c n : Nat} {D : Nat → Int32}
theorem GI.rule {x : Int32} {p : Int32 × (Nat → Int32)} (h : GI g T N s l r) (he : m_rule g x = .inr p) : nxt p.2 T N s l := by
  unfold m_rule at he
  cases hi : m_in x 0 3 with
  | false => rw [hi] at he; cases he
  | true =>
    rw [hi] at he
    obtain ⟨k, rfl, hk⟩ := m_inI (c := 3) (by decide) hi
    cases he
    refine ⟨T, N, r, by omega, by omega, ?_⟩
    show GI (upd g 3 (nI k)) T N s l r
    obtain ⟨hA, hG, hL, hD, hR, hC⟩ := h
    have o : ∀ j, j ≠ 3 → upd g 3 (nI k) j = g j := fun j hj => upd_ne hj
    refine ⟨⟨⟨by rw [o _ (by omega)]; exact hA.1.1, hA.1.2⟩, by rw [o _ (by omega)]; exact hA.2.1, by rw [o _ (by omega)]; exact hA.2.2.1, ⟨k, by omega, upd_eq⟩, by rw [o _ (by omega)]; exact hA.2.2.2.2.1, z_upd (by omega) hA.2.2.2.2.2⟩, ?_, fun c hc => ?_, ?_, ?_, ?_⟩
    · exact GT.of (o _ (by omega)) (fun k hk => o _ (by omega)) hG
    · exact LOK.congr (Nat.le_refl _) (o _ (by omega)) (o _ (by omega)) (o _ (by omega)) (o _ (by omega)) (o _ (by omega)) (o _ (by omega)) (hL c hc)
    · exact GD.congr (fun c hc => ⟨o _ (by omega), o _ (by omega), o _ (by omega)⟩) hD
    · exact GR.congr (fun i hi => o _ (by omega)) hR
    · exact GC.congr (Nat.le_refl _) (fun c hc => ⟨o _ (by omega), o _ (by omega)⟩) hC
theorem GI.thr {x : Int32} (h : GI g T N s l r) : GI (m_thr g x) T N s l r := by
  unfold m_thr
  have hv : (if x = 0 then (0 : Int32) else 1) = 0 ∨ (if x = 0 then (0 : Int32) else 1) = 1 := by split <;> simp
  generalize (if x = 0 then (0 : Int32) else 1) = v at hv ⊢
  obtain ⟨hA, hG, hL, hD, hR, hC⟩ := h
  have o : ∀ j, j ≠ 4 → upd g 4 v j = g j := fun j hj => upd_ne hj
  refine ⟨⟨⟨by rw [o _ (by omega)]; exact hA.1.1, hA.1.2⟩, by rw [o _ (by omega)]; exact hA.2.1, by rw [o _ (by omega)]; exact hA.2.2.1, by rw [o _ (by omega)]; exact hA.2.2.2.1, by rw [upd_eq]; exact hv, z_upd (by omega) hA.2.2.2.2.2⟩, ?_, fun c hc => ?_, ?_, ?_, ?_⟩
  · exact GT.of (o _ (by omega)) (fun k hk => o _ (by omega)) hG
  · exact LOK.congr (Nat.le_refl _) (o _ (by omega)) (o _ (by omega)) (o _ (by omega)) (o _ (by omega)) (o _ (by omega)) (o _ (by omega)) (hL c hc)
  · exact GD.congr (fun c hc => ⟨o _ (by omega), o _ (by omega), o _ (by omega)⟩) hD
  · exact GR.congr (fun i hi => o _ (by omega)) hR
  · exact GC.congr (Nat.le_refl _) (fun c hc => ⟨o _ (by omega), o _ (by omega)⟩) hC
theorem m_empties_o (g : Nat → Int32) {j : Nat} (hj : j < 73 ∨ 233 ≤ j) : ∀ n, n ≤ 16 → m_empties g n j = g j := by
  intro n
  induction n with
  | zero => intro _; rfl
  | succ n ih =>
    intro hn
    simp only [m_empties]
    rw [m_emptiesLine_o _ _ _ (by omega) hj]
    exact ih (by omega)
theorem m_empties_z (hz : z357 g) : ∀ n, n ≤ 16 → z357 (m_empties g n) := by
  intro n
  induction n with
  | zero => intro _; exact hz
  | succ n ih => intro hn; exact z_emptiesLine (by omega) (ih (by omega))
theorem m_empties_c (g : Nat → Int32) : ∀ n, n ≤ 16 → ∀ c, c < n → m_empties g n (73 + c) = -1 ∧ m_empties g n (89 + c) = 0 ∧ m_empties g n (105 + c) = 0 ∧ m_empties g n (121 + c) = 0 ∧ m_empties g n (137 + c) = 0 ∧ m_empties g n (153 + c) = 0 := by
  intro n
  induction n with
  | zero => intro _ c hc; exact absurd hc (Nat.not_lt_zero _)
  | succ n ih =>
    intro hn c hc
    simp only [m_empties]
    by_cases hcn : c = n
    · subst hcn
      exact ⟨m_emptiesLine_73 _ (by omega), m_emptiesLine_89 _ (by omega), m_emptiesLine_105 _ (by omega), m_emptiesLine_121 _ (by omega), m_emptiesLine_137 _ (by omega), m_emptiesLine_153 _ (by omega)⟩
    · have oc := fun j hj => m_emptiesLine_c (m_empties g n) (a := n) (c := c) (j := j) (by omega) (by omega) hcn hj
      rw [oc 73 (by omega), oc 89 (by omega), oc 105 (by omega), oc 121 (by omega), oc 137 (by omega), oc 153 (by omega)]
      exact ih (by omega) c (by omega)
theorem m_zl_o (g : Nat → Int32) {j : Nat} (hj : j < 235 ∨ 251 ≤ j) : ∀ n, n ≤ 16 → m_zl g n j = g j := by
  intro n
  induction n with
  | zero => intro _; rfl
  | succ n ih =>
    intro hn
    simp only [m_zl]
    rw [upd_ne (by omega)]
    exact ih (by omega)
theorem m_zl_z (hz : z357 g) : ∀ n, n ≤ 16 → z357 (m_zl g n) := by
  intro n
  induction n with
  | zero => intro _; exact hz
  | succ n ih => intro hn; exact z_upd (by omega) (ih (by omega))
theorem m_anew_o (g : Nat → Int32) (x y : Int32) {j : Nat} (hj : j = 0 ∨ (2 < j ∧ j < 73) ∨ (251 ≤ j)) : m_anew g x y j = g j := by
  unfold m_anew
  rw [m_zl_o _ (by omega) 16 (by omega), upd_ne (by omega), upd_ne (by omega), upd_ne (by omega), upd_ne (by omega)]
  exact m_empties_o g (by omega) 16 (by omega)
theorem m_anew_l (g : Nat → Int32) (x y : Int32) {j : Nat} (h1 : 73 ≤ j) (h2 : j < 169) : m_anew g x y j = m_empties g 16 j := by
  unfold m_anew
  rw [m_zl_o _ (by omega) 16 (by omega), upd_ne (by omega), upd_ne (by omega), upd_ne (by omega), upd_ne (by omega)]
theorem GI.anew {x y : Nat} (hx1 : 1 ≤ x) (hx4 : x ≤ 4) (hy1 : 1 ≤ y) (hy4 : y ≤ 4) (h : GI g T N s l r) : GI (m_anew g (nI x) (nI y)) T N x y 0 := by
  obtain ⟨hA, hG, hL, hD, hR, hC⟩ := h
  have o := fun j hj => m_anew_o g (nI x) (nI y) (j := j) hj
  have e73 : ∀ c, c < 16 → m_anew g (nI x) (nI y) (73 + c) = -1 := fun c hc => by
    rw [m_anew_l _ _ _ (by omega) (by omega)]
    exact (m_empties_c g 16 (by omega) c hc).1
  refine ⟨⟨⟨?_, by omega⟩, ⟨?_, hx1, hx4⟩, ⟨?_, hy1, hy4⟩, by rw [o 3 (by omega)]; exact hA.2.2.2.1, by rw [o 4 (by omega)]; exact hA.2.2.2.2.1, ?_⟩, ?_, fun c hc => Or.inl ?_, fun a c ha hc _ h1 _ => absurd (e73 a ha) h1, ⟨fun i hi => absurd hi (Nat.not_lt_zero _), fun i j _ hj => absurd hj (Nat.not_lt_zero _)⟩, ?_⟩
  · unfold m_anew
    rw [m_zl_o _ (by omega) 16 (by omega), upd_eq, nI_0]
  · unfold m_anew
    rw [m_zl_o _ (by omega) 16 (by omega), upd_ne (by omega), upd_ne (by omega), upd_ne (by omega), upd_eq]
  · unfold m_anew
    rw [m_zl_o _ (by omega) 16 (by omega), upd_ne (by omega), upd_ne (by omega), upd_eq]
  · exact m_zl_z (z_upd (by omega) (z_upd (by omega) (z_upd (by omega) (z_upd (by omega) (m_empties_z hA.2.2.2.2.2 16 (by omega)))))) 16 (by omega)
  · exact GT.of (o _ (by omega)) (fun k hk => o _ (by omega)) hG
  · rw [m_anew_l _ _ _ (by omega) (by omega), m_anew_l _ _ _ (by omega) (by omega), m_anew_l _ _ _ (by omega) (by omega), m_anew_l _ _ _ (by omega) (by omega), m_anew_l _ _ _ (by omega) (by omega), m_anew_l _ _ _ (by omega) (by omega)]
    exact m_empties_c g 16 (by omega) c hc
  · exact GC.congr (Nat.le_refl _) (fun c hc => ⟨o _ (by omega), o _ (by omega)⟩) hC
theorem GI.shape {x y : Int32} {p : Int32 × (Nat → Int32)} (hT : T < 2 ^ 28) (h : GI g T N s l r) (he : m_shape g x y s l = .inr p) : ∃ T' x' y' : Nat, x = nI x' ∧ y = nI y' ∧ T' ≤ T + 200 ∧ GI p.2 T' N x' y' 0 := by
  unfold m_shape at he
  cases hi : m_in x 1 4 with
  | false => rw [hi] at he; cases he
  | true =>
    cases hj : m_in y 1 4 with
    | false => rw [hi, hj] at he; cases he
    | true =>
      rw [hi, hj] at he
      obtain ⟨x', rfl, hx1, hx4⟩ := m_inJ (u := 1) (c := 4) (by decide) (by decide) hi
      obtain ⟨y', rfl, hy1, hy4⟩ := m_inJ (u := 1) (c := 4) (by decide) (by decide) hj
      cases he
      have h4 := h.1.2.1.2.2
      obtain ⟨T1, t1, h1⟩ := GI.wAll h.1.2.2.1.2.2 s T (0, g) h4 (by omega) h
      exact ⟨T1, x', y', rfl, rfl, by omega, GI.anew hx1 hx4 hy1 hy4 h1⟩
-- an order of a text
def m_do (D : Nat → Int32) (k : Nat) (g : Nat → Int32) (s l r : Nat) : mO :=
  if D k = 0 then m_reads g (D (k + 1)) s l r else if D k = 1 then m_writes g (D (k + 1)) (D (k + 2)) s l r else if D k = 2 then m_pins g (D (k + 1)) 1
  else if D k = 3 then m_pins g (D (k + 1)) 0 else if D k = 4 then m_flushes g s l else if D k = 5 then m_devices g (D (k + 1)) (D (k + 2)) else m_passes g (D (k + 1))
theorem GI.do {k : Nat} {p : Int32 × (Nat → Int32)} (hT : T < 2 ^ 28) (h : GI g T N s l r) (he : m_do D k g s l r = .inr p) : nxt p.2 T N s l := by
  unfold m_do at he
  split at he
  · exact h.reads hT he
  split at he
  · exact h.writes hT he
  split at he
  · exact h.pins (Or.inr rfl) he
  split at he
  · exact h.pins (Or.inl rfl) he
  split at he
  · exact h.flushes hT he
  split at he
  · exact h.devices hT he
  · exact h.passes he
theorem tc_does (hA : tOK κ A) (hT : TI g s l r) {k : Nat} (hk : k + 2 < 180) (K : Int32 → xH → Prop) (hK : mAns (m_do (t 19) k g s l r) t A h g K) : P_X4_does κ (A 20) (nI k) (tput h A (tg t g), w) K := by
  unfold P_X4_does
  unfold m_do at hK
  have v1 : nI k + (1 : Int32) = nI (k + 1) := nI_1 k
  have v2 : nI k + (2 : Int32) = nI (k + 2) := nI_add k 2
  have e19 : tg t g 19 = t 19 := rfl
  have i0 : vp_in (nI k) 180 ↔ True := iff_true_intro (nI_in (by omega) (by decide))
  have i1 : vp_in (nI (k + 1)) 180 ↔ True := iff_true_intro (nI_in (by omega) (by decide))
  have i2 : vp_in (nI (k + 2)) 180 ↔ True := iff_true_intro (nI_in (by omega) (by decide))
  simp (disch := omega) only [t_gq_19 hA, t_nn, t_ai_19 hA, v1, v2, i0, i1, i2, c_n, true_and, e19, t_rc hA]
  refine ⟨fun z => ?_, fun z0 => ⟨fun z => ?_, fun z1 => ⟨fun z => ?_, fun z2 => ⟨fun z => ?_, fun z3 => ⟨fun z => ?_, fun z4 => ⟨fun z => ?_, fun z5 => ?_⟩⟩⟩⟩⟩⟩
  · rw [if_pos z] at hK
    exact ⟨0, 0, Nat.zero_le _, Nat.zero_le _, tc_reads hA hT _ _ hK⟩
  · rw [if_neg z0, if_pos z] at hK
    exact ⟨0, 0, Nat.zero_le _, Nat.zero_le _, tc_writes hA hT _ _ _ hK⟩
  · rw [if_neg z0, if_neg z1, if_pos z] at hK
    exact ⟨0, 0, Nat.zero_le _, Nat.zero_le _, tc_pins hA _ _ _ hK⟩
  · rw [if_neg z0, if_neg z1, if_neg z2, if_pos z] at hK
    exact ⟨0, 0, Nat.zero_le _, Nat.zero_le _, tc_pins hA _ _ _ hK⟩
  · rw [if_neg z0, if_neg z1, if_neg z2, if_neg z3, if_pos z] at hK
    exact ⟨0, 0, Nat.zero_le _, Nat.zero_le _, tc_flushes hA hT _ hK⟩
  · rw [if_neg z0, if_neg z1, if_neg z2, if_neg z3, if_neg z4, if_pos z] at hK
    exact ⟨0, 0, Nat.zero_le _, Nat.zero_le _, tc_devices hA hT _ _ _ hK⟩
  · rw [if_neg z0, if_neg z1, if_neg z2, if_neg z3, if_neg z4, if_neg z5] at hK
    exact ⟨0, 0, Nat.zero_le _, Nat.zero_le _, tc_passes hA _ _ hK⟩
def rN (g : Nat → Int32) : Nat := (g 234).toNatClampNeg
theorem GI.rr (h : GI g T N s l r) : rN g = r := by
  have := h.1.1
  unfold rN
  rw [this.1, nI_clamp (by omega)]
end U21
