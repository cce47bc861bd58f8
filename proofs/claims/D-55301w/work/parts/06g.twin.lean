section T7
variable {κ A : Nat → Nat} {h : xH} {t : Nat → Nat → Int32} {g : Nat → Int32} {w : Nat × Nat}
def m_placeGo (g : Nat → Int32) (b : Nat) : Nat → Nat → Nat
  | 0, i => i
  | n + 1, i => if g (235 + i) = nI b then i else m_placeGo g b n (i + 1)
def m_place (g : Nat → Int32) (r b : Nat) : Nat := m_placeGo g b r 0
/-- the entries below p, one place up; those from q + 1 on done -/
def m_sh (g : Nat → Int32) (p q : Nat) : Nat → Int32 := fun j => if 235 + q < j ∧ j ≤ 235 + p then g (j - 1) else g j
def m_latest (g : Nat → Int32) (r b : Nat) : Nat → Int32 :=
  let p := m_place g r b
  upd (m_sh (upd g 234 (nI (if p = r then r + 1 else r))) p 0) 235 (nI b)
theorem nI_dec (n : Nat) : nI (n + 1) + (-1) = nI n := by
  rw [nI_succ, Int32.add_assoc, show (1 : Int32) + -1 = 0 by decide, Int32.add_zero]
theorem i_235 : vp_in (235 : Int32) 357 ↔ True := iff_true_intro (by unfold vp_in; decide)
theorem l_235 : ((235 : Int32)).toNatClampNeg = 235 := by decide
theorem m_sh_step (g : Nat → Int32) (p q : Nat) (hq : q + 1 ≤ p) : upd (m_sh g p (q + 1)) (235 + (q + 1)) (g (235 + q)) = m_sh g p q := by
  funext j
  by_cases hj : j = 235 + (q + 1)
  · rw [hj, upd_eq]
    unfold m_sh
    rw [if_pos (by omega)]
    rfl
  · rw [upd_ne hj]
    unfold m_sh
    by_cases hc : 235 + q < j ∧ j ≤ 235 + p
    · rw [if_pos hc, if_pos (by omega)]
    · rw [if_neg hc, if_neg (by omega)]
theorem m_sh_self (g : Nat → Int32) (p : Nat) : m_sh g p p = g := by
  funext j
  unfold m_sh
  rw [if_neg (by omega)]
/-- the second loop -/
theorem tc_shifts (hA : tOK κ A) {b p : Nat} (hp : p ≤ 16) (K : Unit → xH → Prop) (hK : K () (tput h A (tg t (upd (m_sh g p 0) 235 (nI b))))) : xwhile (B_X4_becomesLatest_64 κ K (A 20) (nI b)) (nI p) (tput h A (tg t g), w) := by
  refine x_for p (fun i v σ => v = nI (p - i) ∧ i ≤ p ∧ σ = (tput h A (tg t (m_sh g p (p - i))), w)) ?_ ?_ ⟨rfl, by omega, by rw [Nat.sub_zero, m_sh_self]⟩
  · rintro i v σ ⟨rfl, -, rfl⟩ hi self hself
    obtain ⟨q, hq⟩ : ∃ q, p - i = q + 1 := ⟨p - i - 1, by omega⟩
    have hq2 : p - (i + 1) = q := by omega
    rw [hq]
    unfold B_X4_becomesLatest_64
    refine ⟨fun z => absurd z (nI_nle (by omega) (by omega)), fun _ => ?_⟩
    have e1 : nI (235 + (q + 1)) - 1 = nI (235 + q) := nI_pred (235 + q)
    simp (disch := omega) only [t_gq_0 hA, t_nn, t_ag hA, t_sg hA, e1, a_235, vi_n, c_n, true_and, nI_dec]
    refine hself _ _ ⟨by rw [hq2], by omega, ?_⟩
    rw [hq2, ← m_sh_step g p q (by omega)]
    have : m_sh g p (q + 1) (235 + q) = g (235 + q) := by
      unfold m_sh
      rw [if_neg (by omega)]
    rw [this]
  · rintro v σ ⟨rfl, -, rfl⟩ self
    rw [Nat.sub_self]
    unfold B_X4_becomesLatest_64
    refine ⟨fun _ => ?_, fun z => absurd (by decide) z⟩
    simp (disch := omega) only [t_gq_0 hA, t_nn, t_sg hA, i_235, l_235, true_and]
    exact hK
theorem tc_becomesLatest (hA : tOK κ A) {b r : Nat} (hr : g 234 = nI r) (hr16 : r ≤ 16) (K : Unit → xH → Prop) (hK : K () (tput h A (tg t (m_latest g r b)))) : P_X4_becomesLatest κ (A 20) (nI b) (tput h A (tg t g), w) K := by
  have fin : ∀ p, p ≤ r → m_place g r b = p → K () (tput h A (tg t (upd (m_sh (upd g 234 (nI (if p = r then r + 1 else r))) p 0) 235 (nI b)))) := by
    rintro p - hp
    simp only [m_latest, hp] at hK
    exact hK
  unfold P_X4_becomesLatest
  have step2 : ∀ p, p ≤ r → m_place g r b = p → ∀ KK : Prop, (∀ v : Int32, v = nI (if p = r then r + 1 else r) → xwhile (B_X4_becomesLatest_64 κ K (A 20) (nI b)) (nI p) (tput h A (tg t (upd g 234 v)), w)) := by
    intro p hp he KK v hv
    rw [hv]
    exact tc_shifts hA (by omega) K (fin p hp he)
  refine x_for r (fun i v σ => v = nI i ∧ i ≤ r ∧ σ = (tput h A (tg t g), w) ∧ m_placeGo g b (r - i) i = m_place g r b) ?_ ?_ ⟨rfl, by omega, rfl, rfl⟩
  · rintro i v σ ⟨rfl, -, rfl, hR⟩ hi self hself
    unfold B_X4_becomesLatest_2
    rw [show r - i = (r - i - 1) + 1 by omega] at hR
    simp only [m_placeGo] at hR
    simp (disch := omega) only [t_gq_0 hA, t_nn, t_ag hA, t_sg hA, i_234, l_234, true_and, hr, a_235, vi_n, c_n]
    refine ⟨fun z => absurd ((nI_leI (by omega) (by omega)).mp z) (by omega), fun _ => ⟨fun z => ?_, fun z => ?_⟩⟩
    · rw [if_pos z] at hR
      refine ⟨fun y => absurd ((nI_eq (by omega) (by omega)).mp y) (by omega), fun _ => ?_⟩
      exact step2 i (by omega) hR.symm True _ (by rw [if_neg (by omega), Int32.add_zero])
    · rw [if_neg z] at hR
      rw [(nI_succ i).symm]
      exact hself _ _ ⟨rfl, by omega, rfl, by rw [show r - (i + 1) = r - i - 1 by omega]; exact hR⟩
  · rintro v σ ⟨rfl, -, rfl, hR⟩ self
    unfold B_X4_becomesLatest_2
    rw [Nat.sub_self] at hR
    simp only [m_placeGo] at hR
    simp (disch := omega) only [t_gq_0 hA, t_nn, t_ag hA, t_sg hA, i_234, l_234, true_and, hr]
    refine ⟨fun _ => ⟨fun _ => ?_, fun y => absurd trivial y⟩, fun z => absurd ((nI_leI (by omega) (by omega)).mpr (Nat.le_refl _)) z⟩
    exact step2 r (by omega) hR.symm True _ (by rw [if_pos rfl, (nI_succ r)])
end T7
