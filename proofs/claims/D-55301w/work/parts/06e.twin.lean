section T5
variable {κ A : Nat → Nat} {h : xH} {t : Nat → Nat → Int32} {g : Nat → Int32} {w : Nat × Nat}
def oI (o : Option Nat) : Int32 := match o with
  | none => -1
  | some k => nI k
theorem m_mods : ∀ b, b < 64 → ∀ s, s < 5 → s ≠ 0 → nI b - nI b / nI s * nI s = nI (b % s) := by decide +kernel
theorem nI_ne : ∀ k, k < 64 → ¬ nI k = -1 := by decide +kernel
def m_lineForGo (g : Nat → Int32) : Nat → Nat → Option Nat → Option Nat
  | 0, _, o => o
  | n + 1, i, o => if g (73 + i) = -1 then some i else m_lineForGo g n (i + 1) (if m_canGive g i && (match o with | none => true | some c => m_isAhead g i c) then some i else o)
def m_lineFor (g : Nat → Int32) (b s l : Nat) : Option Nat := m_lineForGo g l (4 * (b % s)) none
theorem tc_lineFor (hA : tOK κ A) {b s l : Nat} (hb : b < 16) (hs : g 1 = nI s) (h1 : 1 ≤ s) (h4 : s ≤ 4) (hl : g 2 = nI l) (hl4 : l ≤ 4) (K : Int32 → xH → Prop) (hK : K (oI (m_lineFor g b s l)) (tput h A (tg t g))) : P_X4_lineFor κ (A 20) (nI b) (tput h A (tg t g), w) K := by
  have hm : b % s < s := Nat.mod_lt _ (by omega)
  have i1 : vp_in (1 : Int32) 357 ↔ True := iff_true_intro (by unfold vp_in; decide)
  have i2 : vp_in (2 : Int32) 357 ↔ True := iff_true_intro (by unfold vp_in; decide)
  have l1 : ((1 : Int32)).toNatClampNeg = 1 := by decide
  have l2 : ((2 : Int32)).toNatClampNeg = 2 := by decide
  unfold P_X4_lineFor
  simp only [t_gq_0 hA, t_nn, t_ag hA, i1, l1, true_and, hs, m_mods b (by omega) s (by omega) (by omega), a_m4]
  refine ⟨nI_ne0 (by omega) (by omega), ?_⟩
  refine x_for l (fun i v σ => σ = (tput h A (tg t g), w) ∧ ∃ o : Option Nat, v = (oI o, nI (4 * (b % s) + i)) ∧ (∀ c, o = some c → c < 16) ∧ i ≤ l ∧ m_lineForGo g (l - i) (4 * (b % s) + i) o = m_lineFor g b s l) ?_ ?_ ⟨rfl, none, rfl, (fun c hc => by cases hc), by omega, rfl⟩
  · rintro i v σ ⟨rfl, o, rfl, ho, hil, hR⟩ hi self hself
    unfold B_X4_lineFor_16
    rw [show l - i = (l - i - 1) + 1 by omega] at hR
    simp only [m_lineForGo] at hR
    simp (disch := omega) only [t_gq_0 hA, t_nn, t_ag hA, i2, l2, true_and, hl, nI_add, a_73, vi_n, c_n, t_rc hA]
    refine ⟨fun z => absurd ((nI_leI (by omega) (by omega)).mp z) (by omega), fun _ => ⟨fun z => ?_, fun z => ?_⟩⟩
    · rw [if_pos z] at hR
      rw [← hR] at hK
      exact hK
    · rw [if_neg z] at hR
      have hnx : nI (4 * (b % s) + i) + 1 = nI (4 * (b % s) + (i + 1)) := (nI_succ _).symm
      have hidx : l - i - 1 = l - (i + 1) := by omega
      have hadd : 4 * (b % s) + i + 1 = 4 * (b % s) + (i + 1) := rfl
      refine t_call (t' := tg t g) (r := bI (m_canGive g (4 * (b % s) + i))) (fun w K hk => tc_canGive hA (by omega) K hk) ?_
      refine ⟨fun y => ?_, fun y => ?_⟩
      · have y := (bI_0 _).mp y
        rw [y, hidx, hadd] at hR
        rw [hnx]
        exact hself _ _ ⟨rfl, o, rfl, ho, by omega, by simpa using hR⟩
      · have y : m_canGive g (4 * (b % s) + i) = true := by
          cases hc : m_canGive g (4 * (b % s) + i) with
          | false => exact absurd ((bI_0 _).mpr hc) y
          | true => rfl
        rw [y, hidx, hadd] at hR
        cases o with
        | none =>
          refine ⟨fun _ => ?_, fun x => absurd rfl x⟩
          rw [hnx]
          exact hself _ _ ⟨rfl, some (4 * (b % s) + i), rfl, (fun c hc => by cases hc; omega), by omega, by simpa using hR⟩
        | some c =>
          refine ⟨fun x => absurd x (nI_ne c (by have := ho c rfl; omega)), fun _ => ?_⟩
          simp (disch := omega) only [t_rc hA, true_and]
          refine t_call (t' := tg t g) (r := bI (m_isAhead g (4 * (b % s) + i) c)) (fun w K hk => tc_isAhead hA (by omega) (ho c rfl) K hk) ?_
          refine ⟨fun u => ?_, fun u => ?_⟩
          · have u := (bI_0 _).mp u
            rw [hnx]
            exact hself _ _ ⟨rfl, some c, rfl, ho, by omega, by simpa [u] using hR⟩
          · have u : m_isAhead g (4 * (b % s) + i) c = true := by
              cases hc : m_isAhead g (4 * (b % s) + i) c with
              | false => exact absurd ((bI_0 _).mpr hc) u
              | true => rfl
            rw [hnx]
            exact hself _ _ ⟨rfl, some (4 * (b % s) + i), rfl, (fun d hd => by cases hd; omega), by omega, by simpa [u] using hR⟩
  · rintro v σ ⟨rfl, o, rfl, ho, -, hR⟩ self
    unfold B_X4_lineFor_16
    rw [Nat.sub_self] at hR
    simp only [m_lineForGo] at hR
    simp (disch := omega) only [t_gq_0 hA, t_nn, t_ag hA, i2, l2, true_and, hl, nI_add]
    refine ⟨fun _ => ?_, fun z => absurd ((nI_leI (by omega) (by omega)).mpr (Nat.le_refl _)) z⟩
    rw [← hR] at hK
    exact hK
end T5
