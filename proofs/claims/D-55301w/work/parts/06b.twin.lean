-- the twin's small methods
theorem xw_go {τ : Type} {B : (τ → xS → Prop) → τ → xS → Prop} {v : τ} {σ : xS} (n : Nat) (h : xloop B n v σ) : xwhile B v σ := ⟨n, h⟩
/-- a loop that counts i = 0 .. n -/
theorem x_for {τ : Type} {B : (τ → xS → Prop) → τ → xS → Prop} (n : Nat) (Inv : Nat → τ → xS → Prop) (hs : ∀ i v σ, Inv i v σ → i < n → ∀ self : τ → xS → Prop, (∀ v' σ', Inv (i + 1) v' σ' → self v' σ') → B self v σ) (hf : ∀ v σ, Inv n v σ → ∀ self : τ → xS → Prop, B self v σ) {v : τ} {σ : xS} (h : Inv 0 v σ) : xwhile B v σ := by
  have key : ∀ k i v σ, i + k = n → Inv i v σ → xloop B (k + 1) v σ := by
    intro k
    induction k with
    | zero => intro i v σ e hI; obtain rfl : i = n := by omega
              exact hf v σ hI _
    | succ k ih => intro i v σ e hI; exact hs i v σ hI (by omega) _ (fun v' σ' hI' => ih (i + 1) v' σ' (by omega) hI')
  exact ⟨n + 1, key n 0 v σ (by omega) h⟩
def m_ones (s : Int32) : Int32 := (((0 + ((s >>> ((0 : Int32) &&& 31)) &&& 1)) + ((s >>> ((1 : Int32) &&& 31)) &&& 1)) + ((s >>> ((2 : Int32) &&& 31)) &&& 1)) + ((s >>> ((3 : Int32) &&& 31)) &&& 1)
theorem tc_ones {κ : Nat → Nat} (s : Int32) (σ : xS) (K : Int32 → xH → Prop) (hK : K (m_ones s) σ.1) : P_X4_ones κ s σ K := by
  refine xw_go 5 ?_
  simp only [xloop, B_X4_ones_4]
  refine ⟨fun h => absurd h (by decide), fun _ => ⟨fun h => absurd h (by decide), fun _ => ⟨fun h => absurd h (by decide), fun _ => ⟨fun h => absurd h (by decide), fun _ => ⟨fun _ => hK, fun h => absurd h (by decide)⟩⟩⟩⟩⟩
section T2
variable {κ A : Nat → Nat} {h : xH} {t : Nat → Nat → Int32} {w : Nat × Nat}
def m_lineWith (g : Nat → Int32) (b : Int32) : Int32 := match (List.range 16).find? (fun a => g (73 + a) = b) with
  | some a => nI a
  | none => -1
theorem t_ix {c : Int32} {n k : Nat} (hc : c = nI n) (hn : n + k < 2 ^ 31) : (c + nI k).toNatClampNeg = n + k := by
  rw [hc, nI_add]
  exact nI_clamp hn
theorem t_in {c : Int32} {n k N : Nat} (hc : c = nI n) (hn : n + k < N) (hN : N < 2 ^ 31) : vp_in (c + nI k) N := by
  rw [hc, nI_add]
  exact nI_in hn hN
theorem m_find {p : Nat → Bool} : ∀ (n i : Nat), (∀ j, j < i → p j = false) → i ≤ n → (List.range n).find? p = ((List.range (n - i)).map (· + i)).find? p := by
  intro n i h hi
  have e : List.range n = List.range i ++ (List.range (n - i)).map (· + i) := by
    have := List.range_add (n := i) (m := n - i)
    rw [show i + (n - i) = n by omega] at this
    rw [this]
    congr 1
    simp only [Nat.add_comm]
  rw [e, List.find?_append]
  have h0 : (List.range i).find? p = none := by
    rw [List.find?_eq_none]
    intro x hx
    rw [List.mem_range] at hx
    rw [h x hx]
    decide
  rw [h0]
  rfl
theorem m_hit {p : Nat → Bool} {n i : Nat} (h : ∀ j, j < i → p j = false) (hi : i < n) (hp : p i = true) : (List.range n).find? p = some i := by
  rw [m_find n i h (Nat.le_of_lt hi)]
  rw [show n - i = (n - i - 1) + 1 by omega, List.range_succ_eq_map]
  simp [hp]
theorem tc_lineWith (hA : tOK κ A) (b : Int32) (K : Int32 → xH → Prop) (hK : K (m_lineWith (t 0) b) (tput h A t)) : P_X4_lineWith κ (A 20) b (tput h A t, w) K := by
  unfold P_X4_lineWith
  refine xwhile_of (fun v σ => σ = (tput h A t, w) ∧ ∃ i : Nat, v = nI i ∧ i ≤ 16 ∧ ∀ j, j < i → t 0 (73 + j) ≠ b) (fun v _ => 16 - v.toNatClampNeg) ?_ ⟨rfl, 0, rfl, by omega, fun j hj => absurd hj (Nat.not_lt_zero _)⟩
  rintro v σ ⟨rfl, i, rfl, hi, hj⟩ self hself
  unfold B_X4_lineWith_2
  refine ⟨fun h16 => ?_, fun h16 => ?_⟩
  · have h16 : i = 16 := by
      have := (nI_leI (a := 16) (b := i) (by decide) (by omega)).mp h16
      omega
    have hf : m_lineWith (t 0) b = -1 := by
      unfold m_lineWith
      rw [List.find?_eq_none.mpr]
      intro x hx
      rw [List.mem_range] at hx
      simp [hj x (by omega)]
    rw [hf] at hK
    exact hK
  · have h16 : i < 16 := by
      have h1 : ¬ 16 ≤ i := fun z => h16 ((nI_leI (a := 16) (b := i) (by decide) (by omega)).mpr z)
      omega
    simp only [t_gq_0 hA, t_nn, t_ai_0 hA]
    refine ⟨t_in (n := 73) rfl (by omega) (by decide), ?_⟩
    rw [t_ix (c := 73) (n := 73) (k := i) rfl (by omega)]
    refine ⟨fun hb => ?_, fun hb => ?_⟩
    · have hf : m_lineWith (t 0) b = nI i := by
        unfold m_lineWith
        rw [m_hit (i := i) (fun j hj' => by simp [hj j hj']) h16 (by simp [hb])]
      rw [hf] at hK
      exact hK
    · rw [show nI i + 1 = nI (i + 1) from (nI_succ i).symm]
      refine hself _ _ ⟨rfl, i + 1, rfl, by omega, fun j hj' => ?_⟩ ?_
      · rcases Nat.lt_succ_iff_lt_or_eq.mp hj' with h1 | h1
        · exact hj j h1
        · rw [h1]; exact hb
      · rw [nI_clamp (by omega), nI_clamp (by omega)]
        omega
end T2
