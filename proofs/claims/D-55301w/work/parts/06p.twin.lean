section U7
variable {κ A : Nat → Nat} {h : xH} {t : Nat → Nat → Int32} {g : Nat → Int32} {w : Nat × Nat} {s l r c : Nat}
/-- a change that checks ahead of its copy -/
def sAns (o : mO) (t : Nat → Nat → Int32) (c : Nat) (A : Nat → Nat) (h : xH) (g : Nat → Int32) (K : Int32 → xH → Prop) : Prop := match o with
  | .inl p => K 0 (tput h A (tg (tRef t p.1 p.2) g))
  | .inr p => K p.1 (tput h A (tg (t_done t g c) p.2))
/-- done, kept -/
theorem tc_doneKept (hA : tOK κ A) (hz : z357 g) (hc : t 3 0 = nI c) (hc8 : c ≤ 8) {g' : Nat → Int32} {v : Int32} (K : Int32 → xH → Prop) (hK : K v (tput h A (tg (t_done t g c) g'))) :
    (xrc (tput h A (tg (tsk t 1 g) g'), w) (A 20) 10 ∧ xcall (fun τ L => P_X4_done κ (A 20) v τ L) (tput h A (tg (tsk t 1 g) g'), w) fun v12 σ13 => xrc σ13 (A 20) 10 ∧ xcall (fun τ L => P_X4_kept κ (A 20) v12 τ L) σ13 fun v14 σ15 => K v14 σ15.1) := by
  simp only [t_rc hA, true_and]
  refine t_call (t' := tg (tset (tsk t 1 g) 16 0 0) g') (r := v) (fun w K hk => tc_done hA _ K hk) ?_
  simp only [t_rc hA, true_and]
  exact t_call (r := v) (t' := tg (t_done t g c) g') (fun w K hk => tc_keptA (o := .inr (v, g')) hA hz hc hc8 K hk _ _ _ ⟨rfl, rfl, rfl⟩) hK
def m_rule (g : Nat → Int32) (x : Int32) : mO := if m_in x 0 3 then .inr (g 3, upd g 3 x) else .inl (1, x)
theorem tc_rule (hA : tOK κ A) (hz : z357 g) (hz1 : z357 (t 1)) (hc : t 3 0 = nI c) (hc8 : c ≤ 8) (x : Int32) (K : Int32 → xH → Prop) (hK : sAns (m_rule g x) t c A h g K) : P_X4_rule κ (A 20) x (tput h A (tg t g), w) K := by
  unfold P_X4_rule
  unfold m_rule at hK
  refine t_pure (r := bI (m_in x 0 3)) (fun τ K hk => tc_in x _ _ τ K hk) ?_
  cases hi : m_in x 0 3 with
  | false =>
    rw [hi] at hK
    refine ⟨fun _ => ?_, fun z => absurd rfl z⟩
    simp only [t_rc hA, true_and]
    exact t_call (t' := tg (tRef t 1 x) g) (r := 0) (fun w K hk => tc_refused hA _ _ K hk) hK
  | true =>
    rw [hi] at hK
    refine ⟨fun z => absurd z (by decide), fun _ => ?_⟩
    simp only [t_rc hA, true_and]
    refine t_call (r := ()) (fun w K hk => tc_looksBack hA hz hz1 K hk) ?_
    simp only [t_gq_0 hA, t_nn, t_ag hA, t_sg hA, i_3, l_3, true_and]
    exact tc_doneKept hA hz hc hc8 K hK
def m_thr (g : Nat → Int32) (x : Int32) : Nat → Int32 := upd g 4 (if x = 0 then 0 else 1)
theorem tc_through (hA : tOK κ A) (hz : z357 g) (hz1 : z357 (t 1)) (hc : t 3 0 = nI c) (hc8 : c ≤ 8) (x : Int32) (K : Int32 → xH → Prop) (hK : K (m_dirty (m_thr g x)) (tput h A (tg (t_done t g c) (m_thr g x)))) : P_X4_through κ (A 20) x (tput h A (tg t g), w) K := by
  unfold P_X4_through
  unfold m_thr at hK
  simp only [t_rc hA, true_and]
  refine t_call (r := ()) (fun w K hk => tc_looksBack hA hz hz1 K hk) ?_
  simp only [t_gq_0 hA]
  refine ⟨fun h1 => ?_, fun h1 => ?_⟩
  · simp only [h1, if_true] at hK
    simp only [t_nn, t_sg hA, i_4, l_4, true_and, t_rc hA]
    refine t_call (r := m_dirty (upd g 4 0)) (fun w K hk => tc_dirtyWords hA K hk) ?_
    exact tc_doneKept hA hz hc hc8 K hK
  · simp only [h1, if_false] at hK
    simp only [t_nn, t_sg hA, i_4, l_4, true_and, t_rc hA]
    refine t_call (r := m_dirty (upd g 4 1)) (fun w K hk => tc_dirtyWords hA K hk) ?_
    exact tc_doneKept hA hz hc hc8 K hK
def m_empties (g : Nat → Int32) : Nat → (Nat → Int32)
  | 0 => g
  | n + 1 => m_emptiesLine (m_empties g n) n
theorem tc_empties (hA : tOK κ A) (K : Unit → xH → Prop) (hK : K () (tput h A (tg t (m_empties g 16)))) : P_X4_empties κ (A 20) (tput h A (tg t g), w) K := by
  unfold P_X4_empties
  refine x_for 16 (fun i v σ => v = nI i ∧ i ≤ 16 ∧ ∃ w, σ = (tput h A (tg t (m_empties g i)), w)) ?_ ?_ ⟨rfl, by omega, _, rfl⟩
  · rintro i v σ ⟨rfl, -, w, rfl⟩ hi self hself
    unfold B_X4_empties_2
    refine ⟨fun z => absurd ((nI_leI (a := 16) (b := i) (by decide) (by omega)).mp z) (by omega), fun _ => ?_⟩
    simp only [t_rc hA, true_and]
    refine t_call (r := ()) (fun w K hk => tc_emptiesLine hA hi K hk) ?_
    rw [(nI_succ i).symm]
    exact hself _ _ ⟨rfl, by omega, _, rfl⟩
  · rintro v σ ⟨rfl, -, w, rfl⟩ self
    unfold B_X4_empties_2
    exact ⟨fun _ => hK, fun z => absurd ((nI_leI (a := 16) (b := 16) (by decide) (by omega)).mpr (Nat.le_refl _)) z⟩
def m_zl (g : Nat → Int32) : Nat → (Nat → Int32)
  | 0 => g
  | n + 1 => upd (m_zl g n) (235 + n) 0
def m_anew (g : Nat → Int32) (x y : Int32) : Nat → Int32 := m_zl (upd (upd (upd (upd (m_empties g 16) 1 x) 2 y) 233 0) 234 0) 16
def m_shape (g : Nat → Int32) (x y : Int32) (s l : Nat) : mO :=
  if m_in x 1 4 then if m_in y 1 4 then .inr ((m_wAll (0, g) l s).1, m_anew (m_wAll (0, g) l s).2 x y) else .inl (1, y) else .inl (1, x)
theorem tc_shape (hA : tOK κ A) (hT : TI g s l r) (hz : z357 g) (hz1 : z357 (t 1)) (hc : t 3 0 = nI c) (hc8 : c ≤ 8) (x y : Int32) (K : Int32 → xH → Prop) (hK : sAns (m_shape g x y s l) t c A h g K) : P_X4_shape κ (A 20) x y (tput h A (tg t g), w) K := by
  unfold P_X4_shape
  unfold m_shape at hK
  refine t_pure (r := bI (m_in x 1 4)) (fun τ K hk => tc_in x _ _ τ K hk) ?_
  cases hi : m_in x 1 4 with
  | false =>
    rw [hi] at hK
    refine ⟨fun _ => ?_, fun z => absurd rfl z⟩
    simp only [t_rc hA, true_and]
    exact t_call (t' := tg (tRef t 1 x) g) (r := 0) (fun w K hk => tc_refused hA _ _ K hk) hK
  | true =>
    rw [hi] at hK
    refine ⟨fun z => absurd z (by decide), fun _ => ?_⟩
    refine t_pure (r := bI (m_in y 1 4)) (fun τ K hk => tc_in y _ _ τ K hk) ?_
    cases hj : m_in y 1 4 with
    | false =>
      rw [hj] at hK
      refine ⟨fun _ => ?_, fun z => absurd rfl z⟩
      simp only [t_rc hA, true_and]
      exact t_call (t' := tg (tRef t 1 y) g) (r := 0) (fun w K hk => tc_refused hA _ _ K hk) hK
    | true =>
      rw [hj] at hK
      refine ⟨fun z => absurd z (by decide), fun _ => ?_⟩
      simp only [t_rc hA, true_and]
      refine t_call (r := ()) (fun w K hk => tc_looksBack hA hz hz1 K hk) ?_
      simp only [t_rc hA, true_and]
      refine t_call (r := (m_wAll (0, g) l s).1) (fun w K hk => tc_writesAllBack hA hT K hk) ?_
      simp only [t_rc hA, true_and]
      refine t_call (r := ()) (fun w K hk => tc_empties hA K hk) ?_
      simp only [t_gq_0 hA, t_nn, t_sg hA, i_1, i_2, i_233, i_234, l_1, l_2, l_233, l_234, true_and]
      refine x_for 16 (fun i v σ => v = nI i ∧ i ≤ 16 ∧ ∃ w, σ = (tput h A (tg (tsk t 1 g) (m_zl (upd (upd (upd (upd (m_empties (m_wAll (0, g) l s).2 16) 1 x) 2 y) 233 0) 234 0) i)), w)) ?_ ?_ ⟨rfl, by omega, _, rfl⟩
      · rintro i v σ ⟨rfl, -, w, rfl⟩ hi self hself
        unfold B_X4_shape_80
        refine ⟨fun z => absurd ((nI_leI (a := 16) (b := i) (by decide) (by omega)).mp z) (by omega), fun _ => ?_⟩
        simp (disch := omega) only [t_gq_0 hA, t_nn, t_ag hA, t_sg hA, t_rc hA, vi_n, c_n, true_and, a_5, a_69, a_73, a_89, a_105, a_121, a_137, a_153, a_169, a_235, a_251, a_267, a_286, a_293, a_283, a_m4, nI_add, t_l0, i_0, l_1, i_1, l_2, i_2, l_3, i_3, l_4, i_4, l_5, i_5, l_6, i_6, l_16, i_16, l_233, i_233, l_234, i_234, l_235, i_235, l_283, i_283, l_284, i_284, l_285, i_285, l_289, i_289, l_290, i_290, l_291, i_291, l_292, i_292]
        rw [(nI_succ i).symm]
        exact hself _ _ ⟨rfl, by omega, _, rfl⟩
      · rintro v σ ⟨rfl, -, w, rfl⟩ self
        unfold B_X4_shape_80
        refine ⟨fun _ => ?_, fun z => absurd ((nI_leI (a := 16) (b := 16) (by decide) (by omega)).mpr (Nat.le_refl _)) z⟩
        exact tc_doneKept hA hz hc hc8 K hK
end U7
