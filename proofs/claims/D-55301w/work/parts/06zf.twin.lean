section U22
variable {κ A : Nat → Nat} {h : xH} {t : Nat → Nat → Int32} {w : Nat × Nat} {g g' g1 : Nat → Int32} {T T' T1 N s l r a b c n : Nat} {D : Nat → Int32}
def m_runGo (D : Nat → Int32) (s l : Nat) : Nat → Nat → (Nat → Int32) → (Nat × Int32 × Int32) ⊕ (Nat → Int32)
  | 0, _, g => .inr g
  | n + 1, k, g => match m_do D (3 * k) g s l (rN g) with
    | .inl p => .inl (k, p)
    | .inr p => m_runGo D s l n (k + 1) p.2
def t_ref7 (t : Nat → Nat → Int32) (k : Nat) (p : Int32 × Int32) : Nat → Nat → Int32 := tset (tset (tset (tset (tset t 10 0 7) 11 0 (nI k)) 12 0 p.1) 13 0 p.2) 16 0 2
theorem t_ref7_eq (t : Nat → Nat → Int32) (v : Int32) (k : Nat) (p : Int32 × Int32) : tset (tset (tset (tset (tset (tRef (tset t 16 0 v) p.1 p.2) 12 0 p.1) 13 0 p.2) 10 0 7) 11 0 (nI k)) 16 0 2 = t_ref7 t k p := by
  funext k1 j
  simp only [t_ref7, tRef, tset]
  by_cases h0 : j = 0
  · by_cases h1 : k1 = 10 <;> by_cases h2 : k1 = 11 <;> by_cases h3 : k1 = 12 <;> by_cases h4 : k1 = 13 <;> by_cases h5 : k1 = 16 <;> simp [h0, h1, h2, h3, h4, h5]
  · simp [h0]
theorem tset_self (t : Nat → Nat → Int32) (k i : Nat) : tset t k i (t k i) = t := by
  funext k1 j
  simp only [tset]
  by_cases h1 : k1 = k
  · by_cases h2 : j = i
    · simp [h1, h2]
    · simp [h1, h2]
  · simp [h1]
theorem tset_tset (t : Nat → Nat → Int32) (k i : Nat) (u v : Int32) : tset (tset t k i u) k i v = tset t k i v := by
  funext k1 j
  simp only [tset]
  by_cases h1 : k1 = k <;> by_cases h2 : j = i <;> simp [h1, h2]
theorem tset_tRef (t : Nat → Nat → Int32) (v a b : Int32) : tRef (tset t 16 0 v) a b = tRef t a b := by
  funext k1 j
  simp only [tRef, tset]
  by_cases h0 : j = 0
  · by_cases h1 : k1 = 16 <;> simp [h0, h1]
  · simp [h0]
theorem tset_t_keep (t : Nat → Nat → Int32) (g : Nat → Int32) (v : Int32) : t_keep (tset (tset (tsk t 1 g) 16 0 v) 16 0 0) c = t_done t g c := by
  unfold t_done
  rw [tset_tset]
def kRun (o : (Nat × Int32 × Int32) ⊕ (Nat → Int32)) (n : Nat) (t : Nat → Nat → Int32) (c : Nat) (A : Nat → Nat) (h : xH) (g : Nat → Int32) (K : Int32 → xH → Prop) : Prop := match o with
  | .inl p => K 0 (tput h A (tg (t_ref7 (tsk t 1 g) p.1 p.2) g))
  | .inr g' => K (nI n) (tput h A (tg (t_done t g c) g'))
theorem tc_runGo (hA : tOK κ A) (hz : z357 g) (hc : t 3 0 = nI c) (hc8 : c ≤ 8) (hn : n ≤ 60) (hT : T < 2 ^ 27) (hn0 : 0 < n) (h0 : GI g T N s l r) (K : Int32 → xH → Prop) (hK : kRun (m_runGo (t 19) s l n 0 g) n t c A h g K) :
    xwhile (B_X4_run_32 κ K (fun e5 σ6 => xgi σ6 (A 20) 10 10 fun v7 => xpi κ σ6 (A 20) 10 12 v7 fun σ8 => xgi σ8 (A 20) 10 11 fun v9 => xpi κ σ8 (A 20) 10 13 v9 fun σ10 => xpi κ σ10 (A 20) 10 10 (7 : Int32) fun σ11 => xpi κ σ11 (A 20) 10 11 e5 fun σ12 => xpi κ σ12 (A 20) 10 16 (2 : Int32) fun σ13 => xrc σ13 (A 20) 10 ∧ xcall (fun τ L => P_X4_kept κ (A 20) (0 : Int32) τ L) σ13 fun v14 σ15 => K v14 σ15.1) (A 20) (nI n)) (0 : Int32) (tput h A (tg (tsk t 1 g) g), w) := by
  refine x_for n (fun i v σ => v = nI i ∧ i ≤ n ∧ ∃ (w : Nat × Nat) (u : Int32) (gi : Nat → Int32) (Ti Ni ri : Nat), σ = (tput h A (tg (tset (tsk t 1 g) 16 0 u) gi), w) ∧ GI gi Ti Ni s l ri ∧ Ti ≤ T + 200 * i ∧ m_runGo (t 19) s l (n - i) i gi = m_runGo (t 19) s l n 0 g ∧ (0 < i → u = 0)) ?_ ?_ ⟨rfl, by omega, w, t 16 0, g, T, N, r, by rw [show tset (tsk t 1 g) 16 0 (t 16 0) = tsk t 1 g from tset_self (tsk t 1 g) 16 0], h0, by omega, rfl, fun z => absurd z (Nat.lt_irrefl _)⟩
  · rintro i v σ ⟨rfl, -, w, u, gi, Ti, Ni, ri, rfl, hGI, hTi, hR, -⟩ hi self hself
    unfold B_X4_run_32
    have e3 : (3 : Int32) * nI i = nI (3 * i) := nI_mul 3 i
    rw [show n - i = (n - (i + 1)) + 1 by omega] at hR
    simp only [m_runGo] at hR
    rw [hGI.rr] at hR
    refine ⟨fun z => absurd ((nI_leI (by omega) (by omega)).mp z) (by omega), fun _ => ?_⟩
    simp only [t_rc hA, true_and, e3]
    have e19 : tset (tsk t 1 g) 16 0 u 19 = t 19 := rfl
    cases ho : m_do (t 19) (3 * i) gi s l ri with
    | inr p =>
      rw [ho] at hR
      refine t_call (t' := tg (tset (tsk t 1 g) 16 0 0) p.2) (r := p.1) (fun w K hk => tc_does hA hGI.TI (by omega) K (by rw [e19, ho]; show K p.1 (tput h A (tg (tset (tset (tsk t 1 g) 16 0 u) 16 0 0) p.2)); rw [tset_tset]; exact hk)) ?_
      rw [t_gi_16 hA]
      refine ⟨fun _ => ?_, fun z => absurd (by simp [tg, tset]) z⟩
      obtain ⟨T', N', r', t1, t2, h'⟩ := hGI.do (by omega) ho
      rw [(nI_succ i).symm]
      exact hself _ _ ⟨rfl, by omega, _, 0, _, T', N', r', rfl, h', by omega, hR, fun _ => rfl⟩
    | inl p =>
      rw [ho] at hR
      rw [← hR] at hK
      refine t_call (t' := tg (tRef (tset (tsk t 1 g) 16 0 u) p.1 p.2) gi) (r := 0) (fun w K hk => tc_does hA hGI.TI (by omega) K (by rw [e19, ho]; exact hk)) ?_
      rw [t_gi_16 hA]
      refine ⟨fun z => absurd (show (1 : Int32) = 0 from z) (by decide), fun _ => ?_⟩
      have q10 : tg (tRef (tset (tsk t 1 g) 16 0 u) p.1 p.2) gi 10 0 = p.1 := rfl
      have q11 : tset (tg (tRef (tset (tsk t 1 g) 16 0 u) p.1 p.2) gi) 12 0 p.1 11 0 = p.2 := rfl
      rw [t_gi_10 hA, q10, t_pi_12 hA, t_gi_11 hA, q11, t_pi_13 hA, t_pi_10 hA, t_pi_11 hA, t_pi_16 hA, t_rc hA, true_and]
      rw [tg_setk _ _ (by decide), tg_setk _ _ (by decide), tg_setk _ _ (by decide), tg_setk _ _ (by decide), tg_setk _ _ (by decide), t_ref7_eq]
      exact t_call (t' := tg (t_ref7 (tsk t 1 g) i p) g) (r := 0) (fun w K hk => tc_kept1 hA hGI.z (by exact hz) (by show ¬ (2 : Int32) = 0; decide) 0 K hk) hK
  · rintro v σ ⟨rfl, -, w, u, gi, Ti, Ni, ri, rfl, hGI, hTi, hR, hu⟩ self
    unfold B_X4_run_32
    rw [Nat.sub_self] at hR
    simp only [m_runGo] at hR
    rw [← hR] at hK
    have hu := hu hn0
    subst hu
    refine ⟨fun _ => ?_, fun z => absurd ((nI_leI (by omega) (by omega)).mpr (Nat.le_refl _)) z⟩
    simp only [t_rc hA, true_and]
    refine t_call (t' := tg (tset (tsk t 1 g) 16 0 0) gi) (r := nI n) (fun w K hk => tc_done hA _ K (by rw [tset_tset]; exact hk)) ?_
    simp only [t_rc hA, true_and]
    exact t_call (r := nI n) (t' := tg (t_done t g c) gi) (fun w K hk => tc_keptA (o := .inr (nI n, gi)) hA hz hc hc8 K hk _ _ _ ⟨rfl, rfl, rfl⟩) hK
theorem r_text_pos (f : Nat → Int32) : ∀ fuel m q D, 0 < fuel → m < (r_text f n fuel m q D).1 := by
  intro fuel
  induction fuel with
  | zero => intro m q D hf; exact absurd hf (Nat.lt_irrefl _)
  | succ fuel ih =>
    intro m q D _
    simp only [r_text]
    split
    · rcases Nat.eq_zero_or_pos fuel with z | z
      · subst z
        exact Nat.lt_succ_self _
      · exact Nat.lt_trans (Nat.lt_succ_self _) (ih (m + 1) _ _ z)
    · exact Nat.lt_succ_self _
theorem t_read_tg : t_read (tg t g) n = tg (t_read t n) g := by
  have e7 : tg t g 7 = t 7 := rfl
  have e19 : tg t g 19 = t 19 := rfl
  unfold t_read
  rw [e7, e19]
  funext k j
  simp only [tset, tQ, tg]
  by_cases h1 : k = 0
  · simp [h1]
  · simp [h1, tset, tQ]
def r_bad (t : Nat → Nat → Int32) (n : Nat) : Bool := (r_T (t 7) n (t 19)).2.1.2 || decide ((r_T (t 7) n (t 19)).2.1.1 < n)
theorem tc_run (hA : tOK κ A) (hW : ∀ t, kW κ (tput h A t)) (h8 : t 8 0 = nI n) (hn : n ≤ 59) (hz1 : z357 (t 1)) (hc : t 3 0 = nI c) (hc8 : c ≤ 8) (hT : T < 2 ^ 27) (h0 : GI g T N s l r) (K : Int32 → xH → Prop)
    (hK : if r_bad t n then K 0 (tput h A (tg (tset (tset (t_read t n) 9 0 (nI (r_T (t 7) n (t 19)).2.1.1)) 16 0 1) g)) else kRun (m_runGo (r_T (t 7) n (t 19)).2.2 s l (r_T (t 7) n (t 19)).1 0 g) (r_T (t 7) n (t 19)).1 (t_read t n) c A h g K) : P_X4_run κ (A 20) (tput h A (tg t g), w) K := by
  unfold P_X4_run
  simp only [t_rc hA, true_and]
  have hm0 : 0 < (r_T (t 7) n (t 19)).1 := r_text_pos (t 7) 60 0 _ _ (by omega)
  have hm60 : (r_T (t 7) n (t 19)).1 ≤ 60 := by
    have key : ∀ fuel m q D, (r_text (t 7) n fuel m q D).1 ≤ m + fuel := by
      intro fuel
      induction fuel with
      | zero => intro m q D; exact Nat.le_refl _
      | succ fuel ih =>
        intro m q D
        simp only [r_text]
        split
        · have := ih (m + 1) ((r_order (t 7) n q D (3 * m)).1.1 + 1, false) (r_order (t 7) n q D (3 * m)).2
          omega
        · show m + 1 ≤ _
          omega
    have := key 60 0 (0, false) (t 19)
    unfold r_T
    omega
  refine t_call (t' := tg (t_read t n) g) (r := nI (r_T (t 7) n (t 19)).1) (fun w K hk => tc_readsText hA hW (t := tg t g) h8 hn K (fun _ => by rw [t_read_tg]; exact hk)) ?_
  have e18 : tg (t_read t n) g 18 0 = bI (r_bad t n) := rfl
  have e17 : tg (t_read t n) g 17 0 = nI (r_T (t 7) n (t 19)).2.1.1 := rfl
  rw [t_gi_18 hA, e18]
  refine ⟨fun z => ?_, fun z => ?_⟩
  · have z := (bI_0 _).mp z
    rw [z] at hK
    simp only [t_rc hA, true_and]
    have hc2 : t_read t n 3 0 = nI c := hc
    have hz12 : z357 (t_read t n 1) := hz1
    refine t_call (r := ()) (fun w K hk => tc_looksBack hA h0.z hz12 K hk) ?_
    rw [if_neg (by decide)] at hK
    exact tc_runGo hA h0.z hc2 hc8 hm60 hT hm0 h0 K hK
  · have z := bI_c z
    rw [z] at hK
    rw [t_gi_17 hA, e17, t_pi_9 hA, tg_setk _ _ (by decide)]
    rw [if_pos rfl] at hK
    exact tc_qF hA K hK
end U22
