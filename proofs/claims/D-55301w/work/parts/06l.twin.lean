theorem m_mod5 : ∀ b, b < 64 → nI b - nI (b / 4) * (4 : Int32) = nI (b % 4) := by decide +kernel
theorem a_69 (k : Nat) : (69 : Int32) + nI k = nI (69 + k) := nI_add 69 k
theorem a_283 (k : Nat) : (283 : Int32) + nI k = nI (283 + k) := nI_add 283 k
theorem l_4 : ((4 : Int32)).toNatClampNeg = 4 := by decide
theorem i_4 : vp_in (4 : Int32) 357 ↔ True := iff_true_intro (by unfold vp_in; decide)
theorem l_5 : ((5 : Int32)).toNatClampNeg = 5 := by decide
theorem i_5 : vp_in (5 : Int32) 357 ↔ True := iff_true_intro (by unfold vp_in; decide)
theorem l_6 : ((6 : Int32)).toNatClampNeg = 6 := by decide
theorem i_6 : vp_in (6 : Int32) 357 ↔ True := iff_true_intro (by unfold vp_in; decide)
theorem l_16 : ((16 : Int32)).toNatClampNeg = 16 := by decide
theorem i_16 : vp_in (16 : Int32) 357 ↔ True := iff_true_intro (by unfold vp_in; decide)
theorem l_283 : ((283 : Int32)).toNatClampNeg = 283 := by decide
theorem i_283 : vp_in (283 : Int32) 357 ↔ True := iff_true_intro (by unfold vp_in; decide)
theorem l_284 : ((284 : Int32)).toNatClampNeg = 284 := by decide
theorem i_284 : vp_in (284 : Int32) 357 ↔ True := iff_true_intro (by unfold vp_in; decide)
theorem l_290 : ((290 : Int32)).toNatClampNeg = 290 := by decide
theorem i_290 : vp_in (290 : Int32) 357 ↔ True := iff_true_intro (by unfold vp_in; decide)
theorem l_291 : ((291 : Int32)).toNatClampNeg = 291 := by decide
theorem i_291 : vp_in (291 : Int32) 357 ↔ True := iff_true_intro (by unfold vp_in; decide)
theorem l_292 : ((292 : Int32)).toNatClampNeg = 292 := by decide
theorem i_292 : vp_in (292 : Int32) 357 ↔ True := iff_true_intro (by unfold vp_in; decide)
section U3
variable {κ A : Nat → Nat} {h : xH} {t : Nat → Nat → Int32} {g : Nat → Int32} {w : Nat × Nat} {b s l r : Nat}
def m_blk (g : Nat → Int32) (a : Nat) : Nat := (g (73 + a)).toNatClampNeg
/-- what the twin's walk needs of g -/
def TI (g : Nat → Int32) (s l r : Nat) : Prop := (g 234 = nI r ∧ r ≤ 16) ∧ (g 1 = nI s ∧ 1 ≤ s ∧ s ≤ 4) ∧ (g 2 = nI l ∧ l ≤ 4) ∧ ∀ a, a < 16 → ¬ m_ones (g (89 + a)) = 0 → m_blk g a < 16 ∧ g (73 + a) = nI (m_blk g a)
def m_acc (g : Nat → Int32) (b s l r : Nat) : Option (Nat × (Nat → Int32)) := match m_lw g b with
  | some a => some (a, m_touch (m_hits g) a b r (g 0))
  | none => match m_lineFor g b s l with
    | none => none
    | some a => some (a, m_touch (m_misses g b a (m_blk g a) (m_cause g b r s l)) a b r (g 0))
theorem m_lineForGo_lt {N : Nat} : ∀ (n i : Nat) (o : Option Nat) (c : Nat), (∀ c, o = some c → c < N) → i + n ≤ N → m_lineForGo g n i o = some c → c < N := by
  intro n
  induction n with
  | zero => intro i o c ho _ hR; exact ho c hR
  | succ n ih =>
    intro i o c ho hi hR
    simp only [m_lineForGo] at hR
    split at hR
    · cases hR; omega
    · refine ih _ _ c (fun d hd => ?_) (by omega) hR
      have key : ∀ b : Bool, (if b = true then some i else o) = some d → d < N := by
        intro b hb
        cases b with
        | false => exact ho d (by simpa using hb)
        | true => simp at hb; omega
      exact key _ hd
theorem m_lineFor_lt {a : Nat} (h1 : 1 ≤ s) (h4 : s ≤ 4) (hl : l ≤ 4) (h : m_lineFor g b s l = some a) : a < 16 := by
  have hm : b % s < s := Nat.mod_lt _ (by omega)
  exact m_lineForGo_lt (N := 16) l _ none a (fun c hc => by cases hc) (by omega) h
theorem m_acc_lt {a : Nat} {g' : Nat → Int32} (h1 : 1 ≤ s) (h4 : s ≤ 4) (hl : l ≤ 4) (h : m_acc g b s l r = some (a, g')) : a < 16 := by
  unfold m_acc at h
  split at h
  · rename_i k hk; cases h; exact (m_lw_lt hk).1
  · split at h
    · cases h
    · rename_i k hk; cases h; exact m_lineFor_lt h1 h4 hl hk
theorem tc_accesses (hA : tOK κ A) (hT : TI g s l r) (hb : b < 16) (K : Int32 → xH → Prop) (hK : ∀ a g', m_acc g b s l r = some (a, g') → a < 16 → K (nI a) (tput h A (tg t g'))) (hK0 : m_acc g b s l r = none → K (-1) (tput h A (tg (tRef t 2 (nI (b % s))) g))) : P_X4_accesses κ (A 20) (nI b) (tput h A (tg t g), w) K := by
  obtain ⟨⟨hr, hr16⟩, ⟨hs, h1, h4⟩, ⟨hl, hl4⟩, hB⟩ := hT
  have hlt : ∀ a g', m_acc g b s l r = some (a, g') → a < 16 := fun a g' z => m_acc_lt h1 h4 hl4 z
  unfold m_acc at hK hK0 hlt
  cases hw : m_lw g b with
  | some a =>
    rw [hw] at hK
    exact tc_accHit hA hb hw hr hr16 K (hK _ _ rfl (m_lw_lt hw).1)
  | none =>
    rw [hw] at hK hK0 hlt
    unfold P_X4_accesses
    simp only [t_rc hA, true_and]
    refine t_call (t' := tg t g) (r := -1) (fun w K hk => tc_lineWith hA (nI b) K (by rw [tg_0, m_lw_I, hw]; exact hk)) ?_
    simp (disch := omega) only [t_gq_0 hA, t_nn, t_ag hA, t_sg hA, t_rc hA, vi_n, c_n, true_and, a_5, a_69, a_73, a_89, a_105, a_121, a_137, a_153, a_169, a_235, a_251, a_267, a_286, a_293, a_283, a_m4, nI_add, t_l0, i_0, l_1, i_1, l_2, i_2, l_3, i_3, l_4, i_4, l_5, i_5, l_6, i_6, l_16, i_16, l_233, i_233, l_234, i_234, l_235, i_235, l_283, i_283, l_284, i_284, l_285, i_285, l_289, i_289, l_290, i_290, l_291, i_291, l_292, i_292]
    refine ⟨fun _ => ?_, fun z => absurd trivial z⟩
    refine t_call (t' := tg t g) (r := oI (m_lineFor g b s l)) (fun w K hk => tc_lineFor hA hb hs h1 h4 hl hl4 K hk) ?_
    cases hf : m_lineFor g b s l with
    | none =>
      rw [hf] at hK0
      simp (disch := omega) only [t_gq_0 hA, t_nn, t_ag hA, t_sg hA, t_rc hA, vi_n, c_n, true_and, a_5, a_69, a_73, a_89, a_105, a_121, a_137, a_153, a_169, a_235, a_251, a_267, a_286, a_293, a_283, a_m4, nI_add, t_l0, i_0, l_1, i_1, l_2, i_2, l_3, i_3, l_4, i_4, l_5, i_5, l_6, i_6, l_16, i_16, l_233, i_233, l_234, i_234, l_235, i_235, l_283, i_283, l_284, i_284, l_285, i_285, l_289, i_289, l_290, i_290, l_291, i_291, l_292, i_292, hs, m_mods b (by omega) s (by omega) (by omega)]
      refine ⟨fun _ => ⟨nI_ne0 (by omega) (by omega), ?_⟩, fun z => absurd rfl z⟩
      exact t_call (t' := tg (tRef t 2 (nI (b % s))) g) (r := 0) (fun w K hk => tc_refused hA _ _ K hk) (hK0 rfl)
    | some a =>
      rw [hf] at hK hlt
      have ha : a < 16 := hlt _ _ rfl
      have hm := hK _ _ rfl ha
      refine ⟨fun z => absurd z (nI_ne a (by omega)), fun _ => ?_⟩
      simp (disch := omega) only [t_gq_0 hA, t_nn, t_ag hA, t_sg hA, t_rc hA, vi_n, c_n, true_and, a_5, a_69, a_73, a_89, a_105, a_121, a_137, a_153, a_169, a_235, a_251, a_267, a_286, a_293, a_283, a_m4, nI_add, t_l0, i_0, l_1, i_1, l_2, i_2, l_3, i_3, l_4, i_4, l_5, i_5, l_6, i_6, l_16, i_16, l_233, i_233, l_234, i_234, l_235, i_235, l_283, i_283, l_284, i_284, l_285, i_285, l_289, i_289, l_290, i_290, l_291, i_291, l_292, i_292, oI]
      have hc := m_cause_lt g b r s l
      refine t_call (t' := tg t (m_misses g b a (m_blk g a) (m_cause g b r s l))) (r := ()) (fun w K hk => tc_misses hA hb ha hr hr16 hs h4 hl hl4 (hB a ha) K hk) ?_
      have h234 := m_misses_234 g b a (m_blk g a) (m_cause g b r s l) hb ha hc (fun z => (hB a ha z).1)
      simp (disch := omega) only [t_gq_0 hA, t_nn, t_ag hA, t_sg hA, t_rc hA, vi_n, c_n, true_and, a_5, a_69, a_73, a_89, a_105, a_121, a_137, a_153, a_169, a_235, a_251, a_267, a_286, a_293, a_283, a_m4, nI_add, t_l0, i_0, l_1, i_1, l_2, i_2, l_3, i_3, l_4, i_4, l_5, i_5, l_6, i_6, l_16, i_16, l_233, i_233, l_234, i_234, l_235, i_235, l_283, i_283, l_284, i_284, l_285, i_285, l_289, i_289, l_290, i_290, l_291, i_291, l_292, i_292]
      refine t_call (t' := tg t (m_touch (m_misses g b a (m_blk g a) (m_cause g b r s l)) a b r (g 0))) (r := ()) (fun w K hk => tc_becomesLatest hA (r := r) ?_ hr16 K (by simpa only [m_touch] using hk)) hm
      rw [upd_ne (by omega), upd_ne (by omega), upd_ne (by omega), h234]
      exact hr
/-- an order's outcome: refused with reason and detail, or a value and the state then -/
abbrev mO : Type := (Int32 × Int32) ⊕ (Int32 × (Nat → Int32))
def mAns (o : mO) (t : Nat → Nat → Int32) (A : Nat → Nat) (h : xH) (g : Nat → Int32) (K : Int32 → xH → Prop) : Prop := match o with
  | .inl p => K 0 (tput h A (tg (tRef t p.1 p.2) g))
  | .inr p => K p.1 (tput h A (tg (tset t 16 0 0) p.2))
theorem bI_t {c : Bool} (h : c = true) : ¬ bI c = 0 := by rw [h]; decide
theorem m_inI {x : Int32} {c : Nat} (hc : c < 1000) (h : m_in x 0 (nI c) = true) : ∃ k : Nat, x = nI k ∧ k ≤ c := by
  unfold m_in at h
  simp only [Bool.and_eq_true, decide_eq_true_eq] at h
  obtain ⟨k, hk1, hk⟩ := nI_of h.1
  refine ⟨k, hk, ?_⟩
  have h2 := h.2
  rw [hk] at h2
  have h3 : ¬ c < k := fun z => h2 ((nI_ltI (by omega) hk1).mpr z)
  omega
end U3
