section U2
variable {κ A : Nat → Nat} {h : xH} {t : Nat → Nat → Int32} {g : Nat → Int32} {w : Nat × Nat}
def m_lw (g : Nat → Int32) (b : Nat) : Option Nat := (List.range 16).find? (fun a => g (73 + a) = nI b)
theorem m_lw_I (g : Nat → Int32) (b : Nat) : m_lineWith g (nI b) = oI (m_lw g b) := by
  unfold m_lineWith m_lw oI
  cases List.find? (fun a => decide (g (73 + a) = nI b)) (List.range 16) <;> rfl
theorem m_lw_lt {g : Nat → Int32} {b a : Nat} (h : m_lw g b = some a) : a < 16 ∧ g (73 + a) = nI b := by
  unfold m_lw at h
  refine ⟨List.mem_range.mp (List.mem_of_find?_eq_some h), ?_⟩
  have := List.find?_some h
  simpa using this
theorem l_285 : ((285 : Int32)).toNatClampNeg = 285 := by decide
theorem i_285 : vp_in (285 : Int32) 357 ↔ True := iff_true_intro (by unfold vp_in; decide)
theorem i_0 : vp_in (0 : Int32) 357 ↔ True := iff_true_intro (by unfold vp_in; decide)
theorem tc_accHit (hA : tOK κ A) {b a r : Nat} (hb : b < 16) (hw : m_lw g b = some a) (hr : g 234 = nI r) (hr16 : r ≤ 16) (K : Int32 → xH → Prop) (hK : K (nI a) (tput h A (tg t (m_touch (m_hits g) a b r (g 0))))) : P_X4_accesses κ (A 20) (nI b) (tput h A (tg t g), w) K := by
  have ha := (m_lw_lt hw).1
  unfold P_X4_accesses
  simp only [t_rc hA, true_and]
  refine t_call (t' := tg t g) (r := nI a) (fun w K hk => tc_lineWith hA (nI b) K (by rw [tg_0, m_lw_I, hw]; exact hk)) ?_
  simp (disch := omega) only [t_gq_0 hA, t_nn, t_ag hA, i_0, t_l0, true_and]
  refine ⟨fun z => absurd z (nI_ne a (by omega)), fun _ => ?_⟩
  simp (disch := omega) only [t_gq_0 hA, t_nn, t_ag hA, t_sg hA, i_0, t_l0, i_285, l_285, a_121, a_153, a_251, vi_n, c_n, true_and, t_rc hA]
  refine t_call (t' := tg t (m_touch (m_hits g) a b r (g 0))) (r := ()) (fun w K hk => tc_becomesLatest hA (r := r) ?_ hr16 K (by simpa only [m_touch, m_hits] using hk)) hK
  rw [upd_ne (by omega), upd_ne (by omega), upd_ne (by omega), upd_ne (by omega), upd_ne (by omega)]
  exact hr
end U2
