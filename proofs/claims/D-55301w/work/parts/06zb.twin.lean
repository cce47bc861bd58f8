section U18
variable {g g' g1 : Nat → Int32} {T T' T1 N s l r a b : Nat}
theorem m_place_15 (hr : r ≤ 16) (hb : b < 16) (h : GR g r) : m_place g r b ≤ 15 := by
  have h1 := (GR.latest hr hb h).2
  have h2 := m_place_le g r b
  unfold m_r at h1
  split at h1 <;> omega
theorem m_latest_o' (hr : r ≤ 16) (hb : b < 16) (h : GR g r) {j : Nat} (hj : j < 234 ∨ 251 ≤ j) : m_latest g r b j = g j := by
  have := m_place_15 hr hb h
  simp only [m_latest]
  rw [upd_ne (by omega)]
  unfold m_sh
  rw [if_neg (by omega), upd_ne (by omega)]
def m_tc (g : Nat → Int32) (a b : Nat) (v : Int32) : Nat → Int32 := upd (upd (upd g (121 + a) v) (153 + a) (g (153 + a) + 1)) (251 + b) (g (251 + b) + 1)
theorem m_touch_eq (ha : a < 16) (hb : b < 16) (v : Int32) : m_touch g a b r v = m_latest (m_tc g a b v) r b := by
  simp only [m_touch, m_tc]
  rw [upd_ne (show 153 + a ≠ 121 + a by omega), upd_ne (show 251 + b ≠ 153 + a by omega), upd_ne (show 251 + b ≠ 121 + a by omega)]
theorem GI.touch (ha : a < 16) (hb : b < 16) (hT : T < T1) (hA : GA g1 s l r) (hG : GT g1 T1) (hL : ∀ c, c < 16 → c ≠ a → LOK g1 T s l c)
    (hl : ∃ d y n : Nat, g1 (73 + a) = nI b ∧ a / 4 = b % s ∧ a % 4 < l ∧ d < 16 ∧ g1 (89 + a) = nI d ∧ (g1 (105 + a) = 0 ∨ g1 (105 + a) = 1) ∧ y < T1 ∧ g1 (137 + a) = nI y ∧ n ≤ T ∧ g1 (153 + a) = nI n)
    (hD1 : ∀ c, c < 16 → c ≠ a → g1 (73 + c) ≠ -1 → g1 (73 + c) ≠ nI b ∧ g1 (137 + c) ≠ g1 (137 + a)) (hD2 : ∀ c d, c < 16 → d < 16 → c ≠ d → c ≠ a → d ≠ a → g1 (73 + c) ≠ -1 → g1 (73 + d) ≠ -1 → g1 (73 + c) ≠ g1 (73 + d) ∧ g1 (121 + c) ≠ g1 (121 + d) ∧ g1 (137 + c) ≠ g1 (137 + d))
    (hR : GR g1 r) (hC : ∀ b, b < 16 → (∃ n, n ≤ N ∧ g1 (251 + b) = nI n) ∧ ∃ n, n ≤ N + 1 ∧ g1 (267 + b) = nI n) (hT1 : T1 < 2 ^ 30) : ∃ r', GI (m_touch g1 a b r (nI T)) T1 (N + 1) s l r' := by
  have hr16 := hA.1.2
  rw [m_touch_eq ha hb]
  have hR5 : GR (m_tc g1 a b (nI T)) r := GR.congr (fun i hi => by unfold m_tc; rw [upd_ne (by omega), upd_ne (by omega), upd_ne (by omega)]) hR
  obtain ⟨hR6, hr'⟩ := GR.latest hr16 hb hR5
  have o1 : ∀ j, (j < 234 ∨ 251 ≤ j) → j ≠ 121 + a → j ≠ 153 + a → j ≠ 251 + b → m_latest (m_tc g1 a b (nI T)) r b j = g1 j := fun j hj h1 h2 h3 => by
    rw [m_latest_o' hr16 hb hR5 hj]
    unfold m_tc
    rw [upd_ne h3, upd_ne h2, upd_ne h1]
  have e121 : m_latest (m_tc g1 a b (nI T)) r b (121 + a) = nI T := by
    rw [m_latest_o' hr16 hb hR5 (by omega)]
    unfold m_tc
    rw [upd_ne (by omega), upd_ne (by omega), upd_eq]
  have e153 : m_latest (m_tc g1 a b (nI T)) r b (153 + a) = g1 (153 + a) + 1 := by
    rw [m_latest_o' hr16 hb hR5 (by omega)]
    unfold m_tc
    rw [upd_ne (by omega), upd_eq]
  have e251 : m_latest (m_tc g1 a b (nI T)) r b (251 + b) = g1 (251 + b) + 1 := by
    rw [m_latest_o' hr16 hb hR5 (by omega)]
    unfold m_tc
    rw [upd_eq]
  have hz : z357 (m_latest (m_tc g1 a b (nI T)) r b) := z_latest hr16 (z_upd (by omega) (z_upd (by omega) (z_upd (by omega) hA.2.2.2.2.2)))
  generalize hm : m_latest (m_tc g1 a b (nI T)) r b = g6 at *
  refine ⟨m_r (m_tc g1 a b (nI T)) r b, ?_, ?_, fun c hc => ?_, fun c d hc hd hcd h1 h2 => ?_, hR6, fun c hc => ?_⟩
  · exact GA.congr (by rw [← hm]; exact m_latest_234 _) hr' (o1 _ (by omega) (by omega) (by omega) (by omega)) (o1 _ (by omega) (by omega) (by omega) (by omega)) (o1 _ (by omega) (by omega) (by omega) (by omega)) (o1 _ (by omega) (by omega) (by omega) (by omega)) hz hA
  · exact GT.of (o1 _ (by omega) (by omega) (by omega) (by omega)) (fun k hk => o1 _ (by omega) (by omega) (by omega) (by omega)) hG
  · by_cases hca : c = a
    · subst hca
      obtain ⟨d, y, n, f1, f2, f3, f4, f5, f6, f7, f8, f9, f10⟩ := hl
      refine Or.inr ⟨b, d, T, y, n + 1, hb, ?_, f2, f3, f4, ?_, ?_, hT, e121, f7, ?_, by omega, ?_⟩
      · rw [o1 _ (by omega) (by omega) (by omega) (by omega)]; exact f1
      · rw [o1 _ (by omega) (by omega) (by omega) (by omega)]; exact f5
      · rw [o1 _ (by omega) (by omega) (by omega) (by omega)]; exact f6
      · rw [o1 _ (by omega) (by omega) (by omega) (by omega)]; exact f8
      · rw [e153, f10, nI_1]
    · exact LOK.congr (by omega) (o1 _ (by omega) (by omega) (by omega) (by omega)) (o1 _ (by omega) (by omega) (by omega) (by omega)) (o1 _ (by omega) (by omega) (by omega) (by omega)) (o1 _ (by omega) (by omega) (by omega) (by omega)) (o1 _ (by omega) (by omega) (by omega) (by omega)) (o1 _ (by omega) (by omega) (by omega) (by omega)) (hL c hc hca)
  · have e73 : ∀ c, c < 16 → g6 (73 + c) = g1 (73 + c) := fun c hc => o1 _ (by omega) (by omega) (by omega) (by omega)
    have e137 : ∀ c, c < 16 → g6 (137 + c) = g1 (137 + c) := fun c hc => o1 _ (by omega) (by omega) (by omega) (by omega)
    rw [e73 c hc] at h1 ⊢
    rw [e73 d hd] at h2 ⊢
    rw [e137 c hc, e137 d hd]
    obtain ⟨d', y, n, f1, -⟩ := hl
    -- a line's LAST lies below T
    have lt : ∀ c, c < 16 → c ≠ a → g1 (73 + c) ≠ -1 → g1 (121 + c) ≠ nI T := fun c hc hca hn => by
      rcases hL c hc hca with ⟨e, -⟩ | ⟨b, d, x, y, n, e1, e2, e3, e4, e5, e6, e7, e8, e9, -⟩
      · exact absurd e hn
      · rw [e9]
        intro z
        have := (nI_eq (by omega) (by omega)).mp z
        omega
    by_cases hca : c = a
    · subst hca
      have hda : d ≠ c := fun z => hcd z.symm
      obtain ⟨q1, q2⟩ := hD1 d hd hda h2
      refine ⟨by rw [f1]; exact q1.symm, ?_, q2.symm⟩
      rw [e121, o1 (121 + d) (by omega) (by omega) (by omega) (by omega)]
      exact (lt d hd hda h2).symm
    · by_cases hda : d = a
      · subst hda
        obtain ⟨q1, q2⟩ := hD1 c hc hca h1
        refine ⟨by rw [f1]; exact q1, ?_, q2⟩
        rw [e121, o1 (121 + c) (by omega) (by omega) (by omega) (by omega)]
        exact lt c hc hca h1
      · rw [o1 (121 + c) (by omega) (by omega) (by omega) (by omega), o1 (121 + d) (by omega) (by omega) (by omega) (by omega)]
        exact hD2 c d hc hd hcd hca hda h1 h2
  · obtain ⟨⟨n, hn, f1⟩, n', hn', f2⟩ := hC c hc
    refine ⟨?_, n', hn', by rw [o1 _ (by omega) (by omega) (by omega) (by omega)]; exact f2⟩
    by_cases hcb : c = b
    · subst hcb
      exact ⟨n + 1, by omega, by rw [e251, f1, nI_1]⟩
    · exact ⟨n, by omega, by rw [o1 _ (by omega) (by omega) (by omega) (by omega)]; exact f1⟩
/-- a hit -/
theorem GI.hit (hT : T < 2 ^ 29) (hb : b < 16) (hw : m_lw g b = some a) (h : GI g T N s l r) : ∃ r', GI (m_touch (m_hits g) a b r (g 0)) (T + 1) (N + 1) s l r' := by
  obtain ⟨hA, hG, hL, hD, hR, hC⟩ := h
  obtain ⟨ha, hab⟩ := m_lw_lt hw
  have e0 : m_hits g 0 = nI (T + 1) := by
    simp only [m_hits]
    rw [upd_eq, upd_ne (by omega), hG.1, nI_1]
  have o : ∀ j, j ≠ 0 → j ≠ 285 → m_hits g j = g j := fun j h1 h2 => by
    simp only [m_hits]
    rw [upd_ne h1, upd_ne h2]
  rw [hG.1]
  have oL : ∀ c, c < 16 → LOK (m_hits g) T s l c := fun c hc => LOK.congr (Nat.le_refl _) (o _ (by omega) (by omega)) (o _ (by omega) (by omega)) (o _ (by omega) (by omega)) (o _ (by omega) (by omega)) (o _ (by omega) (by omega)) (o _ (by omega) (by omega)) (hL c hc)
  have oD : GD (m_hits g) := GD.congr (fun c hc => ⟨o _ (by omega) (by omega), o _ (by omega) (by omega), o _ (by omega) (by omega)⟩) hD
  have hab' : m_hits g (73 + a) = nI b := by rw [o _ (by omega) (by omega)]; exact hab
  refine GI.touch ha hb (Nat.lt_succ_self T) (GA.congr (by rw [o _ (by omega) (by omega)]; exact hA.1.1) hA.1.2 (o _ (by omega) (by omega)) (o _ (by omega) (by omega)) (o _ (by omega) (by omega)) (o _ (by omega) (by omega)) (z_hits hA.2.2.2.2.2) hA) ⟨e0, fun k hk => ?_⟩ (fun c hc _ => oL c hc) ?_ (fun c hc hca hn => ?_) (fun c d hc hd hcd _ _ h1 h2 => oD c d hc hd hcd h1 h2) (GR.congr (fun i hi => o _ (by omega) (by have := hA.1.2; omega)) hR) (fun c hc => ?_) (by omega)
  · obtain ⟨y, hy, e⟩ := hG.2 k hk
    exact ⟨y, by omega, by rw [o _ (by omega) (by omega)]; exact e⟩
  · rcases oL a ha with ⟨e, -⟩ | ⟨b', d, x, y, n, e1, e2, e3, e4, e5, e6, e7, e8, e9, e10, e11, e12, e13⟩
    · rw [e] at hab'
      exact absurd hab'.symm (nI_ne b (by omega))
    · have : b' = b := by
        rw [hab'] at e2
        exact ((nI_eq (by omega) (by omega)).mp e2).symm
      subst this
      exact ⟨d, y, n, e2, e3, e4, e5, e6, e7, by omega, e11, e12, e13⟩
  · obtain ⟨q1, -, q3⟩ := oD c a hc ha hca hn (by rw [hab']; exact nI_ne b (by omega))
    rw [hab'] at q1
    exact ⟨q1, q3⟩
  · obtain ⟨⟨n, hn, f1⟩, n', hn', f2⟩ := hC c hc
    exact ⟨⟨n, hn, by rw [o _ (by omega) (by omega)]; exact f1⟩, n', by omega, by rw [o _ (by omega) (by omega)]; exact f2⟩
end U18
