section U19
variable {g g' g1 : Nat → Int32} {T T' T1 N s l r a b c : Nat}
theorem GI.uses {k m : Nat} (hT : T < 2 ^ 29) (hm : m ≤ 5) (hk : k < 4) (h : GI g T N s l r) : ∃ T', T + m ≤ T' ∧ T' ≤ T + m + 4 ∧ GI (m_uses g k (nI m)) T' N s l r := by
  obtain ⟨hA, hG, hL, hD, hR, hC⟩ := h
  obtain ⟨T', t1, t2, hG'⟩ := GT.uses hT hm hk hG
  have o := fun j => m_uses_hi g k hk (nI m) j
  have lo := fun j => m_uses_low g k hk (nI m) j
  refine ⟨T', t1, t2, ?_, hG', fun c hc => ?_, ?_, ?_, ?_⟩
  · exact GA.congr (r' := r) (by rw [o _ (by omega) (by omega)]; exact hA.1.1) hA.1.2 (lo _ (by omega) (by omega)) (lo _ (by omega) (by omega)) (lo _ (by omega) (by omega)) (lo _ (by omega) (by omega)) (z_uses hk hA.2.2.2.2.2) hA
  · exact LOK.congr (by omega) (o _ (by omega) (by omega)) (o _ (by omega) (by omega)) (o _ (by omega) (by omega)) (o _ (by omega) (by omega)) (o _ (by omega) (by omega)) (o _ (by omega) (by omega)) (hL c hc)
  · exact GD.congr (fun c hc => ⟨o _ (by omega) (by omega), o _ (by omega) (by omega), o _ (by omega) (by omega)⟩) hD
  · exact GR.congr (fun i hi => o _ (by omega) (by have := hA.1.2; omega)) hR
  · exact GC.congr (Nat.le_refl _) (fun c hc => ⟨o _ (by omega) (by omega), o _ (by omega) (by omega)⟩) hC
theorem m_lineForGo_in {lo hi : Nat} : ∀ (n i : Nat) (o : Option Nat) (c : Nat), (∀ c, o = some c → lo ≤ c ∧ c < hi) → lo ≤ i → i + n ≤ hi → m_lineForGo g n i o = some c → lo ≤ c ∧ c < hi := by
  intro n
  induction n with
  | zero => intro i o c ho _ _ hR; exact ho c hR
  | succ n ih =>
    intro i o c ho h1 h2 hR
    simp only [m_lineForGo] at hR
    split at hR
    · cases hR; omega
    · refine ih _ _ c (fun d hd => ?_) (by omega) (by omega) hR
      have key : ∀ b : Bool, (if b = true then some i else o) = some d → lo ≤ d ∧ d < hi := by
        intro b hb
        cases b with
        | false => exact ho d (by simpa using hb)
        | true => simp at hb; omega
      exact key _ hd
theorem m_lineFor_in (h1 : 1 ≤ s) (h4 : s ≤ 4) (hl : l ≤ 4) (h : m_lineFor g b s l = some a) : a < 16 ∧ a / 4 = b % s ∧ a % 4 < l := by
  have hm : b % s < s := Nat.mod_lt _ (by omega)
  have := m_lineForGo_in (lo := 4 * (b % s)) (hi := 4 * (b % s) + l) l _ none a (fun c hc => by cases hc) (Nat.le_refl _) (Nat.le_refl _) h
  omega
theorem m_lw_none (h : m_lw g b = none) (c : Nat) (hc : c < 16) : g (73 + c) ≠ nI b := by
  unfold m_lw at h
  have := List.find?_eq_none.mp h c (List.mem_range.mpr hc)
  simpa using this
theorem GI.miss0 (hb : b < 16) (hc : c < 3) (h : GI g T N s l r) : GI (m_miss0 g b c) T (N + 1) s l r := by
  obtain ⟨hA, hG, hL, hD, hR, hC⟩ := h
  have o := fun j h1 h2 => m_miss0_o g b c j h1 h2
  refine ⟨?_, ?_, fun d hd => ?_, ?_, ?_, fun d hd => ?_⟩
  · exact GA.congr (r' := r) (by rw [o _ (by omega) (by omega)]; exact hA.1.1) hA.1.2 (o _ (by omega) (by omega)) (o _ (by omega) (by omega)) (o _ (by omega) (by omega)) (o _ (by omega) (by omega)) (z_miss0 hb hc hA.2.2.2.2.2) hA
  · exact GT.of (o _ (by omega) (by omega)) (fun k hk => o _ (by omega) (by omega)) hG
  · exact LOK.congr (Nat.le_refl _) (o _ (by omega) (by omega)) (o _ (by omega) (by omega)) (o _ (by omega) (by omega)) (o _ (by omega) (by omega)) (o _ (by omega) (by omega)) (o _ (by omega) (by omega)) (hL d hd)
  · exact GD.congr (fun c hc => ⟨o _ (by omega) (by omega), o _ (by omega) (by omega), o _ (by omega) (by omega)⟩) hD
  · exact GR.congr (fun i hi => o _ (by have := hA.1.2; omega) (by have := hA.1.2; omega)) hR
  · obtain ⟨⟨n, hn, f1⟩, n', hn', f2⟩ := hC d hd
    refine ⟨⟨n, by omega, by rw [o _ (by omega) (by omega)]; exact f1⟩, ?_⟩
    by_cases hdb : d = b
    · subst hdb
      refine ⟨n' + 1, by omega, ?_⟩
      simp only [m_miss0]
      rw [upd_eq, upd_ne (by omega), f2, nI_1]
    · exact ⟨n', by omega, by rw [o _ (by omega) (by omega)]; exact f2⟩
theorem GI.miss (hT : T < 2 ^ 28) (hb : b < 16) (hc : c < 3) (hw : m_lw g b = none) (hf : m_lineFor g b s l = some a) (h : GI g T N s l r) : ∃ T' r', T + 1 ≤ T' ∧ T' ≤ T + 17 ∧ GI (m_touch (m_misses g b a (m_blk g a) c) a b r (g 0)) T' (N + 1) s l r' := by
  have hT0 := hT
  obtain ⟨ha, ha1, ha2⟩ := m_lineFor_in h.1.2.1.2.1 h.1.2.1.2.2 h.1.2.2.1.2.2 hf
  have h2 := GI.miss0 hb hc h
  have hblk : m_blk g a = m_blk (m_miss0 g b c) a := by
    unfold m_blk
    rw [m_miss0_o _ _ _ _ (by omega) (by omega)]
  have hd89 : m_miss0 g b c (89 + a) = g (89 + a) := m_miss0_o g b c _ (by omega) (by omega)
  have ho : ¬ m_ones (m_miss0 g b c (89 + a)) = 0 → m_blk g a < 16 := fun z => by rw [hd89] at z; exact ((h.2.2.1 a ha).dirty z).1
  obtain ⟨T2, u1, u2, h3⟩ := GI.wB (by omega) ha h2
  rw [← hblk] at h3
  obtain ⟨T3, v1, v2, h4⟩ := GI.uses (k := b % 4) (m := 5) (by omega) (by omega) (Nat.mod_lt _ (by decide)) h3
  have h5 := GI.empties ha h4
  have e5 : nI 5 = (5 : Int32) := by decide
  rw [e5] at h5
  have g20 : m_miss0 g b c 0 = nI T := by rw [m_miss0_o _ _ _ _ (by omega) (by omega)]; exact h.2.1.1
  have oo : ∀ d, d < 16 → d ≠ a → ∀ j, (j = 73 ∨ j = 89 ∨ j = 105 ∨ j = 121 ∨ j = 137 ∨ j = 153) → m_emptiesLine (m_uses (m_wB (m_miss0 g b c) a (m_blk g a)) (b % 4) 5) a (j + d) = g (j + d) := fun d hd hda j hj => by
    rw [m_emptiesLine_c _ ha hd hda hj, m_uses_hi _ _ (Nat.mod_lt _ (by decide)) _ _ (by omega) (by omega), m_wB_o _ _ _ _ ho (by omega) (by omega) (by omega) (by omega), m_miss0_o _ _ _ _ (by omega) (by omega)]
  have o251 : ∀ d, d < 16 → m_emptiesLine (m_uses (m_wB (m_miss0 g b c) a (m_blk g a)) (b % 4) 5) a (251 + d) = g (251 + d) := fun d hd => by
    rw [m_emptiesLine_o _ _ _ ha (by omega), m_uses_hi _ _ (Nat.mod_lt _ (by decide)) _ _ (by omega) (by omega), m_wB_o _ _ _ _ ho (by omega) (by omega) (by omega) (by omega), m_miss0_o _ _ _ _ (by omega) (by omega)]
  have f89 := m_emptiesLine_89 (m_uses (m_wB (m_miss0 g b c) a (m_blk g a)) (b % 4) 5) ha
  have f105 := m_emptiesLine_105 (m_uses (m_wB (m_miss0 g b c) a (m_blk g a)) (b % 4) 5) ha
  have f153 := m_emptiesLine_153 (m_uses (m_wB (m_miss0 g b c) a (m_blk g a)) (b % 4) 5) ha
  simp only [m_misses]
  rw [h.2.1.1, g20]
  generalize m_emptiesLine (m_uses (m_wB (m_miss0 g b c) a (m_blk g a)) (b % 4) 5) a = ge at *
  obtain ⟨hA, hG, hL, hD, hR, hC⟩ := h5
  -- the state behind misses
  have oF : ∀ j, j < 169 ∨ 234 ≤ j → j ≠ 73 + a → j ≠ 137 + a → upd (m_load (upd (upd ge (73 + a) (nI b)) (137 + a) (nI T)) a b 4) 233 (m_load (upd (upd ge (73 + a) (nI b)) (137 + a) (nI T)) a b 4 233 ||| (1 <<< (nI b &&& 31))) j = ge j := fun j hj h1 h2 => by
    rw [upd_ne (by omega)]
    rcases hj with hj | hj
    · rw [m_load_lo _ _ _ _ _ hj, upd_ne h2, upd_ne h1]
    · rw [m_load_o _ _ _ _ _ ha (by omega) (by omega), upd_ne h2, upd_ne h1]
  have oB : upd (m_load (upd (upd ge (73 + a) (nI b)) (137 + a) (nI T)) a b 4) 233 (m_load (upd (upd ge (73 + a) (nI b)) (137 + a) (nI T)) a b 4 233 ||| (1 <<< (nI b &&& 31))) (73 + a) = nI b := by
    rw [upd_ne (by omega), m_load_lo _ _ _ _ _ (by omega), upd_ne (by omega), upd_eq]
  have oG : upd (m_load (upd (upd ge (73 + a) (nI b)) (137 + a) (nI T)) a b 4) 233 (m_load (upd (upd ge (73 + a) (nI b)) (137 + a) (nI T)) a b 4 233 ||| (1 <<< (nI b &&& 31))) (137 + a) = nI T := by
    rw [upd_ne (by omega), m_load_lo _ _ _ _ _ (by omega), upd_eq]
  have oz : z357 (upd (m_load (upd (upd ge (73 + a) (nI b)) (137 + a) (nI T)) a b 4) 233 (m_load (upd (upd ge (73 + a) (nI b)) (137 + a) (nI T)) a b 4 233 ||| (1 <<< (nI b &&& 31)))) := z_upd (by omega) (z_load ha (by omega) (z_upd (by omega) (z_upd (by omega) hA.2.2.2.2.2)))
  generalize upd (m_load (upd (upd ge (73 + a) (nI b)) (137 + a) (nI T)) a b 4) 233 (m_load (upd (upd ge (73 + a) (nI b)) (137 + a) (nI T)) a b 4 233 ||| (1 <<< (nI b &&& 31))) = gf at *
  have of : ∀ d, d < 16 → d ≠ a → ∀ j, (j = 73 ∨ j = 89 ∨ j = 105 ∨ j = 121 ∨ j = 137 ∨ j = 153) → gf (j + d) = g (j + d) := fun d hd hda j hj => (oF _ (by omega) (by omega) (by omega)).trans (oo d hd hda j hj)
  have lt : ∀ d, d < 16 → g (73 + d) ≠ -1 → g (137 + d) ≠ nI T := fun d hd hn => by
    rcases h.2.2.1 d hd with ⟨e, -⟩ | ⟨b, d', x, y, n, e1, e2, e3, e4, e5, e6, e7, e8, e9, e10, e11, -⟩
    · exact absurd e hn
    · rw [e11]
      intro z
      have := (nI_eq (by omega) (by omega)).mp z
      omega
  have := GI.touch (g1 := gf) (T := T) (T1 := T3) (N := N) (s := s) (l := l) (r := r) ha hb (by omega) (GA.congr (by rw [oF _ (by omega) (by omega) (by omega)]; exact hA.1.1) hA.1.2 (oF _ (by omega) (by omega) (by omega)) (oF _ (by omega) (by omega) (by omega)) (oF _ (by omega) (by omega) (by omega)) (oF _ (by omega) (by omega) (by omega)) oz hA)
    (GT.of (oF _ (by omega) (by omega) (by omega)) (fun k hk => oF _ (by omega) (by omega) (by omega)) hG)
    (fun d hd hda => LOK.congr (Nat.le_refl _) (of d hd hda 73 (by omega)) (of d hd hda 89 (by omega)) (of d hd hda 105 (by omega)) (of d hd hda 121 (by omega)) (of d hd hda 137 (by omega)) (of d hd hda 153 (by omega)) (h.2.2.1 d hd))
    ⟨0, T, 0, oB, ha1, ha2, by omega, by rw [oF _ (by omega) (by omega) (by omega), f89, nI_0], Or.inl (by rw [oF _ (by omega) (by omega) (by omega)]; exact f105), by omega, oG, Nat.zero_le _, by rw [oF _ (by omega) (by omega) (by omega), f153, nI_0]⟩
    (fun d hd hda hn => by
      rw [of d hd hda 73 (by omega)] at hn ⊢
      rw [of d hd hda 137 (by omega), oG]
      exact ⟨m_lw_none hw d hd, lt d hd hn⟩)
    (fun c d hc hd hcd hca hda k1 k2 => by
      rw [of c hc hca 73 (by omega)] at k1 ⊢
      rw [of d hd hda 73 (by omega)] at k2 ⊢
      rw [of c hc hca 121 (by omega), of d hd hda 121 (by omega), of c hc hca 137 (by omega), of d hd hda 137 (by omega)]
      exact h.2.2.2.1 c d hc hd hcd k1 k2)
    (GR.congr (fun i hi => oF _ (by omega) (by omega) (by omega)) hR)
    (fun d hd => by
      obtain ⟨⟨n, hn, f1⟩, -⟩ := h.2.2.2.2.2 d hd
      obtain ⟨-, n', hn', f2⟩ := hC d hd
      exact ⟨⟨n, hn, by rw [oF _ (by omega) (by omega) (by omega), o251 d hd]; exact f1⟩, n', hn', by rw [oF _ (by omega) (by omega) (by omega)]; exact f2⟩)
    (by omega)
  obtain ⟨r', hr'⟩ := this
  exact ⟨T3, r', by omega, by omega, hr'⟩
theorem GI.acc {p : Nat × (Nat → Int32)} (hT : T < 2 ^ 28) (hb : b < 16) (ha : m_acc g b s l r = some p) (h : GI g T N s l r) : ∃ T' r', T + 1 ≤ T' ∧ T' ≤ T + 17 ∧ GI p.2 T' (N + 1) s l r' := by
  unfold m_acc at ha
  cases hw : m_lw g b with
  | some k =>
    rw [hw] at ha
    cases ha
    obtain ⟨r', hr'⟩ := GI.hit (by omega) hb hw h
    exact ⟨T + 1, r', by omega, by omega, hr'⟩
  | none =>
    rw [hw] at ha
    cases hf : m_lineFor g b s l with
    | none => rw [hf] at ha; cases ha
    | some k =>
      rw [hf] at ha
      cases ha
      exact GI.miss hT hb (m_cause_lt _ _ _ _ _) hw hf h
end U19
