-- the class's orders answer as the twin's
/-- the shape that the twin's numbers tell -/
def RS3 (g : Nat → Int32) (s l r : Nat) : Prop := g 1 = nI s ∧ g 2 = nI l ∧ g 234 = nI r
def ORD (κ c : Nat → Nat) (h0 : xH) (mach : Nat) (o : mO) (K : Int32 → xH → Prop) (KX : Nat → xH → Prop) : Prop :=
  (∀ v g', o = .inr (v, g') → ∀ A' s' l' gc' W' bl' r' h', A' 5 = mach → RX gc' g' W' bl' s' l' r' → RS3 g' s' l' r' → MM κ A' s' l' c W' h0 r' bl' h' → K v (mput h' A' s' l' gc')) ∧
  ∀ x y, o = .inl (x, y) → ∀ q h', RF h' q x y none → h0 q = none → κ 0 ≤ q → Ext h0 h' → KX q h'
theorem m_in63 : ∀ k, k < 64 → m_in (nI k) 0 63 = true := by decide +kernel
theorem m_in15 : ∀ k, k < 16 → m_in (nI k) 0 15 = true := by decide +kernel
section G7
variable {gc g W : Nat → Int32} {A κ c : Nat → Nat} {bl : Nat → Nat} {T N s l r a b i j k q : Nat} {h h0 : xH}
theorem upd_comm {f : Nat → Int32} {x y : Int32} (hij : i ≠ j) : upd (upd f i x) j y = upd (upd f j y) i x := by
  funext m
  by_cases h1 : m = j
  · subst h1; rw [upd_eq, upd_ne (Ne.symm hij), upd_eq]
  · rw [upd_ne h1]
    by_cases h2 : m = i
    · subst h2; rw [upd_eq, upd_eq]
    · rw [upd_ne h2, upd_ne h2, upd_ne h1]
theorem m_uses_upd {f : Nat → Int32} {x v : Int32} (h0 : j ≠ 0) (hk : j ≠ 69 + k) (h2 : j ≠ 291) : m_uses (upd f j x) k v = upd (m_uses f k v) j x := by
  simp only [m_uses]
  rw [upd_ne (f := f) (i := j) (j := 69 + k) (Ne.symm hk), upd_ne (f := f) (i := j) (j := 0) (Ne.symm h0), upd_ne (f := f) (i := j) (j := 291) (Ne.symm h2)]
  by_cases hc : f (69 + k) ≤ f 0
  · rw [if_pos hc, if_pos hc, upd_ne (f := f) (i := j) (j := 0) (Ne.symm h0), upd_comm (f := f) h0, upd_ne (i := j) (j := 0) (Ne.symm h0), upd_comm hk]
  · rw [if_neg hc, if_neg hc, upd_comm (f := f) h2, upd_comm h0, upd_ne (i := j) (j := 0) (Ne.symm h0), upd_comm h0, upd_ne (i := j) (j := 0) (Ne.symm h0), upd_comm hk]
theorem nxt.r3 {g' : Nat → Int32} {N : Nat} (h : nxt g' T N s l) (h2 : g' 234 = nI r) : RS3 g' s l r := by
  obtain ⟨T', N', r', -, -, hG⟩ := h
  exact ⟨hG.1.2.1.1, hG.1.2.2.1.1, h2⟩
theorem RX.pre (hG : GI g T N s l r) (hR : RX gc g W bl s l r) (hT : T < 2 ^ 28) : gc 2 = nI l ∧ (∃ q, q < 4 ∧ g 3 = nI q ∧ gc 3 = nI q) ∧ CI gc T s l ∧ (∀ a, lin s l a → m_canGive gc a = true → LN gc a) ∧ (∀ b, b < 16 → n_latN bl r b ≤ 16) ∧ (∀ a, lin s l a → gc (105 + a) = 0 ∨ gc (105 + a) = 1) ∧ gc 4 = g 4 := by
  obtain ⟨q, hq, h3⟩ := hG.1.2.2.2.1
  refine ⟨(hR.1.1 2 (by omega)).trans hG.1.2.2.1.1, ⟨q, hq, h3, (hR.1.1 3 (by omega)).trans h3⟩, ⟨⟨(hR.1.1 0 (by omega)).trans hG.2.1.1, fun k hk => ?_⟩, fun a hl => ?_⟩, fun a hl hg => ?_, fun b hb => ?_, fun a hl => ?_, hR.1.1 4 (by omega)⟩
  · obtain ⟨y, h1, h2⟩ := hG.2.1.2 k hk
    exact ⟨y, h1, (hR.1.1 (69 + k) (by omega)).trans h2⟩
  · have hL := hG.2.2.1 a hl.1
    obtain ⟨r1, r2, -⟩ := hR.1.2 a hl
    rw [r2, r1]
    have hob : m_blk gc a = m_blk g a := by unfold m_blk; rw [r1]
    rw [hob]
    exact ⟨hL.d, hL.dirty⟩
  · rw [hR.1.give hl] at hg
    exact (RM.ln hG hR.1 (by omega) hl (m_give_held hg)).1
  · rw [← (hR.2.1.lat hb).1]
    exact (GR.latest hG.1.1.2 hb hG.2.2.2.2.1).2
  · rw [(hR.1.2 a hl).2.2.1]
    rcases hG.2.2.1 a hl.1 with ⟨-, -, z, -⟩ | ⟨-, -, -, -, -, -, -, -, -, -, -, z, -⟩
    · exact Or.inl z
    · exact z
theorem RX.ub (hR : RX gc g W bl s l r) (hr : r ≤ 16) {v : Int32} (hj : bse j) : RX (upd gc j v) (upd g j v) W bl s l r := by
  refine ⟨hR.1.ub hj, fun i hi => ?_, fun k hk => ?_⟩
  · unfold bse at hj
    rw [upd_ne (by omega)]
    exact hR.2.1 i hi
  · unfold bse at hj
    rw [upd_ne (by omega)]
    exact hR.2.2 k hk
theorem RX.ul (hR : RX gc g W bl s l r) {v : Int32} (ha : a < 16) (hh : g (73 + a) ≠ -1) (hj : j = 89 + a ∨ j = 105 + a ∨ j = 121 + a ∨ j = 137 + a ∨ j = 153 + a ∨ (169 + 4 * a ≤ j ∧ j < 169 + 4 * a + 4)) : RX (upd gc j v) (upd g j v) W bl s l r := by
  refine ⟨hR.1.ul ha hh hj, fun i hi => ?_, fun k hk => ?_⟩
  · rw [upd_ne (by omega)]
    exact hR.2.1 i hi
  · rw [upd_ne (by omega)]
    exact hR.2.2 k hk
theorem RX.uw (hR : RX gc g W bl s l r) (hr : r ≤ 16) {v : Int32} (hk : k < 64) : RX gc (upd g (293 + k) v) (upd W k v) bl s l r := by
  refine ⟨hR.1.ut (by omega), fun i hi => ?_, fun k' hk' => ?_⟩
  · rw [upd_ne (by omega)]
    exact hR.2.1 i hi
  · by_cases e : k' = k
    · rw [e, upd_eq, upd_eq]
    · rw [upd_ne e, upd_ne (by omega)]; exact hR.2.2 k' hk'
theorem RX.uses (hR : RX gc g W bl s l r) (hr : r ≤ 16) (hk : k < 4) (v : Int32) : RX (m_uses gc k v) (m_uses g k v) W bl s l r := by
  refine ⟨hR.1.uses hk v, fun i hi => ?_, fun k' hk' => ?_⟩
  · rw [m_uses_hi _ _ hk _ _ (by omega) (by omega)]
    exact hR.2.1 i hi
  · rw [m_uses_hi _ _ hk _ _ (by omega) (by omega)]
    exact hR.2.2 k' hk'
theorem o_read (hM : MM κ A s l c W h0 r bl h) (hR : RX gc g W bl s l r) (hG : GI g T N s l r) (hT : T < 2 ^ 28) (x : Int32) {c0 s0 : Nat} (hc : 90 ≤ c0) (hs : 50000 ≤ s0) (K : Int32 → xH → Prop) (KX : Nat → xH → Prop) (hO : ORD κ c h0 (A 5) (m_reads g x s l r) K KX) : P_X2_readsWord κ (A 5) x (mput h A s l gc, c0, s0) K KX := by
  obtain ⟨p1, ⟨q, hq, p2, p3⟩, p4, p5, p6, p7, p8⟩ := hR.pre hG hT
  have hA := hM.1.1
  refine cc_readsWord hM p1 hq p3 p4 hT p5 p6 x (by omega) (by omega) K KX (fun k a gc' h' ex hk hac hM' => ?_) (fun hi => hO.2 1 x ?_) (fun k ex hk hin hct => hO.2 2 (nI (k / 4 % s)) ?_)
  · obtain ⟨g', hacc, hR', h234⟩ := AC_acc hA hG hR hT (by omega) hq p2 hac
    obtain ⟨ha16, h73⟩ := m_acc_blk (show k / 4 < 16 by omega) hG hacc
    have h73 : g' (73 + a) = nI (k / 4) := h73
    have hh : g' (73 + a) ≠ -1 := by rw [h73]; exact nI_ne _ (by omega)
    have hr' := p6 (k / 4) (by omega)
    have b283 : bse 283 := Or.inr (Or.inr (Or.inr (by omega)))
    have e283 := hR'.1.bs b283
    rw [e283]
    have hR2 := hR'.ub hr' (v := g' 283 + 1) b283
    have hw : upd gc' 283 (g' 283 + 1) (169 + 4 * a + k % 4) = upd g' 283 (g' 283 + 1) (169 + 4 * a + k % 4) := ((hR2.1.2 a hac.1).2.2.2.1 (by rw [upd_ne (by omega)]; exact hh)).2.2.2 (k % 4) (Nat.mod_lt _ (by decide))
    rw [hw]
    have he : m_reads g x s l r = .inr (upd g' 283 (g' 283 + 1) (169 + 4 * a + k % 4), upd g' 283 (g' 283 + 1)) := by
      rw [ex]
      unfold m_reads
      rw [if_pos (m_in63 k hk), c_n (show k < 2 ^ 31 by omega), hacc]
    exact hO.1 _ _ he A s l _ W _ _ h' rfl hR2 ((GI.reads hT hG he).r3 (by
      show upd g' 283 (g' 283 + 1) 234 = _
      rw [upd_ne (by omega)]
      exact h234)) hM'
  · unfold m_reads
    rw [hi]
    rfl
  · rw [ex]
    unfold m_reads
    rw [if_pos (m_in63 k hk), c_n (show k < 2 ^ 31 by omega), AC_none hA hG hR hT (by omega) hq p2 hin hct]
theorem o_write (hM : MM κ A s l c W h0 r bl h) (hR : RX gc g W bl s l r) (hG : GI g T N s l r) (hT : T < 2 ^ 28) (x u : Int32) {c0 s0 : Nat} (hc : 90 ≤ c0) (hs : 50000 ≤ s0) (K : Int32 → xH → Prop) (KX : Nat → xH → Prop) (hO : ORD κ c h0 (A 5) (m_writes g x u s l r) K KX) : P_X2_writesWord κ (A 5) x u (mput h A s l gc, c0, s0) K KX := by
  obtain ⟨p1, ⟨q, hq, p2, p3⟩, p4, p5, p6, p7, p8⟩ := hR.pre hG hT
  have hA := hM.1.1
  have hAC : ∀ b a gc', b < 16 → AC A gc s l q bl r b a gc' → gc' (73 + a) = nI b ∧ ∃ T', T' < 2 ^ 29 ∧ GT gc' T' := fun b a gc' hb hac => by
    obtain ⟨g', hacc, hR', h234⟩ := AC_acc hA hG hR hT hb hq p2 hac
    obtain ⟨ha16, h73⟩ := m_acc_blk hb hG hacc
    obtain ⟨T', r', t1, t2, hG'⟩ := GI.acc hT hb hacc hG
    refine ⟨((hR'.1.2 a hac.1).1).trans h73, T', by omega, (hR'.1.1 0 (by omega)).trans hG'.2.1.1, fun k hk => ?_⟩
    obtain ⟨y, y1, y2⟩ := hG'.2.1.2 k hk
    exact ⟨y, y1, (hR'.1.1 (69 + k) (by omega)).trans y2⟩
  refine cc_writesWord hM p1 hq p3 p4 hT p5 p6 hAC x u (by omega) (by omega) K KX (fun k a gc' h' ex hk hu hac hM' => ?_) (fun hi => hO.2 1 x ?_) (fun hi hu => hO.2 1 u ?_) (fun k ex hk hu hin hct => hO.2 2 (nI (k / 4 % s)) ?_)
  · obtain ⟨g', hacc, hR', h234⟩ := AC_acc hA hG hR hT (by omega) hq p2 hac
    obtain ⟨ha16, h73⟩ := m_acc_blk (show k / 4 < 16 by omega) hG hacc
    have h73 : g' (73 + a) = nI (k / 4) := h73
    have ha16 : a < 16 := ha16
    have hh : g' (73 + a) ≠ -1 := by rw [h73]; exact nI_ne _ (by omega)
    have hr' := p6 (k / 4) (by omega)
    have b284 : bse 284 := Or.inr (Or.inr (Or.inr (by omega)))
    have b290 : bse 290 := Or.inr (Or.inr (Or.inr (by omega)))
    have bk : bse (5 + k) := Or.inr (Or.inl (by omega))
    have e284 := hR'.1.bs b284
    have e4 := hR'.1.bs (j := 4) (Or.inr (Or.inl (by omega)))
    have e0 := hR.1.bs (j := 0) (Or.inl rfl)
    have hR2 := hR'.ub hr' (v := g' 284 + 1) b284
    have hh2 : upd g' 284 (g' 284 + 1) (73 + a) ≠ -1 := by rw [upd_ne (by omega)]; exact hh
    have hR3 := hR2.ul (v := u) (j := 169 + 4 * a + k % 4) ha16 hh2 (by omega)
    have hR4 := hR3.uw hr' (k := k) (v := u) hk
    -- the twin's answer
    have hm : ∀ res : Int32 × (Nat → Int32), (let g3 := upd (upd (upd g' 284 (g' 284 + 1)) (169 + 4 * a + k % 4) u) (293 + k) u; if g3 4 = 1 then (let g4 := m_uses g3 (k / 4 % 4) 1; let g5 := upd g4 (5 + k) u; let g6 := upd g5 (89 + a) (g5 (89 + a) &&& (m_bit (k % 4) ^^^ -1)); let g7 := upd g6 290 (g6 290 + 1); (g7 0 - g 0, g7)) else (let g4 := upd g3 (89 + a) (g3 (89 + a) ||| m_bit (k % 4)); (g4 0 - g 0, g4))) = res → m_writes g x u s l r = .inr res := fun res hres => by
      rw [ex]
      unfold m_writes
      rw [if_pos (m_in63 k hk), if_pos hu, c_n (show k < 2 ^ 31 by omega), hacc]
      rw [← hres]
      dsimp only
      split <;> rfl
    have g34 : upd (upd (upd g' 284 (g' 284 + 1)) (169 + 4 * a + k % 4) u) (293 + k) u 4 = g' 4 := by rw [upd_ne (by omega), upd_ne (by omega), upd_ne (by omega)]
    have h89 : gc' (89 + a) = g' (89 + a) := (hR'.1.2 a hac.1).2.1
    generalize hG3 : upd (upd (upd g' 284 (g' 284 + 1)) (169 + 4 * a + k % 4) u) (293 + k) u = G3 at hm g34 hR4
    have G73 : G3 (73 + a) ≠ -1 := by rw [← hG3, upd_ne (by omega), upd_ne (by omega)]; exact hh2
    have G234 : G3 234 = nI (n_latN bl r (k / 4)) := by rw [← hG3, upd_ne (by omega), upd_ne (by omega), upd_ne (by omega)]; exact h234
    have G89 : G3 (89 + a) = g' (89 + a) := by rw [← hG3, upd_ne (by omega), upd_ne (by omega), upd_ne (by omega)]
    generalize hC3 : upd (upd gc' 284 (g' 284 + 1)) (169 + 4 * a + k % 4) u = C3 at hR4
    have C89 : C3 (89 + a) = g' (89 + a) := by rw [← hC3, upd_ne (by omega), upd_ne (by omega)]; exact h89
    by_cases hz : gc' 4 = 0
    · have h41 : ¬ G3 4 = 1 := by rw [g34, ← e4, hz]; decide
      have hm' := hm _ rfl
      dsimp only at hm'
      rw [if_neg h41] at hm'
      have hR5 := hR4.ul (v := G3 (89 + a) ||| m_bit (k % 4)) ha16 G73 (Or.inl rfl)
      have en : n_writes gc' a k u = upd C3 (89 + a) (G3 (89 + a) ||| m_bit (k % 4)) := by
        unfold n_writes
        rw [if_pos hz, e284]
        unfold n_takes
        dsimp only
        rw [if_neg (by decide), hC3, C89, G89]
      rw [en, hR5.1.bs (Or.inl rfl), e0]
      exact hO.1 _ _ hm' A s l _ _ _ _ h' rfl hR5 ((GI.writes hT hG hm').r3 (by
        show upd G3 (89 + a) (G3 (89 + a) ||| m_bit (k % 4)) 234 = _
        rw [upd_ne (by omega)]
        exact G234)) hM'
    · have h41 : G3 4 = 1 := by
        rw [g34, ← e4]
        have := p7
        have hG' := GI.acc hT (show k / 4 < 16 by omega) hacc hG
        obtain ⟨T', r', -, -, hG'⟩ := hG'
        rcases hG'.1.2.2.2.2.1 with z | z
        · exact absurd (e4.trans z) hz
        · exact e4.trans z
      have hm' := hm _ rfl
      dsimp only at hm'
      rw [if_pos h41] at hm'
      have b1 : k / 4 % 4 < 4 := Nat.mod_lt _ (by decide)
      -- the class clears the bit first, then uses the bank and the store
      have hR5 := hR4.ul (v := G3 (89 + a) &&& (m_bit (k % 4) ^^^ -1)) ha16 G73 (Or.inl rfl)
      have hR6 := hR5.uses hr' b1 1
      have hR7 := hR6.ub hr' (v := u) bk
      have e290 := hR7.1.bs b290
      have hR8 := hR7.ub hr' (v := upd (m_uses (upd G3 (89 + a) (G3 (89 + a) &&& (m_bit (k % 4) ^^^ -1))) (k / 4 % 4) 1) (5 + k) u 290 + 1) b290
      have en : n_writes gc' a k u = upd (upd (m_uses (upd C3 (89 + a) (G3 (89 + a) &&& (m_bit (k % 4) ^^^ -1))) (k / 4 % 4) 1) (5 + k) u) 290 (upd (m_uses (upd G3 (89 + a) (G3 (89 + a) &&& (m_bit (k % 4) ^^^ -1))) (k / 4 % 4) 1) (5 + k) u 290 + 1) := by
        unfold n_writes
        rw [if_neg hz, e284]
        unfold n_takes n_store
        dsimp only
        rw [if_pos rfl, hC3, C89, G89]
        rw [G89] at e290
        rw [e290]
      rw [en]
      have eG : upd (upd (m_uses (upd G3 (89 + a) (G3 (89 + a) &&& (m_bit (k % 4) ^^^ -1))) (k / 4 % 4) 1) (5 + k) u) 290 (upd (m_uses (upd G3 (89 + a) (G3 (89 + a) &&& (m_bit (k % 4) ^^^ -1))) (k / 4 % 4) 1) (5 + k) u 290 + 1) = upd (upd (upd (m_uses G3 (k / 4 % 4) 1) (5 + k) u) (89 + a) (upd (m_uses G3 (k / 4 % 4) 1) (5 + k) u (89 + a) &&& (m_bit (k % 4) ^^^ -1))) 290 (upd (upd (m_uses G3 (k / 4 % 4) 1) (5 + k) u) (89 + a) (upd (m_uses G3 (k / 4 % 4) 1) (5 + k) u (89 + a) &&& (m_bit (k % 4) ^^^ -1)) 290 + 1) := by
        have e1 : upd (m_uses G3 (k / 4 % 4) 1) (5 + k) u (89 + a) = G3 (89 + a) := by rw [upd_ne (by omega), m_uses_hi _ _ b1 _ _ (by omega) (by omega)]
        rw [e1, m_uses_upd (by omega) (by omega) (by omega), upd_comm (show 89 + a ≠ 5 + k by omega)]
      rw [eG] at hR8
      rw [← eG] at hm'
      rw [eG] at hm'
      have e0' := hR8.1.bs (j := 0) (Or.inl rfl)
      have e9 : ∀ v1 v2 : Int32, upd (upd (upd (m_uses G3 (k / 4 % 4) 1) (5 + k) u) (89 + a) v1) 290 v2 234 = nI (n_latN bl r (k / 4)) := fun v1 v2 => by
        rw [upd_ne (by omega), upd_ne (by omega), upd_ne (by omega), m_uses_hi _ _ b1 _ _ (by omega) (by omega)]
        exact G234
      have e10 : ∀ F : Nat → Int32, (∃ v1 v2 : Int32, F = upd (upd (upd (m_uses G3 (k / 4 % 4) 1) (5 + k) u) (89 + a) v1) 290 v2) → F 234 = nI (n_latN bl r (k / 4)) := fun F hx => by
        obtain ⟨v1, v2, rfl⟩ := hx
        exact e9 v1 v2
      rw [e0', e0]
      exact hO.1 _ _ hm' A s l _ _ _ _ h' rfl hR8 ((GI.writes hT hG hm').r3 (e10 _ ⟨_, _, rfl⟩)) hM'
  · unfold m_writes
    rw [hi]
    rfl
  · unfold m_writes
    rw [hi, hu]
    rfl
  · rw [ex]
    unfold m_writes
    rw [if_pos (m_in63 k hk), if_pos hu, c_n (show k < 2 ^ 31 by omega), AC_none hA hG hR hT (by omega) hq p2 hin hct]
end G7
