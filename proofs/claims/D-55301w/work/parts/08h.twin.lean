section G8
variable {gc g W C G : Nat → Int32} {A κ c : Nat → Nat} {bl : Nat → Nat} {T N s l r a b i j k q : Nat} {h h0 : xH}
theorem o_waits (hM : MM κ A s l c W h0 r bl h) (hR : RX gc g W bl s l r) (hG : GI g T N s l r) (x : Int32) {c0 s0 : Nat} (hc : 90 ≤ c0) (hs : 50000 ≤ s0) (K : Int32 → xH → Prop) (KX : Nat → xH → Prop) (hO : ORD κ c h0 (A 5) (m_passes g x) K KX) : P_X2_waits κ (A 5) x (mput h A s l gc, c0, s0) K KX := by
  have b0 : bse 0 := Or.inl rfl
  refine cc_waits hM x (by omega) (by omega) K KX (fun hi => ?_) (fun hi => hO.2 1 x ?_)
  · rw [hR.1.bs b0]
    have he : m_passes g x = .inr (g 0 + x, upd g 0 (g 0 + x)) := by
      unfold m_passes
      rw [hi]
      rfl
    exact hO.1 _ _ he A s l _ W bl r h rfl (hR.ub hG.1.1.2 b0) ((show nxt (upd g 0 (g 0 + x)) T N s l from GI.passes hG he).r3 ((upd_ne (by omega)).trans hG.1.1.1)) hM
  · unfold m_passes
    rw [hi]
    rfl
theorem o_rules (hM : MM κ A s l c W h0 r bl h) (hR : RX gc g W bl s l r) (hG : GI g T N s l r) (x : Int32) {c0 s0 : Nat} (hc : 90 ≤ c0) (hs : 50000 ≤ s0) (K : Int32 → xH → Prop) (KX : Nat → xH → Prop) (hO : ORD κ c h0 (A 5) (m_rule g x) K KX) : P_X2_rules κ (A 5) x (mput h A s l gc, c0, s0) K KX := by
  have b3 : bse 3 := Or.inr (Or.inl (by omega))
  refine cc_rules hM x (by omega) (by omega) K KX (fun hi => ?_) (fun hi => hO.2 1 x ?_)
  · rw [hR.1.bs b3]
    have he : m_rule g x = .inr (g 3, upd g 3 x) := by
      unfold m_rule
      rw [hi]
      rfl
    exact hO.1 _ _ he A s l _ W bl r h rfl (hR.ub hG.1.1.2 b3) ((show nxt (upd g 3 x) T N s l from GI.rule hG he).r3 ((upd_ne (by omega)).trans hG.1.1.1)) hM
  · unfold m_rule
    rw [hi]
    rfl
theorem sum_cut {f f' : Nat → Int32} (hl : l ≤ 4) (h1 : ∀ k, k < l → f' k = f k) (h2 : ∀ k, l ≤ k → k < 4 → f k = 0) : m_sum f' l = m_sum f 4 := by
  have e1 : ∀ n, n ≤ l → m_sum f' n = m_sum f n := by
    intro n
    induction n with
    | zero => intro _; rfl
    | succ n ih => intro hn; rw [m_sum, m_sum, ih (by omega), h1 n (by omega)]
  have e2 : ∀ n, l ≤ n → n ≤ 4 → m_sum f n = m_sum f l := by
    intro n
    induction n with
    | zero => intro h _; have : l = 0 := by omega
              rw [this]
    | succ n ih =>
      intro h h4
      by_cases e : l = n + 1
      · rw [e]
      · rw [m_sum, ih (by omega) (by omega), h2 n (by omega) (by omega), Int32.add_zero]
  rw [e1 l (Nat.le_refl _), ← e2 4 hl (Nat.le_refl _)]
theorem pin_eq (hR : RM gc g s l) (hq : q < s) (hs4 : s ≤ 4) (hl4 : l ≤ 4) (h01 : ∀ a, lin s l a → g (105 + a) = 0 ∨ g (105 + a) = 1) (h0' : ∀ k, l ≤ k → k < 4 → g (105 + 4 * q + k) = 0) : n_pin gc q l = m_pinned g q := by
  unfold n_pin m_pinned
  refine sum_cut hl4 (fun k hk => ?_) h0'
  have hl := lin_q hs4 hl4 hq hk
  have e := (hR.2 _ hl).2.2.1
  rw [show 105 + 4 * q + k = 105 + (4 * q + k) by omega, e]
  rcases h01 _ hl with z | z
  · rw [z]; rfl
  · rw [z]; rfl
/-- a place that is no line's holds nothing -/
theorem GI.off (hG : GI g T N s l r) (ha : a < 16) (hoff : ¬ lin s l a) : g (73 + a) = -1 ∧ g (89 + a) = 0 ∧ g (105 + a) = 0 := by
  rcases hG.2.2.1 a ha with ⟨z1, z2, z3, -⟩ | ⟨b, d, x, y, n, e1, e2, e3, e4, -⟩
  · exact ⟨z1, z2, z3⟩
  · exfalso
    refine hoff ⟨ha, ?_, e4⟩
    rw [e3]
    have := hG.1.2.1.2.1
    exact Nat.mod_lt _ (by omega)
theorem GI.p01 (hG : GI g T N s l r) (ha : a < 16) : g (105 + a) = 0 ∨ g (105 + a) = 1 := by
  rcases hG.2.2.1 a ha with ⟨z1, z2, z3, -⟩ | ⟨b, d, x, y, n, e1, e2, e3, e4, e5, e6, e7, -⟩
  · exact Or.inl z3
  · exact e7
theorem in_lw (hG : GI g T N s l r) (hR : RM gc g s l) (hb : b < 16) (hin : n_in gc (b % s) l (nI b) = some j) : m_lw g b = some (4 * (b % s) + j) := by
  have := RM.holder hG hR hb
  rw [hin] at this
  exact this.symm
theorem in_lwn (hG : GI g T N s l r) (hR : RM gc g s l) (hb : b < 16) (hin : n_in gc (b % s) l (nI b) = none) : m_lw g b = none := by
  have := RM.holder hG hR hb
  rw [hin] at this
  exact this.symm
theorem pin_after (hG : GI g T N s l r) (hR : RM gc g s l) (hq : q < s) (hj : j < l) {v : Int32} (hv : v = 0 ∨ v = 1) (hh : g (73 + (4 * q + j)) ≠ -1) : n_pin (upd gc (105 + (4 * q + j)) v) q l = m_pinned (upd g (105 + (4 * q + j)) v) ((4 * q + j) / 4) ∧ RM (upd gc (105 + (4 * q + j)) v) (upd g (105 + (4 * q + j)) v) s l := by
  obtain ⟨hs1, hs4⟩ := hG.1.2.1.2
  obtain ⟨hl1, hl4⟩ := hG.1.2.2.1.2
  have hR' : RM (upd gc (105 + (4 * q + j)) v) (upd g (105 + (4 * q + j)) v) s l := hR.ul (by omega) hh (Or.inr (Or.inl rfl))
  have e : (4 * q + j) / 4 = q := by omega
  refine ⟨?_, hR'⟩
  rw [e]
  refine pin_eq hR' hq hs4 hl4 (fun a ha => ?_) (fun k h1 h2 => ?_)
  · by_cases e : 105 + a = 105 + (4 * q + j)
    · rw [e, upd_eq]; exact hv
    · rw [upd_ne e]; exact hG.p01 ha.1
  · rw [upd_ne (by omega), show 105 + 4 * q + k = 105 + (4 * q + k) by omega]
    exact (hG.off (a := 4 * q + k) (by omega) (fun z => by have := z.2.2; omega)).2.2
theorem o_pins (hM : MM κ A s l c W h0 r bl h) (hR : RX gc g W bl s l r) (hG : GI g T N s l r) (x : Int32) {c0 s0 : Nat} (hc : 90 ≤ c0) (hs : 50000 ≤ s0) (K : Int32 → xH → Prop) (KX : Nat → xH → Prop) (hO : ORD κ c h0 (A 5) (m_pins g x 1) K KX) : P_X2_pins κ (A 5) x (mput h A s l gc, c0, s0) K KX := by
  obtain ⟨hs1, hs4⟩ := hG.1.2.1.2
  obtain ⟨hl1, hl4⟩ := hG.1.2.2.1.2
  refine cc_pins hM x (by omega) (by omega) K KX (fun k j h' ex hk hin hz hM' => ?_) (fun hi => hO.2 1 x ?_) (fun k ex hk hin => hO.2 3 x ?_) (fun k j ex hk hin hz => hO.2 4 (nI j) ?_)
  · have hlw := in_lw hG hR.1 hk hin
    have hj := (n_in_lt hin).1
    have hq : k % s < s := Nat.mod_lt _ (by omega)
    have hl := lin_q hs4 hl4 hq hj
    have h105 := (hR.1.2 _ hl).2.2.1
    have hh : g (73 + (4 * (k % s) + j)) ≠ -1 := by rw [(m_lw_lt hlw).2]; exact nI_ne k (by omega)
    obtain ⟨e1, e2⟩ := pin_after hG hR.1 hq hj (v := 1) (Or.inr rfl) hh
    rw [e1]
    have he : m_pins g x 1 = .inr (m_pinned (upd g (105 + (4 * (k % s) + j)) 1) ((4 * (k % s) + j) / 4), upd g (105 + (4 * (k % s) + j)) 1) := by
      rw [ex]
      unfold m_pins
      rw [if_pos (m_in15 k hk), c_n (show k < 2 ^ 31 by omega), hlw]
      dsimp only
      rw [if_neg (by rw [← h105, hz]; decide)]
    exact hO.1 _ _ he A s l _ W bl r h' rfl (hR.ul hl.1 hh (Or.inr (Or.inl rfl))) ((show nxt (upd g (105 + (4 * (k % s) + j)) 1) T N s l from GI.pins (Or.inr rfl) hG he).r3 ((upd_ne (by omega)).trans hG.1.1.1)) hM'
  · unfold m_pins
    rw [hi]
    rfl
  · have hlw := in_lwn hG hR.1 hk hin
    rw [ex]
    unfold m_pins
    rw [if_pos (m_in15 k hk), c_n (show k < 2 ^ 31 by omega), hlw]
  · have hlw := in_lw hG hR.1 hk hin
    have hj := (n_in_lt hin).1
    have hq : k % s < s := Nat.mod_lt _ (by omega)
    have hl := lin_q hs4 hl4 hq hj
    have h105 := (hR.1.2 _ hl).2.2.1
    have h1 : g (105 + (4 * (k % s) + j)) = 1 := by
      rcases hG.p01 hl.1 with z | z
      · exact absurd (h105.trans z) hz
      · exact z
    rw [ex]
    unfold m_pins
    rw [if_pos (m_in15 k hk), c_n (show k < 2 ^ 31 by omega), hlw]
    dsimp only
    rw [if_pos h1, if_pos rfl, show (4 * (k % s) + j) % 4 = j by omega]
theorem o_frees (hM : MM κ A s l c W h0 r bl h) (hR : RX gc g W bl s l r) (hG : GI g T N s l r) (x : Int32) {c0 s0 : Nat} (hc : 90 ≤ c0) (hs : 50000 ≤ s0) (K : Int32 → xH → Prop) (KX : Nat → xH → Prop) (hO : ORD κ c h0 (A 5) (m_pins g x 0) K KX) : P_X2_frees κ (A 5) x (mput h A s l gc, c0, s0) K KX := by
  obtain ⟨hs1, hs4⟩ := hG.1.2.1.2
  obtain ⟨hl1, hl4⟩ := hG.1.2.2.1.2
  refine cc_frees hM (fun a ha => by rw [(hR.1.2 a ha).2.2.1]; exact hG.p01 ha.1) x (by omega) (by omega) K KX (fun k j h' ex hk hin hz hM' => ?_) (fun hi => hO.2 1 x ?_) (fun k ex hk hin => hO.2 3 x ?_) (fun k j ex hk hin hz => hO.2 5 (nI j) ?_)
  · have hlw := in_lw hG hR.1 hk hin
    have hj := (n_in_lt hin).1
    have hq : k % s < s := Nat.mod_lt _ (by omega)
    have hl := lin_q hs4 hl4 hq hj
    have h105 := (hR.1.2 _ hl).2.2.1
    have hh : g (73 + (4 * (k % s) + j)) ≠ -1 := by rw [(m_lw_lt hlw).2]; exact nI_ne k (by omega)
    obtain ⟨e1, e2⟩ := pin_after hG hR.1 hq hj (v := 0) (Or.inl rfl) hh
    rw [e1]
    have he : m_pins g x 0 = .inr (m_pinned (upd g (105 + (4 * (k % s) + j)) 0) ((4 * (k % s) + j) / 4), upd g (105 + (4 * (k % s) + j)) 0) := by
      rw [ex]
      unfold m_pins
      rw [if_pos (m_in15 k hk), c_n (show k < 2 ^ 31 by omega), hlw]
      dsimp only
      rw [if_neg (by rw [← h105, hz]; decide)]
    exact hO.1 _ _ he A s l _ W bl r h' rfl (hR.ul hl.1 hh (Or.inr (Or.inl rfl))) ((show nxt (upd g (105 + (4 * (k % s) + j)) 0) T N s l from GI.pins (Or.inl rfl) hG he).r3 ((upd_ne (by omega)).trans hG.1.1.1)) hM'
  · unfold m_pins
    rw [hi]
    rfl
  · have hlw := in_lwn hG hR.1 hk hin
    rw [ex]
    unfold m_pins
    rw [if_pos (m_in15 k hk), c_n (show k < 2 ^ 31 by omega), hlw]
  · have hlw := in_lw hG hR.1 hk hin
    have hj := (n_in_lt hin).1
    have hq : k % s < s := Nat.mod_lt _ (by omega)
    have hl := lin_q hs4 hl4 hq hj
    have h105 := (hR.1.2 _ hl).2.2.1
    rw [ex]
    unfold m_pins
    rw [if_pos (m_in15 k hk), c_n (show k < 2 ^ 31 by omega), hlw]
    dsimp only
    rw [if_pos (by rw [← h105, hz]), if_neg (by decide), show (4 * (k % s) + j) % 4 = j by omega]
theorem RM.empty (hR : RM C G s l) (ha : a < 16) : RM (n_empty C a) (m_emptiesLine G a) s l := by
  have eC : ∀ j, ¬ LA a j → n_empty C a j = C j := fun j hj => by
    unfold LA at hj
    unfold n_empty
    rw [upd_ne (by omega), upd_ne (by omega), upd_ne (by omega), upd_ne (by omega), upd_ne (by omega), upd_ne (by omega)]
  refine ⟨fun j hj => ?_, fun c hl => ?_⟩
  · rw [eC j (by unfold LA; omega), m_empt_o (by unfold LA; omega)]
    exact hR.1 j hj
  · have hc := hl.1
    by_cases hca : c = a
    · subst hca
      have c73 : n_empty C c (73 + c) = -1 := by unfold n_empty; rw [upd_ne (by omega), upd_ne (by omega), upd_ne (by omega), upd_ne (by omega), upd_ne (by omega), upd_eq]
      have c89 : n_empty C c (89 + c) = 0 := by unfold n_empty; rw [upd_ne (by omega), upd_ne (by omega), upd_ne (by omega), upd_ne (by omega), upd_eq]
      have c105 : n_empty C c (105 + c) = 0 := by unfold n_empty; rw [upd_ne (by omega), upd_ne (by omega), upd_ne (by omega), upd_eq]
      have c121 : n_empty C c (121 + c) = -1 := by unfold n_empty; rw [upd_ne (by omega), upd_ne (by omega), upd_eq]
      have c137 : n_empty C c (137 + c) = -1 := by unfold n_empty; rw [upd_ne (by omega), upd_eq]
      have c153 : n_empty C c (153 + c) = -1 := by unfold n_empty; rw [upd_eq]
      rw [c73, c89, c105, c121, c137, c153, m_emptiesLine_73 G hc, m_emptiesLine_89 G hc, m_emptiesLine_105 G hc]
      exact ⟨rfl, rfl, rfl, fun z => absurd rfl z, fun _ => ⟨rfl, rfl, rfl⟩⟩
    · obtain ⟨r1, r2, r3, r4, r5⟩ := hR.2 c hl
      rw [eC _ (by unfold LA; omega), eC (89 + c) (by unfold LA; omega), eC (105 + c) (by unfold LA; omega), eC (121 + c) (by unfold LA; omega), eC (137 + c) (by unfold LA; omega), eC (153 + c) (by unfold LA; omega), m_empt_o (j := 73 + c) (by unfold LA; omega), m_empt_o (j := 89 + c) (by unfold LA; omega), m_empt_o (j := 105 + c) (by unfold LA; omega), m_empt_o (j := 121 + c) (by unfold LA; omega), m_empt_o (j := 137 + c) (by unfold LA; omega), m_empt_o (j := 153 + c) (by unfold LA; omega)]
      refine ⟨r1, r2, r3, fun z => ?_, r5⟩
      obtain ⟨q1, q2, q3, q4⟩ := r4 z
      exact ⟨q1, q2, q3, fun k hk => by rw [eC _ (by unfold LA; omega), m_empt_o (by unfold LA; omega)]; exact q4 k hk⟩
theorem o_device (hM : MM κ A s l c W h0 r bl h) (hR : RX gc g W bl s l r) (hG : GI g T N s l r) (hT : T < 2 ^ 28) (x u : Int32) {c0 s0 : Nat} (hc : 90 ≤ c0) (hs : 50000 ≤ s0) (K : Int32 → xH → Prop) (KX : Nat → xH → Prop) (hO : ORD κ c h0 (A 5) (m_devices g x u) K KX) : P_X2_deviceWrites κ (A 5) x u (mput h A s l gc, c0, s0) K KX := by
  obtain ⟨p1, ⟨q, hq, p2, p3⟩, p4, p5, p6, p7, p8⟩ := hR.pre hG hT
  obtain ⟨hs1, hs4⟩ := hG.1.2.1.2
  obtain ⟨hl1, hl4⟩ := hG.1.2.2.1.2
  have hr := hG.1.1.2
  have b292 : bse 292 := Or.inr (Or.inr (Or.inr (by omega)))
  -- the store and the map
  have st : ∀ (C G : Nat → Int32) (k : Nat), k < 64 → RX C G W bl s l r → RX (n_dev C k u) (upd (upd (upd G (5 + k) u) (293 + k) u) 292 (upd (upd G (5 + k) u) (293 + k) u 292 + 1)) (upd W k u) bl s l r := fun C G k hk hX => by
    have h1 := (hX.ub hr (v := u) (j := 5 + k) (Or.inr (Or.inl (by omega)))).uw hr (k := k) (v := u) hk
    unfold n_dev
    rw [h1.1.bs b292]
    exact h1.ub hr b292
  refine cc_deviceWrites hM p4 hT x u (by omega) (by omega) K KX (fun k h' ex hk hu hin hM' => ?_) (fun k j h' ex hk hu hin hM' => ?_) (fun hi => hO.2 1 x ?_) (fun hi hu => hO.2 1 u ?_)
  · have hlw := in_lwn hG hR.1 (show k / 4 < 16 by omega) hin
    have he : m_devices g x u = .inr (0, upd (upd (upd g (5 + k) u) (293 + k) u) 292 (upd (upd g (5 + k) u) (293 + k) u 292 + 1)) := by
      rw [ex]
      unfold m_devices
      rw [if_pos (m_in63 k hk), if_pos hu, c_n (show k < 2 ^ 31 by omega)]
      dsimp only
      rw [hlw]
    exact hO.1 _ _ he A s l _ _ bl r h' rfl (st gc g k hk hR) ((show nxt (upd (upd (upd g (5 + k) u) (293 + k) u) 292 (upd (upd g (5 + k) u) (293 + k) u 292 + 1)) T N s l from GI.devices hT hG he).r3 (by
      rw [upd_ne (by omega), upd_ne (by omega), upd_ne (by omega)]
      exact hG.1.1.1)) hM'
  · have hlw := in_lw hG hR.1 (show k / 4 < 16 by omega) hin
    have hj := (n_in_lt hin).1
    have hqq : k / 4 % s < s := Nat.mod_lt _ (by omega)
    have hl := lin_q hs4 hl4 hqq hj
    have ha := hl.1
    have h73 := (m_lw_lt hlw).2
    have hh : g (73 + (4 * (k / 4 % s) + j)) ≠ -1 := by rw [h73]; exact nI_ne _ (by omega)
    have hblk : m_blk g (4 * (k / 4 % s) + j) = k / 4 := by unfold m_blk; rw [h73, nI_clamp (by omega)]
    have h1 := hR.1.wB (o := k / 4) hl (fun _ => ⟨hh, by omega⟩)
    have h2 := h1.empty ha
    have wo : ∀ i, 234 ≤ i → i ≠ 289 → i ≠ 291 → m_emptiesLine (m_wB g (4 * (k / 4 % s) + j) (k / 4)) (4 * (k / 4 % s) + j) i = g i := fun i h1 h2 h3 => by
      rw [m_empt_o (by unfold LA; omega), m_wB_o _ _ _ _ (fun _ => by omega) (by omega) (by omega) h2 h3]
    have hX : RX (n_empty (m_wB gc (4 * (k / 4 % s) + j) (k / 4)) (4 * (k / 4 % s) + j)) (m_emptiesLine (m_wB g (4 * (k / 4 % s) + j) (k / 4)) (4 * (k / 4 % s) + j)) W bl s l r := ⟨h2, fun i hi => by rw [wo _ (by omega) (by omega) (by omega)]; exact hR.2.1 i hi, fun i hi => by rw [wo _ (by omega) (by omega) (by omega)]; exact hR.2.2 i hi⟩
    rw [(hR.1.2 _ hl).2.1]
    have he : m_devices g x u = .inr (m_ones (g (89 + (4 * (k / 4 % s) + j))), upd (upd (upd (m_emptiesLine (m_wB g (4 * (k / 4 % s) + j) (k / 4)) (4 * (k / 4 % s) + j)) (5 + k) u) (293 + k) u) 292 (upd (upd (m_emptiesLine (m_wB g (4 * (k / 4 % s) + j) (k / 4)) (4 * (k / 4 % s) + j)) (5 + k) u) (293 + k) u 292 + 1)) := by
      rw [ex]
      unfold m_devices
      rw [if_pos (m_in63 k hk), if_pos hu, c_n (show k < 2 ^ 31 by omega)]
      dsimp only
      rw [hlw]
      dsimp only
      rw [hblk]
    exact hO.1 _ _ he A s l _ _ bl r h' rfl (st _ _ k hk hX) ((show nxt (upd (upd (upd (m_emptiesLine (m_wB g (4 * (k / 4 % s) + j) (k / 4)) (4 * (k / 4 % s) + j)) (5 + k) u) (293 + k) u) 292 (upd (upd (m_emptiesLine (m_wB g (4 * (k / 4 % s) + j) (k / 4)) (4 * (k / 4 % s) + j)) (5 + k) u) (293 + k) u 292 + 1)) T N s l from GI.devices hT hG he).r3 (by
      rw [upd_ne (by omega), upd_ne (by omega), upd_ne (by omega), wo 234 (by omega) (by omega) (by omega)]
      exact hG.1.1.1)) hM'
  · unfold m_devices
    rw [hi]
    rfl
  · unfold m_devices
    rw [hi, hu]
    rfl
end G8
