-- the relation through an access
section G6
variable {gc g gc' g' C G W : Nat → Int32} {A κ : Nat → Nat} {bl : Nat → Nat} {T N s l r a b c o n i j k q cz : Nat} {v t : Int32}
theorem m_tc_eq (ha : a < 16) (hb : b < 16) : m_tc G a b v = n_accd (n_asked G b) a v := by
  funext j
  unfold m_tc n_accd n_asked
  rw [upd_ne (show 153 + a ≠ 121 + a by omega), upd_ne (show 153 + a ≠ 251 + b by omega)]
  by_cases h1 : j = 153 + a
  · subst h1; rw [upd_ne (by omega), upd_eq, upd_eq]
  · by_cases h2 : j = 121 + a
    · subst h2; rw [upd_ne (by omega), upd_ne (by omega), upd_eq, upd_ne (by omega), upd_eq]
    · by_cases h3 : j = 251 + b
      · subst h3; rw [upd_eq, upd_ne (by omega), upd_ne (by omega), upd_eq]
      · rw [upd_ne h3, upd_ne h1, upd_ne h2, upd_ne h1, upd_ne h2, upd_ne h3]
/-- what touching leaves outside the latest blocks -/
theorem m_touch_o (ha : a < 16) (hb : b < 16) (hr : r ≤ 16) (hGR : GR G r) (hj : j < 234 ∨ 251 ≤ j) : m_touch G a b r v j = n_accd (n_asked G b) a v j := by
  rw [m_touch_eq ha hb]
  have hGR' : GR (m_tc G a b v) r := GR.congr (fun i hi => by
    unfold m_tc
    rw [upd_ne (by omega), upd_ne (by omega), upd_ne (by omega)]) hGR
  rw [m_latest_o' hr hb hGR' hj, m_tc_eq ha hb]
theorem RM.accd (hR : RM gc g s l) (hl : lin s l a) (ha : a < 16) (hb : b < 16) (hh : g (73 + a) ≠ -1) : RM (n_accd (n_asked gc b) a v) (n_accd (n_asked g b) a v) s l := by
  unfold n_accd n_asked
  have b1 : bse (251 + b) := Or.inr (Or.inr (Or.inr (by omega)))
  rw [hR.bs b1]
  have h1 := hR.ub (v := g (251 + b) + 1) b1
  have hh1 : upd g (251 + b) (g (251 + b) + 1) (73 + a) ≠ -1 := by rw [upd_ne (by omega)]; exact hh
  have h2 := h1.ul (v := v) ha hh1 (Or.inr (Or.inr (Or.inl rfl)))
  have hh2 : upd (upd g (251 + b) (g (251 + b) + 1)) (121 + a) v (73 + a) ≠ -1 := by rw [upd_ne (by omega)]; exact hh1
  have e := ((h2.2 a hl).2.2.2.1 hh2).2.2.1
  rw [e]
  exact h2.ul ha hh2 (Or.inr (Or.inr (Or.inr (Or.inr (Or.inl rfl)))))
theorem RM.hits (hR : RM gc g s l) : RM (m_hits gc) (m_hits g) s l := by
  simp only [m_hits]
  have b285 : bse 285 := Or.inr (Or.inr (Or.inr (by omega)))
  have b0 : bse 0 := Or.inl rfl
  rw [hR.bs b285]
  have h1 := hR.ub (v := g 285 + 1) b285
  rw [h1.bs b0]
  exact h1.ub b0
theorem RM.miss0 (hR : RM gc g s l) (hb : b < 16) (hcz : cz < 3) : RM (m_miss0 gc b cz) (m_miss0 g b cz) s l := by
  simp only [m_miss0]
  have b1 : bse (286 + cz) := Or.inr (Or.inr (Or.inr (by omega)))
  have b2 : bse (267 + b) := Or.inr (Or.inr (Or.inr (by omega)))
  rw [hR.bs b1]
  have h1 := hR.ub (v := g (286 + cz) + 1) b1
  rw [h1.bs b2]
  exact h1.ub b2
def LA (a j : Nat) : Prop := j = 73 + a ∨ j = 89 + a ∨ j = 105 + a ∨ j = 121 + a ∨ j = 137 + a ∨ j = 153 + a ∨ (169 + 4 * a ≤ j ∧ j < 173 + 4 * a)
theorem n_gets_o {x : Int32} (hj : ¬ LA a j) : n_gets G a x t j = G j := by
  unfold LA at hj
  unfold n_gets
  rw [upd_ne (by omega), upd_ne (by omega), upd_ne (by omega), upd_ne (by omega), upd_ne (by omega)]
theorem m_empt_o (hj : ¬ LA a j) : m_emptiesLine G a j = G j := by
  unfold LA at hj
  simp only [m_emptiesLine]
  rw [upd_ne (by omega), upd_ne (by omega), upd_ne (by omega), upd_ne (by omega), upd_ne (by omega), upd_ne (by omega), upd_ne (by omega), upd_ne (by omega), upd_ne (by omega), upd_ne (by omega)]
/-- block b comes into line a, on both sides -/
theorem RM.load (hR : RM C G s l) (hl : lin s l a) (hb : b < 16) {x : Int32} : RM (n_accd (n_asked (upd (m_load (n_gets C a (nI b) t) a b 4) 233 x) b) a v) (n_accd (n_asked (upd (m_load (upd (upd (m_emptiesLine G a) (73 + a) (nI b)) (137 + a) t) a b 4) 233 x) b) a v) s l := by
  have ha := hl.1
  -- what the two hold, line a and 233 apart
  have vC : ∀ j, ¬ LA a j → j ≠ 233 → upd (m_load (n_gets C a (nI b) t) a b 4) 233 x j = C j := fun j h1 h2 => by
    rw [upd_ne h2, m_load_out _ _ _ _ (by unfold LA at h1; omega), n_gets_o h1]
  have vG : ∀ j, ¬ LA a j → j ≠ 233 → upd (m_load (upd (upd (m_emptiesLine G a) (73 + a) (nI b)) (137 + a) t) a b 4) 233 x j = G j := fun j h1 h2 => by
    rw [upd_ne h2, m_load_out _ _ _ _ (by unfold LA at h1; omega), upd_ne (by unfold LA at h1; omega), upd_ne (by unfold LA at h1; omega), m_empt_o h1]
  have iC : ∀ i, i < 153 → i ≠ 89 + a → i = 73 + a ∨ i = 105 + a ∨ i = 137 + a → upd (m_load (n_gets C a (nI b) t) a b 4) 233 x i = n_gets C a (nI b) t i := fun i h1 h2 h3 => by
    rw [upd_ne (by omega), m_load_out _ _ _ _ (by omega)]
  generalize hCC : upd (m_load (n_gets C a (nI b) t) a b 4) 233 x = CC at vC iC ⊢
  generalize hGG : upd (m_load (upd (upd (m_emptiesLine G a) (73 + a) (nI b)) (137 + a) t) a b 4) 233 x = GG at vG ⊢
  -- at line a
  have c73 : CC (73 + a) = nI b ∧ GG (73 + a) = nI b := by
    rw [← hCC, ← hGG, upd_ne (by omega), m_load_out _ _ _ _ (by omega), upd_ne (by omega), m_load_out _ _ _ _ (by omega)]
    unfold n_gets
    rw [upd_ne (by omega), upd_ne (by omega), upd_ne (by omega), upd_ne (by omega), upd_eq, upd_ne (by omega), upd_eq]
    exact ⟨rfl, rfl⟩
  have c89 : CC (89 + a) = 0 ∧ GG (89 + a) = 0 := by
    rw [← hCC, ← hGG, upd_ne (by omega), m_load_out _ _ _ _ (by omega), upd_ne (by omega), m_load_out _ _ _ _ (by omega), upd_ne (show 89 + a ≠ 137 + a by omega), upd_ne (show 89 + a ≠ 73 + a by omega), m_emptiesLine_89 G ha]
    unfold n_gets
    rw [upd_ne (by omega), upd_ne (by omega), upd_ne (by omega), upd_eq]
    exact ⟨rfl, rfl⟩
  have c105 : CC (105 + a) = 0 ∧ GG (105 + a) = 0 := by
    rw [← hCC, ← hGG, upd_ne (by omega), m_load_out _ _ _ _ (by omega), upd_ne (by omega), m_load_out _ _ _ _ (by omega), upd_ne (show 105 + a ≠ 137 + a by omega), upd_ne (show 105 + a ≠ 73 + a by omega), m_emptiesLine_105 G ha]
    unfold n_gets
    rw [upd_ne (by omega), upd_ne (by omega), upd_eq]
    exact ⟨rfl, rfl⟩
  have c137 : CC (137 + a) = t ∧ GG (137 + a) = t := by
    rw [← hCC, ← hGG, upd_ne (by omega), m_load_out _ _ _ _ (by omega), upd_ne (by omega), m_load_out _ _ _ _ (by omega), upd_eq]
    unfold n_gets
    rw [upd_ne (by omega), upd_eq]
    exact ⟨rfl, rfl⟩
  have c153 : CC (153 + a) = 0 ∧ GG (153 + a) = 0 := by
    rw [← hCC, ← hGG, upd_ne (by omega), m_load_out _ _ _ _ (by omega), upd_ne (by omega), m_load_out _ _ _ _ (by omega), upd_ne (show 153 + a ≠ 137 + a by omega), upd_ne (show 153 + a ≠ 73 + a by omega), m_emptiesLine_153 G ha]
    unfold n_gets
    rw [upd_eq]
    exact ⟨rfl, rfl⟩
  have cw : ∀ k, k < 4 → CC (169 + 4 * a + k) = GG (169 + 4 * a + k) := fun k hk => by
    rw [← hCC, ← hGG, upd_ne (by omega), upd_ne (by omega), m_load_in _ _ _ _ _ hk, m_load_in _ _ _ _ _ hk, n_gets_o (by unfold LA; omega), upd_ne (by omega), upd_ne (by omega), m_empt_o (by unfold LA; omega)]
    exact hR.1 _ (by omega)
  have c233 : CC 233 = GG 233 := by rw [← hCC, ← hGG, upd_eq, upd_eq]
  have fo : ∀ (F : Nat → Int32) j, j ≠ 153 + a → j ≠ 121 + a → j ≠ 251 + b → n_accd (n_asked F b) a v j = F j := fun F j h1 h2 h3 => by
    unfold n_accd n_asked
    rw [upd_ne h1, upd_ne h2, upd_ne h3]
  have f251 : ∀ F : Nat → Int32, n_accd (n_asked F b) a v (251 + b) = F (251 + b) + 1 := fun F => by
    unfold n_accd n_asked
    rw [upd_ne (by omega), upd_ne (by omega), upd_eq]
  have f121 : ∀ F : Nat → Int32, n_accd (n_asked F b) a v (121 + a) = v := fun F => by
    unfold n_accd n_asked
    rw [upd_ne (by omega), upd_eq]
  have f153 : ∀ F : Nat → Int32, n_accd (n_asked F b) a v (153 + a) = F (153 + a) + 1 := fun F => by
    unfold n_accd n_asked
    rw [upd_eq, upd_ne (by omega), upd_ne (by omega)]
  have base : ∀ j, bse j → CC j = GG j := fun j hj => by
    have hj0 := hj
    unfold bse at hj
    by_cases h233 : j = 233
    · rw [h233]; exact c233
    · rw [vC j (by unfold LA; omega) h233, vG j (by unfold LA; omega) h233]
      exact hR.1 j hj0
  refine ⟨fun j hj => ?_, fun c hlc => ?_⟩
  · by_cases h251 : j = 251 + b
    · rw [h251, f251, f251, base _ (Or.inr (Or.inr (Or.inr (by omega))))]
    · rw [fo CC j (by omega) (by omega) h251, fo GG j (by omega) (by omega) h251]
      exact base j hj
  · have hc := hlc.1
    by_cases hca : c = a
    · subst hca
      rw [fo CC (73 + c) (by omega) (by omega) (by omega), fo GG (73 + c) (by omega) (by omega) (by omega), fo CC (89 + c) (by omega) (by omega) (by omega), fo GG (89 + c) (by omega) (by omega) (by omega), fo CC (105 + c) (by omega) (by omega) (by omega), fo GG (105 + c) (by omega) (by omega) (by omega), f121, f121, f153, f153, fo CC (137 + c) (by omega) (by omega) (by omega), fo GG (137 + c) (by omega) (by omega) (by omega), c73.1, c73.2, c89.1, c89.2, c105.1, c105.2, c137.1, c137.2, c153.1, c153.2]
      refine ⟨rfl, rfl, rfl, fun _ => ⟨rfl, rfl, rfl, fun k hk => ?_⟩, fun h => absurd h (nI_ne b (by omega))⟩
      rw [fo CC _ (by omega) (by omega) (by omega), fo GG _ (by omega) (by omega) (by omega)]
      exact cw k hk
    · have e : ∀ j, (j = 73 + c ∨ j = 89 + c ∨ j = 105 + c ∨ j = 121 + c ∨ j = 137 + c ∨ j = 153 + c ∨ (169 + 4 * c ≤ j ∧ j < 173 + 4 * c)) → n_accd (n_asked CC b) a v j = C j ∧ n_accd (n_asked GG b) a v j = G j := fun j hj => by
        have hn : ¬ LA a j := by unfold LA; omega
        rw [fo CC j (by omega) (by omega) (by omega), fo GG j (by omega) (by omega) (by omega), vC j hn (by omega), vG j hn (by omega)]
        exact ⟨rfl, rfl⟩
      have h := hR.2 c hlc
      rw [(e (73 + c) (by omega)).1, (e (73 + c) (by omega)).2, (e (89 + c) (by omega)).1, (e (89 + c) (by omega)).2, (e (105 + c) (by omega)).1, (e (105 + c) (by omega)).2, (e (121 + c) (by omega)).1, (e (121 + c) (by omega)).2, (e (137 + c) (by omega)).1, (e (137 + c) (by omega)).2, (e (153 + c) (by omega)).1, (e (153 + c) (by omega)).2]
      refine ⟨h.1, h.2.1, h.2.2.1, fun hh => ?_, h.2.2.2.2⟩
      obtain ⟨q1, q2, q3, q4⟩ := h.2.2.2.1 hh
      exact ⟨q1, q2, q3, fun k hk => by rw [(e _ (by omega)).1, (e _ (by omega)).2]; exact q4 k hk⟩
theorem m_misses_o (hb : b < 16) (ha : a < 16) (hc : c < 3) (ho : ¬ m_ones (g (89 + a)) = 0 → o < 16) (hj : (234 ≤ j ∧ j < 251) ∨ 293 ≤ j) : m_misses g b a o c j = g j := by
  have hd : m_miss0 g b c (89 + a) = g (89 + a) := m_miss0_o g b c _ (by omega) (by omega)
  simp only [m_misses]
  rw [upd_ne (by omega), m_load_out _ _ _ _ (by omega), upd_ne (by omega), upd_ne (by omega), m_empt_o (by unfold LA; omega), m_uses_hi _ (b % 4) (Nat.mod_lt _ (by decide)) _ _ (by omega) (by omega), m_wB_o _ _ _ _ (by rw [hd]; exact ho) (by omega) (by omega) (by omega) (by omega), m_miss0_o _ _ _ _ (by omega) (by omega)]
/-- class and twin: a machine's numbers, what was written, the latest blocks -/
def RX (gc g W : Nat → Int32) (bl : Nat → Nat) (s l r : Nat) : Prop := RM gc g s l ∧ LT g bl r ∧ ∀ k, k < 64 → W k = g (293 + k)
theorem AC_acc (hA : mOK κ A s l) (hG : GI g T N s l r) (hR : RX gc g W bl s l r) (hT : T < 2 ^ 28) (hb : b < 16) (hq : q < 4) (h3 : g 3 = nI q) (hAC : AC A gc s l q bl r b a gc') : ∃ g', m_acc g b s l r = some (a, g') ∧ RX gc' g' W (n_lat bl r b) s l (n_latN bl r b) ∧ g' 234 = nI (n_latN bl r b) := by
  obtain ⟨hl, ha4, hAC⟩ := hAC
  have ha := hl.1
  have hr16 := hG.1.1.2
  have hgr := hG.2.2.2.2.1
  have hhold := RM.holder hG hR.1 hb
  have e0 : gc 0 = g 0 := hR.1.bs (Or.inl rfl)
  rcases hAC with ⟨hin, rfl⟩ | ⟨hin, hct, rfl⟩
  · rw [hin] at hhold
    have hlw : m_lw g b = some a := by
      rw [← hhold]
      show some (4 * (b % s) + a % 4) = some a
      congr 1
      omega
    have hh : g (73 + a) ≠ -1 := by rw [(m_lw_lt hlw).2]; exact nI_ne b (by omega)
    refine ⟨m_touch (m_hits g) a b r (g 0), by unfold m_acc; rw [hlw], ?_⟩
    have h1 := hR.1.hits
    have hgr' : GR (m_hits g) r := GR.congr (fun i hi => by simp only [m_hits]; rw [upd_ne (by omega), upd_ne (by omega)]) hgr
    have hh1 : m_hits g (73 + a) ≠ -1 := by simp only [m_hits]; rw [upd_ne (by omega), upd_ne (by omega)]; exact hh
    have h2 := h1.accd (v := g 0) hl ha hb hh1
    have hLT : LT (m_hits g) bl r := fun i hi => by
      have : m_hits g (235 + i) = g (235 + i) := by simp only [m_hits]; rw [upd_ne (by omega), upd_ne (by omega)]
      rw [this]
      exact hR.2.1 i hi
    have hLT' : LT (m_tc (m_hits g) a b (g 0)) bl r := fun i hi => by
      have : m_tc (m_hits g) a b (g 0) (235 + i) = m_hits g (235 + i) := by unfold m_tc; rw [upd_ne (by omega), upd_ne (by omega), upd_ne (by omega)]
      rw [this]
      exact hLT i hi
    obtain ⟨l1, l2⟩ := hLT'.lat hb
    refine ⟨⟨?_, ?_, fun k hk => ?_⟩, by rw [m_touch_eq ha hb, m_latest_234, l1]⟩
    · have e : n_hit gc a b = n_accd (n_asked (m_hits gc) b) a (g 0) := by unfold n_hit; rw [e0]
      rw [e]
      exact h2.tw (fun j hj => m_touch_o ha hb hr16 hgr' (by omega))
    · rw [m_touch_eq ha hb, ← l1]
      exact l2
    · rw [m_touch_o ha hb hr16 hgr' (by omega), hR.2.2 k hk]
      unfold n_accd n_asked
      rw [upd_ne (by omega), upd_ne (by omega), upd_ne (by omega)]
      simp only [m_hits]
      rw [upd_ne (by omega), upd_ne (by omega)]
  · rw [hin] at hhold
    have hlw : m_lw g b = none := hhold.symm
    have hcl := CT_lineFor hA hG hR.1 (by omega) hb hq h3 hct
    have hlf : m_lineFor g b s l = some a := by
      cases hf : m_lineFor g b s l with
      | none => rw [hf] at hcl; cases hcl
      | some a' =>
        rw [hf] at hcl
        have hcl : A (6 + a) = A (6 + a') := Option.some.inj hcl
        obtain ⟨y1, y2, y3⟩ := m_lineFor_in hG.1.2.1.2.1 hG.1.2.1.2.2 hG.1.2.2.1.2.2 hf
        have hs1 := hG.1.2.1.2.1
        have hla' : lin s l a' := ⟨y1, by rw [y2]; exact Nat.mod_lt _ (by omega), y3⟩
        have := hA.2 _ _ (mdl hl) (mdl hla') hcl
        rw [show a' = a by omega]
    have hcz : n_cause gc bl r b s l = m_cause g b r s l := n_cause_eq (hR.1.bs (Or.inr (Or.inr (Or.inl rfl)))) hR.2.1 hb
    have hcz3 := m_cause_lt g b r s l
    refine ⟨_, by unfold m_acc; rw [hlw]; dsimp only; rw [hlf], ?_⟩
    rw [hcz]
    generalize m_cause g b r s l = cz at hcz3
    have hdirt := (hG.2.2.1 a ha).dirty
    have hob : m_blk gc a = m_blk g a := by unfold m_blk; rw [(hR.1.2 a hl).1]
    have ho16 : ¬ m_ones (g (89 + a)) = 0 → m_blk g a < 16 := fun z => (hdirt z).1
    have d89 : m_miss0 g b cz (89 + a) = g (89 + a) := m_miss0_o g b cz _ (by omega) (by omega)
    have d73 : m_miss0 g b cz (73 + a) = g (73 + a) := m_miss0_o g b cz _ (by omega) (by omega)
    have d0 : m_miss0 g b cz 0 = g 0 := m_miss0_o g b cz _ (by omega) (by omega)
    have h1 := hR.1.miss0 (cz := cz) hb hcz3
    have h2 := h1.wB (o := m_blk g a) hl (fun z => by
      rw [d89] at z
      rw [d73, (hdirt z).2]
      exact ⟨nI_ne _ (by have := (hdirt z).1; omega), (hdirt z).1⟩)
    have h3' := h2.uses (k := b % 4) (Nat.mod_lt _ (by decide)) 5
    have hgr' : GR (m_misses g b a (m_blk g a) cz) r := GR.congr (fun i hi => m_misses_o hb ha hcz3 ho16 (by omega)) hgr
    have x233 : m_load (n_gets (m_uses (m_wB (m_miss0 gc b cz) a (m_blk g a)) (b % 4) 5) a (nI b) (g 0)) a b 4 233 = m_load (upd (upd (m_emptiesLine (m_uses (m_wB (m_miss0 g b cz) a (m_blk g a)) (b % 4) 5) a) (73 + a) (nI b)) (137 + a) (g 0)) a b 4 233 := by
      rw [m_load_out _ _ _ _ (by omega), m_load_out _ _ _ _ (by omega), n_gets_o (by unfold LA; omega), upd_ne (by omega), upd_ne (by omega), m_empt_o (by unfold LA; omega)]
      exact h3'.bs (Or.inr (Or.inr (Or.inl rfl)))
    have key := h3'.load (v := g 0) (t := g 0) (x := m_load (upd (upd (m_emptiesLine (m_uses (m_wB (m_miss0 g b cz) a (m_blk g a)) (b % 4) 5) a) (73 + a) (nI b)) (137 + a) (g 0)) a b 4 233 ||| (1 <<< (nI b &&& 31))) hl hb
    have eC : n_miss gc a b cz = n_accd (n_asked (upd (m_load (n_gets (m_uses (m_wB (m_miss0 gc b cz) a (m_blk g a)) (b % 4) 5) a (nI b) (g 0)) a b 4) 233 (m_load (upd (upd (m_emptiesLine (m_uses (m_wB (m_miss0 g b cz) a (m_blk g a)) (b % 4) 5) a) (73 + a) (nI b)) (137 + a) (g 0)) a b 4 233 ||| (1 <<< (nI b &&& 31)))) b) a (g 0) := by
      unfold n_miss n_comes
      dsimp only
      rw [hob, e0, x233]
    have eG : m_misses g b a (m_blk g a) cz = upd (m_load (upd (upd (m_emptiesLine (m_uses (m_wB (m_miss0 g b cz) a (m_blk g a)) (b % 4) 5) a) (73 + a) (nI b)) (137 + a) (g 0)) a b 4) 233 (m_load (upd (upd (m_emptiesLine (m_uses (m_wB (m_miss0 g b cz) a (m_blk g a)) (b % 4) 5) a) (73 + a) (nI b)) (137 + a) (g 0)) a b 4 233 ||| (1 <<< (nI b &&& 31))) := by
      unfold m_misses
      dsimp only
      rw [d0]
    have hLT' : LT (m_tc (m_misses g b a (m_blk g a) cz) a b (g 0)) bl r := fun i hi => by
      have e : m_tc (m_misses g b a (m_blk g a) cz) a b (g 0) (235 + i) = m_misses g b a (m_blk g a) cz (235 + i) := by unfold m_tc; rw [upd_ne (by omega), upd_ne (by omega), upd_ne (by omega)]
      rw [e, m_misses_o hb ha hcz3 ho16 (by omega)]
      exact hR.2.1 i hi
    obtain ⟨l1, l2⟩ := hLT'.lat hb
    refine ⟨⟨?_, ?_, fun k hk => ?_⟩, by rw [m_touch_eq ha hb, m_latest_234, l1]⟩
    · rw [eC]
      rw [← eG] at key
      exact key.tw (fun j hj => m_touch_o ha hb hr16 hgr' (by omega))
    · rw [m_touch_eq ha hb, ← l1]
      exact l2
    · rw [m_touch_o ha hb hr16 hgr' (by omega), hR.2.2 k hk]
      unfold n_accd n_asked
      rw [upd_ne (by omega), upd_ne (by omega), upd_ne (by omega), m_misses_o hb ha hcz3 ho16 (by omega)]
theorem AC_none (hA : mOK κ A s l) (hG : GI g T N s l r) (hR : RX gc g W bl s l r) (hT : T < 2 ^ 28) (hb : b < 16) (hq : q < 4) (h3 : g 3 = nI q) (hin : n_in gc (b % s) l (nI b) = none) (hct : CT A gc s l q b none) : m_acc g b s l r = none := by
  have hhold := RM.holder hG hR.1 hb
  rw [hin] at hhold
  have hcl := CT_lineFor hA hG hR.1 (by omega) hb hq h3 hct
  unfold m_acc
  rw [← hhold]
  cases hf : m_lineFor g b s l with
  | none => rfl
  | some a => rw [hf] at hcl; cases hcl
end G6
