-- the sets under construction
def exA (A : Nat → Nat) (k l : Nat) (L Wd : Nat → Nat) : Nat → Nat := fun j => if 6 + 4 * k ≤ j ∧ j < 6 + 4 * k + l then L (j - (6 + 4 * k)) else if 22 + 4 * k ≤ j ∧ j < 22 + 4 * k + l then Wd (j - (22 + 4 * k)) else A j
def OUT (κ : Nat → Nat) (H1 H : xH) (a39 d : Nat) (g : Nat → Int32) (l k d' : Nat) (m' : Int32) (A' BB DD : Nat → Nat) (Ms : Nat → Int32) : Prop :=
  AL κ H a39 d' k (fun q => some (BB q)) m' ∧ ((d' = d ∨ H1 d' = none) ∧ (∃ e, H1 a39 = some e) ∧ ∀ b, H b = none → H1 b = none) ∧
  (∀ q, q < k → AL κ H (BB q) (DD q) l (fun n => some (A' (6 + (4 * q + n)))) (Ms q) ∧ H1 (BB q) = none ∧ DD q ≠ d') ∧
  (∀ a, lin k l a → H (A' (6 + a)) = some (.inl (5, lFw (A' (22 + a)) g a)) ∧ H (A' (22 + a)) = some (.inr (.int, 4, .inl (m_arr g (169 + 4 * a) 4))) ∧ H1 (A' (6 + a)) = none ∧ H1 (A' (22 + a)) = none ∧ κ 0 ≤ A' (6 + a) ∧ κ 0 ≤ A' (22 + a)) ∧
  (∀ a b, lin k l a → lin k l b → (A' (6 + a) = A' (6 + b) → a = b) ∧ (A' (22 + a) = A' (22 + b) → a = b)) ∧ ∀ b e, H1 b = some e → b ≠ a39 → (b ≠ d ∨ b = κ 2) → H b = some e
theorem exA_l {A : Nat → Nat} {k l n : Nat} {L Wd : Nat → Nat} (hn : n < l) : exA A k l L Wd (6 + (4 * k + n)) = L n := by
  unfold exA
  rw [if_pos (by omega)]
  congr 1
  omega
theorem exA_w {A : Nat → Nat} {k l n : Nat} {L Wd : Nat → Nat} (hn : n < l) (hk : k < 4) (hl : l ≤ 4) : exA A k l L Wd (22 + (4 * k + n)) = Wd n := by
  unfold exA
  rw [if_neg (by omega), if_pos (by omega)]
  congr 1
  omega
theorem exA_o {A : Nat → Nat} {k l j : Nat} {L Wd : Nat → Nat} (hk : k < 4) (hl : l ≤ 4) (hj : j < 6 + 4 * k ∨ (22 ≤ j ∧ j < 22 + 4 * k) ∨ 38 ≤ j) : exA A k l L Wd j = A j := by
  unfold exA
  rw [if_neg (by omega), if_neg (by omega)]
section FG
variable {κ A A' BB DD : Nat → Nat} {h h' h0 H H0 H1 H2 H3 Hq : xH} {g : Nat → Int32} {s l r a b d d1 d2 n q k o T i wd B D D' a39 : Nat} {M m1 : Int32} {Ms : Nat → Int32} {L Wd : Nat → Nat} {c bl : Nat → Nat} {W W' : Nat → Int32} {w : Nat × Nat} {f f' : Nat → Option Nat} {m : Int32}
theorem OUT.step (hO : OUT κ H1 H a39 d g l k d1 m1 A' BB DD Ms) (hκ2 : κ 2 < κ 0) (hl1 : 1 ≤ l) (hl4 : l ≤ 4) (hk : k < 4) (hq : H q = none) (hHq : Ext H Hq) (hqe : ∃ e, Hq q = some e) (hN : NL κ Hq H2 q D l M L Wd g k)
    (h3 : AL κ H3 a39 d2 (k + 1) (fun i => if i = k then some q else some (BB i)) (m1 + 1)) (f3 : ∀ b, b ≠ a39 → b ≠ d2 → H3 b = H2 b) (e3 : d2 = d1 ∨ (H2 d2 = none ∧ κ 0 ≤ d2)) :
    OUT κ H1 H3 a39 d g l (k + 1) d2 (m1 + 1) (exA A' k l L Wd) (fun i => if i = k then q else BB i) (fun i => if i = k then D else DD i) (fun i => if i = k then M else Ms i) := by
  obtain ⟨o1, ⟨o2, ⟨e39, he39⟩, o3⟩, o4, o5, o6, o7⟩ := hO
  obtain ⟨n1, n2, n3, n4, n5⟩ := hN
  have hd2 := h3.d0 (by omega)
  have hDκ := n1.d0 (by omega)
  have ha39 : ∃ fs, H a39 = some (.inl (3, fs)) := by
    obtain ⟨N, F, e1, -⟩ := o1
    exact ⟨_, e1⟩
  obtain ⟨fsa, ea⟩ := ha39
  have hqa : q ≠ a39 := fun z => by rw [z, ea] at hq; cases hq
  have hd1e : ∃ N F, H d1 = some (oA N F) := by
    obtain ⟨N, F, e1, e2, -⟩ := o1
    exact ⟨N, F, e2⟩
  obtain ⟨Nd, Fd, ed1⟩ := hd1e
  have hqd1 : q ≠ d1 := fun z => by rw [z, ed1] at hq; cases hq
  have hDe : ∃ N F, H2 D = some (oA N F) := by
    obtain ⟨N, F, e1, e2, -⟩ := n1
    exact ⟨N, F, e2⟩
  obtain ⟨ND, FD, eD⟩ := hDe
  have hqfs : ∃ fs, H2 q = some (.inl (3, fs)) := by
    obtain ⟨N, F, e1, -⟩ := n1
    exact ⟨_, e1⟩
  obtain ⟨fsq, eq⟩ := hqfs
  -- from H to H2, to H3
  have k2 : ∀ b e, H b = some e → H2 b = some e := fun b e hb => n5 b e (hHq b e hb) (fun z => by rw [z, hq] at hb; cases hb)
  have hn2 : ∀ b, H2 b = none → H b = none := fun b hb => by
    cases hh : H b with
    | none => rfl
    | some e => rw [k2 b e hh] at hb; cases hb
  have hs3 : ∀ b e, H2 b = some e → b ≠ a39 → b ≠ d1 → H3 b = H2 b := fun b e hb b1 b2 => by
    refine f3 b b1 (fun z => ?_)
    rcases e3 with y | ⟨y, -⟩
    · exact b2 (z.trans y)
    · rw [z, y] at hb; cases hb
  have k3 : ∀ b e, H2 b = some e → b ≠ a39 → b ≠ d1 → H3 b = some e := fun b e hb b1 b2 => (hs3 b e hb b1 b2).trans hb
  have hDd1 : D ≠ d1 := fun z => by
    rcases n2 with x | x
    · omega
    · have := hHq _ _ ed1
      rw [← z, x] at this
      cases this
  have hd2D : D ≠ d2 := fun z => by
    rcases e3 with y | ⟨y, -⟩
    · exact hDd1 (z.trans y)
    · rw [z, y] at eD; cases eD
  have hnk : ∀ b, H3 b = none → H2 b = none := fun b hb => by
    by_cases c1 : b = a39
    · rw [c1] at hb
      obtain ⟨N, F, x1, -⟩ := h3
      rw [x1] at hb; cases hb
    · by_cases c2 : b = d2
      · rw [c2] at hb
        obtain ⟨N, F, x1, x2, -⟩ := h3
        rw [x2] at hb; cases hb
      · rw [f3 b c1 c2] at hb; exact hb
  have dcl : ∀ b ci fs, H b = some (.inl (ci, fs)) → ci ≠ 3 → b ≠ a39 ∧ b ≠ d1 := fun b ci fs hb hci => ⟨fun z => by
    rw [z, ea] at hb
    cases hb
    exact hci rfl, fun z => by rw [z, ed1] at hb; cases hb⟩
  have dar : ∀ b x, H b = some (.inr (.int, x)) → b ≠ a39 ∧ b ≠ d1 := fun b x hb => ⟨fun z => (by rw [z, ea] at hb; cases hb), fun z => (by rw [z, ed1] at hb; cases hb)⟩
  have hex : ∀ a, lin (k + 1) l a → lin k l a ∨ ∃ n, n < l ∧ a = 4 * k + n := fun a hla => by
    obtain ⟨h1, h2, h3⟩ := hla
    by_cases hak : a / 4 < k
    · exact Or.inl ⟨h1, hak, h3⟩
    · exact Or.inr ⟨a % 4, h3, by omega⟩
  have exl : ∀ a, lin k l a → exA A' k l L Wd (6 + a) = A' (6 + a) ∧ exA A' k l L Wd (22 + a) = A' (22 + a) := fun a hla => by
    obtain ⟨h1, h2, h3⟩ := hla
    exact ⟨exA_o hk hl4 (by omega), exA_o hk hl4 (by omega)⟩
  refine ⟨h3.cg (fun i hi => ?_), ⟨?_, ⟨e39, he39⟩, fun b hb => o3 b (hn2 b (hnk b hb))⟩, fun j hj => ?_, fun a hla => ?_, fun a b hla hlb => ?_, fun b e hb b1 b2 => ?_⟩
  · dsimp only
    by_cases hik : i = k
    · rw [if_pos hik, if_pos hik]
    · rw [if_neg hik, if_neg hik]
  · rcases e3 with y | ⟨y, -⟩
    · rw [y]; exact o2
    · exact Or.inr (o3 _ (hn2 _ y))
  · by_cases hjk : j = k
    · subst hjk
      dsimp only
      rw [if_pos rfl, if_pos rfl, if_pos rfl]
      refine ⟨(n1.same (hs3 q _ eq hqa hqd1) (hs3 D _ eD (fun z => ?_) hDd1)).cg (fun n hn => ?_), o3 q hq, hd2D⟩
      · rw [z, k2 _ _ ea] at eD; cases eD
      · rw [exA_l hn]
    · dsimp only
      rw [if_neg hjk, if_neg hjk, if_neg hjk]
      obtain ⟨p1, p2, p3⟩ := o4 j (by omega)
      have p1' := p1.mono k2
      obtain ⟨N, F, x1, x2, -⟩ := p1
      have y1 : BB j ≠ a39 := fun z => by rw [z, he39] at p2; cases p2
      have y2 : BB j ≠ d1 := fun z => by rw [z, ed1] at x1; cases x1
      have y3 : DD j ≠ a39 := fun z => by rw [z, ea] at x2; cases x2
      refine ⟨(p1'.same (hs3 _ _ (k2 _ _ x1) y1 y2) (hs3 _ _ (k2 _ _ x2) y3 p3)).cg (fun n hn => ?_), p2, fun z => ?_⟩
      · rw [exA_o hk hl4 (by omega)]
      · rcases e3 with y | ⟨y, -⟩
        · exact p3 (z.trans y)
        · rw [← z, k2 _ _ x2] at y; cases y
  · rcases hex a hla with h1 | ⟨n, hn, rfl⟩
    · obtain ⟨z1, z2⟩ := exl a h1
      rw [z1, z2]
      obtain ⟨p1, p2, p3⟩ := o5 a h1
      exact ⟨k3 _ _ (k2 _ _ p1) (dcl _ _ _ p1 (by omega)).1 (dcl _ _ _ p1 (by omega)).2, k3 _ _ (k2 _ _ p2) (dar _ _ p2).1 (dar _ _ p2).2, p3⟩
    · rw [exA_l hn, exA_w hn hk hl4]
      obtain ⟨p1, p2, p3, p4, p5⟩ := n3 n hn
      have hhq : ∀ b, Hq b = none → H1 b = none := fun b hb => o3 b (by
        cases hh : H b with
        | none => rfl
        | some e => rw [hHq _ _ hh] at hb; cases hb)
      refine ⟨k3 _ _ p1 (fun z => ?_) (fun z => ?_), k3 _ _ p2 (fun z => ?_) (fun z => ?_), hhq _ p3, hhq _ p4, p5⟩
      · rw [z, k2 _ _ ea] at p1; cases p1
      · rw [z, k2 _ _ ed1] at p1; cases p1
      · rw [z, k2 _ _ ea] at p2; cases p2
      · rw [z, k2 _ _ ed1] at p2; cases p2
  · have hhq : ∀ b e, H b = some e → Hq b ≠ none := fun b e hb z => by rw [hHq _ _ hb] at z; cases z
    rcases hex a hla with h1 | ⟨n, hn, rfl⟩
    · obtain ⟨z1, z2⟩ := exl a h1
      rw [z1, z2]
      rcases hex b hlb with h2 | ⟨n', hn', rfl⟩
      · obtain ⟨z3, z4⟩ := exl b h2
        rw [z3, z4]
        exact o6 a b h1 h2
      · rw [exA_l hn', exA_w hn' hk hl4]
        obtain ⟨p1, p2, -⟩ := o5 a h1
        obtain ⟨-, -, p3, p4, -⟩ := n3 n' hn'
        exact ⟨fun z => absurd (by rw [z]; exact p3) (hhq _ _ p1), fun z => absurd (by rw [z]; exact p4) (hhq _ _ p2)⟩
    · rw [exA_l hn, exA_w hn hk hl4]
      obtain ⟨-, -, p3, p4, -⟩ := n3 n hn
      rcases hex b hlb with h2 | ⟨n', hn', rfl⟩
      · obtain ⟨z3, z4⟩ := exl b h2
        rw [z3, z4]
        obtain ⟨p1, p2, -⟩ := o5 b h2
        exact ⟨fun z => absurd (by rw [← z]; exact p3) (hhq _ _ p1), fun z => absurd (by rw [← z]; exact p4) (hhq _ _ p2)⟩
      · rw [exA_l hn', exA_w hn' hk hl4]
        have := n4 n n' hn hn'
        exact ⟨fun z => by rw [this.1 z], fun z => by rw [this.2 z]⟩
  · have hb2 := k2 _ _ (o7 b e hb b1 b2)
    rw [f3 b b1 (fun z => ?_)]
    · exact hb2
    · rcases e3 with y | ⟨y, -⟩
      · rcases o2 with x | x
        · rcases b2 with b2 | b2
          · exact b2 (z.trans (y.trans x))
          · omega
        · rw [z, y, x] at hb; cases hb
      · rw [z, y] at hb2; cases hb2
theorem cc_clear4 (hL : AL κ h a d n f m) (hκ : κ 0 ≤ a) (hn : n ≤ 60) (K : Unit → xH → Prop) (hK : ∀ h', AL κ h' a d 0 (fun _ => none) (m + 1) → (∀ b, b ≠ a → b ≠ d → h' b = h b) → (n = 0 → ∀ b, b ≠ a → h' b = h b) → K () h') : P_J4_clear κ a (h, w) K := by
  have hne := hL.ne
  have hd0 : 0 < n → κ 0 ≤ d := fun z => hL.d0 z
  obtain ⟨N, F, e1, e2, e3, e4, e5, e6, e7⟩ := hL
  unfold P_J4_clear
  rw [g_gi e1 rfl, g_pi e1 hκ (by simp), g_gq (r := some d) xup_eq rfl, g_gi xup_eq rfl, g_pi xup_eq hκ (by simp), xup_xup]
  refine x_for n (fun i v σ => v = nI i ∧ ∃ X w', σ = (X, w') ∧ X a = some (.inl (3, [.int (m + 1), .ref d, .int 0])) ∧ X d = some (oA N (fun j => if j < i then none else F j)) ∧ (∀ b, b ≠ a → b ≠ d → X b = h b) ∧ (i = 0 → ∀ b, b ≠ a → X b = h b)) ?_ ?_ ⟨nI_0.symm, _, _, rfl, xup_eq, ?_, fun b b1 _ => xup_ne b1, fun _ b b1 => xup_ne b1⟩
  · rintro i v σ ⟨rfl, X, w', rfl, x1, x2, x3, x4⟩ hi self hself
    unfold B_J4_clear_27
    refine ⟨fun z => absurd z (by rw [nI_leI (by omega) (by omega)]; omega), fun _ => ?_⟩
    rw [t_nn, g_sq x2 (hd0 (by omega)) (by omega) (by omega) (fun b z => by cases z)]
    refine hself _ _ ⟨nI_1 i, _, _, rfl, (xup_ne hne).trans x1, ?_, fun b b1 b2 => (xup_ne b2).trans (x3 b b1 b2), fun z => by omega⟩
    rw [xup_eq]
    congr 2
    funext j
    unfold va_up
    by_cases hj : j = i
    · rw [if_pos hj, if_pos (by omega)]
    · rw [if_neg hj]
      dsimp only
      by_cases hj2 : j < i
      · rw [if_pos hj2, if_pos (by omega)]
      · rw [if_neg hj2, if_neg (by omega)]
  · rintro v σ ⟨rfl, X, w', rfl, x1, x2, x3, x4⟩ self
    unfold B_J4_clear_27
    refine ⟨fun _ => hK X ⟨N, _, by rw [nI_0]; exact x1, x2, Nat.zero_le _, e4, fun i hi => absurd hi (Nat.not_lt_zero _), fun i _ => ?_, e7⟩ x3 x4, fun z => absurd (Int32.le_refl _) z⟩
    show (if i < n then none else F i) = none
    split
    · rfl
    · exact e6 i (by omega)
  · rw [xup_ne (Ne.symm hne), e2]
    simp
theorem cc_clear6 {N I : Nat → Nat} (hL : LL κ h a n N I m) (hn : n < 1000) (K : Unit → xH → Prop) (hK : ∀ h', LL κ h' a 0 N I (m + 1) → (∀ b, b ≠ a → (∀ i, i < n → N i ≠ b) → h' b = h b) → K () h') : P_J6_clear κ a (h, w) K := by
  have hna : ∀ i, i < n → N i ≠ a := fun i hi => hL.na hi
  obtain ⟨e1, e2, e3, e4, e5⟩ := hL
  unfold P_J6_clear
  rw [g_gq (r := if n = 0 then none else some (N 0)) e1 rfl]
  refine x_for n (fun i v σ => v = (if i < n then some (N i) else none) ∧ i ≤ n ∧ ∃ X w', σ = (X, w') ∧ X a = h a ∧ (∀ j, i ≤ j → j < n → X (N j) = h (N j)) ∧ ∀ b, b ≠ a → (∀ i, i < n → N i ≠ b) → X b = h b) ?_ ?_ ⟨?_, Nat.zero_le _, h, _, rfl, rfl, fun j _ _ => rfl, fun b _ _ => rfl⟩
  · rintro i v σ ⟨rfl, -, X, w', rfl, x1, x2, x3⟩ hi self hself
    unfold B_J6_clear_5
    rw [if_pos hi]
    refine ⟨fun z => (by cases z), fun b z => ?_⟩
    cases z
    have en : X (N i) = some (.inl (6, _)) := (x2 i (Nat.le_refl _) hi).trans (e2 i hi)
    rw [g_gq (r := if i + 1 < n then some (N (i + 1)) else none) en rfl, g_pq en (e5 i hi) (by simp), g_pq xup_eq (e5 i hi) (by simp), xup_xup, g_pq xup_eq (e5 i hi) (by simp), xup_xup]
    exact hself _ _ ⟨rfl, by omega, _, _, rfl, (xup_ne (Ne.symm (hna i hi))).trans x1, fun j hj hjn => (xup_ne (e3 j i hjn hi (by omega))).trans (x2 j (by omega) hjn), fun b b1 b2 => (xup_ne (Ne.symm (b2 i hi))).trans (x3 b b1 b2)⟩
  · rintro v σ ⟨rfl, -, X, w', rfl, x1, x2, x3⟩ self
    unfold B_J6_clear_5
    rw [if_neg (by omega)]
    refine ⟨fun _ => ?_, fun b z => (by cases z)⟩
    have ea : X a = some (.inl (4, _)) := x1.trans e1
    dsimp only
    rw [g_pq ea e4 (by simp), g_pq xup_eq e4 (by simp), xup_xup, g_pi xup_eq e4 (by simp), xup_xup, g_gi xup_eq rfl, g_pi xup_eq e4 (by simp), xup_xup]
    refine hK _ ⟨?_, fun i hi => absurd hi (Nat.not_lt_zero _), fun i j hi => absurd hi (Nat.not_lt_zero _), e4, fun i hi => absurd hi (Nat.not_lt_zero _)⟩ (fun b b1 b2 => (xup_ne b1).trans (x3 b b1 b2))
    show xup X a _ a = _
    rw [xup_eq]
    unfold lO
    rw [nI_0]
    rfl
  · by_cases h0 : n = 0
    · rw [if_pos h0, if_neg (by omega)]
    · rw [if_neg h0, if_pos (by omega)]
end FG
