-- which line gives way as the k-th
section H8
variable {κ c A An An' : Nat → Nat} {H H' H1 H2 h h' h0 : xH} {a s l n r s' l' r' hd dq dd sb ln xa oa Tm Tm' T N T' N' i M k b q o od : Nat} {p : Nat → Nat} {sv lt : Option Nat} {f bl : Nat → Nat} {t t' : Nat → Nat → Int32} {g g' gT gc W ch : Nat → Int32} {w : Nat × Nat} {x y z : Int32} {ex : Int32 → Nat}
/-- as many as there are places that list them -/
theorem cnt_of : ∀ (n : Nat) (P : Nat → Bool) (i : Nat) (f : Nat → Nat), (∀ j, j < i → f j < n ∧ P (f j) = true) → (∀ j j', j < i → j' < i → f j = f j' → j = j') → (∀ o, o < n → P o = true → ∃ j, j < i ∧ f j = o) → m_cnt P n = i := by
  intro n
  induction n with
  | zero =>
    intro P i f h1 h2 h3
    cases i with
    | zero => rfl
    | succ i => exact absurd (h1 0 (by omega)).1 (Nat.not_lt_zero _)
  | succ n ih =>
    intro P i f h1 h2 h3
    show m_cnt P n + (if P n then 1 else 0) = i
    cases hP : P n with
    | false =>
      have : m_cnt P n = i := ih P i f (fun j hj => ⟨by
        have := (h1 j hj).1
        have hne : f j ≠ n := fun z => by have := (h1 j hj).2; rw [z, hP] at this; cases this
        omega, (h1 j hj).2⟩) h2 (fun o ho hPo => h3 o (by omega) hPo)
      rw [this]; rfl
    | true =>
      obtain ⟨j, hj, hfj⟩ := h3 n (by omega) hP
      have : m_cnt P n = i - 1 := ih P (i - 1) (fun m => if m < j then f m else f (m + 1)) (fun m hm => by
        split
        · rename_i hmj
          have h4 := h1 m (by omega)
          have hne : f m ≠ n := fun z => by have := h2 m j (by omega) hj (z.trans hfj.symm); omega
          exact ⟨by omega, h4.2⟩
        · rename_i hmj
          have h4 := h1 (m + 1) (by omega)
          have hne : f (m + 1) ≠ n := fun z => by have := h2 (m + 1) j (by omega) hj (z.trans hfj.symm); omega
          exact ⟨by omega, h4.2⟩) (fun m m' hm hm' he => by
        split at he <;> split at he
        · exact h2 _ _ (by omega) (by omega) he
        · have := h2 _ _ (by omega) (by omega) he; omega
        · have := h2 _ _ (by omega) (by omega) he; omega
        · have := h2 _ _ (by omega) (by omega) he; omega) (fun o ho hPo => by
        obtain ⟨m, hm, hfm⟩ := h3 o (by omega) hPo
        have hmj : m ≠ j := fun z => by rw [z, hfj] at hfm; omega
        by_cases hlt : m < j
        · exact ⟨m, by omega, by rw [if_pos hlt]; exact hfm⟩
        · exact ⟨m - 1, by omega, by rw [if_neg (by omega), show m - 1 + 1 = m by omega]; exact hfm⟩)
      rw [this]
      show i - 1 + 1 = i
      omega
theorem find_uq {P : Nat → Bool} (hk : k < n) (hp : P k = true) (hu : ∀ j, j < n → P j = true → j = k) : (List.range n).find? P = some k := by
  refine m_hit (fun j hj => ?_) hk hp
  cases hP : P j with
  | false => rfl
  | true => have := hu j (by omega) hP; omega
theorem find_no {P : Nat → Bool} (hu : ∀ j, j < n → P j = true → False) : (List.range n).find? P = none := by
  refine List.find?_eq_none.mpr (fun j hj hP => hu j (List.mem_range.mp hj) hP)
theorem giv_spec (hA : mOK κ A s l) (hG : GI g T N s l r) (hR : RM gc g s l) (hT : T < 2 ^ 29) (hq : q < s) {u : Nat} (hu : u < 4) (h3 : g 3 = nI u) (hS : SRT p n (gS A gc q l) (fun y => n_rk gc u (n_inv A s l y))) :
    ∀ i, i < n → ∃ k, k < l ∧ p i = A (6 + (4 * q + k)) ∧ m_canGive g (4 * q + k) = true ∧ m_cnt (m_ahd g q k) l = i := by
  obtain ⟨hs1, hs4⟩ := hG.1.2.1.2
  obtain ⟨hl1, hl4⟩ := hG.1.2.2.1.2
  obtain ⟨⟨hd, hE⟩, hs⟩ := hS
  have lk : ∀ k, k < l → lin s l (4 * q + k) := fun k hk => lin_q hs4 hl4 hq hk
  have hin : ∀ i, i < n → ∃ k, k < l ∧ p i = A (6 + (4 * q + k)) ∧ m_canGive g (4 * q + k) = true ∧ n_inv A s l (p i) = 4 * q + k := fun i hi => by
    obtain ⟨k, k1, k2, k3⟩ := (hE (p i)).mpr ⟨i, hi, rfl⟩
    rw [RM.give hR (lk k k1)] at k2
    exact ⟨k, k1, k3, k2, by rw [k3, n_inv_l hA (lk k k1)]⟩
  have hrk : ∀ k, k < l → m_canGive g (4 * q + k) = true → LN g (4 * q + k) ∧ n_rk gc u (4 * q + k) = n_rk g u (4 * q + k) := fun k hk hg => by
    obtain ⟨-, z2, z3, -⟩ := RM.ln hG hR hT (lk k hk) (m_give_held hg)
    exact ⟨z2, z3 u⟩
  intro i hi
  obtain ⟨k, k1, k2, k3, k4⟩ := hin i hi
  refine ⟨k, k1, k2, k3, ?_⟩
  have hkk : ∀ j, j < n → ∃ m, m < l ∧ p j = A (6 + (4 * q + m)) ∧ m_canGive g (4 * q + m) = true ∧ n_inv A s l (p j) - 4 * q = m ∧ (4 * q + m = n_inv A s l (p j)) := fun j hj => by
    obtain ⟨m, m1, m2, m3, m4⟩ := hin j hj
    exact ⟨m, m1, m2, m3, by omega, by omega⟩
  refine cnt_of l (m_ahd g q k) i (fun j => n_inv A s l (p j) - 4 * q) (fun j hj => ?_) (fun j j' hj hj' he => ?_) (fun o ho hP => ?_)
  · obtain ⟨m, m1, m2, m3, m4, m5⟩ := hkk j (by omega)
    rw [m4]
    have hne : m ≠ k := fun z => by
      have := hd j i (by omega) hi (by omega)
      rw [m2, k2, z] at this
      exact this rfl
    have hle := hs j i hj hi
    dsimp only at hle
    rw [← m5, k4, (hrk m m1 m3).2, (hrk k k1 k3).2] at hle
    have hlt : n_rk g u (4 * q + m) ≠ n_rk g u (4 * q + k) := fun z => by
      have := rk_inj hG hR hT (lk m m1) (lk k k1) (m_give_held m3) (m_give_held k3) z
      omega
    refine ⟨m1, ?_⟩
    unfold m_ahd
    rw [m_ahead_rk hu h3 (hrk m m1 m3).1 (hrk k k1 k3).1, m3]
    simp [hne]
    omega
  · obtain ⟨m, m1, m2, m3, m4, m5⟩ := hkk j (by omega)
    obtain ⟨m', m1', m2', m3', m4', m5'⟩ := hkk j' (by omega)
    by_cases hjj : j = j'
    · exact hjj
    · have := hd j j' (by omega) (by omega) hjj
      rw [m2, m2', ← m4, ← m4', he] at this
      exact absurd rfl this
  · unfold m_ahd at hP
    simp only [Bool.and_eq_true, decide_eq_true_eq] at hP
    obtain ⟨hne, hgv, hah⟩ := hP
    rw [m_ahead_rk hu h3 (hrk o ho hgv).1 (hrk k k1 k3).1] at hah
    have hah := of_decide_eq_true hah
    obtain ⟨j, hj, hpj⟩ := (hE (A (6 + (4 * q + o)))).mp ⟨o, ho, by rw [RM.give hR (lk o ho)]; exact hgv, rfl⟩
    have hinv : n_inv A s l (p j) = 4 * q + o := by rw [hpj, n_inv_l hA (lk o ho)]
    refine ⟨j, ?_, by omega⟩
    by_cases hij : j < i
    · exact hij
    · exfalso
      by_cases he : j = i
      · subst he; omega
      · have hle := hs i j (by omega) hj
        dsimp only at hle
        rw [hinv, k4, (hrk o ho hgv).2, (hrk k k1 k3).2] at hle
        omega
theorem giv_find (hA : mOK κ A s l) (hG : GI g T N s l r) (hR : RM gc g s l) (hT : T < 2 ^ 29) (hq : q < s) {u : Nat} (hu : u < 4) (h3 : g 3 = nI u) (hn : n ≤ 4) (hS : SRT p n (gS A gc q l) (fun y => n_rk gc u (n_inv A s l y))) :
    (∀ i, i < n → ∃ k, k < l ∧ p i = A (6 + (4 * q + k)) ∧ (List.range l).find? (m_givP g l q (nI i)) = some k) ∧ ∀ y : Int32, (∀ i, i < n → y ≠ nI i) → (List.range l).find? (m_givP g l q y) = none := by
  have hsp := giv_spec hA hG hR hT hq hu h3 hS
  obtain ⟨hs1, hs4⟩ := hG.1.2.1.2
  obtain ⟨hl1, hl4⟩ := hG.1.2.2.1.2
  have lk : ∀ k, k < l → lin s l (4 * q + k) := fun k hk => lin_q hs4 hl4 hq hk
  have hall : ∀ j, j < l → m_canGive g (4 * q + j) = true → ∃ i, i < n ∧ p i = A (6 + (4 * q + j)) ∧ m_cnt (m_ahd g q j) l = i := fun j hj hg => by
    obtain ⟨i, hi, hpi⟩ := (hS.1.2 (A (6 + (4 * q + j)))).mp ⟨j, hj, by rw [RM.give hR (lk j hj)]; exact hg, rfl⟩
    obtain ⟨k, k1, k2, k3, k4⟩ := hsp i hi
    have : k = j := by
      have e := congrArg (n_inv A s l) (k2.symm.trans hpi)
      rw [n_inv_l hA (lk k k1), n_inv_l hA (lk j hj)] at e
      omega
    subst this
    exact ⟨i, hi, hpi, k4⟩
  refine ⟨fun i hi => ?_, fun y hy => ?_⟩
  · obtain ⟨k, k1, k2, k3, k4⟩ := hsp i hi
    refine ⟨k, k1, k2, find_uq k1 ?_ (fun j hj hP => ?_)⟩
    · unfold m_givP
      rw [k3, k4]
      simp
    · unfold m_givP at hP
      simp only [Bool.and_eq_true, decide_eq_true_eq] at hP
      obtain ⟨i', hi', hp', hc'⟩ := hall j hj hP.1
      have hii : i' = i := by
        rw [hc'] at hP
        exact (nI_eq (by omega) (by omega)).mp hP.2
      subst hii
      have e := congrArg (n_inv A s l) (hp'.symm.trans k2)
      rw [n_inv_l hA (lk k k1), n_inv_l hA (lk j hj)] at e
      omega
  · refine find_no (fun j hj hP => ?_)
    unfold m_givP at hP
    simp only [Bool.and_eq_true, decide_eq_true_eq] at hP
    obtain ⟨i', hi', hp', hc'⟩ := hall j hj hP.1
    rw [hc'] at hP
    exact hy i' hi' hP.2.symm
theorem cc_giving1 (hR : RR κ c H xa t Tm) (hG : GI (t 0) T N s l r) (hT : Tm < 2 ^ 27) (x y : Int32) {c0 s0 : Nat} (hc : 400 ≤ c0) (hs : 20000 ≤ s0) (hx : ex 1 = 16) (hx2 : ex 2 = 18) (K : Int32 → xH → Prop) (KX : Nat → xH → Prop) (hK : kQ κ c xa H ex (m_giving (t 0) s l x y) t Tm K KX) : P_X1_giving κ xa x y (H, c0, s0) K KX := by
  unfold P_X1_giving
  unfold m_giving at hK
  obtain ⟨A, gc, W, bl, h, h0, T', N', rfl, hM, hX, hG', ⟨hT', -⟩, ⟨fs, ex2, hfs⟩, hk2⟩ := hR.ask hG
  obtain ⟨hA, hD, hSA, ⟨hs1, hs4⟩, ⟨hl1, hl4⟩, -⟩ := id hM.1
  rw [g_rc ex2, true_and]
  refine c_callX 1 6 (by omega) (by omega) (cc_reqSet hM.1 ex2 (by omega) (by omega) _ _ (fun hi => ?_) (fun hi q H' h1 h2 h3 => ⟨h1, ⟨_, h2⟩, ?_⟩))
  · rw [hi, if_pos rfl] at hK
    obtain ⟨q, rfl, hq⟩ := m_inI (by omega) hi
    rw [c_n (by omega)] at hK
    obtain ⟨p1, ⟨u, hu, p2, p3⟩, p4, p5, -⟩ := hX.pre hG' (by omega)
    rw [g_gq (r := some (A 5)) ex2 rfl, t_nn, n_rc hA, true_and]
    refine c_call 20 8000 (by omega) (by omega) (cc_giving hM.1 hu p3 (show q < s by omega) (fun k hk hg => p5 _ (lin_q hs4 hl4 (by omega) hk) hg) (by omega) (by omega) _ (fun h' o od n p m hE hD' hAL hn4 hS => ?_))
    obtain ⟨k8, k9⟩ := hk2 h' hE
    obtain ⟨f1, f2⟩ := giv_find hA hG' hX.1 (by omega) (by omega) hu p2 hn4 hS
    have hAL' := hAL.mono (mput_ext (g := gc) hD')
    rw [t_nn, hAL'.rc, true_and]
    refine c_pure (r := nI n) (fun w K hk => cc_size4 hAL' K hk) ?_
    refine c_pure (r := bI (m_in y 0 (nI n - 1))) (fun w K hk => cc_btw y w K hk) ?_
    refine c_callX 1 6 (by omega) (by omega) (cc_reqE (by omega) (by omega) _ _ (fun hi2 => ?_) (fun hi2 q H' h1 h2 h3 => ⟨h1, ⟨_, h2⟩, ?_⟩))
    · obtain ⟨i, rfl, hi4⟩ := m_inI' (by omega) (bI_c hi2)
      obtain ⟨k, k1, k2, k3⟩ := f1 i hi4
      rw [k3] at hK
      have hlin := lin_q hs4 hl4 (show q < s by omega) k1
      rw [hAL'.rc, true_and]
      refine c_pure (r := some (p i)) (fun w K hk => cc_get4 hAL' hi4 K hk) ?_
      rw [t_nn, k2, l_rc hA hlin, true_and, l_gi_0 hA hlin, show (4 * q + k) % 4 = k by omega]
      exact (hK _ k8 k9).1 rfl
    · have hi2 := (bI_0 _).mp hi2
      rw [f2 y (fun i hi4 z => by
        subst z
        have : m_in (nI i) 0 (nI n - 1) = true := by
          unfold m_in
          rw [nI_m1 (by omega)]
          simp only [Bool.and_eq_true, decide_eq_true_eq]
          rw [show (0 : Int32) = nI 0 from rfl, nI_ltI (by omega) (by omega), nI_ltI (by omega) (by omega)]
          omega
        rw [this] at hi2
        cases hi2)] at hK
      refine kQ_x hK (by decide) k8 k9 h3 h1 ?_
      rw [hx2]; exact h2
  · rw [hi, if_neg (by simp)] at hK
    refine kQ_x hK (by decide) hR KF.refl h3 h1 ?_
    rw [hx]; exact h2
end H8
