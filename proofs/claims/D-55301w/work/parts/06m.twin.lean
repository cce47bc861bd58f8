section U4
variable {κ A : Nat → Nat} {h : xH} {t : Nat → Nat → Int32} {g : Nat → Int32} {w : Nat × Nat} {s l r : Nat}
def m_reads (g : Nat → Int32) (x : Int32) (s l r : Nat) : mO :=
  if m_in x 0 63 then match m_acc g (x.toNatClampNeg / 4) s l r with
    | none => .inl (2, nI (x.toNatClampNeg / 4 % s))
    | some p =>
      let g1 := upd p.2 283 (p.2 283 + 1)
      .inr (g1 (169 + 4 * p.1 + x.toNatClampNeg % 4), g1)
  else .inl (1, x)
theorem tc_reads (hA : tOK κ A) (hT : TI g s l r) (x : Int32) (K : Int32 → xH → Prop) (hK : mAns (m_reads g x s l r) t A h g K) : P_X4_reads κ (A 20) x (tput h A (tg t g), w) K := by
  unfold P_X4_reads
  unfold m_reads at hK
  refine t_pure (r := bI (m_in x 0 63)) (fun τ K hk => tc_isAddress x τ K hk) ?_
  cases hi : m_in x 0 63 with
  | false =>
    rw [hi] at hK
    refine ⟨fun _ => ?_, fun z => absurd rfl z⟩
    simp only [t_rc hA, true_and]
    exact t_call (t' := tg (tRef t 1 x) g) (r := 0) (fun w K hk => tc_refused hA _ _ K hk) hK
  | true =>
    rw [hi] at hK
    obtain ⟨k, rfl, hk⟩ := m_inI (c := 63) (by decide) hi
    refine ⟨fun z => absurd z (by decide), fun _ => ?_⟩
    simp only [if_true, c_n (show k < 2 ^ 31 by omega)] at hK
    simp only [t_rc hA, true_and, m_div4 k (by omega)]
    cases hq : m_acc g (k / 4) s l r with
    | none =>
      rw [hq] at hK
      refine t_call (t' := tg (tRef t 2 (nI (k / 4 % s))) g) (r := -1) (fun w K hk' => tc_accesses hA hT (by omega) K (fun a g' z => by rw [hq] at z; cases z) (fun _ => hk')) ?_
      exact ⟨fun _ => hK, fun z => absurd rfl z⟩
    | some p =>
      obtain ⟨a, g'⟩ := p
      rw [hq] at hK
      have ha : a < 16 := m_acc_lt hT.2.1.2.1 hT.2.1.2.2 hT.2.2.1.2 hq
      refine t_call (t' := tg t g') (r := nI a) (fun w K hk' => tc_accesses hA hT (by omega) K (fun a' g'' z _ => by rw [hq] at z; cases z; exact hk') (fun z => by rw [hq] at z; cases z)) ?_
      refine ⟨fun z => absurd z (nI_ne a (by omega)), fun _ => ?_⟩
      simp (disch := omega) only [t_gq_0 hA, t_nn, t_ag hA, t_sg hA, t_rc hA, vi_n, c_n, true_and, a_5, a_69, a_73, a_89, a_105, a_121, a_137, a_153, a_169, a_235, a_251, a_267, a_286, a_293, a_283, a_m4, nI_add, t_l0, i_0, l_1, i_1, l_2, i_2, l_3, i_3, l_4, i_4, l_5, i_5, l_6, i_6, l_16, i_16, l_233, i_233, l_234, i_234, l_235, i_235, l_283, i_283, l_284, i_284, l_285, i_285, l_289, i_289, l_290, i_290, l_291, i_291, l_292, i_292, m_mod4 k (by omega), m_mod5 k (by omega)]
      exact t_call (t' := tg (tset t 16 0 0) (upd g' 283 (g' 283 + 1))) (fun w K hk => tc_done hA _ K hk) hK
def m_bit (k : Nat) : Int32 := (1 : Int32) <<< (nI k &&& 31)
def m_writes (g : Nat → Int32) (x y : Int32) (s l r : Nat) : mO :=
  if m_in x 0 63 then if m_in y (-999) 999 then match m_acc g (x.toNatClampNeg / 4) s l r with
    | none => .inl (2, nI (x.toNatClampNeg / 4 % s))
    | some p =>
      let k := x.toNatClampNeg
      let g1 := upd p.2 284 (p.2 284 + 1)
      let g2 := upd g1 (169 + 4 * p.1 + k % 4) y
      let g3 := upd g2 (293 + k) y
      if g3 4 = 1 then
        let g4 := m_uses g3 (k / 4 % 4) 1
        let g5 := upd g4 (5 + k) y
        let g6 := upd g5 (89 + p.1) (g5 (89 + p.1) &&& (m_bit (k % 4) ^^^ -1))
        let g7 := upd g6 290 (g6 290 + 1)
        .inr (g7 0 - g 0, g7)
      else
        let g4 := upd g3 (89 + p.1) (g3 (89 + p.1) ||| m_bit (k % 4))
        .inr (g4 0 - g 0, g4)
  else .inl (1, y) else .inl (1, x)
theorem tc_writes (hA : tOK κ A) (hT : TI g s l r) (x y : Int32) (K : Int32 → xH → Prop) (hK : mAns (m_writes g x y s l r) t A h g K) : P_X4_writes κ (A 20) x y (tput h A (tg t g), w) K := by
  unfold P_X4_writes
  unfold m_writes at hK
  refine t_pure (r := bI (m_in x 0 63)) (fun τ K hk => tc_isAddress x τ K hk) ?_
  cases hi : m_in x 0 63 with
  | false =>
    rw [hi] at hK
    refine ⟨fun _ => ?_, fun z => absurd rfl z⟩
    simp only [t_rc hA, true_and]
    exact t_call (t' := tg (tRef t 1 x) g) (r := 0) (fun w K hk => tc_refused hA _ _ K hk) hK
  | true =>
    rw [hi] at hK
    obtain ⟨k, rfl, hk⟩ := m_inI (c := 63) (by decide) hi
    refine ⟨fun z => absurd z (by decide), fun _ => ?_⟩
    refine t_pure (r := bI (m_in y (-999) 999)) (fun τ K hk => tc_in y _ _ τ K hk) ?_
    cases hj : m_in y (-999) 999 with
    | false =>
      rw [hj] at hK
      refine ⟨fun _ => ?_, fun z => absurd rfl z⟩
      simp only [t_rc hA, true_and]
      exact t_call (t' := tg (tRef t 1 y) g) (r := 0) (fun w K hk => tc_refused hA _ _ K hk) hK
    | true =>
      rw [hj] at hK
      refine ⟨fun z => absurd z (by decide), fun _ => ?_⟩
      simp only [if_true, c_n (show k < 2 ^ 31 by omega)] at hK
      simp only [t_gq_0 hA, t_nn, t_ag hA, i_0, t_l0, t_rc hA, true_and, m_div4 k (by omega)]
      cases hq : m_acc g (k / 4) s l r with
      | none =>
        rw [hq] at hK
        refine t_call (t' := tg (tRef t 2 (nI (k / 4 % s))) g) (r := -1) (fun w K hk' => tc_accesses hA hT (by omega) K (fun a g' z => by rw [hq] at z; cases z) (fun _ => hk')) ?_
        exact ⟨fun _ => hK, fun z => absurd rfl z⟩
      | some p =>
        obtain ⟨a, g'⟩ := p
        rw [hq] at hK
        have ha : a < 16 := m_acc_lt hT.2.1.2.1 hT.2.1.2.2 hT.2.2.1.2 hq
        refine t_call (t' := tg t g') (r := nI a) (fun w K hk' => tc_accesses hA hT (by omega) K (fun a' g'' z _ => by rw [hq] at z; cases z; exact hk') (fun z => by rw [hq] at z; cases z)) ?_
        refine ⟨fun z => absurd z (nI_ne a (by omega)), fun _ => ?_⟩
        simp (disch := omega) only [t_gq_0 hA, t_nn, t_ag hA, t_sg hA, t_rc hA, vi_n, c_n, true_and, a_5, a_69, a_73, a_89, a_105, a_121, a_137, a_153, a_169, a_235, a_251, a_267, a_286, a_293, a_283, a_m4, nI_add, t_l0, i_0, l_1, i_1, l_2, i_2, l_3, i_3, l_4, i_4, l_5, i_5, l_6, i_6, l_16, i_16, l_233, i_233, l_234, i_234, l_235, i_235, l_283, i_283, l_284, i_284, l_285, i_285, l_289, i_289, l_290, i_290, l_291, i_291, l_292, i_292, m_mod4 k (by omega), m_mod5 k (by omega)]
        refine ⟨fun h1 => ?_, fun h1 => ?_⟩
        · simp only [h1, if_true] at hK
          refine t_call (r := ()) (fun w K hk => tc_uses hA (b := k / 4) (by omega) 1 K hk) ?_
          simp (disch := omega) only [t_gq_0 hA, t_nn, t_ag hA, t_sg hA, t_rc hA, vi_n, c_n, true_and, a_5, a_69, a_73, a_89, a_105, a_121, a_137, a_153, a_169, a_235, a_251, a_267, a_286, a_293, a_283, a_m4, nI_add, t_l0, i_0, l_1, i_1, l_2, i_2, l_3, i_3, l_4, i_4, l_5, i_5, l_6, i_6, l_16, i_16, l_233, i_233, l_234, i_234, l_235, i_235, l_283, i_283, l_284, i_284, l_285, i_285, l_289, i_289, l_290, i_290, l_291, i_291, l_292, i_292]
          exact t_call (t' := tg (tset t 16 0 0) _) (fun w K hk => tc_done hA _ K hk) hK
        · simp only [h1, if_false] at hK
          exact t_call (t' := tg (tset t 16 0 0) _) (fun w K hk => tc_done hA _ K hk) hK
def m_devices (g : Nat → Int32) (x y : Int32) : mO :=
  if m_in x 0 63 then if m_in y (-999) 999 then
    let k := x.toNatClampNeg
    let st := fun (g : Nat → Int32) => let g1 := upd (upd g (5 + k) y) (293 + k) y; upd g1 292 (g1 292 + 1)
    match m_lw g (k / 4) with
    | none => .inr (0, st g)
    | some a => .inr (m_ones (g (89 + a)), st (m_emptiesLine (m_wB g a (m_blk g a)) a))
  else .inl (1, y) else .inl (1, x)
theorem tc_devices (hA : tOK κ A) (hT : TI g s l r) (x y : Int32) (K : Int32 → xH → Prop) (hK : mAns (m_devices g x y) t A h g K) : P_X4_devices κ (A 20) x y (tput h A (tg t g), w) K := by
  unfold P_X4_devices
  unfold m_devices at hK
  refine t_pure (r := bI (m_in x 0 63)) (fun τ K hk => tc_isAddress x τ K hk) ?_
  cases hi : m_in x 0 63 with
  | false =>
    rw [hi] at hK
    refine ⟨fun _ => ?_, fun z => absurd rfl z⟩
    simp only [t_rc hA, true_and]
    exact t_call (t' := tg (tRef t 1 x) g) (r := 0) (fun w K hk => tc_refused hA _ _ K hk) hK
  | true =>
    rw [hi] at hK
    obtain ⟨k, rfl, hk⟩ := m_inI (c := 63) (by decide) hi
    refine ⟨fun z => absurd z (by decide), fun _ => ?_⟩
    refine t_pure (r := bI (m_in y (-999) 999)) (fun τ K hk => tc_in y _ _ τ K hk) ?_
    cases hj : m_in y (-999) 999 with
    | false =>
      rw [hj] at hK
      refine ⟨fun _ => ?_, fun z => absurd rfl z⟩
      simp only [t_rc hA, true_and]
      exact t_call (t' := tg (tRef t 1 y) g) (r := 0) (fun w K hk => tc_refused hA _ _ K hk) hK
    | true =>
      rw [hj] at hK
      refine ⟨fun z => absurd z (by decide), fun _ => ?_⟩
      simp only [if_true, c_n (show k < 2 ^ 31 by omega)] at hK
      simp only [t_rc hA, true_and, m_div4 k (by omega)]
      refine t_call (t' := tg t g) (r := m_lineWith g (nI (k / 4))) (fun w K hk => tc_lineWith hA _ K hk) ?_
      rw [m_lw_I]
      cases hq : m_lw g (k / 4) with
      | none =>
        rw [hq] at hK
        refine ⟨fun _ => ?_, fun z => absurd rfl z⟩
        simp (disch := omega) only [t_gq_0 hA, t_nn, t_ag hA, t_sg hA, t_rc hA, vi_n, c_n, true_and, a_5, a_69, a_73, a_89, a_105, a_121, a_137, a_153, a_169, a_235, a_251, a_267, a_286, a_293, a_283, a_m4, nI_add, t_l0, i_0, l_1, i_1, l_2, i_2, l_3, i_3, l_4, i_4, l_5, i_5, l_6, i_6, l_16, i_16, l_233, i_233, l_234, i_234, l_235, i_235, l_283, i_283, l_284, i_284, l_285, i_285, l_289, i_289, l_290, i_290, l_291, i_291, l_292, i_292]
        exact t_call (t' := tg (tset t 16 0 0) _) (fun w K hk => tc_done hA _ K hk) hK
      | some a =>
        rw [hq] at hK
        have ha : a < 16 := (m_lw_lt hq).1
        refine ⟨fun z => absurd z (nI_ne a (by omega)), fun _ => ?_⟩
        simp only [t_rc hA, true_and, oI]
        refine t_call (r := m_ones (g (89 + a))) (fun w K hk => tc_writesBack hA ha (hT.2.2.2 a ha) K hk) ?_
        simp only [t_rc hA, true_and]
        refine t_call (r := ()) (fun w K hk => tc_emptiesLine hA ha K hk) ?_
        simp (disch := omega) only [t_gq_0 hA, t_nn, t_ag hA, t_sg hA, t_rc hA, vi_n, c_n, true_and, a_5, a_69, a_73, a_89, a_105, a_121, a_137, a_153, a_169, a_235, a_251, a_267, a_286, a_293, a_283, a_m4, nI_add, t_l0, i_0, l_1, i_1, l_2, i_2, l_3, i_3, l_4, i_4, l_5, i_5, l_6, i_6, l_16, i_16, l_233, i_233, l_234, i_234, l_235, i_235, l_283, i_283, l_284, i_284, l_285, i_285, l_289, i_289, l_290, i_290, l_291, i_291, l_292, i_292]
        exact t_call (t' := tg (tset t 16 0 0) _) (fun w K hk => tc_done hA _ K hk) hK
def m_passes (g : Nat → Int32) (x : Int32) : mO := if m_in x 1 99 then .inr (g 0 + x, upd g 0 (g 0 + x)) else .inl (1, x)
theorem tc_passes (hA : tOK κ A) (x : Int32) (K : Int32 → xH → Prop) (hK : mAns (m_passes g x) t A h g K) : P_X4_passes κ (A 20) x (tput h A (tg t g), w) K := by
  unfold P_X4_passes
  unfold m_passes at hK
  refine t_pure (r := bI (m_in x 1 99)) (fun τ K hk => tc_in x _ _ τ K hk) ?_
  cases hi : m_in x 1 99 with
  | false =>
    rw [hi] at hK
    refine ⟨fun _ => ?_, fun z => absurd rfl z⟩
    simp only [t_rc hA, true_and]
    exact t_call (t' := tg (tRef t 1 x) g) (r := 0) (fun w K hk => tc_refused hA _ _ K hk) hK
  | true =>
    rw [hi] at hK
    refine ⟨fun z => absurd z (by decide), fun _ => ?_⟩
    simp (disch := omega) only [t_gq_0 hA, t_nn, t_ag hA, t_sg hA, t_rc hA, vi_n, c_n, true_and, a_5, a_69, a_73, a_89, a_105, a_121, a_137, a_153, a_169, a_235, a_251, a_267, a_286, a_293, a_283, a_m4, nI_add, t_l0, i_0, l_1, i_1, l_2, i_2, l_3, i_3, l_4, i_4, l_5, i_5, l_6, i_6, l_16, i_16, l_233, i_233, l_234, i_234, l_235, i_235, l_283, i_283, l_284, i_284, l_285, i_285, l_289, i_289, l_290, i_290, l_291, i_291, l_292, i_292, upd_eq]
    exact t_call (t' := tg (tset t 16 0 0) _) (fun w K hk => tc_done hA _ K hk) hK
end U4
