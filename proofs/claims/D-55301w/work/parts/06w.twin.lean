section U13
variable {κ A : Nat → Nat} {h : xH} {t : Nat → Nat → Int32} {g : Nat → Int32} {w : Nat × Nat} {s l r c b a o : Nat}
-- nothing beyond 357
theorem z_upd {i : Nat} {v : Int32} (hi : i < 357) (hz : z357 g) : z357 (upd g i v) := fun j hj => by rw [upd_ne (by omega)]; exact hz j hj
theorem z_uses {k : Nat} {n : Int32} (hk : k < 4) (hz : z357 g) : z357 (m_uses g k n) := by
  simp only [m_uses]
  refine z_upd (by omega) (z_upd (by omega) ?_)
  split
  · exact hz
  · exact z_upd (by omega) (z_upd (by omega) hz)
theorem z_back {d : Int32} {k : Nat} (ha : a < 16) (hb : b < 16) (hk : k ≤ 4) (hz : z357 g) : z357 (m_back g a b d k) := by
  induction k with
  | zero => exact hz
  | succ k ih =>
    unfold m_back
    split
    · exact z_upd (by omega) (ih (by omega))
    · exact ih (by omega)
theorem z_wB (ha : a < 16) (hb : ¬ m_ones (g (89 + a)) = 0 → b < 16) (hz : z357 g) : z357 (m_wB g a b) := by
  unfold m_wB
  split
  · exact hz
  · rename_i hn
    have hb := hb hn
    simp only [m_wb]
    exact z_upd (by omega) (z_upd (by omega) (z_back ha hb (by omega) (z_uses (by omega) hz)))
theorem z_emptiesLine (ha : a < 16) (hz : z357 g) : z357 (m_emptiesLine g a) := by
  simp only [m_emptiesLine]
  exact z_upd (by omega) (z_upd (by omega) (z_upd (by omega) (z_upd (by omega) (z_upd (by omega) (z_upd (by omega) (z_upd (by omega) (z_upd (by omega) (z_upd (by omega) (z_upd (by omega) hz)))))))))
theorem z_load {k : Nat} (ha : a < 16) (hk : k ≤ 4) (hz : z357 g) : z357 (m_load g a b k) := by
  induction k with
  | zero => exact hz
  | succ k ih => exact z_upd (by omega) (ih (by omega))
theorem z_miss0 (hb : b < 16) (hc : c < 3) (hz : z357 g) : z357 (m_miss0 g b c) := by
  simp only [m_miss0]
  exact z_upd (by omega) (z_upd (by omega) hz)
theorem z_misses (hb : b < 16) (ha : a < 16) (hc : c < 3) (ho : ¬ m_ones (g (89 + a)) = 0 → o < 16) (hz : z357 g) : z357 (m_misses g b a o c) := by
  have hd : m_miss0 g b c (89 + a) = g (89 + a) := m_miss0_o g b c _ (by omega) (by omega)
  simp only [m_misses]
  exact z_upd (by omega) (z_load ha (by omega) (z_upd (by omega) (z_upd (by omega) (z_emptiesLine ha (z_uses (by omega) (z_wB ha (by rw [hd]; exact ho) (z_miss0 hb hc hz)))))))
theorem m_placeGo_le (g : Nat → Int32) (b : Nat) : ∀ n i, m_placeGo g b n i ≤ i + n := by
  intro n
  induction n with
  | zero => intro i; exact Nat.le_refl _
  | succ n ih =>
    intro i
    simp only [m_placeGo]
    split
    · omega
    · have := ih (i + 1); omega
theorem m_place_le (g : Nat → Int32) (r b : Nat) : m_place g r b ≤ r := by
  have := m_placeGo_le g b r 0
  unfold m_place
  omega
theorem z_latest (hr : r ≤ 16) (hz : z357 g) : z357 (m_latest g r b) := by
  simp only [m_latest]
  refine z_upd (by omega) (fun j hj => ?_)
  have := m_place_le g r b
  unfold m_sh
  rw [if_neg (by omega)]
  exact z_upd (by omega) hz j hj
theorem z_touch {v : Int32} (ha : a < 16) (hb : b < 16) (hr : r ≤ 16) (hz : z357 g) : z357 (m_touch g a b r v) := by
  simp only [m_touch]
  exact z_latest hr (z_upd (by omega) (z_upd (by omega) (z_upd (by omega) hz)))
theorem z_hits (hz : z357 g) : z357 (m_hits g) := by
  simp only [m_hits]
  exact z_upd (by omega) (z_upd (by omega) hz)
theorem z_acc {p : Nat × (Nat → Int32)} (hT : TI g s l r) (hb : b < 16) (hz : z357 g) (h : m_acc g b s l r = some p) : z357 p.2 := by
  obtain ⟨⟨hr, hr16⟩, ⟨hs, h1, h4⟩, ⟨hl, hl4⟩, hB⟩ := hT
  unfold m_acc at h
  split at h
  · rename_i k hk
    cases h
    exact z_touch (m_lw_lt hk).1 hb hr16 (z_hits hz)
  · split at h
    · cases h
    · rename_i k hk
      cases h
      have hk16 := m_lineFor_lt h1 h4 hl4 hk
      exact z_touch hk16 hb hr16 (z_misses hb hk16 (m_cause_lt _ _ _ _ _) (fun z => (hB _ hk16 z).1) hz)
def m_wouldTake (g : Nat → Int32) (s l r : Nat) (x : Int32) : Int32 × Int32 := if m_in x 0 63 then (match m_acc g (x.toNatClampNeg / 4) s l r with | none => (2, 0) | some p => (0, p.2 0 - g 0)) else (1, 0)
/-- the state behind wouldTake: aside too -/
def t_would (t : Nat → Nat → Int32) (g : Nat → Int32) (q : Int32 × Int32) : Nat → Nat → Int32 := if q.1 = 0 then tset (tsk t 6 g) 16 0 0 else tset t 16 0 q.1
theorem tc_wouldTake (hA : tOK κ A) (hT : TI g s l r) (hz : z357 g) (hz6 : z357 (t 6)) (x : Int32) (K : Int32 → xH → Prop) (hK : K (m_wouldTake g s l r x).2 (tput h A (tg (t_would t g (m_wouldTake g s l r x)) g))) : P_X4_wouldTake κ (A 20) x (tput h A (tg t g), w) K := by
  have hT0 := hT
  obtain ⟨⟨hr, hr16⟩, ⟨hs, h1, h4⟩, ⟨hl, hl4⟩, hB⟩ := hT
  unfold P_X4_wouldTake
  unfold m_wouldTake at hK
  refine t_pure (r := bI (m_in x 0 63)) (fun τ K hk => tc_isAddress x τ K hk) ?_
  cases hi : m_in x 0 63 with
  | false =>
    rw [hi] at hK
    exact ⟨fun _ => tc_qF hA K hK, fun z => absurd rfl z⟩
  | true =>
    rw [hi] at hK
    obtain ⟨k, rfl, hk⟩ := m_inI (c := 63) (by decide) hi
    simp only [if_true, c_n (show k < 2 ^ 31 by omega)] at hK
    refine ⟨fun z => absurd z (by decide), fun _ => ?_⟩
    simp only [t_rc hA, true_and, m_div4 k (by omega)]
    -- the access on a copy
    have go : ∀ (p : Nat × (Nat → Int32)) (w : Nat × Nat), m_acc g (k / 4) s l r = some p → (xgq (tput h A (tg t g), w) (A 20) 10 0 fun v11 => xgq (tput h A (tg t g), w) (A 20) 10 6 fun v12 => xcall (fun τ L => P_X4_copy κ v11 (0 : Int32) v12 (0 : Int32) τ L) (tput h A (tg t g), w) fun _ σ13 => xrc σ13 (A 20) 10 ∧ xcall (fun τ L => P_X4_accesses κ (A 20) (nI (k / 4)) τ L) σ13 fun v14 σ15 => xgq σ15 (A 20) 10 0 fun v16 => xnn v16 fun b17 => xai .int σ15 b17 (0 : Int32) fun v18 => xgq σ15 (A 20) 10 6 fun v19 => xnn v19 fun b20 => xai .int σ15 b20 (0 : Int32) fun v21 => xgq σ15 (A 20) 10 6 fun v22 => xgq σ15 (A 20) 10 0 fun v23 => xcall (fun τ L => P_X4_copy κ v22 (0 : Int32) v23 (0 : Int32) τ L) σ15 fun _ σ24 => xrc σ24 (A 20) 10 ∧ xcall (fun τ L => P_X4_done κ (A 20) (v18 - v21) τ L) σ24 fun v25 σ26 => K v25 σ26.1) := by
      intro p w hp
      rw [hp] at hK
      have hzp : z357 p.2 := z_acc hT0 (by omega) hz hp
      rw [t_gq_0 hA, t_gq_6 hA]
      refine t_call (r := ()) (fun w K hk => tc_copyG (o1 := 0) (o2 := 0) (na := 357) (nb := 357) (fun t w i K => t_ai_0 hA) (fun t w i v K => t_si_6 hA) (by decide) (by decide) (by decide) (by decide) (by decide) K hk) ?_
      rw [tcp_all (by exact hz) (by exact hz6), tsk_tg (by decide)]
      simp only [t_rc hA, true_and]
      refine t_call (t' := tg (tsk t 6 g) p.2) (r := nI p.1) (fun w K hk' => tc_accesses hA hT0 (by omega) K (fun a' g'' z _ => by rw [hp] at z; cases z; exact hk') (fun z => by rw [hp] at z; cases z)) ?_
      have e6 : tg (tsk t 6 g) p.2 6 0 = g 0 := rfl
      simp only [t_gq_0 hA, t_gq_6 hA, t_nn, t_ag hA, t_ai_6 hA, i_0, t_l0, true_and, e6]
      have i0 : vp_in (0 : Int32) 357 := t_i0
      refine t_call (t' := tg (tsk t 6 g) g) (r := ()) (fun w K hk => tc_copyG (o1 := 0) (o2 := 0) (na := 357) (nb := 357) (fun t w i K => t_ai_6 hA) (fun t w i v K => t_si_0 hA) (by decide) (by decide) (by decide) (by decide) (by decide) K (by rw [tcp_all (by exact hz) (by exact hzp), tsk_tg0]; exact hk)) ?_
      exact tc_qD hA K hK
    refine t_call (t' := tg t g) (r := m_lineWith g (nI (k / 4))) (fun w K hk => tc_lineWith hA _ K hk) ?_
    rw [m_lw_I]
    cases hq : m_lw g (k / 4) with
    | some a =>
      have ha : a < 16 := (m_lw_lt hq).1
      refine ⟨fun z => absurd z (nI_ne a (by omega)), fun _ => ?_⟩
      exact go _ _ (by unfold m_acc; rw [hq])
    | none =>
      refine ⟨fun _ => ?_, fun z => absurd rfl z⟩
      simp only [t_rc hA, true_and]
      refine t_call (t' := tg t g) (r := oI (m_lineFor g (k / 4) s l)) (fun w K hk' => tc_lineFor hA (by omega) hs h1 h4 hl hl4 K hk') ?_
      cases hf : m_lineFor g (k / 4) s l with
      | none =>
        have e : m_acc g (k / 4) s l r = none := by unfold m_acc; rw [hq, hf]
        rw [e] at hK
        exact ⟨fun _ => tc_qF hA K hK, fun z => absurd rfl z⟩
      | some a =>
        have ha : a < 16 := m_lineFor_lt h1 h4 hl4 hf
        refine ⟨fun z => absurd z (nI_ne a (by omega)), fun _ => ?_⟩
        exact go _ _ (by unfold m_acc; rw [hq, hf])
end U13
