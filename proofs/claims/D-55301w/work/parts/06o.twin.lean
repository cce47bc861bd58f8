section U6
variable {κ A : Nat → Nat} {h : xH} {t : Nat → Nat → Int32} {g : Nat → Int32} {w : Nat × Nat} {s l r c : Nat}
/-- an array of 357 numbers: 0 beyond -/
def z357 (g : Nat → Int32) : Prop := ∀ j, 357 ≤ j → g j = 0
def tcp (t : Nat → Nat → Int32) (ka kb o1 o2 n : Nat) : Nat → Nat → Int32 := fun k j => if k = kb ∧ o2 ≤ j ∧ j < o2 + n then t ka (o1 + (j - o2)) else t k j
def tsk (t : Nat → Nat → Int32) (k : Nat) (f : Nat → Int32) : Nat → Nat → Int32 := fun k' => if k' = k then f else t k'
theorem tcp_0 (t : Nat → Nat → Int32) (ka kb o1 o2 : Nat) : tcp t ka kb o1 o2 0 = t := by
  funext k j
  unfold tcp
  rw [if_neg (by omega)]
theorem tcp_step (t : Nat → Nat → Int32) {ka kb : Nat} (hab : ka ≠ kb) (o1 o2 i : Nat) : tset (tcp t ka kb o1 o2 i) kb (o2 + i) (tcp t ka kb o1 o2 i ka (o1 + i)) = tcp t ka kb o1 o2 (i + 1) := by
  have e : tcp t ka kb o1 o2 i ka (o1 + i) = t ka (o1 + i) := by unfold tcp; rw [if_neg (fun z => hab z.1)]
  rw [e]
  funext k j
  unfold tset tcp
  by_cases hk : k = kb
  · subst hk
    by_cases hj : j = o2 + i
    · subst hj
      rw [if_pos rfl, if_pos rfl, if_pos (by omega)]
      congr 1
      omega
    · rw [if_pos rfl, if_neg hj]
      by_cases h2 : o2 ≤ j ∧ j < o2 + i
      · rw [if_pos ⟨rfl, h2⟩, if_pos ⟨rfl, by omega⟩]
      · rw [if_neg (fun z => h2 z.2), if_neg (by omega)]
  · rw [if_neg hk, if_neg (fun z => hk z.1), if_neg (fun z => hk z.1)]
theorem tc_copyG {ka kb na nb o1 o2 : Nat} (Ra : ∀ (t : Nat → Nat → Int32) (w : Nat × Nat) (i : Int32) (K : Int32 → Prop), xai .int (tput h A t, w) (A ka) i K ↔ vp_in i na ∧ K (t ka i.toNatClampNeg)) (Rb : ∀ (t : Nat → Nat → Int32) (w : Nat × Nat) (i v : Int32) (K : xS → Prop), xsi κ .int (tput h A t, w) (A kb) i v K ↔ vp_in i nb ∧ K (tput h A (tset t kb i.toNatClampNeg v), w))
    (hab : ka ≠ kb) (h1 : o1 + 357 ≤ na) (h2 : o2 + 357 ≤ nb) (ha : na < 10000) (hb : nb < 10000) (K : Unit → xH → Prop) (hK : K () (tput h A (tcp t ka kb o1 o2 357))) : P_X4_copy κ (some (A ka)) (nI o1) (some (A kb)) (nI o2) (tput h A t, w) K := by
  unfold P_X4_copy
  refine x_for 357 (fun i v σ => v = nI i ∧ i ≤ 357 ∧ σ = (tput h A (tcp t ka kb o1 o2 i), w)) ?_ ?_ ⟨rfl, by omega, by rw [tcp_0]⟩
  · rintro i v σ ⟨rfl, -, rfl⟩ hi self hself
    unfold B_X4_copy_3
    refine ⟨fun z => absurd ((nI_leI (a := 357) (b := i) (by decide) (by omega)).mp z) (by omega), fun _ => ?_⟩
    simp (disch := omega) only [t_nn, Ra, Rb, nI_add, vi_n, c_n, true_and]
    rw [(nI_succ i).symm, tcp_step t hab]
    exact hself _ _ ⟨rfl, by omega, rfl⟩
  · rintro v σ ⟨rfl, -, rfl⟩ self
    unfold B_X4_copy_3
    exact ⟨fun _ => hK, fun z => absurd ((nI_leI (a := 357) (b := 357) (by decide) (by omega)).mpr (Nat.le_refl _)) z⟩
/-- a whole array of 357 to another one -/
theorem tcp_all {ka kb : Nat} (hz1 : z357 (t ka)) (hz2 : z357 (t kb)) : tcp t ka kb 0 0 357 = tsk t kb (t ka) := by
  funext k j
  unfold tcp tsk
  by_cases hk : k = kb
  · subst hk
    rw [if_pos rfl]
    by_cases hj : j < 357
    · rw [if_pos (by omega)]
      congr 1
      omega
    · rw [if_neg (by omega), hz1 j (by omega), hz2 j (by omega)]
  · rw [if_neg (fun z => hk z.1), if_neg hk]
theorem tsk_tg {k : Nat} (hk : k ≠ 0) (f : Nat → Int32) : tsk (tg t g) k f = tg (tsk t k f) g := by
  funext k1 j
  unfold tsk tg
  by_cases h0 : k1 = 0
  · subst h0; rw [if_neg (Ne.symm hk), if_pos rfl, if_pos rfl]
  · rw [if_neg h0, if_neg h0]
theorem tsk_tg0 (f : Nat → Int32) : tsk (tg t g) 0 f = tg t f := by
  funext k1 j
  unfold tsk tg
  by_cases h0 : k1 = 0
  · rw [if_pos h0, if_pos h0]
  · rw [if_neg h0, if_neg h0, if_neg h0]
theorem tc_looksBack (hA : tOK κ A) (hz : z357 g) (hz1 : z357 (t 1)) (K : Unit → xH → Prop) (hK : K () (tput h A (tg (tsk t 1 g) g))) : P_X4_looksBack κ (A 20) (tput h A (tg t g), w) K := by
  unfold P_X4_looksBack
  simp only [t_gq_0 hA, t_gq_1 hA]
  refine t_call (r := ()) (fun w K hk => tc_copyG (o1 := 0) (o2 := 0) (na := 357) (nb := 357) (fun t w i K => t_ai_0 hA) (fun t w i v K => t_si_1 hA) (by decide) (by decide) (by decide) (by decide) (by decide) K hk) ?_
  rw [tcp_all (by exact hz) (by exact hz1), tsk_tg (by decide)]
  exact hK
/-- history when another one comes -/
def m_hist (H : Nat → Int32) (c : Nat) (b : Nat → Int32) : Nat → Int32 := fun j =>
  if c = 8 then (if 2499 ≤ j ∧ j < 2499 + 357 then b (j - 2499) else if j < 2499 then H (j + 357) else H j)
  else if c * 357 ≤ j ∧ j < c * 357 + 357 then b (j - c * 357) else H j
def t_keep (t : Nat → Nat → Int32) (c : Nat) : Nat → Nat → Int32 := tset (tsk t 2 (m_hist (t 2) c (t 1))) 3 0 (nI (if c = 8 then 8 else c + 1))
theorem tc_keptGo (hA : tOK κ A) (hc8 : c < 8) (ht : t 3 0 = nI c) (x : Int32) (K : Int32 → xH → Prop) (hK : K x (tput h A (tset (tcp t 1 2 0 (c * 357) 357) 3 0 (nI (c + 1))))) :
    (xgq (tput h A t, w) (A 20) 10 1 fun v13 => xgq (tput h A t, w) (A 20) 10 2 fun v14 => xgi (tput h A t, w) (A 20) 10 3 fun v15 => xcall (fun τ L => P_X4_copy κ v13 (0 : Int32) v14 (v15 * (357 : Int32)) τ L) (tput h A t, w) fun _ σ16 => xgi σ16 (A 20) 10 3 fun v17 => xpi κ σ16 (A 20) 10 3 (v17 + (1 : Int32)) fun σ18 => K x σ18.1) := by
  simp only [t_gq_1 hA, t_gq_2 hA, t_gi_3 hA, ht]
  have e : nI c * (357 : Int32) = nI (c * 357) := nI_mul c 357
  rw [e]
  refine t_call (r := ()) (fun w K hk => tc_copyG (o1 := 0) (o2 := c * 357) (na := 357) (nb := 2856) (fun t w i K => t_ai_1 hA) (fun t w i v K => t_si_2 hA) (by decide) (by decide) (by omega) (by decide) (by decide) K hk) ?_
  simp only [t_gi_3 hA, t_pi_3 hA]
  have e2 : tcp t 1 2 0 (c * 357) 357 3 0 = nI c := by
    unfold tcp
    rw [if_neg (by omega)]
    exact ht
  rw [e2, (nI_succ c).symm]
  exact hK
def tshift (t : Nat → Nat → Int32) (n : Nat) : Nat → Nat → Int32 := fun k j => if k = 2 ∧ j < n then t 2 (j + 357) else t k j
theorem tshift_step (t : Nat → Nat → Int32) (n : Nat) : tset (tshift t n) 2 n (tshift t n 2 (n + 357)) = tshift t (n + 1) := by
  have e : tshift t n 2 (n + 357) = t 2 (n + 357) := by unfold tshift; rw [if_neg (by omega)]
  rw [e]
  funext k j
  unfold tset tshift
  by_cases hk : k = 2
  · subst hk
    by_cases hj : j = n
    · subst hj; rw [if_pos rfl, if_pos rfl, if_pos (by omega)]
    · rw [if_pos rfl, if_neg hj]
      by_cases h2 : j < n
      · rw [if_pos ⟨rfl, h2⟩, if_pos ⟨rfl, by omega⟩]
      · rw [if_neg (fun z => h2 z.2), if_neg (by omega)]
  · rw [if_neg hk, if_neg (fun z => hk z.1), if_neg (fun z => hk z.1)]
theorem tc_kept0 (hA : tOK κ A) (hc8 : c ≤ 8) (ht : t 3 0 = nI c) (h16 : t 16 0 = 0) (x : Int32) (K : Int32 → xH → Prop) (hK : K x (tput h A (t_keep t c))) : P_X4_kept κ (A 20) x (tput h A t, w) K := by
  unfold P_X4_kept
  rw [t_gi_16 hA, t_gi_3 hA]
  refine ⟨fun _ => ⟨fun h8 => ?_, fun h8 => ?_⟩, fun z => absurd h16 z⟩
  · have hc : c = 8 := (nI_eq (a := c) (b := 8) (by omega) (by omega)).mp (by rw [← ht]; exact h8)
    subst hc
    refine x_for 2499 (fun i v σ => v = nI i ∧ i ≤ 2499 ∧ σ = (tput h A (tshift t i), w)) ?_ ?_ ⟨rfl, by omega, ?_⟩
    · rintro i v σ ⟨rfl, -, rfl⟩ hi self hself
      unfold B_X4_kept_33
      refine ⟨fun z => absurd ((nI_leI (a := 2499) (b := i) (by decide) (by omega)).mp z) (by omega), fun _ => ?_⟩
      have e : nI i + (357 : Int32) = nI (i + 357) := nI_add i 357
      simp (disch := omega) only [t_gq_2 hA, t_nn, t_ai_2 hA, t_si_2 hA, e, vi_n, c_n, true_and]
      rw [(nI_succ i).symm, tshift_step]
      exact hself _ _ ⟨rfl, by omega, rfl⟩
    · rintro v σ ⟨rfl, -, rfl⟩ self
      unfold B_X4_kept_33
      refine ⟨fun _ => ?_, fun z => absurd ((nI_leI (a := 2499) (b := 2499) (by decide) (by omega)).mpr (Nat.le_refl _)) z⟩
      have e3 : tshift t 2499 3 0 = nI 8 := by unfold tshift; rw [if_neg (by omega)]; exact ht
      have e7 : nI 8 - 1 = nI 7 := by decide
      dsimp only
      rw [t_gi_3 hA, e3, e7, t_pi_3 hA]
      refine tc_keptGo (t := tset (tshift t 2499) 3 0 (nI 7)) hA (c := 7) (by omega) (by simp [tset]) x K ?_
      have e9 : tset (tcp (tset (tshift t 2499) 3 0 (nI 7)) 1 2 0 (7 * 357) 357) 3 0 (nI (7 + 1)) = t_keep t 8 := by
        funext k j
        have e8 : m_hist (t 2) 8 (t 1) j = if 2499 ≤ j ∧ j < 2856 then t 1 (j - 2499) else if j < 2499 then t 2 (j + 357) else t 2 j := if_pos rfl
        simp only [t_keep, tset, tcp, tshift, tsk]
        by_cases hk3 : k = 3
        · subst hk3; simp; split <;> rfl
        · by_cases hk2 : k = 2
          · subst hk2; simp [e8]
          · simp [hk2, hk3]
      rw [e9]
      exact hK
    · have : tshift t 0 = t := by funext k j; unfold tshift; rw [if_neg (by omega)]
      rw [this]
  · have hc : c ≠ 8 := by
      intro z; subst z; exact h8 ht
    refine tc_keptGo hA (c := c) (by omega) ht x K ?_
    have e9 : tset (tcp t 1 2 0 (c * 357) 357) 3 0 (nI (c + 1)) = t_keep t c := by
      funext k j
      simp only [t_keep, tset, tcp, tsk, m_hist, if_neg hc]
      by_cases hk3 : k = 3
      · subst hk3; simp
      · by_cases hk2 : k = 2
        · subst hk2; simp [m_hist, hc]
        · simp [hk2, hk3]
    rw [e9]
    exact hK
theorem tc_kept1 (hA : tOK κ A) (hz : z357 g) (hz1 : z357 (t 1)) (h16 : ¬ t 16 0 = 0) (x : Int32) (K : Int32 → xH → Prop) (hK : K 0 (tput h A (tg t (t 1)))) : P_X4_kept κ (A 20) x (tput h A (tg t g), w) K := by
  unfold P_X4_kept
  rw [t_gi_16 hA]
  refine ⟨fun z => absurd z h16, fun _ => ?_⟩
  simp only [t_gq_0 hA, t_gq_1 hA]
  refine t_call (r := ()) (fun w K hk => tc_copyG (o1 := 0) (o2 := 0) (na := 357) (nb := 357) (fun t w i K => t_ai_1 hA) (fun t w i v K => t_si_0 hA) (by decide) (by decide) (by decide) (by decide) (by decide) K hk) ?_
  rw [tcp_all (by exact hz1) (by exact hz), tsk_tg0]
  exact hK
/-- what an order leaves that is done on a copy -/
def t_done (t : Nat → Nat → Int32) (g : Nat → Int32) (c : Nat) : Nat → Nat → Int32 := t_keep (tset (tsk t 1 g) 16 0 0) c
def kAns (o : mO) (t : Nat → Nat → Int32) (c : Nat) (A : Nat → Nat) (h : xH) (g : Nat → Int32) (K : Int32 → xH → Prop) : Prop := match o with
  | .inl p => K 0 (tput h A (tg (tRef (tsk t 1 g) p.1 p.2) g))
  | .inr p => K p.1 (tput h A (tg (t_done t g c) p.2))
theorem t_keep_tg : t_keep (tg t g) c = tg (t_keep t c) g := by
  unfold t_keep
  rw [tsk_tg (by decide), tg_setk _ _ (by decide)]
  rfl
theorem tc_keptA (hA : tOK κ A) (hz : z357 g) (hc : t 3 0 = nI c) (hc8 : c ≤ 8) {o : mO} (K : Int32 → xH → Prop) (hK : kAns o t c A h g K) : ∀ (t' : Nat → Nat → Int32) (g' : Nat → Int32) (v : Int32), (match o with | .inl p => v = 0 ∧ g' = g ∧ t' = tRef (tsk t 1 g) p.1 p.2 | .inr p => v = p.1 ∧ g' = p.2 ∧ t' = tset (tsk t 1 g) 16 0 0) → P_X4_kept κ (A 20) v (tput h A (tg t' g'), w) K := by
  intro t' g' v hm
  cases o with
  | inl p =>
    obtain ⟨rfl, rfl, rfl⟩ := hm
    refine tc_kept1 hA hz (by exact hz) (by simp [tRef, tset]) 0 K ?_
    exact hK
  | inr p =>
    obtain ⟨rfl, rfl, rfl⟩ := hm
    refine tc_kept0 hA hc8 (by simp [tg, tset, tsk]; exact hc) (by simp [tg, tset]) p.1 K ?_
    rw [t_keep_tg]
    exact hK
/-- looksBack, an order, kept -/
theorem tc_wrap (hA : tOK κ A) (hz : z357 g) (hz1 : z357 (t 1)) (hc : t 3 0 = nI c) (hc8 : c ≤ 8) {o : mO} {Pop : xS → (Int32 → xH → Prop) → Prop} (hop : ∀ (t : Nat → Nat → Int32) (w : Nat × Nat) (K : Int32 → xH → Prop), mAns o t A h g K → Pop (tput h A (tg t g), w) K) (K : Int32 → xH → Prop) (hK : kAns o t c A h g K) :
    (xrc (tput h A (tg t g), w) (A 20) 10 ∧ xcall (fun τ L => P_X4_looksBack κ (A 20) τ L) (tput h A (tg t g), w) fun _ σ1 => xrc σ1 (A 20) 10 ∧ xcall Pop σ1 fun v2 σ3 => xrc σ3 (A 20) 10 ∧ xcall (fun τ L => P_X4_kept κ (A 20) v2 τ L) σ3 fun v4 σ5 => K v4 σ5.1) := by
  simp only [t_rc hA, true_and]
  refine t_call (r := ()) (fun w K hk => tc_looksBack hA hz hz1 K hk) ?_
  simp only [t_rc hA, true_and]
  cases o with
  | inl p =>
    refine t_call (t' := tg (tRef (tsk t 1 g) p.1 p.2) g) (r := 0) (fun w K hk => hop _ w K hk) ?_
    simp only [t_rc hA, true_and]
    exact t_call (r := 0) (t' := tg (tRef (tsk t 1 g) p.1 p.2) g) (fun w K hk => tc_keptA (o := .inl p) hA hz hc hc8 K hk _ _ _ ⟨rfl, rfl, rfl⟩) hK
  | inr p =>
    refine t_call (t' := tg (tset (tsk t 1 g) 16 0 0) p.2) (r := p.1) (fun w K hk => hop _ w K hk) ?_
    simp only [t_rc hA, true_and]
    exact t_call (r := p.1) (t' := tg (t_done t g c) p.2) (fun w K hk => tc_keptA (o := .inr p) hA hz hc hc8 K hk _ _ _ ⟨rfl, rfl, rfl⟩) hK
theorem tc_read (hA : tOK κ A) (hT : TI g s l r) (hz : z357 g) (hz1 : z357 (t 1)) (hc : t 3 0 = nI c) (hc8 : c ≤ 8) (x : Int32) (K : Int32 → xH → Prop) (hK : kAns (m_reads g x s l r) t c A h g K) : P_X4_read κ (A 20) x (tput h A (tg t g), w) K := tc_wrap hA hz hz1 hc hc8 (fun t w K hk => tc_reads hA hT x K hk) K hK
theorem tc_write (hA : tOK κ A) (hT : TI g s l r) (hz : z357 g) (hz1 : z357 (t 1)) (hc : t 3 0 = nI c) (hc8 : c ≤ 8) (x y : Int32) (K : Int32 → xH → Prop) (hK : kAns (m_writes g x y s l r) t c A h g K) : P_X4_write κ (A 20) x y (tput h A (tg t g), w) K := tc_wrap hA hz hz1 hc hc8 (fun t w K hk => tc_writes hA hT x y K hk) K hK
theorem tc_device (hA : tOK κ A) (hT : TI g s l r) (hz : z357 g) (hz1 : z357 (t 1)) (hc : t 3 0 = nI c) (hc8 : c ≤ 8) (x y : Int32) (K : Int32 → xH → Prop) (hK : kAns (m_devices g x y) t c A h g K) : P_X4_device κ (A 20) x y (tput h A (tg t g), w) K := tc_wrap hA hz hz1 hc hc8 (fun t w K hk => tc_devices hA hT x y K hk) K hK
theorem tc_pass (hA : tOK κ A) (hz : z357 g) (hz1 : z357 (t 1)) (hc : t 3 0 = nI c) (hc8 : c ≤ 8) (x : Int32) (K : Int32 → xH → Prop) (hK : kAns (m_passes g x) t c A h g K) : P_X4_pass κ (A 20) x (tput h A (tg t g), w) K := tc_wrap hA hz hz1 hc hc8 (fun t w K hk => tc_passes hA x K hk) K hK
theorem tc_pin (hA : tOK κ A) (hz : z357 g) (hz1 : z357 (t 1)) (hc : t 3 0 = nI c) (hc8 : c ≤ 8) (x : Int32) (K : Int32 → xH → Prop) (hK : kAns (m_pins g x 1) t c A h g K) : P_X4_pin κ (A 20) x (tput h A (tg t g), w) K := tc_wrap hA hz hz1 hc hc8 (fun t w K hk => tc_pins hA x 1 K hk) K hK
theorem tc_free (hA : tOK κ A) (hz : z357 g) (hz1 : z357 (t 1)) (hc : t 3 0 = nI c) (hc8 : c ≤ 8) (x : Int32) (K : Int32 → xH → Prop) (hK : kAns (m_pins g x 0) t c A h g K) : P_X4_free κ (A 20) x (tput h A (tg t g), w) K := tc_wrap hA hz hz1 hc hc8 (fun t w K hk => tc_pins hA x 0 K hk) K hK
theorem tc_flush (hA : tOK κ A) (hT : TI g s l r) (hz : z357 g) (hz1 : z357 (t 1)) (hc : t 3 0 = nI c) (hc8 : c ≤ 8) (K : Int32 → xH → Prop) (hK : kAns (m_flushes g s l) t c A h g K) : P_X4_flush κ (A 20) (tput h A (tg t g), w) K := tc_wrap hA hz hz1 hc hc8 (fun t w K hk => tc_flushes hA hT K hk) K hK
end U6
