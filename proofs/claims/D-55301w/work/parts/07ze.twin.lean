-- a map's tree rides apart: T 0 left, T 1 right, T 2 parent, T 3 0 the root; cl the colours
def tMo (N : Nat → Nat) (T : Nat → Nat → Option Nat) (sz m : Int32) (v : Nat → Value) : xE := .inl (2, [v 0, v 1, va_rf none, va_rf ((T 3 0).map N), .int sz, .int m, v 6, v 7, v 8])
def tNd (N kA vA : Nat → Nat) (T : Nat → Nat → Option Nat) (cl : Nat → Int32) (i : Nat) : xE := tN N kA vA (T 0) (T 1) (T 2) cl i
def rput (h : xH) (a n : Nat) (N kA vA : Nat → Nat) (v : Nat → Value) (sz m : Int32) (T : Nat → Nat → Option Nat) (cl : Nat → Int32) : xH := fun b =>
  if b = a then some (tMo N T sz m v) else match (List.range n).find? (fun i => decide (N i = b)) with
  | some i => some (tNd N kA vA T cl i)
  | none => h b
def rOK (κ : Nat → Nat) (a n : Nat) (N : Nat → Nat) : Prop := (∀ i j, i < n → j < n → i ≠ j → N i ≠ N j) ∧ (∀ i, i < n → N i ≠ a) ∧ κ 0 ≤ a ∧ ∀ i, i < n → κ 0 ≤ N i
theorem tq_eq {T : Nat → Nat → Option Nat} {k i : Nat} {r : Option Nat} : tq T k i r k i = r := by simp [tq]
theorem tq_k {T : Nat → Nat → Option Nat} {k k' i j : Nat} {r : Option Nat} (h : k' ≠ k) : tq T k i r k' j = T k' j := by simp [tq, h]
theorem tq_i {T : Nat → Nat → Option Nat} {k k' i j : Nat} {r : Option Nat} (h : j ≠ i) : tq T k i r k' j = T k' j := by simp [tq, h]
section F5
variable {κ : Nat → Nat} {h : xH} {a n i j : Nat} {N kA vA : Nat → Nat} {v : Nat → Value} {sz m : Int32} {T T' : Nat → Nat → Option Nat} {cl cl' : Nat → Int32} {w : Nat × Nat} {lo hi : Nat → Nat}
theorem rput_a : rput h a n N kA vA v sz m T cl a = some (tMo N T sz m v) := by unfold rput; rw [if_pos rfl]
theorem rput_n (hR : rOK κ a n N) (hi' : i < n) : rput h a n N kA vA v sz m T cl (N i) = some (tNd N kA vA T cl i) := by
  unfold rput
  rw [if_neg (hR.2.1 i hi')]
  cases hf : (List.range n).find? (fun j => decide (N j = N i)) with
  | none =>
    have := List.find?_eq_none.mp hf i (List.mem_range.mpr hi')
    simp at this
  | some j =>
    have h1 := List.find?_some hf
    have h2 := List.mem_range.mp (List.mem_of_find?_eq_some hf)
    simp only [decide_eq_true_eq] at h1
    have : j = i := Classical.byContradiction fun z => hR.1 j i h2 hi' z h1
    rw [this]
theorem rput_o {b : Nat} (hb : b ≠ a) (hb2 : ∀ i, i < n → N i ≠ b) : rput h a n N kA vA v sz m T cl b = h b := by
  unfold rput
  rw [if_neg hb]
  have hf : (List.range n).find? (fun i => decide (N i = b)) = none := by
    rw [List.find?_eq_none]
    intro x hx
    simp only [decide_eq_true_eq]
    exact hb2 x (List.mem_range.mp hx)
  rw [hf]
theorem tNd_congr (h0 : ∀ k, k < 3 → T' k i = T k i) (h1 : cl' i = cl i) : tNd N kA vA T' cl' i = tNd N kA vA T cl i := by
  unfold tNd tN
  rw [h0 0 (by omega), h0 1 (by omega), h0 2 (by omega), h1]
theorem rput_upN (hR : rOK κ a n N) (hi' : i < n) (h0 : ∀ k j, k < 3 → j ≠ i → T' k j = T k j) (h3 : T' 3 0 = T 3 0) (h1 : ∀ j, j ≠ i → cl' j = cl j) : xup (rput h a n N kA vA v sz m T cl) (N i) (tNd N kA vA T' cl' i) = rput h a n N kA vA v sz m T' cl' := by
  funext b
  by_cases hb : b = N i
  · rw [hb, xup_eq, rput_n hR hi']
  · rw [xup_ne hb]
    by_cases hba : b = a
    · rw [hba, rput_a, rput_a]
      unfold tMo
      rw [h3]
    · by_cases hx : ∃ j, j < n ∧ N j = b
      · obtain ⟨j, hj, rfl⟩ := hx
        have hji : j ≠ i := fun z => hb (by rw [z])
        rw [rput_n hR hj, rput_n hR hj, tNd_congr (T := T) (cl := cl) (fun k hk => h0 k j hk hji) (h1 j hji)]
      · have hx' : ∀ j, j < n → N j ≠ b := fun j h1 h2 => hx ⟨j, h1, h2⟩
        rw [rput_o hba hx', rput_o hba hx']
theorem rput_upA {sz' m' : Int32} (hR : rOK κ a n N) (h0 : ∀ k j, k < 3 → T' k j = T k j) : xup (rput h a n N kA vA v sz m T cl) a (tMo N T' sz' m' v) = rput h a n N kA vA v sz' m' T' cl := by
  funext b
  by_cases hba : b = a
  · rw [hba, xup_eq, rput_a]
  · rw [xup_ne hba]
    by_cases hx : ∃ j, j < n ∧ N j = b
    · obtain ⟨j, hj, rfl⟩ := hx
      rw [rput_n hR hj, rput_n hR hj, tNd_congr (T := T) (cl := cl) (fun k hk => h0 k j hk) rfl]
    · have hx' : ∀ j, j < n → N j ≠ b := fun j h1 h2 => hx ⟨j, h1, h2⟩
      rw [rput_o hba hx', rput_o hba hx']
theorem r_l (hR : rOK κ a n N) (hi' : i < n) {K : Option Nat → Prop} : xgq (rput h a n N kA vA v sz m T cl, w) (N i) 19 2 K ↔ K ((T 0 i).map N) := g_gq (r := (T 0 i).map N) (rput_n hR hi') rfl
theorem r_r (hR : rOK κ a n N) (hi' : i < n) {K : Option Nat → Prop} : xgq (rput h a n N kA vA v sz m T cl, w) (N i) 19 3 K ↔ K ((T 1 i).map N) := g_gq (r := (T 1 i).map N) (rput_n hR hi') rfl
theorem r_p (hR : rOK κ a n N) (hi' : i < n) {K : Option Nat → Prop} : xgq (rput h a n N kA vA v sz m T cl, w) (N i) 19 4 K ↔ K ((T 2 i).map N) := g_gq (r := (T 2 i).map N) (rput_n hR hi') rfl
theorem r_c (hR : rOK κ a n N) (hi' : i < n) {K : Int32 → Prop} : xgi (rput h a n N kA vA v sz m T cl, w) (N i) 19 5 K ↔ K (cl i) := g_gi (rput_n hR hi') rfl
theorem r_ro {K : Option Nat → Prop} : xgq (rput h a n N kA vA v sz m T cl, w) a 2 3 K ↔ K ((T 3 0).map N) := g_gq (r := (T 3 0).map N) rput_a rfl
theorem r_rc : xrc (rput h a n N kA vA v sz m T cl, w) a 2 ↔ True := g_rc rput_a
theorem r_wl (hR : rOK κ a n N) (hi' : i < n) {x r : Option Nat} (hx : x = r.map N) {K : xS → Prop} : xpq κ (rput h a n N kA vA v sz m T cl, w) (N i) 19 2 x K ↔ K (rput h a n N kA vA v sz m (tq T 0 i r) cl, w) := by
  rw [g_pq (rput_n hR hi') (hR.2.2.2 i hi') (by simp), hx, ← rput_upN (T' := tq T 0 i r) (cl' := cl) hR hi' (fun k j _ hj => tq_i hj) (tq_k (by omega)) (fun j _ => rfl)]
  unfold tNd tN
  rw [tq_eq, tq_k (by omega), tq_k (by omega)]
  rfl
theorem r_wr (hR : rOK κ a n N) (hi' : i < n) {x r : Option Nat} (hx : x = r.map N) {K : xS → Prop} : xpq κ (rput h a n N kA vA v sz m T cl, w) (N i) 19 3 x K ↔ K (rput h a n N kA vA v sz m (tq T 1 i r) cl, w) := by
  rw [g_pq (rput_n hR hi') (hR.2.2.2 i hi') (by simp), hx, ← rput_upN (T' := tq T 1 i r) (cl' := cl) hR hi' (fun k j _ hj => tq_i hj) (tq_k (by omega)) (fun j _ => rfl)]
  unfold tNd tN
  rw [tq_eq, tq_k (k' := 0) (by omega), tq_k (k' := 2) (by omega)]
  rfl
theorem r_wp (hR : rOK κ a n N) (hi' : i < n) {x r : Option Nat} (hx : x = r.map N) {K : xS → Prop} : xpq κ (rput h a n N kA vA v sz m T cl, w) (N i) 19 4 x K ↔ K (rput h a n N kA vA v sz m (tq T 2 i r) cl, w) := by
  rw [g_pq (rput_n hR hi') (hR.2.2.2 i hi') (by simp), hx, ← rput_upN (T' := tq T 2 i r) (cl' := cl) hR hi' (fun k j _ hj => tq_i hj) (tq_k (by omega)) (fun j _ => rfl)]
  unfold tNd tN
  rw [tq_eq, tq_k (k' := 0) (by omega), tq_k (k' := 1) (by omega)]
  rfl
theorem r_wc (hR : rOK κ a n N) (hi' : i < n) {x : Int32} {K : xS → Prop} : xpi κ (rput h a n N kA vA v sz m T cl, w) (N i) 19 5 x K ↔ K (rput h a n N kA vA v sz m T (upd cl i x), w) := by
  rw [g_pi (rput_n hR hi') (hR.2.2.2 i hi') (by simp), ← rput_upN (T' := T) (cl' := upd cl i x) hR hi' (fun k j _ hj => rfl) rfl (fun j hj => upd_ne hj)]
  unfold tNd tN
  rw [upd_eq]
  rfl
theorem r_wro (hR : rOK κ a n N) {x r : Option Nat} (hx : x = r.map N) {K : xS → Prop} : xpq κ (rput h a n N kA vA v sz m T cl, w) a 2 3 x K ↔ K (rput h a n N kA vA v sz m (tq T 3 0 r) cl, w) := by
  rw [g_pq rput_a hR.2.2.1 (by simp), hx, ← rput_upA (T' := tq T 3 0 r) (sz' := sz) (m' := m) hR (fun k j hk => tq_k (by omega))]
  unfold tMo
  rw [tq_eq]
  rfl
theorem r_gs {K : Int32 → Prop} : xgi (rput h a n N kA vA v sz m T cl, w) a 2 4 K ↔ K sz := g_gi rput_a rfl
theorem r_gm {K : Int32 → Prop} : xgi (rput h a n N kA vA v sz m T cl, w) a 2 5 K ↔ K m := g_gi rput_a rfl
theorem r_ws (hR : rOK κ a n N) {x : Int32} {K : xS → Prop} : xpi κ (rput h a n N kA vA v sz m T cl, w) a 2 4 x K ↔ K (rput h a n N kA vA v x m T cl, w) := by
  rw [g_pi rput_a hR.2.2.1 (by simp), ← rput_upA (T' := T) (sz' := x) (m' := m) hR (fun k j hk => rfl)]
  rfl
theorem r_wm (hR : rOK κ a n N) {x : Int32} {K : xS → Prop} : xpi κ (rput h a n N kA vA v sz m T cl, w) a 2 5 x K ↔ K (rput h a n N kA vA v sz x T cl, w) := by
  rw [g_pi rput_a hR.2.2.1 (by simp), ← rput_upA (T' := T) (sz' := sz) (m' := x) hR (fun k j hk => rfl)]
  rfl
/-- a child's place is below n -/
theorem TQ.lt (hT : TQ n T lo hi) (hi' : i < n) : (∀ j, T 0 i = some j → j < n) ∧ (∀ j, T 1 i = some j → j < n) ∧ ∀ j, T 2 i = some j → j < n := by
  obtain ⟨h1, h2, h3, h4, h5, h6, h7, h8, h9⟩ := hT
  have := h1 i hi'
  refine ⟨fun j hj => ?_, fun j hj => ?_, fun j hj => (h9 i j hi' hj).1⟩
  · have := h3 i j hi' hj; omega
  · have := h5 i j hi' hj; omega
theorem some_inj (hR : rOK κ a n N) (hi' : i < n) {o : Option Nat} (ho : ∀ j, o = some j → j < n) : (o.map N = some (N i)) ↔ o = some i := by
  constructor
  · intro z
    cases o with
    | none => cases z
    | some j =>
      have := ho j rfl
      have e : N j = N i := Option.some.inj z
      have e2 : j = i := Classical.byContradiction fun q => hR.1 j i this hi' q e
      rw [e2]
  · rintro rfl
    rfl
theorem cc_rotateLeft {x y : Nat} (hR : rOK κ a n N) (hT : TQ n T lo hi) (hx : x < n) (hy : T 1 x = some y) (K : Unit → xH → Prop) (hK : K () (rput h a n N kA vA v sz m (rotL T x y) cl)) : P_J1_rotateLeft κ a (some (N x)) (rput h a n N kA vA v sz m T cl, w) K := by
  have hyn : y < n := (hT.lt hx).2.1 y hy
  have dxy : x ≠ y := by have := hT.2.2.2.2.1 x y hx hy; omega
  unfold P_J1_rotateLeft
  refine ⟨fun z => (by cases z), fun b z => ?_⟩
  cases z
  rw [r_r hR hx, hy]
  show xnn (some (N y)) _
  rw [t_nn, r_l hR hyn, r_wr hR hx (r := T 0 y) rfl, r_l hR hyn, tq_k (k' := 0) (by omega)]
  -- the parent's child
  have tail : ∀ (T1 : Nat → Nat → Option Nat), T1 2 x = T 2 x → (∀ p, p ≠ x → p ≠ y → T1 0 p = T 0 p) → tq T1 2 y (T1 2 x) = rotL3 T x y →
      (xgq (rput h a n N kA vA v sz m T1 cl, w) (N x) 19 4 fun v8 => xpq κ (rput h a n N kA vA v sz m T1 cl, w) (N y) 19 4 v8 fun σ9 => xgq σ9 (N x) 19 4 fun v10 => ((v10 = none → (xpq κ σ9 a 2 3 (some (N y)) fun σ12 => xpq κ σ12 (N y) 19 2 (some (N x)) fun σ13 => xpq κ σ13 (N x) 19 4 (some (N y)) fun σ14 => K () σ14.1)) ∧ (∀ b11 : Nat, v10 = some b11 → (xgq σ9 (N x) 19 4 fun v15 => xnn v15 fun b16 => xgq σ9 b16 19 2 fun v17 => ((v17 = (some (N x)) → (xgq σ9 (N x) 19 4 fun v18 => xnn v18 fun b19 => xpq κ σ9 b19 19 2 (some (N y)) fun σ20 => xpq κ σ20 (N y) 19 2 (some (N x)) fun σ21 => xpq κ σ21 (N x) 19 4 (some (N y)) fun σ22 => K () σ22.1)) ∧ (¬ v17 = (some (N x)) → (xgq σ9 (N x) 19 4 fun v23 => xnn v23 fun b24 => xpq κ σ9 b24 19 3 (some (N y)) fun σ25 => xpq κ σ25 (N y) 19 2 (some (N x)) fun σ26 => xpq κ σ26 (N x) 19 4 (some (N y)) fun σ27 => K () σ27.1))))))) := by
    intro T1 q1 q2 q3
    rw [r_p hR hx, r_wp hR hyn (r := T1 2 x) rfl, q3, r_p hR hx]
    have q4 : rotL3 T x y 2 x = T 2 x := by rw [← q3, tq_i dxy, q1]
    rw [q4]
    cases e2 : T 2 x with
    | none =>
      refine ⟨fun _ => ?_, fun b z => (by cases z)⟩
      rw [r_wro hR (x := some (N y)) (r := some y) rfl, r_wl hR hyn (x := some (N x)) (r := some x) rfl, r_wp hR hx (x := some (N y)) (r := some y) rfl]
      have : rotL T x y = tq (tq (tq (rotL3 T x y) 3 0 (some y)) 0 y (some x)) 2 x (some y) := by unfold rotL rotL4; rw [e2]
      rw [this] at hK
      exact hK
    | some p =>
      have hp : p < n := (hT.lt hx).2.2 p e2
      have dpx : p ≠ x := by
        rintro rfl
        have := hT.2.2.2.2.2.2.2.2 p p hp e2
        rcases this.2 with z | z
        · have := hT.2.2.1 p p hp z; omega
        · have := hT.2.2.2.2.1 p p hp z; omega
      have dpy : p ≠ y := by
        rintro rfl
        have h5 := hT.2.2.2.2.1 x p hx hy
        have := hT.2.2.2.2.2.2.2.2 x p hx e2
        rcases this.2 with z | z
        · have := hT.2.2.1 p x hp z; have := hT.1 x hx; omega
        · have := hT.2.2.2.2.1 p x hp z; omega
      have q5 : rotL3 T x y 0 p = T 0 p := by rw [← q3, tq_k (by omega), q2 p dpx dpy]
      refine ⟨fun z => (by cases z), fun b z => ?_⟩
      rw [r_p hR hx, q4, e2]
      show xnn (some (N p)) _
      rw [t_nn, r_l hR hp, q5]
      have iff1 := some_inj (o := T 0 p) hR hx (fun j hj => (hT.lt hp).1 j hj)
      refine ⟨fun z => ?_, fun z => ?_⟩
      · rw [r_p hR hx, q4, e2]
        show xnn (some (N p)) _
        rw [t_nn, r_wl hR hp (x := some (N y)) (r := some y) rfl, r_wl hR hyn (x := some (N x)) (r := some x) rfl, r_wp hR hx (x := some (N y)) (r := some y) rfl]
        have : rotL T x y = tq (tq (tq (rotL3 T x y) 0 p (some y)) 0 y (some x)) 2 x (some y) := by unfold rotL rotL4; rw [e2]; dsimp only; rw [if_pos (iff1.mp z)]
        rw [this] at hK
        exact hK
      · rw [r_p hR hx, q4, e2]
        show xnn (some (N p)) _
        rw [t_nn, r_wr hR hp (x := some (N y)) (r := some y) rfl, r_wl hR hyn (x := some (N x)) (r := some x) rfl, r_wp hR hx (x := some (N y)) (r := some y) rfl]
        have : rotL T x y = tq (tq (tq (rotL3 T x y) 1 p (some y)) 0 y (some x)) 2 x (some y) := by unfold rotL rotL4; rw [e2]; dsimp only; rw [if_neg (fun z' => z (iff1.mpr z'))]
        rw [this] at hK
        exact hK
  cases e1 : T 0 y with
  | none =>
    refine ⟨fun _ => ?_, fun b z => (by cases z)⟩
    refine tail _ (tq_k (by omega)) (fun p _ _ => tq_k (by omega)) ?_
    unfold rotL3
    rw [e1, tq_k (by omega)]
  | some c =>
    have hc : c < n := (hT.lt hyn).1 c e1
    refine ⟨fun z => (by cases z), fun b z => ?_⟩
    rw [r_l hR hyn, tq_k (k' := 0) (by omega), e1]
    show xnn (some (N c)) _
    rw [t_nn, r_wp hR hc (x := some (N x)) (r := some x) rfl]
    have dcx : x ≠ c := by
      rintro rfl
      have := hT.2.2.1 y x hyn e1
      have := hT.2.2.2.2.1 x y hx hy
      omega
    refine tail _ (by rw [tq_i dcx, tq_k (by omega)]) (fun p _ _ => by rw [tq_k (by omega), tq_k (by omega)]) ?_
    unfold rotL3
    rw [e1, tq_i dcx, tq_k (by omega)]
theorem cc_rotateRight {x y : Nat} (hR : rOK κ a n N) (hT : TQ n T lo hi) (hx : x < n) (hy : T 0 x = some y) (K : Unit → xH → Prop) (hK : K () (rput h a n N kA vA v sz m (rotR T x y) cl)) : P_J1_rotateRight κ a (some (N x)) (rput h a n N kA vA v sz m T cl, w) K := by
  have hyn : y < n := (hT.lt hx).1 y hy
  have dxy : x ≠ y := by have := hT.2.2.1 x y hx hy; omega
  unfold P_J1_rotateRight
  refine ⟨fun z => (by cases z), fun b z => ?_⟩
  cases z
  rw [r_l hR hx, hy]
  show xnn (some (N y)) _
  rw [t_nn, r_r hR hyn, r_wl hR hx (r := T 1 y) rfl, r_r hR hyn, tq_k (k' := 1) (by omega)]
  -- the parent's child
  have tail : ∀ (T1 : Nat → Nat → Option Nat), T1 2 x = T 2 x → (∀ p, p ≠ x → p ≠ y → T1 1 p = T 1 p) → tq T1 2 y (T1 2 x) = rotR3 T x y →
      (xgq (rput h a n N kA vA v sz m T1 cl, w) (N x) 19 4 fun v8 => xpq κ (rput h a n N kA vA v sz m T1 cl, w) (N y) 19 4 v8 fun σ9 => xgq σ9 (N x) 19 4 fun v10 => ((v10 = none → (xpq κ σ9 a 2 3 (some (N y)) fun σ12 => xpq κ σ12 (N y) 19 3 (some (N x)) fun σ13 => xpq κ σ13 (N x) 19 4 (some (N y)) fun σ14 => K () σ14.1)) ∧ (∀ b11 : Nat, v10 = some b11 → (xgq σ9 (N x) 19 4 fun v15 => xnn v15 fun b16 => xgq σ9 b16 19 3 fun v17 => ((v17 = (some (N x)) → (xgq σ9 (N x) 19 4 fun v18 => xnn v18 fun b19 => xpq κ σ9 b19 19 3 (some (N y)) fun σ20 => xpq κ σ20 (N y) 19 3 (some (N x)) fun σ21 => xpq κ σ21 (N x) 19 4 (some (N y)) fun σ22 => K () σ22.1)) ∧ (¬ v17 = (some (N x)) → (xgq σ9 (N x) 19 4 fun v23 => xnn v23 fun b24 => xpq κ σ9 b24 19 2 (some (N y)) fun σ25 => xpq κ σ25 (N y) 19 3 (some (N x)) fun σ26 => xpq κ σ26 (N x) 19 4 (some (N y)) fun σ27 => K () σ27.1))))))) := by
    intro T1 q1 q2 q3
    rw [r_p hR hx, r_wp hR hyn (r := T1 2 x) rfl, q3, r_p hR hx]
    have q4 : rotR3 T x y 2 x = T 2 x := by rw [← q3, tq_i dxy, q1]
    rw [q4]
    cases e2 : T 2 x with
    | none =>
      refine ⟨fun _ => ?_, fun b z => (by cases z)⟩
      rw [r_wro hR (x := some (N y)) (r := some y) rfl, r_wr hR hyn (x := some (N x)) (r := some x) rfl, r_wp hR hx (x := some (N y)) (r := some y) rfl]
      have : rotR T x y = tq (tq (tq (rotR3 T x y) 3 0 (some y)) 1 y (some x)) 2 x (some y) := by unfold rotR rotR4; rw [e2]
      rw [this] at hK
      exact hK
    | some p =>
      have hp : p < n := (hT.lt hx).2.2 p e2
      have dpx : p ≠ x := by
        rintro rfl
        have := hT.2.2.2.2.2.2.2.2 p p hp e2
        rcases this.2 with z | z
        · have := hT.2.2.1 p p hp z; omega
        · have := hT.2.2.2.2.1 p p hp z; omega
      have dpy : p ≠ y := by
        rintro rfl
        have h5 := hT.2.2.1 x p hx hy
        have := hT.2.2.2.2.2.2.2.2 x p hx e2
        rcases this.2 with z | z
        · have := hT.2.2.1 p x hp z; omega
        · have := hT.2.2.2.2.1 p x hp z; omega
      have q5 : rotR3 T x y 1 p = T 1 p := by rw [← q3, tq_k (by omega), q2 p dpx dpy]
      refine ⟨fun z => (by cases z), fun b z => ?_⟩
      rw [r_p hR hx, q4, e2]
      show xnn (some (N p)) _
      rw [t_nn, r_r hR hp, q5]
      have iff1 := some_inj (o := T 1 p) hR hx (fun j hj => (hT.lt hp).2.1 j hj)
      refine ⟨fun z => ?_, fun z => ?_⟩
      · rw [r_p hR hx, q4, e2]
        show xnn (some (N p)) _
        rw [t_nn, r_wr hR hp (x := some (N y)) (r := some y) rfl, r_wr hR hyn (x := some (N x)) (r := some x) rfl, r_wp hR hx (x := some (N y)) (r := some y) rfl]
        have : rotR T x y = tq (tq (tq (rotR3 T x y) 1 p (some y)) 1 y (some x)) 2 x (some y) := by unfold rotR rotR4; rw [e2]; dsimp only; rw [if_pos (iff1.mp z)]
        rw [this] at hK
        exact hK
      · rw [r_p hR hx, q4, e2]
        show xnn (some (N p)) _
        rw [t_nn, r_wl hR hp (x := some (N y)) (r := some y) rfl, r_wr hR hyn (x := some (N x)) (r := some x) rfl, r_wp hR hx (x := some (N y)) (r := some y) rfl]
        have : rotR T x y = tq (tq (tq (rotR3 T x y) 0 p (some y)) 1 y (some x)) 2 x (some y) := by unfold rotR rotR4; rw [e2]; dsimp only; rw [if_neg (fun z' => z (iff1.mpr z'))]
        rw [this] at hK
        exact hK
  cases e1 : T 1 y with
  | none =>
    refine ⟨fun _ => ?_, fun b z => (by cases z)⟩
    refine tail _ (tq_k (by omega)) (fun p _ _ => tq_k (by omega)) ?_
    unfold rotR3
    rw [e1, tq_k (by omega)]
  | some c =>
    have hc : c < n := (hT.lt hyn).2.1 c e1
    refine ⟨fun z => (by cases z), fun b z => ?_⟩
    rw [r_r hR hyn, tq_k (k' := 1) (by omega), e1]
    show xnn (some (N c)) _
    rw [t_nn, r_wp hR hc (x := some (N x)) (r := some x) rfl]
    have dcx : x ≠ c := by
      rintro rfl
      have := hT.2.2.2.2.1 y x hyn e1
      have := hT.2.2.1 x y hx hy
      omega
    refine tail _ (by rw [tq_i dcx, tq_k (by omega)]) (fun p _ _ => by rw [tq_k (by omega), tq_k (by omega)]) ?_
    unfold rotR3
    rw [e1, tq_i dcx, tq_k (by omega)]

theorem TQ.up {p : Nat} (hT : TQ n T lo hi) (hi' : i < n) (hp : T 2 i = some p) : hi i - lo i < hi p - lo p ∧ p < n := by
  obtain ⟨h1, h2, h3, h4, h5, h6, h7, h8, h9⟩ := hT
  have q := h9 i p hi' hp
  have b1 := h1 i hi'
  have b2 := h1 p q.1
  rcases q.2 with z | z
  · have := h3 p i q.1 z; omega
  · have := h5 p i q.1 z; omega
theorem TQ.down {i : Nat} (hT : TQ n T lo hi) (hi' : i < n) : ∀ (f k : Nat), k < n → lo k ≤ i → i < hi k → hi k - lo k ≤ f → i = k ∨ T 2 i ≠ none := by
  obtain ⟨h1, h2, h3, h4, h5, h6, h7, h8, h9⟩ := hT
  intro f
  induction f with
  | zero => intro k hk a1 a2 a3; omega
  | succ f ih =>
    intro k hk a1 a2 a3
    have b1 := h1 k hk
    rcases Nat.lt_trichotomy i k with q | q | q
    · cases e : T 0 k with
      | none => have := h2 k hk e; omega
      | some j =>
        have c := h3 k j hk e
        rcases ih j (by omega) (by omega) (by omega) (by omega) with r | r
        · right; rw [r, c.2.2.2.2]; intro z; cases z
        · exact Or.inr r
    · exact Or.inl q
    · cases e : T 1 k with
      | none => have := h4 k hk e; omega
      | some j =>
        have c := h5 k j hk e
        rcases ih j (by omega) (by omega) (by omega) (by omega) with r | r
        · right; rw [r, c.2.2.2.2]; intro z; cases z
        · exact Or.inr r
theorem TQ.root (hT : TQ n T lo hi) (hi' : i < n) (h0 : T 2 i = none) : T 3 0 = some i := by
  have hT' := hT
  obtain ⟨h1, h2, h3, h4, h5, h6, h7, h8, h9⟩ := hT
  cases e : T 3 0 with
  | none => have := h7 e; omega
  | some j =>
    have c := h6 j e
    rcases hT'.down hi' n j c.1 (by omega) (by omega) (by omega) with r | r
    · rw [r]
    · exact absurd h0 r
theorem TQ.hasRoot (hT : TQ n T lo hi) (hn : 0 < n) : ∃ j, T 3 0 = some j ∧ j < n := by
  obtain ⟨h1, h2, h3, h4, h5, h6, h7, h8, h9⟩ := hT
  cases e : T 3 0 with
  | none => have := h7 e; omega
  | some j => exact ⟨j, rfl, (h6 j e).1⟩
theorem rotL4_2 (T : Nat → Nat → Option Nat) (x y j : Nat) : rotL4 T x y 2 j = rotL3 T x y 2 j := by
  unfold rotL4
  cases T 2 x with
  | none => exact tq_k (by omega)
  | some p =>
    dsimp only
    split <;> exact tq_k (by omega)
theorem rotR4_2 (T : Nat → Nat → Option Nat) (x y j : Nat) : rotR4 T x y 2 j = rotR3 T x y 2 j := by
  unfold rotR4
  cases T 2 x with
  | none => exact tq_k (by omega)
  | some p =>
    dsimp only
    split <;> exact tq_k (by omega)
theorem rotL_x (T : Nat → Nat → Option Nat) (x y : Nat) : rotL T x y 2 x = some y := by unfold rotL; exact tq_eq
theorem rotR_x (T : Nat → Nat → Option Nat) (x y : Nat) : rotR T x y 2 x = some y := by unfold rotR; exact tq_eq
theorem rotL_y (T : Nat → Nat → Option Nat) {x y : Nat} (hne : y ≠ x) : rotL T x y 2 y = T 2 x := by
  unfold rotL
  rw [tq_i hne, tq_k (by omega), rotL4_2]
  unfold rotL3
  exact tq_eq
theorem rotR_y (T : Nat → Nat → Option Nat) {x y : Nat} (hne : y ≠ x) : rotR T x y 2 y = T 2 x := by
  unfold rotR
  rw [tq_i hne, tq_k (by omega), rotR4_2]
  unfold rotR3
  exact tq_eq
theorem rotL_o (T : Nat → Nat → Option Nat) {x y j : Nat} (h1 : j ≠ x) (h2 : j ≠ y) (h3 : T 0 y ≠ some j) : rotL T x y 2 j = T 2 j := by
  unfold rotL
  rw [tq_i h1, tq_k (by omega), rotL4_2]
  unfold rotL3
  rw [tq_i h2]
  cases e : T 0 y with
  | none => exact tq_k (by omega)
  | some b =>
    dsimp only
    rw [tq_i (fun z => h3 (by rw [e, z])), tq_k (by omega)]
theorem rotR_o (T : Nat → Nat → Option Nat) {x y j : Nat} (h1 : j ≠ x) (h2 : j ≠ y) (h3 : T 1 y ≠ some j) : rotR T x y 2 j = T 2 j := by
  unfold rotR
  rw [tq_i h1, tq_k (by omega), rotR4_2]
  unfold rotR3
  rw [tq_i h2]
  cases e : T 1 y with
  | none => exact tq_k (by omega)
  | some b =>
    dsimp only
    rw [tq_i (fun z => h3 (by rw [e, z])), tq_k (by omega)]
theorem rotL_pp (T : Nat → Nat → Option Nat) {x y p : Nat} (h1 : T 2 x = some p) (h2 : T 0 p = some x) (h3 : p ≠ y) : rotL T x y 0 p = some y := by
  unfold rotL
  rw [tq_k (by omega), tq_i h3]
  unfold rotL4
  rw [h1]
  dsimp only
  rw [if_pos h2]
  exact tq_eq
theorem rotR_pp (T : Nat → Nat → Option Nat) {x y p : Nat} (h1 : T 2 x = some p) (h2 : T 1 p = some x) (h3 : p ≠ y) : rotR T x y 1 p = some y := by
  unfold rotR
  rw [tq_k (by omega), tq_i h3]
  unfold rotR4
  rw [h1]
  dsimp only
  rw [if_pos h2]
  exact tq_eq
theorem cc_pa (hR : rOK κ a n N) (hi' : i < n) (K : Option Nat → xH → Prop) (hK : K ((T 2 i).map N) (rput h a n N kA vA v sz m T cl)) : P_J1_parentOf κ (some (N i)) (rput h a n N kA vA v sz m T cl, w) K := by
  unfold P_J1_parentOf
  refine ⟨fun z => (by cases z), fun b z => ?_⟩
  cases z
  rw [r_p hR hi']
  exact hK
theorem cc_pa0 {H : xH} (K : Option Nat → xH → Prop) (hK : K none H) : P_J1_parentOf κ none (H, w) K := by
  unfold P_J1_parentOf
  exact ⟨fun _ => hK, fun b z => (by cases z)⟩
theorem cc_le (hR : rOK κ a n N) (hi' : i < n) (K : Option Nat → xH → Prop) (hK : K ((T 0 i).map N) (rput h a n N kA vA v sz m T cl)) : P_J1_leftOf κ (some (N i)) (rput h a n N kA vA v sz m T cl, w) K := by
  unfold P_J1_leftOf
  refine ⟨fun z => (by cases z), fun b z => ?_⟩
  cases z
  rw [r_l hR hi']
  exact hK
theorem cc_le0 {H : xH} (K : Option Nat → xH → Prop) (hK : K none H) : P_J1_leftOf κ none (H, w) K := by
  unfold P_J1_leftOf
  exact ⟨fun _ => hK, fun b z => (by cases z)⟩
theorem cc_ri (hR : rOK κ a n N) (hi' : i < n) (K : Option Nat → xH → Prop) (hK : K ((T 1 i).map N) (rput h a n N kA vA v sz m T cl)) : P_J1_rightOf κ (some (N i)) (rput h a n N kA vA v sz m T cl, w) K := by
  unfold P_J1_rightOf
  refine ⟨fun z => (by cases z), fun b z => ?_⟩
  cases z
  rw [r_r hR hi']
  exact hK
def colO (cl : Nat → Int32) (o : Option Nat) : Int32 := match o with | none => 1 | some j => cl j
def setO (cl : Nat → Int32) (o : Option Nat) (x : Int32) : Nat → Int32 := match o with | none => cl | some j => upd cl j x
def colOK (n : Nat) (cl : Nat → Int32) : Prop := ∀ j, j < n → cl j = 0 ∨ cl j = 1
theorem setO_ok (hc : colOK n cl) {o : Option Nat} {x : Int32} (hx : x = 0 ∨ x = 1) : colOK n (setO cl o x) := by
  intro j hj
  cases o with
  | none => exact hc j hj
  | some q =>
    show upd cl q x j = 0 ∨ upd cl q x j = 1
    by_cases e : j = q
    · rw [e, upd_eq]; exact hx
    · rw [upd_ne e]; exact hc j hj
theorem cc_co (hR : rOK κ a n N) (hc : colOK n cl) {o : Option Nat} (ho : ∀ j, o = some j → j < n) (K : Int32 → xH → Prop) (hK : K (colO cl o) (rput h a n N kA vA v sz m T cl)) : P_J1_colorOf κ (o.map N) (rput h a n N kA vA v sz m T cl, w) K := by
  unfold P_J1_colorOf
  cases o with
  | none => exact ⟨fun _ => hK, fun b z => (by cases z)⟩
  | some j =>
    refine ⟨fun z => (by cases z), fun b z => ?_⟩
    cases z
    rw [r_c hR (ho j rfl)]
    refine ⟨?_, hK⟩
    rcases hc j (ho j rfl) with z | z <;> rw [z] <;> rfl
theorem cc_sc (hR : rOK κ a n N) {x : Int32} (hx : x = 0 ∨ x = 1) {o : Option Nat} (ho : ∀ j, o = some j → j < n) (K : Unit → xH → Prop) (hK : K () (rput h a n N kA vA v sz m T (setO cl o x))) : P_J1_setColor κ (o.map N) x (rput h a n N kA vA v sz m T cl, w) K := by
  unfold P_J1_setColor
  cases o with
  | none => exact ⟨fun _ => hK, fun b z => (by cases z)⟩
  | some j =>
    refine ⟨fun z => (by cases z), fun b z => ?_⟩
    cases z
    rw [r_wc hR (ho j rfl)]
    rcases hx with z | z <;> subst z <;> exact ⟨rfl, rfl, hK⟩
end F5
