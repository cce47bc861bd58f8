def TQ (n : Nat) (T : Nat → Nat → Option Nat) (lo hi : Nat → Nat) : Prop :=
  (∀ i, i < n → lo i ≤ i ∧ i < hi i ∧ hi i ≤ n) ∧ (∀ i, i < n → T 0 i = none → lo i = i) ∧ (∀ i j, i < n → T 0 i = some j → lo i ≤ j ∧ j < i ∧ lo j = lo i ∧ hi j = i ∧ T 2 j = some i) ∧
  (∀ i, i < n → T 1 i = none → hi i = i + 1) ∧ (∀ i j, i < n → T 1 i = some j → i < j ∧ j < hi i ∧ lo j = i + 1 ∧ hi j = hi i ∧ T 2 j = some i) ∧
  (∀ j, T 3 0 = some j → j < n ∧ lo j = 0 ∧ hi j = n ∧ T 2 j = none) ∧ (T 3 0 = none → n = 0) ∧
  (∀ i, i < n → T 2 i = none → lo i = 0 ∧ hi i = n) ∧ (∀ i p, i < n → T 2 i = some p → p < n ∧ (T 0 p = some i ∨ T 1 p = some i))
theorem TS_TQ {n T lo hi} : TS n (T 0) (T 1) (T 2) lo hi (T 3 0) ↔ TQ n T lo hi := by
  constructor
  · rintro ⟨h1, h2, h3⟩
    refine ⟨?_, ?_, ?_, ?_, ?_, ?_, ?_, ?_, ?_⟩ <;> grind
  · rintro ⟨h1, h2, h3, h4, h5, h6, h7, h8, h9⟩
    refine ⟨fun i hi' => ⟨h1 i hi', ?_, ?_⟩, ?_, fun i hi' => ?_⟩
    · cases e : T 0 i with
      | none => exact Or.inl ⟨rfl, h2 i hi' e⟩
      | some j => exact Or.inr ⟨j, rfl, h3 i j hi' e⟩
    · cases e : T 1 i with
      | none => exact Or.inl ⟨rfl, h4 i hi' e⟩
      | some j => exact Or.inr ⟨j, rfl, h5 i j hi' e⟩
    · cases e : T 3 0 with
      | none => exact Or.inl ⟨h7 e, rfl⟩
      | some j => exact Or.inr ⟨j, rfl, h6 j e⟩
    · cases e : T 2 i with
      | none => exact Or.inl ⟨rfl, h8 i hi' e⟩
      | some p => exact Or.inr ⟨p, rfl, h9 i p hi' e⟩
def tq (T : Nat → Nat → Option Nat) (k i : Nat) (r : Option Nat) : Nat → Nat → Option Nat := fun k' i' => if k' = k ∧ i' = i then r else T k' i'
def rotL3 (T : Nat → Nat → Option Nat) (x y : Nat) : Nat → Nat → Option Nat :=
  tq (match T 0 y with | some b => tq (tq T 1 x (T 0 y)) 2 b (some x) | none => tq T 1 x (T 0 y)) 2 y (T 2 x)
def rotL4 (T : Nat → Nat → Option Nat) (x y : Nat) : Nat → Nat → Option Nat :=
  match T 2 x with | none => tq (rotL3 T x y) 3 0 (some y) | some p => if T 0 p = some x then tq (rotL3 T x y) 0 p (some y) else tq (rotL3 T x y) 1 p (some y)
def rotL (T : Nat → Nat → Option Nat) (x y : Nat) : Nat → Nat → Option Nat := tq (tq (rotL4 T x y) 0 y (some x)) 2 x (some y)
theorem rotL_TQ {n T lo hi x y} (h : TQ n T lo hi) (hx : x < n) (hy : T 1 x = some y) : TQ n (rotL T x y) (fun i => if i = y then lo x else lo i) (fun i => if i = x then y else hi i) := by
  obtain ⟨h1, h2, h3, h4, h5, h6, h7, h8, h9⟩ := h
  have a1 := h5 x y hx hy
  have a2 := h1 x hx
  have a3 := h1 y (by omega)
  have hyn : y < n := by omega
  have d1 : x ≠ y := by omega
  have hxp := h9 x
  have hx8 := h8 x hx
  clear a1 a2 a3
  cases e2 : T 2 x with
  | none =>
    cases e1 : T 0 y with
    | none =>
      refine ⟨?_, ?_, ?_, ?_, ?_, ?_, ?_, ?_, ?_⟩ <;> simp only [rotL, rotL4, rotL3, e1, e2, tq] <;> grind
    | some b =>
      refine ⟨?_, ?_, ?_, ?_, ?_, ?_, ?_, ?_, ?_⟩ <;> simp only [rotL, rotL4, rotL3, e1, e2, tq] <;> grind (splits := 20)
  | some p =>
    by_cases e3 : T 0 p = some x
    · cases e1 : T 0 y with
      | none =>
        refine ⟨?_, ?_, ?_, ?_, ?_, ?_, ?_, ?_, ?_⟩ <;> simp only [rotL, rotL4, rotL3, e1, e2, e3, if_true, tq] <;> grind
      | some b =>
        refine ⟨?_, ?_, ?_, ?_, ?_, ?_, ?_, ?_, ?_⟩ <;> simp only [rotL, rotL4, rotL3, e1, e2, e3, if_true, tq] <;> grind (splits := 20)
    · cases e1 : T 0 y with
      | none =>
        refine ⟨?_, ?_, ?_, ?_, ?_, ?_, ?_, ?_, ?_⟩ <;> simp only [rotL, rotL4, rotL3, e1, e2, e3, if_false, tq] <;> grind
      | some b =>
        refine ⟨?_, ?_, ?_, ?_, ?_, ?_, ?_, ?_, ?_⟩ <;> simp only [rotL, rotL4, rotL3, e1, e2, e3, if_false, tq] <;> grind (splits := 20)
def rotR3 (T : Nat → Nat → Option Nat) (x y : Nat) : Nat → Nat → Option Nat :=
  tq (match T 1 y with | some b => tq (tq T 0 x (T 1 y)) 2 b (some x) | none => tq T 0 x (T 1 y)) 2 y (T 2 x)
def rotR4 (T : Nat → Nat → Option Nat) (x y : Nat) : Nat → Nat → Option Nat :=
  match T 2 x with | none => tq (rotR3 T x y) 3 0 (some y) | some p => if T 1 p = some x then tq (rotR3 T x y) 1 p (some y) else tq (rotR3 T x y) 0 p (some y)
def rotR (T : Nat → Nat → Option Nat) (x y : Nat) : Nat → Nat → Option Nat := tq (tq (rotR4 T x y) 1 y (some x)) 2 x (some y)
theorem rotR_TQ {n T lo hi x y} (h : TQ n T lo hi) (hx : x < n) (hy : T 0 x = some y) : TQ n (rotR T x y) (fun i => if i = x then y + 1 else lo i) (fun i => if i = y then hi x else hi i) := by
  obtain ⟨h1, h2, h3, h4, h5, h6, h7, h8, h9⟩ := h
  have a1 := h3 x y hx hy
  have a2 := h1 x hx
  have a3 := h1 y (by omega)
  have hyn : y < n := by omega
  have d1 : x ≠ y := by omega
  have hxp := h9 x
  have hx8 := h8 x hx
  clear a1 a2 a3
  cases e2 : T 2 x with
  | none =>
    cases e1 : T 1 y with
    | none =>
      refine ⟨?_, ?_, ?_, ?_, ?_, ?_, ?_, ?_, ?_⟩ <;> simp only [rotR, rotR4, rotR3, e1, e2, tq] <;> grind
    | some b =>
      refine ⟨?_, ?_, ?_, ?_, ?_, ?_, ?_, ?_, ?_⟩ <;> simp only [rotR, rotR4, rotR3, e1, e2, tq] <;> grind (splits := 20)
  | some p =>
    by_cases e3 : T 1 p = some x
    · cases e1 : T 1 y with
      | none =>
        refine ⟨?_, ?_, ?_, ?_, ?_, ?_, ?_, ?_, ?_⟩ <;> simp only [rotR, rotR4, rotR3, e1, e2, e3, if_true, tq] <;> grind
      | some b =>
        refine ⟨?_, ?_, ?_, ?_, ?_, ?_, ?_, ?_, ?_⟩ <;> simp only [rotR, rotR4, rotR3, e1, e2, e3, if_true, tq] <;> grind (splits := 20)
    · cases e1 : T 1 y with
      | none =>
        refine ⟨?_, ?_, ?_, ?_, ?_, ?_, ?_, ?_, ?_⟩ <;> simp only [rotR, rotR4, rotR3, e1, e2, e3, if_false, tq] <;> grind
      | some b =>
        refine ⟨?_, ?_, ?_, ?_, ?_, ?_, ?_, ?_, ?_⟩ <;> simp only [rotR, rotR4, rotR3, e1, e2, e3, if_false, tq] <;> grind (splits := 20)
/-- a new node at place r below one that has no child there -/
def sh (r j : Nat) : Nat := if j < r then j else j + 1
def un (r j : Nat) : Nat := if j < r then j else j - 1
def insT (T : Nat → Nat → Option Nat) (r : Nat) (p : Nat) (left : Bool) : Nat → Nat → Option Nat := fun k i =>
  if k = 3 then (T 3 0).map (sh r) else
  if i = r then (if k = 2 then some (sh r p) else none) else
  if left = true ∧ k = 0 ∧ i = sh r p then some r else
  if left = false ∧ k = 1 ∧ i = sh r p then some r else (T k (un r i)).map (sh r)
def insLo (lo : Nat → Nat) (r : Nat) : Nat → Nat := fun i => if i = r then r else if lo (un r i) ≤ r then lo (un r i) else lo (un r i) + 1
def insHi (hi : Nat → Nat) (r : Nat) : Nat → Nat := fun i => if i = r then r + 1 else if hi (un r i) < r then hi (un r i) else hi (un r i) + 1
theorem gap {n T lo hi r} (h : TQ n T lo hi) : ∀ (f j : Nat), j < n → 0 < r → r < n → lo j = r → n ≤ hi j + f → T 1 (r - 1) ≠ none := by
  obtain ⟨h1, h2, h3, h4, h5, h6, h7, h8, h9⟩ := h
  intro f
  induction f with
  | zero =>
    intro j hj hr hrn hlo hf hno
    cases e : T 2 j with
    | none => have := h8 j hj e; omega
    | some p =>
      have q := h9 j p hj e
      have := h1 p q.1
      rcases q.2 with q2 | q2
      · have := h3 p j q.1 q2; omega
      · have := h5 p j q.1 q2
        have : p = r - 1 := by omega
        rw [this, hno] at q2
        cases q2
  | succ f ih =>
    intro j hj hr hrn hlo hf hno
    cases e : T 2 j with
    | none => have := h8 j hj e; omega
    | some p =>
      have q := h9 j p hj e
      have := h1 p q.1
      rcases q.2 with q2 | q2
      · have := h3 p j q.1 q2
        exact ih p q.1 hr hrn (by omega) (by omega) hno
      · have := h5 p j q.1 q2
        have : p = r - 1 := by omega
        rw [this, hno] at q2
        cases q2
theorem gap' {n T lo hi r} (h : TQ n T lo hi) (hr : 0 < r) (hrn : r < n) (h0 : T 0 r = none) : T 1 (r - 1) ≠ none := gap h n r hrn hr hrn (h.2.1 r hrn h0) (by omega)
theorem sh_ne (r j : Nat) : sh r j ≠ r := by unfold sh; split <;> omega
theorem un_sh (r j : Nat) : un r (sh r j) = j := by
  unfold un sh
  by_cases h : j < r
  · rw [if_pos h, if_pos h]
  · rw [if_neg h, if_neg (by omega)]
    omega
theorem sh_inj {r i j : Nat} (h : sh r i = sh r j) : i = j := by rw [← un_sh r i, ← un_sh r j, h]
theorem sh_sur {r n i : Nat} (hr : r ≤ n) (hi : i < n + 1) : i = r ∨ ∃ j, j < n ∧ i = sh r j := by
  by_cases h : i = r
  · exact Or.inl h
  · refine Or.inr ⟨un r i, ?_, ?_⟩ <;> simp only [un, sh] <;> grind
theorem insT_r (T : Nat → Nat → Option Nat) (r p : Nat) (l : Bool) : insT T r p l 0 r = none ∧ insT T r p l 1 r = none ∧ insT T r p l 2 r = some (sh r p) := by
  refine ⟨?_, ?_, ?_⟩ <;> simp [insT]
theorem insT_sh (T : Nat → Nat → Option Nat) (r p : Nat) (l : Bool) (k j : Nat) (hk : k < 3) : insT T r p l k (sh r j) = if l = true ∧ k = 0 ∧ j = p then some r else if l = false ∧ k = 1 ∧ j = p then some r else (T k j).map (sh r) := by
  have e : (sh r j = sh r p) = (j = p) := propext ⟨sh_inj, fun z => by rw [z]⟩
  unfold insT
  rw [if_neg (by omega), if_neg (sh_ne r j), un_sh]
  simp only [e]
theorem insT_2 (T : Nat → Nat → Option Nat) (r p : Nat) (l : Bool) (j : Nat) : insT T r p l 2 (sh r j) = (T 2 j).map (sh r) := by
  rw [insT_sh _ _ _ _ _ _ (by omega), if_neg (by omega), if_neg (by omega)]
theorem insT_none {P Q : Prop} [Decidable P] [Decidable Q] {r : Nat} {o : Option Nat} {f : Nat → Nat} (e : (if P then some r else if Q then some r else o.map f) = none) : o = none := by
  cases o with
  | none => rfl
  | some q =>
    exfalso
    revert e
    split
    · intro z; cases z
    · split <;> (intro z; cases z)
theorem insT_3 (T : Nat → Nat → Option Nat) (r p : Nat) (l : Bool) (j : Nat) : insT T r p l 3 j = (T 3 0).map (sh r) := by simp [insT]
theorem insLo_r (lo : Nat → Nat) (r : Nat) : insLo lo r r = r := by simp [insLo]
theorem insHi_r (lo : Nat → Nat) (r : Nat) : insHi lo r r = r + 1 := by simp [insHi]
theorem insLo_sh (lo : Nat → Nat) (r j : Nat) : insLo lo r (sh r j) = if lo j ≤ r then lo j else lo j + 1 := by
  unfold insLo
  rw [if_neg (sh_ne r j), un_sh]
theorem insHi_sh (lo : Nat → Nat) (r j : Nat) : insHi lo r (sh r j) = if lo j < r then lo j else lo j + 1 := by
  unfold insHi
  rw [if_neg (sh_ne r j), un_sh]
theorem ins_TQ {n T lo hi r p l} (h : TQ n T lo hi) (hr : r ≤ n) (hp : p < n) (h0 : (l = true ∧ p = r ∧ T 0 p = none) ∨ (l = false ∧ p + 1 = r ∧ T 1 p = none)) : TQ (n + 1) (insT T r p l) (insLo lo r) (insHi hi r) := by
  have g1 : 0 < r → r < n → T 0 r = none → T 1 (r - 1) ≠ none := fun a b c => gap' h a b c
  obtain ⟨h1, h2, h3, h4, h5, h6, h7, h8, h9⟩ := h
  obtain ⟨z0, z1, z2⟩ := insT_r T r p l
  have hp1 := h1 p hp
  have hlo : ∀ j, T 0 j = none → j < n → j = r → l = true := fun j e1 e2 e3 => by
    rcases h0 with ⟨a1, -⟩ | ⟨a1, a2, a3⟩
    · exact a1
    · subst e3
      have := g1 (by omega) e2 e1
      have e : j - 1 = p := by omega
      rw [e] at this
      exact absurd a3 this
  have hhi : ∀ j, T 1 j = none → j < n → j + 1 = r → l = false := fun j e1 e2 e3 => by
    rcases h0 with ⟨a1, a2, a3⟩ | ⟨a1, -⟩
    · subst a2
      have := g1 (by omega) hp a3
      have e : p - 1 = j := by omega
      rw [e] at this
      exact absurd e1 this
    · exact a1
  have hpl : l = true → lo p = p := fun z => by
    rcases h0 with ⟨a1, a2, a3⟩ | ⟨a1, -⟩
    · exact h2 p hp a3
    · rw [z] at a1; cases a1
  have hph : l = false → hi p = p + 1 := fun z => by
    rcases h0 with ⟨a1, -⟩ | ⟨a1, a2, a3⟩
    · rw [z] at a1; cases a1
    · exact h4 p hp a3
  have hpe : (l = true ∧ p = r) ∨ (l = false ∧ p + 1 = r) := by
    rcases h0 with ⟨a1, a2, -⟩ | ⟨a1, a2, -⟩
    · exact Or.inl ⟨a1, a2⟩
    · exact Or.inr ⟨a1, a2⟩
  refine ⟨fun i hi' => ?_, fun i hi' e => ?_, fun i j hi' e => ?_, fun i hi' e => ?_, fun i j hi' e => ?_, fun j e => ?_, fun e => ?_, fun i hi' e => ?_, fun i q hi' e => ?_⟩
  · rcases sh_sur hr hi' with rfl | ⟨j, hj, rfl⟩
    · rw [insLo_r, insHi_r]; omega
    · have := h1 j hj
      rw [insLo_sh, insHi_sh]
      unfold sh
      grind
  · rcases sh_sur hr hi' with rfl | ⟨j, hj, rfl⟩
    · rw [insLo_r]
    · rw [insT_sh _ _ _ _ _ _ (by omega)] at e
      rw [insLo_sh]
      have e' := insT_none e
      have := h2 j hj e'
      have := hlo j e' hj
      unfold sh
      grind
  · rcases sh_sur hr hi' with rfl | ⟨i, hi2, rfl⟩
    · rw [z0] at e; cases e
    · rw [insT_sh _ _ _ _ _ _ (by omega)] at e
      by_cases c : l = true ∧ 0 = 0 ∧ i = p
      · rw [if_pos c] at e
        cases e
        obtain ⟨c1, -, rfl⟩ := c
        have := hpl c1
        rw [insLo_sh, insLo_r, insHi_r, z2]
        unfold sh
        grind
      · rw [if_neg c, if_neg (by omega)] at e
        cases ec : T 0 i with
        | none => rw [ec] at e; cases e
        | some j0 =>
          rw [ec] at e
          cases e
          have := h3 i j0 hi2 ec
          rw [insLo_sh, insHi_sh, insLo_sh, insT_2, this.2.2.2.2]
          unfold sh
          grind
  · rcases sh_sur hr hi' with rfl | ⟨j, hj, rfl⟩
    · rw [insHi_r]
    · rw [insT_sh _ _ _ _ _ _ (by omega)] at e
      rw [insHi_sh]
      have e' := insT_none e
      have := h4 j hj e'
      have := hhi j e' hj
      unfold sh
      grind
  · rcases sh_sur hr hi' with rfl | ⟨i, hi2, rfl⟩
    · rw [z1] at e; cases e
    · rw [insT_sh _ _ _ _ _ _ (by omega)] at e
      by_cases c : l = false ∧ 1 = 1 ∧ i = p
      · rw [if_neg (by omega), if_pos c] at e
        cases e
        obtain ⟨c1, -, rfl⟩ := c
        have := hph c1
        rw [insHi_sh, insLo_r, insHi_r, z2]
        unfold sh
        grind
      · rw [if_neg (by omega), if_neg c] at e
        cases ec : T 1 i with
        | none => rw [ec] at e; cases e
        | some j0 =>
          rw [ec] at e
          cases e
          have := h5 i j0 hi2 ec
          rw [insHi_sh, insHi_sh, insLo_sh, insT_2, this.2.2.2.2]
          unfold sh
          grind
  · rw [insT_3] at e
    cases ec : T 3 0 with
    | none => rw [ec] at e; cases e
    | some j0 =>
      rw [ec] at e
      cases e
      have := h6 j0 ec
      rw [insLo_sh, insHi_sh, insT_2, this.2.2.2]
      unfold sh
      grind
  · rw [insT_3] at e
    cases ec : T 3 0 with
    | none => have := h7 ec; omega
    | some j0 => rw [ec] at e; cases e
  · rcases sh_sur hr hi' with rfl | ⟨j, hj, rfl⟩
    · rw [z2] at e; cases e
    · rw [insT_sh _ _ _ _ _ _ (by omega), if_neg (by omega), if_neg (by omega)] at e
      cases ec : T 2 j with
      | some j0 => rw [ec] at e; cases e
      | none =>
        have := h8 j hj ec
        rw [insLo_sh, insHi_sh]
        grind
  · rcases sh_sur hr hi' with rfl | ⟨j, hj, rfl⟩
    · rw [z2] at e
      cases e
      refine ⟨by unfold sh; split <;> omega, ?_⟩
      rcases hpe with ⟨a1, a2⟩ | ⟨a1, a2⟩
      · left; rw [insT_sh _ _ _ _ _ _ (by omega), if_pos ⟨a1, rfl, rfl⟩]
      · right; rw [insT_sh _ _ _ _ _ _ (by omega), if_neg (by omega), if_pos ⟨a1, rfl, rfl⟩]
    · rw [insT_sh _ _ _ _ _ _ (by omega), if_neg (by omega), if_neg (by omega)] at e
      cases ec : T 2 j with
      | none => rw [ec] at e; cases e
      | some p0 =>
        rw [ec] at e
        cases e
        have := h9 j p0 hj ec
        refine ⟨by unfold sh; split <;> omega, ?_⟩
        rcases this.2 with a | a
        · left
          rw [insT_sh _ _ _ _ _ _ (by omega), if_neg, if_neg (by omega), a]
          · rfl
          · rintro ⟨c1, -, rfl⟩
            rcases h0 with ⟨-, -, a3⟩ | ⟨a1, -⟩
            · rw [a] at a3; cases a3
            · rw [c1] at a1; cases a1
        · right
          rw [insT_sh _ _ _ _ _ _ (by omega), if_neg (by omega), if_neg, a]
          · rfl
          · rintro ⟨c1, -, rfl⟩
            rcases h0 with ⟨a1, -⟩ | ⟨-, -, a3⟩
            · rw [c1] at a1; cases a1
            · rw [a] at a3; cases a3
