-- TreeMap.put
def ins {α : Type} (r : Nat) (x : α) (f : Nat → α) : Nat → α := fun i => if i = r then x else f (un r i)
theorem ins_r {α : Type} {r : Nat} {x : α} {f : Nat → α} : ins r x f r = x := by simp [ins]
theorem ins_sh {α : Type} {r j : Nat} {x : α} {f : Nat → α} : ins r x f (sh r j) = f j := by unfold ins; rw [if_neg (sh_ne r j), un_sh]
theorem sh_lt {r j n : Nat} (h : j < n) : sh r j < n + 1 := by unfold sh; split <;> omega
/-- the map's tree and the rest of its object -/
def TMo (κ : Nat → Nat) (h : xH) (a n : Nat) (N ky vA kA : Nat → Nat) (T : Nat → Nat → Option Nat) (lo hi : Nat → Nat) (cl : Nat → Int32) (m : Int32) (v : Nat → Value) : Prop :=
  h a = some (tMo N T (nI n) m v) ∧ (∀ i, i < n → h (N i) = some (tNd N kA vA T cl i)) ∧ rOK κ a n N ∧ (∀ i, i < n → h (kA i) = some (.inl (14, [.int (nI (ky i))])) ∧ ky i < 64) ∧ (∀ i j, i < j → j < n → ky i < ky j) ∧ TQ n T lo hi ∧ colOK n cl ∧ ∃ es : Option Nat, v 6 = va_rf es ∧ ∀ q, es = some q → h q = some (.inl (12, [.ref a]))
section F7
variable {κ : Nat → Nat} {h h' h0 H : xH} {a n i j k x y : Nat} {N ky vA kA : Nat → Nat} {v : Nat → Value} {sz m : Int32} {T T' : Nat → Nat → Option Nat} {cl cl' : Nat → Int32} {w : Nat × Nat} {lo hi : Nat → Nat} {W : Nat → Int32}
theorem TM_op (hT : TM κ h a n N ky vA) : ∃ kA T lo hi cl m v, TMo κ h a n N ky vA kA T lo hi cl m v := by
  obtain ⟨kA, lf, rt, pr, lo, hi, root, cl, m, v0, v1, v6, v7, v8, e1, e2, e3, e4, e5, e6, e7, e8, e9, es, e10, e11⟩ := hT
  refine ⟨kA, fun k i => if k = 0 then lf i else if k = 1 then rt i else if k = 2 then pr i else root, lo, hi, cl, m, fun k => if k = 0 then v0 else if k = 1 then v1 else if k = 6 then v6 else if k = 7 then v7 else v8, e1, e2, ⟨e3, fun i hi' z => ?_, e8.1, e8.2⟩, e4, e5, TS_TQ.mp e6, e9, es, e10, e11⟩
  have := e2 i hi'
  rw [z, e1] at this
  unfold tN at this
  cases this
theorem sorted_le {n : Nat} (hs : ∀ i j, i < j → j < n → ky i < ky j) : ∀ i, i < n → i ≤ ky i := by
  intro i
  induction i with
  | zero => intro _; omega
  | succ i ih =>
    intro hi'
    have := ih (by omega)
    have := hs i (i + 1) (by omega) hi'
    omega
theorem TMo.close (hT : TMo κ h a n N ky vA kA T lo hi cl m v) : TM κ h a n N ky vA := by
  obtain ⟨e1, e2, ⟨r1, r2, r3, r4⟩, e4, e5, e6, e7, es, e8, e9⟩ := hT
  refine ⟨kA, T 0, T 1, T 2, lo, hi, T 3 0, cl, m, v 0, v 1, v 6, v 7, v 8, e1, e2, r1, e4, e5, TS_TQ.mpr e6, ?_, ⟨r3, r4⟩, e7, es, e8, e9⟩
  by_cases hn : n = 0
  · omega
  · have := sorted_le e5 (n - 1) (by omega)
    have := (e4 (n - 1) (by omega)).2
    omega
theorem rput_self (e1 : h a = some (tMo N T sz m v)) (e2 : ∀ i, i < n → h (N i) = some (tNd N kA vA T cl i)) (hR : rOK κ a n N) : rput h a n N kA vA v sz m T cl = h := by
  funext b
  by_cases hba : b = a
  · rw [hba, rput_a, e1]
  · by_cases hx : ∃ j, j < n ∧ N j = b
    · obtain ⟨j, hj, rfl⟩ := hx
      rw [rput_n hR hj, e2 j hj]
    · exact rput_o hba (fun j h1 h2 => hx ⟨j, h1, h2⟩)
theorem rput_keep (e1 : h a = some (tMo N T sz m v)) (e2 : ∀ i, i < n → h (N i) = some (tNd N kA vA T cl i)) {sz' m' : Int32} {T' : Nat → Nat → Option Nat} {cl' : Nat → Int32} {b : Nat} {e : xE} (hb : h b = some e) (k2 : ∀ fs, e ≠ .inl (2, fs)) (k19 : ∀ fs, e ≠ .inl (19, fs)) : rput h a n N kA vA v sz' m' T' cl' b = some e := by
  rw [rput_o (fun z => ?_) (fun i hi' z => ?_), hb]
  · rw [z, e1] at hb
    exact k2 _ (Option.some.inj hb).symm
  · rw [← z, e2 i hi'] at hb
    exact k19 _ (Option.some.inj hb).symm
theorem t_find_none : t_find n ky k = none ↔ ∀ i, i < n → ky i ≠ k := by
  unfold t_find
  rw [List.find?_eq_none]
  constructor
  · intro hx i hi' z
    exact hx i (List.mem_range.mpr hi') (by simp [z])
  · intro hx i hi'
    simp [hx i (List.mem_range.mp hi')]
theorem cc_putGo (hT : TMo κ h a n N ky vA kA T lo hi cl m v) (hx : h x = some (.inl (14, [.int (nI k)]))) (hk : k < 64) {kx4 : Option Nat → xS → Prop} {kx5 : Int32 × Option Nat → xS → Prop} {f1 : Nat} {f2 : Option Nat} {f3 : Int32}
    (h4 : ∀ i, i < n → ky i = k → kx4 (some (N i)) (h, w)) (h5L : ∀ p, p < n → T 0 p = none → (∀ i, i < p → ky i < k) → (∀ i, p ≤ i → i < n → k < ky i) → kx5 (-1, some (N p)) (h, w))
    (h5R : ∀ p, p < n → T 1 p = none → (∀ i, i ≤ p → ky i < k) → (∀ i, p < i → i < n → k < ky i) → kx5 (1, some (N p)) (h, w)) : ∀ (f j : Nat), j < n → hi j ≤ lo j + f → (∀ i, i < lo j → ky i < k) → (∀ i, hi j ≤ i → i < n → k < ky i) → xloop (B_J1_put_2_123 κ kx4 kx5 a f1 f2 f3 x) (f + 1) (some (N j)) (h, w) := by
  obtain ⟨e1, e2, hR, e4, e5, e6, -⟩ := hT
  intro f
  induction f with
  | zero => intro j hj hf; have := e6.1 j hj; omega
  | succ f ih =>
    intro j hj hf hl hr
    have b1 := e6.1 j hj
    have en := e2 j hj
    unfold tNd tN at en
    have ek := e4 j hj
    unfold xloop B_J1_put_2_123
    rw [t_nn, g_gq (r := some (kA j)) en rfl, g_rc hx, true_and]
    refine c_pure (r := if k < ky j then -1 else if k = ky j then 0 else 1) (fun w K hk' => cc_compareTo (by omega) (by omega) hx ek.1 K hk') ?_
    by_cases c1 : k < ky j
    · rw [if_pos c1]
      refine ⟨fun z => absurd z (by decide), fun _ => ?_⟩
      rw [g_gq (r := (T 0 j).map N) en rfl]
      cases e : T 0 j with
      | none =>
        refine ⟨fun _ => h5L j hj e (fun i hi' => hl i (by have := e6.2.1 j hj e; omega)) (fun i hi' hin => ?_), fun b z => (by cases z)⟩
        rcases Nat.eq_or_lt_of_le hi' with q | q
        · rw [← q]; exact c1
        · have := e5 j i q hin; omega
      | some j' =>
        have q := e6.2.2.1 j j' hj e
        refine ⟨fun z => (by cases z), fun b z => ?_⟩
        cases z
        refine ih j' (by omega) (by omega) (fun i hi' => hl i (by omega)) (fun i hi' hin => ?_)
        rcases Nat.eq_or_lt_of_le (show j ≤ i by omega) with q | q
        · rw [← q]; exact c1
        · have := e5 j i q hin; omega
    · rw [if_neg c1]
      by_cases c2 : k = ky j
      · rw [if_pos c2]
        exact ⟨fun _ => ⟨fun _ => h4 j hj c2.symm, fun z => absurd (by decide) z⟩, fun z => absurd (by decide) z⟩
      · rw [if_neg c2]
        refine ⟨fun _ => ⟨fun z => absurd z (by decide), fun _ => ?_⟩, fun z => absurd (by decide) z⟩
        rw [g_gq (r := (T 1 j).map N) en rfl]
        cases e : T 1 j with
        | none =>
          refine ⟨fun _ => h5R j hj e (fun i hi' => ?_) (fun i hi' hin => hr i (by have := e6.2.2.2.1 j hj e; omega) hin), fun b z => (by cases z)⟩
          rcases Nat.eq_or_lt_of_le hi' with q | q
          · rw [q]; omega
          · have := e5 i j q hj; omega
        | some j' =>
          have q := e6.2.2.2.2.1 j j' hj e
          refine ⟨fun z => (by cases z), fun b z => ?_⟩
          cases z
          refine ih j' (by omega) (by omega) (fun i hi' => ?_) (fun i hi' hin => hr i (by omega) hin)
          rcases Nat.eq_or_lt_of_le (show i ≤ j by omega) with q | q
          · rw [q]; omega
          · have := e5 i j q hj; omega
/-- what put leaves alone -/
def FrM (h h' : xH) : Prop := ∀ b e, h b = some e → (∀ fs, e ≠ .inl (2, fs)) → (∀ fs, e ≠ .inl (19, fs)) → h' b = some e
/-- the heap behind the new node and its link -/
theorem TMo_ins {q r p : Nat} {l : Bool} {kx vx : Nat} (hT : TMo κ h a n N ky vA kA T lo hi cl m v) (hq : h q = none) (hκ : κ 0 ≤ q) (hp : p < n) (hr : r ≤ n) (h0 : (l = true ∧ p = r ∧ T 0 p = none) ∨ (l = false ∧ p + 1 = r ∧ T 1 p = none)) (hkx : h kx = some (.inl (14, [.int (nI k)]))) (hk : k < 64) (hl : ∀ i, i < r → ky i < k) (hg : ∀ i, r ≤ i → i < n → k < ky i)
    (fA : H a = h a) (fq : H q = some (.inl (19, [.ref kx, .ref vx, va_rf none, va_rf none, va_rf (some (N p)), .int 1]))) (fp : H (N p) = some (.inl (19, [.ref (kA p), .ref (vA p), va_rf (if l = true then some q else (T 0 p).map N), va_rf (if l = true then (T 1 p).map N else some q), va_rf ((T 2 p).map N), .int (cl p)]))) (fo : ∀ b, b ≠ q → b ≠ N p → H b = h b) :
    H a = some (tMo (ins r q N) (insT T r p l) (nI n) m v) ∧ (∀ i, i < n + 1 → H (ins r q N i) = some (tNd (ins r q N) (ins r kx kA) (ins r vx vA) (insT T r p l) (ins r 1 cl) i)) ∧ rOK κ a (n + 1) (ins r q N) ∧ (∀ i, i < n + 1 → H (ins r kx kA i) = some (.inl (14, [.int (nI (ins r k ky i))])) ∧ ins r k ky i < 64) ∧ (∀ i j, i < j → j < n + 1 → ins r k ky i < ins r k ky j) ∧ TQ (n + 1) (insT T r p l) (insLo lo r) (insHi hi r) ∧ colOK (n + 1) (ins r 1 cl) ∧ (∃ es : Option Nat, v 6 = va_rf es ∧ ∀ q, es = some q → H q = some (.inl (12, [.ref a]))) := by
  obtain ⟨e1, e2, hR, e4, e5, e6, e7, es, e8, e9⟩ := hT
  have hNq : ∀ i, i < n → N i ≠ q := fun i hi' z => by
    have := e2 i hi'
    rw [z, hq] at this
    cases this
  have haq : a ≠ q := fun z => by rw [z, hq] at e1; cases e1
  have hmap : ∀ o : Option Nat, (o.map (sh r)).map (ins r q N) = o.map N := fun o => by
    cases o with
    | none => rfl
    | some j => show some (ins r q N (sh r j)) = some (N j); rw [ins_sh]
  have hkeep : ∀ b e, h b = some e → (∀ fs, e ≠ .inl (19, fs)) → H b = some e := fun b e hb k19 => by
    rw [fo b (fun z => by rw [z, hq] at hb; cases hb) (fun z => ?_), hb]
    rw [z, e2 p hp] at hb
    exact k19 _ (Option.some.inj hb).symm
  refine ⟨?_, fun i hi' => ?_, ⟨fun i j hi' hj hne => ?_, fun i hi' => ?_, hR.2.2.1, fun i hi' => ?_⟩, fun i hi' => ?_, fun i j hij hj => ?_, ins_TQ e6 hr hp h0, fun i hi' => ?_, es, e8, fun b hb => hkeep b _ (e9 b hb) (fun fs z => by cases z)⟩
  · rw [fA, e1]
    unfold tMo
    rw [insT_3, hmap]
  · rcases sh_sur hr hi' with rfl | ⟨j, hj, rfl⟩
    · rw [ins_r, fq]
      unfold tNd tN
      rw [ins_r, ins_r, ins_r, (insT_r T i p l).1, (insT_r T i p l).2.1, (insT_r T i p l).2.2]
      show _ = some (Sum.inl (19, [Value.ref kx, .ref vx, va_rf none, va_rf none, va_rf (some (ins i q N (sh i p))), .int 1]))
      rw [ins_sh]
    · rw [ins_sh]
      unfold tNd tN
      rw [ins_sh, ins_sh, ins_sh, insT_2, hmap]
      by_cases hjp : j = p
      · subst hjp
        rw [fp]
        rw [insT_sh _ _ _ _ _ _ (by omega), insT_sh _ _ _ _ _ _ (by omega)]
        rcases h0 with ⟨l1, l2, l3⟩ | ⟨l1, l2, l3⟩
        · rw [l1, if_pos rfl, if_pos rfl, if_pos ⟨rfl, rfl, rfl⟩, if_neg (by omega), if_neg (by simp), hmap]
          show _ = some (Sum.inl (19, [Value.ref (kA j), .ref (vA j), va_rf (some (ins r q N r)), va_rf ((T 1 j).map N), va_rf ((T 2 j).map N), .int (cl j)]))
          rw [ins_r]
        · rw [l1, if_neg (by simp), if_neg (by simp), if_neg (by simp), if_neg (by simp), if_neg (by simp), if_pos ⟨rfl, rfl, rfl⟩, hmap]
          show _ = some (Sum.inl (19, [Value.ref (kA j), .ref (vA j), va_rf ((T 0 j).map N), va_rf (some (ins r q N r)), va_rf ((T 2 j).map N), .int (cl j)]))
          rw [ins_r]
      · rw [insT_sh _ _ _ _ _ _ (by omega), insT_sh _ _ _ _ _ _ (by omega), if_neg (fun z => hjp z.2.2), if_neg (fun z => hjp z.2.2), if_neg (fun z => hjp z.2.2), if_neg (fun z => hjp z.2.2), hmap, hmap, fo _ (hNq j hj) (hR.1 j p hj hp hjp), e2 j hj]
        rfl
  · rcases sh_sur hr hi' with rfl | ⟨i, hi2, rfl⟩
    · rcases sh_sur hr hj with rfl | ⟨j, hj2, rfl⟩
      · exact absurd rfl hne
      · rw [ins_r, ins_sh]; exact fun z => hNq j hj2 z.symm
    · rcases sh_sur hr hj with rfl | ⟨j, hj2, rfl⟩
      · rw [ins_r, ins_sh]; exact hNq i hi2
      · rw [ins_sh, ins_sh]
        exact hR.1 i j hi2 hj2 (fun z => hne (by rw [z]))
  · rcases sh_sur hr hi' with rfl | ⟨i, hi2, rfl⟩
    · rw [ins_r]; exact fun z => haq z.symm
    · rw [ins_sh]; exact hR.2.1 i hi2
  · rcases sh_sur hr hi' with rfl | ⟨i, hi2, rfl⟩
    · rw [ins_r]; exact hκ
    · rw [ins_sh]; exact hR.2.2.2 i hi2
  · rcases sh_sur hr hi' with rfl | ⟨i, hi2, rfl⟩
    · rw [ins_r, ins_r]; exact ⟨hkeep _ _ hkx (fun fs z => by cases z), hk⟩
    · rw [ins_sh, ins_sh]; exact ⟨hkeep _ _ (e4 i hi2).1 (fun fs z => by cases z), (e4 i hi2).2⟩
  · rcases sh_sur hr (show i < n + 1 by omega) with rfl | ⟨i, hi2, rfl⟩
    · rcases sh_sur hr hj with rfl | ⟨j, hj2, rfl⟩
      · omega
      · rw [ins_r, ins_sh]
        refine hg j ?_ hj2
        unfold sh at hij
        split at hij <;> omega
    · rcases sh_sur hr hj with rfl | ⟨j, hj2, rfl⟩
      · rw [ins_r, ins_sh]
        refine hl i ?_
        unfold sh at hij
        split at hij <;> omega
      · rw [ins_sh, ins_sh]
        refine e5 i j ?_ hj2
        unfold sh at hij
        split at hij <;> split at hij <;> omega
  · rcases sh_sur hr hi' with rfl | ⟨i, hi2, rfl⟩
    · rw [ins_r]; exact Or.inr rfl
    · rw [ins_sh]; exact e7 i hi2
end F7
