def x_obj : Nat → Bool := fun ci => match ci with
  | 0 => true
  | 1 => true
  | 2 => true
  | 3 => true
  | 4 => true
  | 5 => true
  | 6 => true
  | 7 => true
  | 8 => true
  | 9 => true
  | 10 => true
  | 11 => true
  | 12 => true
  | 13 => true
  | 14 => true
  | 15 => true
  | 16 => true
  | 17 => true
  | 18 => true
  | 19 => true
  | 20 => true
  | 21 => true
  | 22 => true
  | 23 => true
  | 24 => true
  | 25 => true
  | 26 => true
  | 27 => true
  | 28 => true
  | 29 => true
  | 30 => true
  | 31 => true
  | 32 => true
  | 33 => true
  | 34 => true
  | 35 => true
  | 36 => true
  | 37 => true
  | 38 => true
  | 39 => true
  | _ => false
theorem x_objs : ∀ (ci : Nat) (r : vw_C), x_cl[ci]? = some r → x_obj ci = true → Cond.castable r.1 "java/lang/Object" ∈ lw_tbl := by
  intro ci r h1 h2
  unfold x_obj at h2
  split at h2
  · cases h1; exact q3708
  · cases h1; exact q3709
  · cases h1; exact q3710
  · cases h1; exact q3711
  · cases h1; exact q3712
  · cases h1; exact q3713
  · cases h1; exact q3714
  · cases h1; exact q3715
  · cases h1; exact q3716
  · cases h1; exact q3727
  · cases h1; exact q3717
  · cases h1; exact q3718
  · cases h1; exact q3719
  · cases h1; exact q3720
  · cases h1; exact q3740
  · cases h1; exact q3750
  · cases h1; exact q3726
  · cases h1; exact q3728
  · cases h1; exact q3721
  · cases h1; exact q3722
  · cases h1; exact q3723
  · cases h1; exact q3725
  · cases h1; exact q3730
  · cases h1; exact q3731
  · cases h1; exact q3732
  · cases h1; exact q3741
  · cases h1; exact q3734
  · cases h1; exact q3735
  · cases h1; exact q3736
  · cases h1; exact q3737
  · cases h1; exact q3738
  · cases h1; exact q3739
  · cases h1; exact q3742
  · cases h1; exact q3743
  · cases h1; exact q3744
  · cases h1; exact q3745
  · cases h1; exact q3746
  · cases h1; exact q3747
  · cases h1; exact q3748
  · cases h1; exact q3749
  · cases h2
theorem x_pairs (at_ : Nat) : ∀ (xs : List Value) (i : Nat) (c : Cell), (c.storePairs at_ (xs.zipIdx i)).cls = c.cls ∧ (c.storePairs at_ (xs.zipIdx i)).vm = c.vm ∧ (c.storePairs at_ (xs.zipIdx i)).slots.size = c.slots.size ∧
    ∀ k, k < c.slots.size → (c.storePairs at_ (xs.zipIdx i)).slots[k]? = if at_ + i ≤ k ∧ k < at_ + i + xs.length then some (xs.getD (k - (at_ + i)) .null) else c.slots[k]?
  | [], i, c => ⟨rfl, rfl, rfl, fun k hk => by rw [if_neg (by simp only [List.length_nil]; omega)]; rfl⟩
  | x :: xs, i, c => by
    rw [List.zipIdx_cons]
    show ((c.setSlot (at_ + i) x).storePairs at_ (xs.zipIdx (i + 1))).cls = _ ∧ ((c.setSlot (at_ + i) x).storePairs at_ (xs.zipIdx (i + 1))).vm = _ ∧ ((c.setSlot (at_ + i) x).storePairs at_ (xs.zipIdx (i + 1))).slots.size = _ ∧ ∀ k, k < c.slots.size → ((c.setSlot (at_ + i) x).storePairs at_ (xs.zipIdx (i + 1))).slots[k]? = _
    obtain ⟨h1, h2, h3, h4⟩ := x_pairs at_ xs (i + 1) (c.setSlot (at_ + i) x)
    refine ⟨h1, h2, by rw [h3]; simp [Cell.setSlot], fun k hk => ?_⟩
    rw [h4 k (by simpa [Cell.setSlot] using hk)]
    by_cases e : k = at_ + i
    · subst e
      rw [if_neg (by omega), if_pos (by simp only [List.length_cons]; omega)]
      simp [Cell.setSlot, hk]
    · by_cases hin : at_ + (i + 1) ≤ k ∧ k < at_ + (i + 1) + xs.length
      · rw [if_pos hin, if_pos (by simp only [List.length_cons]; omega), show k - (at_ + i) = (k - (at_ + (i + 1))) + 1 by omega]
        rfl
      · rw [if_neg hin, if_neg (by simp only [List.length_cons]; omega)]
        simp [Cell.setSlot, Array.getElem?_setIfInBounds, Ne.symm e]
theorem x_cp (cs cd : Cell) (sp dp n : Int32) (V0 V1 : Nat → Value) {n0 n1 : Nat} (z0 : cs.slots.size = n0) (z1 : cd.slots.size = n1) (g0 : ∀ j, j < n0 → cs.slots[j]? = some (V0 j)) (g1 : ∀ j, j < n1 → cd.slots[j]? = some (V1 j)) (h4 : sp.toNatClampNeg + n.toNatClampNeg ≤ n0) :
    (copied cs cd sp dp n).cls = cd.cls ∧ (copied cs cd sp dp n).vm = cd.vm ∧ (copied cs cd sp dp n).slots.size = n1 ∧ ∀ j, j < n1 → (copied cs cd sp dp n).slots[j]? = some (va_cpy V0 V1 sp.toNatClampNeg dp.toNatClampNeg n.toNatClampNeg j) := by
  obtain ⟨h1, h2, h3, h5⟩ := x_pairs dp.toNatClampNeg (cs.stretch sp.toNatClampNeg n.toNatClampNeg) 0 cd
  refine ⟨h1, h2, by show (cd.storePairs _ _).slots.size = _; rw [h3, z1], fun j hj => ?_⟩
  show (cd.storePairs _ _).slots[j]? = _
  rw [h5 j (by omega)]
  have hl : (cs.stretch sp.toNatClampNeg n.toNatClampNeg).length = n.toNatClampNeg := by simp [Cell.stretch]
  simp only [hl, Nat.add_zero, va_cpy]
  by_cases h : dp.toNatClampNeg ≤ j ∧ j < dp.toNatClampNeg + n.toNatClampNeg
  · rw [if_pos h, if_pos h]
    unfold Cell.stretch
    rw [List.getD_eq_getElem?_getD, List.getElem?_map, List.getElem?_range (by omega)]
    simp only [Option.map_some, Option.getD_some]
    rw [Array.getD_eq_getD_getElem?, g0 _ (by omega)]
    rfl
  · rw [if_neg h, if_neg h, g1 j hj]
theorem x_nn {z : Int32} (hz : ¬ z < 0) : z.toInt = (z.toNatClampNeg : Int) := by
  have hz0 : (0 : Int) ≤ z.toInt := by
    have := Int32.not_lt.mp hz
    simpa using Int32.le_iff_toInt_le.mp this
  show z.toInt = ((z.toInt.toNat : Nat) : Int)
  omega
section X6
variable {p : Program} {l : Launch} {e : Env} {R : Room} {s : State} {m : MethodId} {args : Array Value} {below : List Frame} {meth : Method} {c : Code} {Q : State → Prop} {G : xG} {nL : Nat} {cc : ByteArray} {own : String}
variable {σ : xS} {pc pc' : Nat} {lo lo' : List (Nat × Value)} {st st' : List Value} {a : Nat}
theorem x_castS {C : String} {T : u_T} {N ci index : Nat} {ty : Nat → FieldType} (X : xX p s m args meth c G cc nL own) (hk : xCl G ci C T N ty) (hl : Cond.classLink own index C ∈ lw_all) (hr : xrc σ a ci) (hd : decode cc pc = .ok (.checkcast index, 3))
    (k : xW p l e R s m args below meth c G nL Q σ (pc + 3) lo (.ref a :: st)) : xW p l e R s m args below meth c G nL Q σ pc lo (.ref a :: st) := by
  intro H locs cells slots ls hS hR hL hc hs
  exact va_castS X.1 X.2.1 X.2.2.2.1 (X.2.2.2.2.1 _ hl) (X.2.2.2.2.2.1.1.1 ci _ hk.1.1).2 (xrc.recv X hk hr hR) hd (k H locs cells slots ls hS hR hL hc hs)
theorem x_castY {C nm : String} {T : u_T} {N ci index : Nat} {ty : Nat → FieldType} (X : xX p s m args meth c G cc nL own) (hk : xCl G ci C T N ty) (hl : Cond.classLink own index nm ∈ lw_all) (hct : Cond.castable C nm ∈ lw_tbl) (hr : xrc σ a ci) (hd : decode cc pc = .ok (.checkcast index, 3))
    (k : xW p l e R s m args below meth c G nL Q σ (pc + 3) lo (.ref a :: st)) : xW p l e R s m args below meth c G nL Q σ pc lo (.ref a :: st) := by
  intro H locs cells slots ls hS hR hL hc hs
  exact va_castY X.1 X.2.1 X.2.2.2.1 (X.2.2.2.2.1 _ hl) (X.2.2.2.2.2.1.2.1 _ hct rfl) (xrc.recv X hk hr hR) hd (k H locs cells slots ls hS hR hL hc hs)
theorem x_castN {index : Nat} (X : xX p s m args meth c G cc nL own) (hd : decode cc pc = .ok (.checkcast index, 3))
    (k : xW p l e R s m args below meth c G nL Q σ (pc + 3) lo (.null :: st)) : xW p l e R s m args below meth c G nL Q σ pc lo (.null :: st) := by
  intro H locs cells slots ls hS hR hL hc hs
  exact lv_castN X.1 X.2.1 hd (k H locs cells slots ls hS hR hL hc hs)
theorem x_instY {C nm : String} {T : u_T} {N ci index : Nat} {ty : Nat → FieldType} (X : xX p s m args meth c G cc nL own) (hk : xCl G ci C T N ty) (hl : Cond.classLink own index nm ∈ lw_all) (hct : Cond.castable C nm ∈ lw_tbl) (hr : xrc σ a ci) (hd : decode cc pc = .ok (.instanceof index, 3))
    (k : xW p l e R s m args below meth c G nL Q σ (pc + 3) lo (.int 1 :: st)) : xW p l e R s m args below meth c G nL Q σ pc lo (.ref a :: st) := by
  intro H locs cells slots ls hS hR hL hc hs
  exact va_instY X.1 X.2.1 X.2.2.2.1 (X.2.2.2.2.1 _ hl) (X.2.2.2.2.2.1.2.1 _ hct rfl) (xrc.recv X hk hr hR) hd (k H locs cells slots ls hS hR hL hc hs)
theorem x_instS {C : String} {T : u_T} {N ci index : Nat} {ty : Nat → FieldType} (X : xX p s m args meth c G cc nL own) (hk : xCl G ci C T N ty) (hl : Cond.classLink own index C ∈ lw_all) (hr : xrc σ a ci) (hd : decode cc pc = .ok (.instanceof index, 3))
    (k : xW p l e R s m args below meth c G nL Q σ (pc + 3) lo (.int 1 :: st)) : xW p l e R s m args below meth c G nL Q σ pc lo (.ref a :: st) := by
  intro H locs cells slots ls hS hR hL hc hs
  exact va_instS X.1 X.2.1 X.2.2.2.1 (X.2.2.2.2.1 _ hl) (X.2.2.2.2.2.1.1.1 ci _ hk.1.1).2 (xrc.recv X hk hr hR) hd (k H locs cells slots ls hS hR hL hc hs)
def xneq (κ : Nat → Nat) (σ : xS) (n : Int32) (K : Nat → xS → Prop) : Prop := ∃ N : Nat, n = nI N ∧ N ≤ 67108864 ∧ 1 ≤ σ.2.1 ∧ N ≤ σ.2.2 ∧ ∀ q : Nat, σ.1 q = none → κ 0 ≤ q → K q (xup σ.1 q (.inr (.object "java/lang/Object", N, .inr (.inr (.inr (.inr fun _ => none))))), σ.2.1 - 1, σ.2.2 - N)
theorem x_neq {index : Nat} (X : xX p s m args meth c G cc nL own) (hl : Cond.classLink own index "java/lang/Object" ∈ lw_all) (hd : decode cc pc = .ok (.anewarray index, 3)) {n : Int32} {K : Nat → xS → Prop} (hp : xneq G.2 σ n K) (kk : ∀ q σ', K q σ' → xW p l e R s m args below meth c G nL Q σ' (pc + 3) lo (.ref q :: st)) : xW p l e R s m args below meth c G nL Q σ pc lo (.int n :: st) := by
  intro H locs cells slots ls hS hR hL hc hs
  obtain ⟨N, rfl, hN, h1, h2, h3⟩ := hp
  obtain ⟨hx, hb, hml, hown, hts, hG, hlk⟩ := X
  have hcl : (nI N).toNatClampNeg = N := nI_clamp (by omega)
  refine W.anew hx hb hown (hts _ hl) (va_AO.use hG.2.2.2.2.1) rfl hd rfl (nI_pos (by omega)) (by rw [hcl]; omega) (by omega) (by rw [hcl]; omega) fun cA kA comp f1 f2 f3 f4 => ?_
  rw [hcl]
  have hsz : (H.push { cls := cA, slots := Array.replicate N .null, vm := .none } : Heap).size = H.size + 1 := by simp
  have o1 : ∀ q : Nat, q < H.size → (H.push { cls := cA, slots := Array.replicate N .null, vm := .none } : Heap)[q]? = H[q]? := fun q hq => by simp [Array.getElem?_push, Nat.ne_of_lt hq]
  refine kk _ _ (h3 H.size hR.fresh (Nat.le_trans hG.2.2.1 hS.1)) _ locs _ _ ls ⟨Nat.le_trans hS.1 (by omega), fun x q1 q2 => (o1 x (Nat.lt_of_lt_of_le q1 hS.1)).trans (hS.2.1 x q1 q2), hS.2.2⟩ (hR.new ?_ o1) hL (by show cells + 1 + (σ.2.1 - 1) ≤ _; omega) (by show slots + N + (σ.2.2 - N) ≤ _; omega)
  refine ⟨{ cls := cA, slots := Array.replicate N .null, vm := .none }, by simp, ⟨(fun k hk => by cases hk), kA, f2, comp, f3⟩, (fun z => by cases z), fun _ => rfl, by simp, fun j hj => ?_, fun C hC => ?_, fun _ => f1⟩
  · have hj : j < N := hj
    simp [hj, xc, va_rf]
  · cases hC
    exact ⟨kA, comp, f2, f3, f4⟩
def xob2 (σ : xS) (r : Option Nat) : Prop := ∀ b : Nat, r = some b → ∃ ci fs, σ.1 b = some (.inl (ci, fs)) ∧ x_obj ci = true ∧ ci < 1000
def xsq (κ : Nat → Nat) (σ : xS) (a : Nat) (i : Int32) (r : Option Nat) (K : xS → Prop) : Prop := ∃ n f, σ.1 a = some (.inr (.object "java/lang/Object", n, .inr (.inr (.inr (.inr f))))) ∧ κ 0 ≤ a ∧ vp_in i n ∧ xob2 σ r ∧ K (xup σ.1 a (.inr (.object "java/lang/Object", n, .inr (.inr (.inr (.inr (va_up f i.toNatClampNeg r)))))), σ.2)
theorem x_aast (X : xX p s m args meth c G cc nL own) (hG9 : G.1.2 = x_cl) (r : Option Nat) (hd : decode cc pc = .ok (.aastore, 1)) {i : Int32} {K : xS → Prop} (hp : xsq G.2 σ a i r K)
    (kk : ∀ σ', K σ' → xW p l e R s m args below meth c G nL Q σ' (pc + 1) lo st) : xW p l e R s m args below meth c G nL Q σ pc lo (va_rf r :: .int i :: .ref a :: st) := by
  intro H locs cells slots ls hS hR hL hc hs
  obtain ⟨n, f, h1, hA, h2, hob, h3⟩ := hp
  obtain ⟨cell, g1, g2, g3, g4, g5, g6, g7⟩ := hR a _ h1
  obtain ⟨kA, comp, f2, f3, f4⟩ := g7.1 _ rfl
  have fin : ∀ H' : Heap, H'[a]? = some (cell.setSlot i.toNatClampNeg (va_rf r)) → H'.size = H.size → (∀ q, q ≠ a → H'[q]? = H[q]?) → W p l e R s m args below meth c H' (locs ++ [⟨a, i.toNatClampNeg⟩]) cells slots Q (F0 m (pc + 1) ls st) := by
    intro H' e1 e2 e3
    refine kk _ h3 H' _ cells slots ls (hS.put e2 e3 hA) (hR.put (xAr.set (n, .inr (.inr (.inr (.inr f)))) (n, .inr (.inr (.inr (.inr (va_up f i.toNatClampNeg r))))) rfl rfl g2 g3 g4 g5 g6 g7 (xil h2) (fun j => ?_) e1) e3) hL hc hs
    by_cases hj : j = i.toNatClampNeg
    · subst hj; simp [xc, va_up]
    · simp [xc, va_up, hj]
  cases r with
  | none => exact va_WaastN (C := "java/lang/Object") X.1 X.2.1 g1 g2 g3 (xin h2 g5) rfl rfl hd fin
  | some v =>
    obtain ⟨ci, fs, o1, o2, o3⟩ := hob v rfl
    obtain ⟨r0, cellV, q0, q1, q2, q3, q4, q5, q6⟩ := (hR v _ o1).1 o3
    obtain ⟨hx, hb, hml, hown, hts, hG, hlk⟩ := X
    have hcls := (hG.1.1 ci _ q0).2
    have hcast := x_objs ci r0 (by rw [← hG9]; exact q0) o2
    obtain ⟨c0, t1, e1, e2, e3⟩ := Cond.castable_spec (va_Nw.use (A := args) rfl (hG.2.1 _ hcast rfl))
    cases hcls.1.symm.trans e1
    cases f4.symm.trans e2
    obtain ⟨kE, hkE, -⟩ := Vm.findClass_spec f4
    obtain ⟨kC, hkC, -⟩ := hcls.2
    exact W.aast hx hb g1 g2.1 g3 f2 f3 rfl hkE ⟨fun q => h2 (Or.inl q), by rw [g5]; exact xil h2⟩ q1 (fun q h => by rw [h] at q4; cases q4) (by rw [q2]; exact hkC) (by rw [q2]; exact e3) rfl rfl hd fin
-- ===== arraycopy =====
def xcpi (κ : Nat → Nat) (ty : FieldType) (σ : xS) (a0 : Nat) (sp : Int32) (a : Nat) (dp n : Int32) (K : xS → Prop) : Prop := ∃ n0 f n1 g, σ.1 a0 = some (.inr (ty, n0, .inl f)) ∧ σ.1 a = some (.inr (ty, n1, .inl g)) ∧ κ 0 ≤ a ∧ ¬ sp < 0 ∧ ¬ dp < 0 ∧ ¬ n < 0 ∧ sp.toNatClampNeg + n.toNatClampNeg ≤ n0 ∧ dp.toNatClampNeg + n.toNatClampNeg ≤ n1 ∧ (∀ i, i < n.toNatClampNeg → fits ty (.int (f (sp.toNatClampNeg + i))) = true) ∧
  K (xup σ.1 a (.inr (ty, n1, .inl (va_cpy f g sp.toNatClampNeg dp.toNatClampNeg n.toNatClampNeg))), σ.2)
def xcpq (κ : Nat → Nat) (σ : xS) (a0 : Nat) (sp : Int32) (a : Nat) (dp n : Int32) (K : xS → Prop) : Prop := ∃ n0 f n1 g, σ.1 a0 = some (.inr (.object "java/lang/Object", n0, .inr (.inr (.inr (.inr f))))) ∧ σ.1 a = some (.inr (.object "java/lang/Object", n1, .inr (.inr (.inr (.inr g))))) ∧ κ 0 ≤ a ∧ ¬ sp < 0 ∧ ¬ dp < 0 ∧ ¬ n < 0 ∧ sp.toNatClampNeg + n.toNatClampNeg ≤ n0 ∧ dp.toNatClampNeg + n.toNatClampNeg ≤ n1 ∧ (∀ i, i < n.toNatClampNeg → xob2 σ (f (sp.toNatClampNeg + i))) ∧
  K (xup σ.1 a (.inr (.object "java/lang/Object", n1, .inr (.inr (.inr (.inr (va_cpy f g sp.toNatClampNeg dp.toNatClampNeg n.toNatClampNeg)))))), σ.2)
theorem x_cpyC {index a0 : Nat} {sp dp n : Int32} {H : Heap} {locs : List Loc} {cells slots : Nat} {ls : Array Slot} {ty : FieldType} {n0 n1 : Nat} {cs cd : Cell} {V0 V1 : Nat → Value} (X : xX p s m args meth c G cc nL own) (hl : Cond.methodLink own index arraycopyName ∈ lw_all) (hnat : Cond.native arraycopyName ∈ lw_all) (hst0 : Cond.static arraycopyName ∈ lw_all) (hini : Cond.initialized "java/lang/System" ∈ lw_all)
    (hS : va_S (xA G) s.heap H locs) (hL : lv_has ls nL lo) (c0 : H[a0]? = some cs) (c1 : H[a]? = some cd) (b0 : s.isArrayOf cs ty) (b1 : s.isArrayOf cd ty) (k0 : cs.vm ≠ .unknown) (k1 : cd.vm ≠ .unknown) (z0 : cs.slots.size = n0) (z1 : cd.slots.size = n1) (g0 : ∀ j, j < n0 → cs.slots[j]? = some (V0 j)) (g1 : ∀ j, j < n1 → cd.slots[j]? = some (V1 j)) (hA : G.2 0 ≤ a)
    (h1 : ¬ sp < 0) (h2 : ¬ dp < 0) (h3 : ¬ n < 0) (h4 : sp.toNatClampNeg + n.toNatClampNeg ≤ n0) (h5 : dp.toNatClampNeg + n.toNatClampNeg ≤ n1)
    (hval : ∀ (dComp : ClassId) (kd : Class), s.vm.classes[cd.cls]? = some kd → kd.kind = .array dComp ty → ∀ i, i < n.toNatClampNeg → fits ty (V0 (sp.toNatClampNeg + i)) = true ∧ ∀ (T : State) (vm' : Vm), T.heap = H → s.vm.Alike vm' → (T.setVm vm').takes dComp (V0 (sp.toNatClampNeg + i)))
    (hW : (st.map fun v => v.category).sum ≤ 8) (hRf : 1 ≤ R.frames) (hRl : 8 + (nativeFrameWords "java/lang/System" "arraycopy" 5 + 11) ≤ R.locals) (hd : decode cc pc = .ok (.invokestatic index, 3))
    (kk : ∀ (H1 : Heap) (locs1 : List Loc) (cd' : Cell), H1[a]? = some cd' → cd'.cls = cd.cls → cd'.vm = cd.vm → cd'.slots.size = n1 → (∀ j, j < n1 → cd'.slots[j]? = some (va_cpy V0 V1 sp.toNatClampNeg dp.toNatClampNeg n.toNatClampNeg j)) → (∀ q : Nat, q ≠ a → H1[q]? = H[q]?) → va_S (xA G) s.heap H1 locs1 → W p l e R s m args below meth c H1 locs1 cells slots Q (F0 m (pc + 3) ls st)) :
    W p l e R s m args below meth c H locs cells slots Q (F0 m pc ls (.int n :: .int dp :: .ref a :: .int sp :: .ref a0 :: st)) := by
  obtain ⟨hx, hb, hml, hown, hts, hG, hlk⟩ := X
  obtain ⟨o0, k0', hk0, cm0, hkk0⟩ := b0
  obtain ⟨o1, k1', hk1, cm1, hkk1⟩ := b1
  intro T hT XS
  obtain ⟨vm', X', step⟩ := XS.arraycopy hx hown (hts _ hl) (hts _ hnat) (hts _ hst0) (hts _ hini) (src := a0) (dst := a) (cs := cs) (cd := cd) (srcPos := sp) (destPos := dp) (n := n) (by rw [hT]; exact c0) (by rw [hT]; exact c1) o0 o1 k0 k1 hk0 hk1 hkk0 hkk1 (by simp) h1 h2 h3
    (by rw [x_nn h1, x_nn h3, z0]; omega) (by rw [x_nn h2, x_nn h3, z1]; omega)
    (fun vm₁ hal i hi => by
      have e : cs.slots.getD (sp.toNatClampNeg + i) .null = V0 (sp.toNatClampNeg + i) := by
        rw [Array.getD_eq_getD_getElem?, g0 _ (by omega)]
        rfl
      rw [e]
      obtain ⟨v1, v2⟩ := hval cm1 k1' hk1 hkk1 i hi
      exact ⟨v1, v2 T vm₁ hT hal⟩)
    (g := F0 m pc ls (.int n :: .int dp :: .ref a :: .int sp :: .ref a0 :: st)) rfl (by rw [hml]; exact hL.1) (rest := st) rfl (by rw [hb]; exact hd) hRf (by show 2 * 0 + _ + _ ≤ _; omega)
  obtain ⟨e1, e2, e3, e4⟩ := x_cp cs cd sp dp n V0 V1 z0 z1 g0 g1 h4
  have hlt : a < H.size := (Array.getElem?_eq_some_iff.mp c1).1
  have hheap : ((T.setVm vm').setCell a (copied cs cd sp dp n)).heap = H.setIfInBounds a (copied cs cd sp dp n) := by rw [← hT]; rfl
  have oq : ∀ q : Nat, q ≠ a → (H.setIfInBounds a (copied cs cd sp dp n))[q]? = H[q]? := fun q hq => by simp [Array.getElem?_setIfInBounds, Ne.symm hq]
  obtain ⟨t, a1, b1⟩ := kk _ _ _ (show (H.setIfInBounds a (copied cs cd sp dp n))[a]? = some (copied cs cd sp dp n) by simp [Array.getElem?_setIfInBounds, hlt]) e1 e2 e3 e4 oq ⟨by simp; exact hS.1, fun q q1 q2 => by
      rw [oq q (fun e => q2 (by rw [e]; exact hA))]
      exact hS.2.1 q q1 q2, fun q hq => by
      rcases List.mem_append.mp hq with h | h
      · exact hS.2.2 q h
      · obtain ⟨z, -, hz⟩ := List.mem_map.mp h
        rw [← hz]
        exact hA⟩ _ hheap X'
  exact ⟨t, step t a1, b1⟩
theorem x_cpi {index a0 : Nat} {sp dp n : Int32} {ty : FieldType} (hty : ∀ C, ty ≠ .object C) (X : xX p s m args meth c G cc nL own) (hl : Cond.methodLink own index arraycopyName ∈ lw_all) (hnat : Cond.native arraycopyName ∈ lw_all) (hst0 : Cond.static arraycopyName ∈ lw_all) (hini : Cond.initialized "java/lang/System" ∈ lw_all)
    (hW : (st.map fun v => v.category).sum ≤ 8) (hRf : 1 ≤ R.frames ∧ 8 + (nativeFrameWords "java/lang/System" "arraycopy" 5 + 11) ≤ R.locals) (hd : decode cc pc = .ok (.invokestatic index, 3)) {K : xS → Prop} (hp : xcpi G.2 ty σ a0 sp a dp n K)
    (kk : ∀ σ', K σ' → xW p l e R s m args below meth c G nL Q σ' (pc + 3) lo st) : xW p l e R s m args below meth c G nL Q σ pc lo (.int n :: .int dp :: .ref a :: .int sp :: .ref a0 :: st) := by
  intro H locs cells slots ls hS hR hL hc hs
  obtain ⟨n0, f, n1, g, q0, q1, hA, h1, h2, h3, h4, h5, h6, h7⟩ := hp
  obtain ⟨cs, s1, s2, s3, s4, s5, s6, s7⟩ := hR a0 _ q0
  obtain ⟨cd, d1, d2, d3, d4, d5, d6, d7⟩ := hR a _ q1
  refine x_cpyC (V0 := fun j => .int (f j)) (V1 := fun j => .int (g j)) X hl hnat hst0 hini hS hL s1 d1 s2 d2 s3 d3 s5 d5 s6 d6 hA h1 h2 h3 h4 h5 (fun _ _ _ _ i hi => ⟨h6 i hi, fun _ _ _ _ => trivial⟩) hW hRf.1 hRf.2 hd fun H1 locs1 cd' e1 e2 e3 e4 e5 e6 hS1 => ?_
  refine kk _ h7 H1 locs1 cells slots ls hS1 (hR.put ⟨cd', e1, ⟨by rw [e3]; exact d2.1, by rw [e2]; exact d2.2⟩, by rw [e3]; exact d3, fun z => by rw [e3]; exact d4 z, e4, fun j hj => ?_, fun C hC => absurd hC (hty C), fun z => by rw [e2]; exact d7.2 z⟩ e6) hL hc hs
  rw [e5 j hj]
  simp only [xc, va_cpy]
  split <;> rfl
theorem x_cpq {index a0 : Nat} {sp dp n : Int32} (X : xX p s m args meth c G cc nL own) (hG9 : G.1.2 = x_cl) (hl : Cond.methodLink own index arraycopyName ∈ lw_all) (hnat : Cond.native arraycopyName ∈ lw_all) (hst0 : Cond.static arraycopyName ∈ lw_all) (hini : Cond.initialized "java/lang/System" ∈ lw_all)
    (hW : (st.map fun v => v.category).sum ≤ 8) (hRf : 1 ≤ R.frames ∧ 8 + (nativeFrameWords "java/lang/System" "arraycopy" 5 + 11) ≤ R.locals) (hd : decode cc pc = .ok (.invokestatic index, 3)) {K : xS → Prop} (hp : xcpq G.2 σ a0 sp a dp n K)
    (kk : ∀ σ', K σ' → xW p l e R s m args below meth c G nL Q σ' (pc + 3) lo st) : xW p l e R s m args below meth c G nL Q σ pc lo (.int n :: .int dp :: .ref a :: .int sp :: .ref a0 :: st) := by
  intro H locs cells slots ls hS hR hL hc hs
  obtain ⟨n0, f, n1, g, q0, q1, hA, h1, h2, h3, h4, h5, h6, h7⟩ := hp
  obtain ⟨cs, s1, s2, s3, s4, s5, s6, s7⟩ := hR a0 _ q0
  obtain ⟨cd, d1, d2, d3, d4, d5, d6, d7⟩ := hR a _ q1
  obtain ⟨kA, comp, f2, f3, f4⟩ := d7.1 _ rfl
  refine x_cpyC (V0 := fun j => va_rf (f j)) (V1 := fun j => va_rf (g j)) X hl hnat hst0 hini hS hL s1 d1 s2 d2 s3 d3 s5 d5 s6 d6 hA h1 h2 h3 h4 h5 (fun dComp kd hkd hkk i hi => ?_) hW hRf.1 hRf.2 hd fun H1 locs1 cd' e1 e2 e3 e4 e5 e6 hS1 => ?_
  · cases f2.symm.trans hkd
    cases f3.symm.trans hkk
    cases hy : f (sp.toNatClampNeg + i) with
    | none => exact ⟨rfl, fun _ _ _ _ => trivial⟩
    | some v =>
      obtain ⟨ci, fs, o1, o2, o3⟩ := h6 i hi v hy
      obtain ⟨r0, cellV, q0, q1, q2, q3, q4, q5, q6⟩ := (hR v _ o1).1 o3
      obtain ⟨hx, hb, hml, hown, hts, hG, hlk⟩ := X
      have hcls := (hG.1.1 ci _ q0).2
      have hcast := x_objs ci r0 (by rw [← hG9]; exact q0) o2
      obtain ⟨c0, t1, e1, e2, e3⟩ := Cond.castable_spec (va_Nw.use (A := args) rfl (hG.2.1 _ hcast rfl))
      cases hcls.1.symm.trans e1
      cases f4.symm.trans e2
      obtain ⟨kE, hkE, -⟩ := Vm.findClass_spec f4
      obtain ⟨kC, hkC, -⟩ := hcls.2
      refine ⟨rfl, fun T vm' hT hal => ?_⟩
      obtain ⟨kC', hkC', -⟩ := hal.2.2 _ _ hkC
      obtain ⟨kE', hkE', -⟩ := hal.2.2 _ _ hkE
      refine ⟨cellV, (show T.heap[v]? = some cellV by rw [hT]; exact q1), (fun q h => by rw [h] at q4; cases q4), ⟨kC', by rw [q2]; exact hkC'⟩, ⟨kE', hkE'⟩, ?_⟩
      show vm'.assignable _ _ = true
      rw [hal.assignable, q2]
      exact e3
  · refine kk _ h7 H1 locs1 cells slots ls hS1 (hR.put ⟨cd', e1, ⟨by rw [e3]; exact d2.1, by rw [e2]; exact d2.2⟩, by rw [e3]; exact d3, fun z => by rw [e3]; exact d4 z, e4, fun j hj => ?_, fun C hC => by rw [e2]; exact d7.1 C hC, fun z => by rw [e2]; exact d7.2 z⟩ e6) hL hc hs
    rw [e5 j hj]
    simp only [xc, va_cpy]
    split <;> rfl
end X6
