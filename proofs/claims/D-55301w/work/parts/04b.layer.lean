/-! ===== arrays, new objects, calls, ends ===== -/
section X2
variable {p : Program} {l : Launch} {e : Env} {R : Room} {s : State} {m : MethodId} {args : Array Value} {below : List Frame} {meth : Method} {c : Code} {Q : State → Prop} {G : xG} {nL : Nat} {cc : ByteArray} {own : String}
variable {σ : xS} {pc pc' : Nat} {lo lo' : List (Nat × Value)} {st st' : List Value} {a : Nat}
def xai (ty : FieldType) (σ : xS) (a : Nat) (i : Int32) (K : Int32 → Prop) : Prop := ∃ n f, σ.1 a = some (.inr (ty, n, .inl f)) ∧ vp_in i n ∧ K (f i.toNatClampNeg)
def xal (σ : xS) (a : Nat) (i : Int32) (K : Int64 → Prop) : Prop := ∃ n f, σ.1 a = some (.inr (.long, n, .inr (.inl f))) ∧ vp_in i n ∧ K (f i.toNatClampNeg)
def xad (σ : xS) (a : Nat) (i : Int32) (K : UInt64 → Prop) : Prop := ∃ n f, σ.1 a = some (.inr (.double, n, .inr (.inr (.inr (.inl f))))) ∧ vp_in i n ∧ K (f i.toNatClampNeg)
def xaq (σ : xS) (a : Nat) (i : Int32) (K : Option Nat → Prop) : Prop := ∃ C n f, σ.1 a = some (.inr (.object C, n, .inr (.inr (.inr (.inr f))))) ∧ vp_in i n ∧ K (f i.toNatClampNeg)
def xan (σ : xS) (a : Nat) (K : Int32 → Prop) : Prop := ∃ x, σ.1 a = some (.inr x) ∧ K (nI x.2.1)
def xsi (κ : Nat → Nat) (ty : FieldType) (σ : xS) (a : Nat) (i : Int32) (x : Int32) (K : xS → Prop) : Prop := ∃ n f, σ.1 a = some (.inr (ty, n, .inl f)) ∧ κ 0 ≤ a ∧ vp_in i n ∧ K (xup σ.1 a (.inr (ty, n, .inl (upd f i.toNatClampNeg (vp_nar ty x)))), σ.2)
def xsl (κ : Nat → Nat) (σ : xS) (a : Nat) (i : Int32) (x : Int64) (K : xS → Prop) : Prop := ∃ n f, σ.1 a = some (.inr (.long, n, .inr (.inl f))) ∧ κ 0 ≤ a ∧ vp_in i n ∧ K (xup σ.1 a (.inr (.long, n, .inr (.inl (vp_updL f i.toNatClampNeg x)))), σ.2)
def xsd (κ : Nat → Nat) (σ : xS) (a : Nat) (i : Int32) (x : UInt64) (K : xS → Prop) : Prop := ∃ n f, σ.1 a = some (.inr (.double, n, .inr (.inr (.inr (.inl f))))) ∧ κ 0 ≤ a ∧ vp_in i n ∧ K (xup σ.1 a (.inr (.double, n, .inr (.inr (.inr (.inl (va_up f i.toNatClampNeg x)))))), σ.2)
theorem xin {i : Int32} {n k : Nat} (h : vp_in i n) (e : k = n) : ¬ (i < 0 ∨ k ≤ i.toNatClampNeg) := by rw [e]; exact h
theorem xil {i : Int32} {n : Nat} (h : vp_in i n) : i.toNatClampNeg < n := Nat.not_le.mp fun q => h (Or.inr q)
theorem x_iald (X : xX p s m args meth c G cc nL own) (hd : decode cc pc = .ok (.iaload, 1)) {i : Int32} {K : Int32 → Prop} (hp : xai .int σ a i K)
    (kk : ∀ x, K x → xW p l e R s m args below meth c G nL Q σ (pc + 1) lo (.int x :: st)) : xW p l e R s m args below meth c G nL Q σ pc lo (.int i :: .ref a :: st) := by
  intro H locs cells slots ls hS hR hL hc hs
  obtain ⟨n, f, h1, h2, h3⟩ := hp
  obtain ⟨cell, g1, g2, g3, g4, g5, g6, g7⟩ := hR a _ h1
  exact W.iald X.1 X.2.1 g1 g2 g3 (xin h2 g5) (g6 _ (xil h2)) rfl rfl hd (kk _ h3 H locs cells slots ls hS hR hL hc hs)
theorem x_bald (X : xX p s m args meth c G cc nL own) (hd : decode cc pc = .ok (.baload, 1)) {i : Int32} {K : Int32 → Prop} (hp : xai .byte σ a i K)
    (kk : ∀ x, K x → xW p l e R s m args below meth c G nL Q σ (pc + 1) lo (.int x :: st)) : xW p l e R s m args below meth c G nL Q σ pc lo (.int i :: .ref a :: st) := by
  intro H locs cells slots ls hS hR hL hc hs
  obtain ⟨n, f, h1, h2, h3⟩ := hp
  obtain ⟨cell, g1, g2, g3, g4, g5, g6, g7⟩ := hR a _ h1
  exact W.bald X.1 X.2.1 g1 g2 g3 (xin h2 g5) (g6 _ (xil h2)) rfl rfl hd (kk _ h3 H locs cells slots ls hS hR hL hc hs)
theorem x_cald (X : xX p s m args meth c G cc nL own) (hd : decode cc pc = .ok (.caload, 1)) {i : Int32} {K : Int32 → Prop} (hp : xai .char σ a i K)
    (kk : ∀ x, K x → xW p l e R s m args below meth c G nL Q σ (pc + 1) lo (.int x :: st)) : xW p l e R s m args below meth c G nL Q σ pc lo (.int i :: .ref a :: st) := by
  intro H locs cells slots ls hS hR hL hc hs
  obtain ⟨n, f, h1, h2, h3⟩ := hp
  obtain ⟨cell, g1, g2, g3, g4, g5, g6, g7⟩ := hR a _ h1
  exact W.cald X.1 X.2.1 g1 g2 g3 (xin h2 g5) (g6 _ (xil h2)) rfl rfl hd (kk _ h3 H locs cells slots ls hS hR hL hc hs)
theorem x_lald (X : xX p s m args meth c G cc nL own) (hd : decode cc pc = .ok (.laload, 1)) {i : Int32} {K : Int64 → Prop} (hp : xal σ a i K)
    (kk : ∀ x, K x → xW p l e R s m args below meth c G nL Q σ (pc + 1) lo (.long x :: st)) : xW p l e R s m args below meth c G nL Q σ pc lo (.int i :: .ref a :: st) := by
  intro H locs cells slots ls hS hR hL hc hs
  obtain ⟨n, f, h1, h2, h3⟩ := hp
  obtain ⟨cell, g1, g2, g3, g4, g5, g6, g7⟩ := hR a _ h1
  exact W.lald X.1 X.2.1 g1 g2 g3 (xin h2 g5) (g6 _ (xil h2)) rfl rfl hd (kk _ h3 H locs cells slots ls hS hR hL hc hs)
theorem x_dald (X : xX p s m args meth c G cc nL own) (hd : decode cc pc = .ok (.daload, 1)) {i : Int32} {K : UInt64 → Prop} (hp : xad σ a i K)
    (kk : ∀ x, K x → xW p l e R s m args below meth c G nL Q σ (pc + 1) lo (.double x :: st)) : xW p l e R s m args below meth c G nL Q σ pc lo (.int i :: .ref a :: st) := by
  intro H locs cells slots ls hS hR hL hc hs
  obtain ⟨n, f, h1, h2, h3⟩ := hp
  obtain ⟨cell, g1, g2, g3, g4, g5, g6, g7⟩ := hR a _ h1
  exact W.dald X.1 X.2.1 g1 g2 g3 (xin h2 g5) (g6 _ (xil h2)) rfl rfl hd (kk _ h3 H locs cells slots ls hS hR hL hc hs)
theorem x_aald (X : xX p s m args meth c G cc nL own) (hd : decode cc pc = .ok (.aaload, 1)) {i : Int32} {K : Option Nat → Prop} (hp : xaq σ a i K)
    (kk : ∀ x, K x → xW p l e R s m args below meth c G nL Q σ (pc + 1) lo (va_rf x :: st)) : xW p l e R s m args below meth c G nL Q σ pc lo (.int i :: .ref a :: st) := by
  intro H locs cells slots ls hS hR hL hc hs
  obtain ⟨C, n, f, h1, h2, h3⟩ := hp
  obtain ⟨cell, g1, g2, g3, g4, g5, g6, g7⟩ := hR a _ h1
  exact W.aald X.1 X.2.1 g1 g2 rfl g3 (xin h2 g5) (g6 _ (xil h2)) rfl rfl hd (kk _ h3 H locs cells slots ls hS hR hL hc hs)
theorem x_alen (X : xX p s m args meth c G cc nL own) (hd : decode cc pc = .ok (.arraylength, 1)) {K : Int32 → Prop} (hp : xan σ a K)
    (kk : ∀ x, K x → xW p l e R s m args below meth c G nL Q σ (pc + 1) lo (.int x :: st)) : xW p l e R s m args below meth c G nL Q σ pc lo (.ref a :: st) := by
  intro H locs cells slots ls hS hR hL hc hs
  obtain ⟨x, h1, h3⟩ := hp
  obtain ⟨cell, g1, g2, g3, g4, g5, g6, g7⟩ := hR a _ h1
  exact W.alen (n := nI x.2.1) X.1 X.2.1 g1 g2 (by rw [g5]; rfl) rfl rfl hd (kk _ h3 H locs cells slots ls hS hR hL hc hs)
theorem x_slots {cell : Cell} {n j : Nat} {V V' : Nat → Value} {v : Value} (hz : cell.slots.size = n) (h : ∀ j, j < n → cell.slots[j]? = some (V j)) (hj : j < n) (hV : ∀ i, V' i = if i = j then v else V i) : (cell.setSlot j v).slots.size = n ∧ ∀ i, i < n → (cell.setSlot j v).slots[i]? = some (V' i) := by
  refine ⟨by simp [Cell.setSlot, hz], fun i hi => ?_⟩
  rw [hV i]
  by_cases hij : i = j
  · subst hij
    simp [Cell.setSlot, hz, hj]
  · rw [if_neg hij, ← h i hi]
    simp [Cell.setSlot, Array.getElem?_setIfInBounds, Ne.symm hij]
theorem xAr.set {U : State} {ty : FieldType} {n j : Nat} (x x' : vp_A) {H1 : Heap} {cell : Cell} {v : Value} (hx : x.1 = n) (hx' : x'.1 = n) (g2 : U.isArrayOf cell ty) (g3 : cell.vm ≠ .unknown) (g4 : G.2 0 ≤ a → cell.vm = .none) (g5 : cell.slots.size = x.1) (g6 : ∀ j, j < x.1 → cell.slots[j]? = some (xc x j))
    (g7 : xAt G U ty a cell) (hj : j < n) (hV : ∀ i, xc x' i = if i = j then v else xc x i) (e1 : H1[a]? = some (cell.setSlot j v)) : xAr G U ty x' a H1 := by
  subst hx
  obtain ⟨k1, k2⟩ := x_slots g5 g6 hj hV
  exact ⟨_, e1, g2, g3, g4, by rw [hx']; exact k1, by rw [hx']; exact k2, g7⟩
theorem x_iast (X : xX p s m args meth c G cc nL own) (hd : decode cc pc = .ok (.iastore, 1)) {i x : Int32} {K : xS → Prop} (hp : xsi G.2 .int σ a i x K)
    (kk : ∀ σ', K σ' → xW p l e R s m args below meth c G nL Q σ' (pc + 1) lo st) : xW p l e R s m args below meth c G nL Q σ pc lo (.int x :: .int i :: .ref a :: st) := by
  intro H locs cells slots ls hS hR hL hc hs
  obtain ⟨n, f, h1, hA, h2, h3⟩ := hp
  obtain ⟨cell, g1, g2, g3, g4, g5, g6, g7⟩ := hR a _ h1
  refine W.iast X.1 X.2.1 g1 g2 g3 (xin h2 g5) rfl rfl hd fun H' e1 e2 e3 => kk _ h3 H' _ cells slots ls (hS.put e2 e3 hA) (hR.put (xAr.set (n, .inl f) (n, .inl (upd f i.toNatClampNeg (vp_nar .int x))) rfl rfl g2 g3 g4 g5 g6 g7 (xil h2) (fun j => ?_) e1) e3) hL hc hs
  by_cases hj : j = i.toNatClampNeg
  · subst hj; simp [xc, upd, vp_nar_int]; rfl
  · simp [xc, upd, hj]
theorem x_bast (X : xX p s m args meth c G cc nL own) (hd : decode cc pc = .ok (.bastore, 1)) {i x : Int32} {K : xS → Prop} (hp : xsi G.2 .byte σ a i x K)
    (kk : ∀ σ', K σ' → xW p l e R s m args below meth c G nL Q σ' (pc + 1) lo st) : xW p l e R s m args below meth c G nL Q σ pc lo (.int x :: .int i :: .ref a :: st) := by
  intro H locs cells slots ls hS hR hL hc hs
  obtain ⟨n, f, h1, hA, h2, h3⟩ := hp
  obtain ⟨cell, g1, g2, g3, g4, g5, g6, g7⟩ := hR a _ h1
  refine W.bast X.1 X.2.1 g1 g2 g3 (xin h2 g5) rfl rfl hd fun H' e1 e2 e3 => kk _ h3 H' _ cells slots ls (hS.put e2 e3 hA) (hR.put (xAr.set (n, .inl f) (n, .inl (upd f i.toNatClampNeg (vp_nar .byte x))) rfl rfl g2 g3 g4 g5 g6 g7 (xil h2) (fun j => ?_) e1) e3) hL hc hs
  by_cases hj : j = i.toNatClampNeg
  · subst hj; simp [xc, upd, vp_nar, narrow]
  · simp [xc, upd, hj]
theorem x_cast (X : xX p s m args meth c G cc nL own) (hd : decode cc pc = .ok (.castore, 1)) {i x : Int32} {K : xS → Prop} (hp : xsi G.2 .char σ a i x K)
    (kk : ∀ σ', K σ' → xW p l e R s m args below meth c G nL Q σ' (pc + 1) lo st) : xW p l e R s m args below meth c G nL Q σ pc lo (.int x :: .int i :: .ref a :: st) := by
  intro H locs cells slots ls hS hR hL hc hs
  obtain ⟨n, f, h1, hA, h2, h3⟩ := hp
  obtain ⟨cell, g1, g2, g3, g4, g5, g6, g7⟩ := hR a _ h1
  refine W.cast X.1 X.2.1 g1 g2 g3 (xin h2 g5) rfl rfl hd fun H' e1 e2 e3 => kk _ h3 H' _ cells slots ls (hS.put e2 e3 hA) (hR.put (xAr.set (n, .inl f) (n, .inl (upd f i.toNatClampNeg (vp_nar .char x))) rfl rfl g2 g3 g4 g5 g6 g7 (xil h2) (fun j => ?_) e1) e3) hL hc hs
  by_cases hj : j = i.toNatClampNeg
  · subst hj; simp [xc, upd, vp_nar, narrow]
  · simp [xc, upd, hj]
theorem x_last (X : xX p s m args meth c G cc nL own) (hd : decode cc pc = .ok (.lastore, 1)) {i : Int32} {x : Int64} {K : xS → Prop} (hp : xsl G.2 σ a i x K)
    (kk : ∀ σ', K σ' → xW p l e R s m args below meth c G nL Q σ' (pc + 1) lo st) : xW p l e R s m args below meth c G nL Q σ pc lo (.long x :: .int i :: .ref a :: st) := by
  intro H locs cells slots ls hS hR hL hc hs
  obtain ⟨n, f, h1, hA, h2, h3⟩ := hp
  obtain ⟨cell, g1, g2, g3, g4, g5, g6, g7⟩ := hR a _ h1
  refine W.last X.1 X.2.1 g1 g2 g3 (xin h2 g5) rfl rfl hd fun H' e1 e2 e3 => kk _ h3 H' _ cells slots ls (hS.put e2 e3 hA) (hR.put (xAr.set (n, .inr (.inl f)) (n, .inr (.inl (vp_updL f i.toNatClampNeg x))) rfl rfl g2 g3 g4 g5 g6 g7 (xil h2) (fun j => ?_) e1) e3) hL hc hs
  by_cases hj : j = i.toNatClampNeg
  · subst hj; simp [xc, vp_updL]
  · simp [xc, vp_updL, hj]
theorem x_dast (X : xX p s m args meth c G cc nL own) (hd : decode cc pc = .ok (.dastore, 1)) {i : Int32} {x : UInt64} {K : xS → Prop} (hp : xsd G.2 σ a i x K)
    (kk : ∀ σ', K σ' → xW p l e R s m args below meth c G nL Q σ' (pc + 1) lo st) : xW p l e R s m args below meth c G nL Q σ pc lo (.double x :: .int i :: .ref a :: st) := by
  intro H locs cells slots ls hS hR hL hc hs
  obtain ⟨n, f, h1, hA, h2, h3⟩ := hp
  obtain ⟨cell, g1, g2, g3, g4, g5, g6, g7⟩ := hR a _ h1
  refine W.dast X.1 X.2.1 g1 g2 g3 (xin h2 g5) rfl rfl hd fun H' e1 e2 e3 => kk _ h3 H' _ cells slots ls (hS.put e2 e3 hA) (hR.put (xAr.set (n, .inr (.inr (.inr (.inl f)))) (n, .inr (.inr (.inr (.inl (va_up f i.toNatClampNeg x))))) rfl rfl g2 g3 g4 g5 g6 g7 (xil h2) (fun j => ?_) e1) e3) hL hc hs
  by_cases hj : j = i.toNatClampNeg
  · subst hj; simp [xc, va_up]
  · simp [xc, va_up, hj]
-- ===== new =====
def xnew (κ : Nat → Nat) (σ : xS) (ci N : Nat) (fs : List Value) (K : Nat → xS → Prop) : Prop := 1 ≤ σ.2.1 ∧ N ≤ σ.2.2 ∧ ∀ q : Nat, σ.1 q = none → κ 0 ≤ q → K q (xup σ.1 q (.inl (ci, fs)), σ.2.1 - 1, σ.2.2 - N)
def xnea (κ : Nat → Nat) (σ : xS) (ty : FieldType) (n : Int32) (x : Nat → vp_A) (K : Nat → xS → Prop) : Prop := ∃ N : Nat, n = nI N ∧ N ≤ 67108864 ∧ 1 ≤ σ.2.1 ∧ N ≤ σ.2.2 ∧ ∀ q : Nat, σ.1 q = none → κ 0 ≤ q → K q (xup σ.1 q (.inr (ty, x N)), σ.2.1 - 1, σ.2.2 - N)
theorem x_new {C : String} {T : u_T} {N ci index : Nat} {ty : Nat → FieldType} (X : xX p s m args meth c G cc nL own) (hk : xCl G ci C T N ty) (hcl : Cond.classLink own index C ∈ lw_all) (hinst : Cond.instantiable C N ∈ lw_all) (hini : Cond.initialized C ∈ lw_all) {fs : List Value} (hfs : ∀ j, j < N → defaultValue (ty j) = vp_V fs j)
    (hd : decode cc pc = .ok (.new index, 3)) {K : Nat → xS → Prop} (hp : xnew G.2 σ ci N fs K) (kk : ∀ q σ', K q σ' → xW p l e R s m args below meth c G nL Q σ' (pc + 3) lo (.ref q :: st)) : xW p l e R s m args below meth c G nL Q σ pc lo st := by
  intro H locs cells slots ls hS hR hL hc hs
  obtain ⟨h1, h2, h3⟩ := hp
  obtain ⟨hx, hb, hml, hown, hts, hG, hlk⟩ := X
  obtain ⟨⟨hcc, hlt⟩, hin, hty, hnm⟩ := hk
  have hKn := hG.1.1 ci _ hcc
  refine W.newcK hx hb hown (hts _ hcl) (hts _ hinst) (hts _ hini) rfl hd (by omega) (by omega) hKn.2.1 rfl fun H1 kC hkC e1 z1 o1 => ?_
  refine kk _ _ (h3 H.size hR.fresh (Nat.le_trans hG.2.2.1 hS.1)) H1 locs _ _ ls ⟨Nat.le_trans hS.1 (by omega), fun x q1 q2 => (o1 x (Nat.lt_of_lt_of_le q1 hS.1)).trans (hS.2.1 x q1 q2), hS.2.2⟩ (hR.new ?_ o1) hL (by show cells + 1 + (σ.2.1 - 1) ≤ _; omega) (by show slots + N + (σ.2.2 - N) ≤ _; omega)
  obtain ⟨cell, k1, k2, k3, k4⟩ := (u_born ty hts hin hKn hkC e1 hty).to hfs
  exact ⟨fun _ => ⟨_, cell, hcc, k1, k2, by rw [k3]; (intro z; cases z), by rw [k3]; rfl, fun _ => k3, k4⟩, fun z => absurd hlt (Nat.not_lt.mpr z)⟩
theorem x_nea {atype : ArrayType} (ty : FieldType) (hty : newarray.typeOf atype = ty) (hprim : ∀ C, ty ≠ .object C) (X : xX p s m args meth c G cc nL own) (harr : Cond.arrayClass ty ∈ lw_all) (x : Nat → vp_A) (hx1 : ∀ N, (x N).1 = N) (hx2 : ∀ N j, xc (x N) j = defaultValue ty) (hbytes : componentBytes ty ≤ 8)
    (hd : decode cc pc = .ok (.newarray atype, 2)) {n : Int32} {K : Nat → xS → Prop} (hp : xnea G.2 σ ty n x K) (kk : ∀ q σ', K q σ' → xW p l e R s m args below meth c G nL Q σ' (pc + 2) lo (.ref q :: st)) : xW p l e R s m args below meth c G nL Q σ pc lo (.int n :: st) := by
  intro H locs cells slots ls hS hR hL hc hs
  obtain ⟨N, rfl, hN, h1, h2, h3⟩ := hp
  subst hty
  obtain ⟨hx, hb, hml, hown, hts, hG, hlk⟩ := X
  have hcl : (nI N).toNatClampNeg = N := nI_clamp (by omega)
  have hby : N * componentBytes (newarray.typeOf atype) ≤ 536870912 := Nat.le_trans (Nat.mul_le_mul hN hbytes) (by decide)
  refine W.newa hx hb (hts _ harr) rfl hd rfl (nI_pos (by omega)) (by rw [hcl]; exact hby) (by omega) (by rw [hcl]; omega) fun cA kA comp f1 f2 f3 => ?_
  rw [hcl]
  have hsz : (H.push { cls := cA, slots := Array.replicate N (defaultValue (newarray.typeOf atype)), vm := .none } : Heap).size = H.size + 1 := by simp
  have o1 : ∀ q : Nat, q < H.size → (H.push { cls := cA, slots := Array.replicate N (defaultValue (newarray.typeOf atype)), vm := .none } : Heap)[q]? = H[q]? := fun q hq => by simp [Array.getElem?_push, Nat.ne_of_lt hq]
  refine kk _ _ (h3 H.size hR.fresh (Nat.le_trans hG.2.2.1 hS.1)) _ locs _ _ ls ⟨Nat.le_trans hS.1 (by omega), fun x q1 q2 => (o1 x (Nat.lt_of_lt_of_le q1 hS.1)).trans (hS.2.1 x q1 q2), hS.2.2⟩ (hR.new ?_ o1) hL (by show cells + 1 + (σ.2.1 - 1) ≤ _; omega) (by show slots + N + (σ.2.2 - N) ≤ _; omega)
  refine ⟨{ cls := cA, slots := Array.replicate N (defaultValue (newarray.typeOf atype)), vm := .none }, by simp, ⟨(fun k hk => by cases hk), kA, f2, comp, f3⟩, (fun z => by cases z), fun _ => rfl, by simp [hx1], fun j hj => ?_, fun C hC => absurd hC (hprim C), fun _ => f1⟩
  rw [hx1] at hj
  simp [hx2, hj]
-- ===== ends =====
def xQ (G : xG) (KK : Option Value → xH → Prop) : Array Value → State → Outcome → State → Prop := fun _ st oc t => (∃ (v : Option Value) (h : xH), oc = .returned v ∧ KK v h ∧ xRel G t h t.heap) ∧ va_F (xA G) st t
def xlift {ρ : Type} (em : ρ → Option Value) (K : ρ → xH → Prop) : Option Value → xH → Prop := fun v h => ∃ r, v = em r ∧ K r h
abbrev emI : Int32 → Option Value := fun r => some (.int r)
abbrev emQ : Option Nat → Option Value := fun r => some (va_rf r)
abbrev emV : Unit → Option Value := fun _ => none
abbrev emF : UInt32 → Option Value := fun r => some (.float r)
abbrev emD : UInt64 → Option Value := fun r => some (.double r)
theorem x_iret (X : xX p s m args meth c G cc nL own) {ty : FieldType} (hr : meth.sig.returnType = some ty) {x : Int32} (hn : narrow ty (.int x) = .int x) (hd : decode cc pc = .ok (.ireturn, 1)) {K : Int32 → xH → Prop} (hp : K x σ.1) : xW p l e R s m args below meth c G nL (MQ below (xQ G (xlift emI K)) args s R.cells R.slots (xA G)) σ pc lo [.int x] := by
  intro H locs cells slots ls hS hR hL hc hs
  refine W.widen (k := R.cells) (n := R.slots) (by omega) (by omega) ?_
  exact W.zret X.1 X.2.1 hr hn (fun t ht hW => ⟨⟨_, σ.1, rfl, ⟨x, rfl, hp⟩, by rw [ht]; exact hR.moved hW.alike⟩, hS.F ht⟩) hS.2.2 hd X.2.2.2.2.2.2
theorem x_vret (X : xX p s m args meth c G cc nL own) (hr : meth.sig.returnType = none) (hd : decode cc pc = .ok (.return_, 1)) {K : Unit → xH → Prop} (hp : K () σ.1) : xW p l e R s m args below meth c G nL (MQ below (xQ G (xlift emV K)) args s R.cells R.slots (xA G)) σ pc lo [] := by
  intro H locs cells slots ls hS hR hL hc hs
  refine W.widen (k := R.cells) (n := R.slots) (by omega) (by omega) ?_
  exact W.vret X.1 X.2.1 hr (fun t ht hW => ⟨⟨_, σ.1, rfl, ⟨(), rfl, hp⟩, by rw [ht]; exact hR.moved hW.alike⟩, hS.F ht⟩) hS.2.2 hd X.2.2.2.2.2.2
theorem x_aret (X : xX p s m args meth c G cc nL own) {rt : FieldType} (hr : meth.sig.returnType = some rt) (hrt : (∃ n, rt = .object n) ∨ ∃ t, rt = .array t) (hd : decode cc pc = .ok (.areturn, 1)) (x : Option Nat) {K : Option Nat → xH → Prop} (hp : K x σ.1) : xW p l e R s m args below meth c G nL (MQ below (xQ G (xlift emQ K)) args s R.cells R.slots (xA G)) σ pc lo [va_rf x] := by
  intro H locs cells slots ls hS hR hL hc hs
  refine W.widen (k := R.cells) (n := R.slots) (by omega) (by omega) ?_
  exact W.aret X.1 X.2.1 hr hrt (by cases x; exact Or.inl rfl; exact Or.inr ⟨_, rfl⟩) (fun t ht hW => ⟨⟨_, σ.1, rfl, ⟨x, rfl, hp⟩, by rw [ht]; exact hR.moved hW.alike⟩, hS.F ht⟩) hS.2.2 hd X.2.2.2.2.2.2
-- ===== contracts =====
def xPc (G : xG) (av : List Value) (h : xH) : Array Value → State → Prop := fun v U => v = av.toArray ∧ xGd G U ∧ xRel G U h U.heap
def xM (l : Launch) (y : MethodName) (cc : ByteArray) (nL : Nat) (ret : Option FieldType) (fr lc : Nat) (G : xG) (av : List Value) (σ : xS) (KK : Option Value → xH → Prop) : Prop :=
  Met l y (ws_ y cc nL ret) ({ frames := fr, cells := σ.2.1, slots := σ.2.2, locals := lc }) (xPc G av σ.1) (xQ G KK) σ.2.1 σ.2.2 (xA G)
theorem xPc.blind (G : xG) (av : List Value) (h : xH) : FrameBlind (xPc G av h) := by
  intro a U g mk hq
  obtain ⟨q0, q1, q2⟩ := hq
  have hvm : U.vm.Alike (U.calling g mk a).vm := Vm.Alike.refl U.vm
  refine ⟨q0, ⟨va_K.moved hvm q1.1, fun w hw hn => ?_, q1.2.2.1, fun C x y hx => va_Fw.moved hx.2 hvm (q1.2.2.2.1 C x y hx), va_AO.moved hvm q1.2.2.2.2.1, fun q hq => va_Z.moved hvm (q1.2.2.2.2.2.1 q hq), fun q hq => vk_R.same rfl (q1.2.2.2.2.2.2.1 q hq), vx_Zq.moved hvm q1.2.2.2.2.2.2.2.1, vx_Zq.moved hvm q1.2.2.2.2.2.2.2.2.1, fun q hq => va_Nc.moved hvm (q1.2.2.2.2.2.2.2.2.2.1 q hq), va_Mi.moved hvm q1.2.2.2.2.2.2.2.2.2.2.1, q1.2.2.2.2.2.2.2.2.2.2.2.warm (State.WarmedH.refl U)⟩, xRel.moved hvm q2⟩
  have h1 := q1.2.1 w hw hn
  cases w <;> first | exact va_Nw.same rfl rfl h1 | cases hn
theorem x_entry {y : MethodName} {cc : ByteArray} {nL : Nat} {ret : Option FieldType} {fr lc : Nat} {av : List Value} {σ : xS} {KK : Option Value → xH → Prop} (hy : plainName y.cls = true) (hlen : (lg_sl av).length ≤ nL)
    (body : ∀ (p : Program) (e : Env) (s : State) (m : MethodId) (args : Array Value) (below : List Frame) (meth : Method) (c : Code), xX p s m args meth c G cc nL y.cls → meth.sig.returnType = ret → meth.name = y.name →
      xW p l e ({ frames := fr, cells := σ.2.1, slots := σ.2.2, locals := lc }) s m args below meth c G nL (MQ below (xQ G KK) args s σ.2.1 σ.2.2 (xA G)) σ 0 (lv_args 0 av) []) : xM l y cc nL ret fr lc G av σ KK := by
  refine Met.ofW (cc := cc) (maxL := nL) (ret := ret) hy rfl ?_
  intro p e s m args below meth c s₁ B hml hv
  obtain ⟨rfl, hG, hR⟩ := hv
  have hts := atoms_spec (ws := ws_ y cc nL ret) B.pre
  have hl := lv_entry av (n := nL) hlen
  rw [lg_entry_eq]
  exact body p e s m _ below meth c ⟨B.exec, B.bytes, hml, findClass_of_methodNamed B.named, fun w h => hts w (List.mem_cons_of_mem _ h), hG, B.notSynchronized⟩ B.returns (name_of_methodNamed B.named B.method).1 s.heap [] 0 0 _ va_S.rf hR hl (by show 0 + σ.2.1 ≤ σ.2.1; omega) (by show 0 + σ.2.2 ≤ σ.2.2; omega)
-- ===== calls =====
def xcall {ρ : Type} (P : xS → (ρ → xH → Prop) → Prop) (σ : xS) (K : ρ → xS → Prop) : Prop := ∃ bc bs : Nat, bc ≤ σ.2.1 ∧ bs ≤ σ.2.2 ∧ P (σ.1, bc, bs) (fun r h => K r (h, σ.2.1 - bc, σ.2.2 - bs))
def xrc (σ : xS) (a ci : Nat) : Prop := ∃ fs, σ.1 a = some (.inl (ci, fs))
theorem x_after {ρ : Type} {em : ρ → Option Value} {KK : ρ → xH → Prop} {H : Heap} {locs : List Loc} {cells slots bc bs : Nat} {ls : Array Slot} {st0 : List Value} {aa : Array Value} {dp : Nat}
    (hr : ∀ T : State, T.heap = H → Stand p l e R s m args below meth c T locs cells slots → ∃ (v : Option Value) (st₀ t T' : State) (L : List Loc), st₀.heap = H ∧ Stand p l e R s m args below meth c T' (locs ++ L) (cells + bc) (slots + bs) ∧ (∀ q ∈ L, xA G q.base) ∧ T'.heap = t.heap ∧ T'.vm = t.vm ∧ xQ G (xlift em KK) aa st₀ (.returned v) t ∧
      Goes p e below T (F0 m pc ls st0) T' (F0 m (pc + dp) ls (v.toList ++ st))) (hS : va_S (xA G) s.heap H locs)
    (kk : ∀ (r : ρ) (h' : xH), KK r h' → ∀ (H1 : Heap) (locs1 : List Loc), va_S (xA G) s.heap H1 locs1 → xRel G s h' H1 → W p l e R s m args below meth c H1 locs1 (cells + bc) (slots + bs) Q (F0 m (pc + dp) ls ((em r).toList ++ st))) : W p l e R s m args below meth c H locs cells slots Q (F0 m pc ls st0) := by
  intro T hT X
  obtain ⟨v, st₀, t, T', L, h0, X', hL, e1, e2, ⟨⟨v', h', hv, ⟨r, rfl, hK⟩, hR'⟩, hz, hk⟩, st⟩ := hr T hT X
  cases hv
  rw [h0] at hz hk
  have hvm : s.vm.Alike t.vm := by rw [← e2]; exact X'.warmed.alike
  obtain ⟨t2, a1, b1⟩ := kk r h' hK T'.heap (locs ++ L)
    ⟨Nat.le_trans hS.1 (by rw [e1]; exact hz), fun q h1 h2 => by rw [e1, hk q (Nat.lt_of_lt_of_le h1 hS.1) h2]; exact hS.2.1 q h1 h2, fun q hq => by
      rcases List.mem_append.mp hq with h | h
      · exact hS.2.2 q h
      · exact hL q h⟩ (by rw [e1]; exact xRel.moved hvm.symm hR') T' rfl X'
  exact ⟨t2, st t2 a1, b1⟩
variable {y : MethodName} {bytes : ByteArray} {maxL fr lc index : Nat} {ret : Option FieldType} {As : List Value} {ρ : Type} {P : xS → (ρ → xH → Prop) → Prop} {K : ρ → xS → Prop} {em : ρ → Option Value}
theorem xPre {H : Heap} {locs : List Loc} {av : List Value} (X : xX p s m args meth c G cc nL own) (hS : va_S (xA G) s.heap H locs) (hR : xRel G s σ.1 H) : ∀ U : State, U.heap = H → s.WarmedH U.vm → xPc G av σ.1 av.toArray U := by
  intro U hU hW
  obtain ⟨hx, hb, hml, hown, hts, hG, hlk⟩ := X
  exact ⟨rfl, hG.warm hW (by rw [hU]; exact hS.1) (fun q h1 h2 => by rw [hU]; exact hS.2.1 q h1 h2), by rw [hU]; exact hR.moved hW.alike⟩
theorem xrc.recv {C : String} {T : u_T} {N ci : Nat} {ty : Nat → FieldType} {b : Nat} {H : Heap} (X : xX p s m args meth c G cc nL own) (hk : xCl G ci C T N ty) (hr : xrc σ b ci) (hR : xRel G s σ.1 H) : ∃ cellB : Cell, H[b]? = some cellB ∧ cellB.vm.isStatics = false ∧ s.vm.findClass C = some cellB.cls := by
  obtain ⟨hx, hb, hml, hown, hts, hG, hlk⟩ := X
  obtain ⟨fs, h1⟩ := hr
  obtain ⟨r, cell, q0, q1, q2, q3, q4, q5, q6⟩ := (hR b _ h1).1 hk.1.2
  exact ⟨cell, q1, q4, by rw [q2]; exact (hG.1.1 ci _ hk.1.1).2.1⟩
theorem x_callS (sk : ρ → List Value → List Value) (hsk : ∀ r st, (em r).toList ++ st = sk r st) (n : Nat) (X : xX p s m args meth c G cc nL own) (hM : ∀ σ' KK, P σ' KK → xM l y bytes maxL ret fr lc G As σ' (xlift em KK))
    (hw : GoodIn lw_all (va_wsS own index y (ws_ y bytes maxL ret))) (hcd : y.cls ≠ "java/lang/invoke/MethodHandle" ∧ y.cls ≠ "java/lang/invoke/VarHandle" ∧ (parseMethodDescriptor y.desc).map (fun d => d.parameters.length) = some n) (hRm : fr + 1 ≤ R.frames ∧ 8 + (maxL + 11) + lc ≤ R.locals)
    (hn : As.length = n) (hst : st' = As.reverse ++ st) (hW : (st.map fun v => v.category).sum ≤ 8) (hd : decode cc pc = .ok (.invokestatic index, 3)) (hp : xcall P σ K)
    (kk : ∀ r σ', K r σ' → xW p l e R s m args below meth c G nL Q σ' (pc + 3) lo (sk r st)) : xW p l e R s m args below meth c G nL Q σ pc lo st' := by
  intro H locs cells slots ls hS hR hL hc hs
  obtain ⟨bc, bs, h1, h2, hP⟩ := hp
  have hM := hM _ _ hP
  have hx := X
  obtain ⟨hx1, hb, hml, hown, hts, hG, hlk⟩ := X
  refine x_after (dp := 3) (va_runS (g := F0 m pc ls st') (rest := st) ⟨hx1, hb, hml, hown, hts⟩ hM (va_cwS n hts hw rfl rfl rfl hcd ⟨hRm.1, hRm.2⟩) ⟨xPc.blind G As σ.1, xPre hx hS hR⟩ rfl hn hL.1 hst (by show 2 * 0 + _ ≤ 8; omega) hd (by show cells + bc ≤ _ ∧ slots + bs ≤ _; omega)) hS fun r h' hK H1 locs1 hS1 hR1 => ?_
  rw [hsk r st]
  exact kk r _ hK H1 locs1 _ _ ls hS1 hR1 hL (by show cells + bc + (σ.2.1 - bc) ≤ _; omega) (by show slots + bs + (σ.2.2 - bs) ≤ _; omega)
theorem x_callV {T : u_T} {N ci : Nat} {ty : Nat → FieldType} {C : String} {b : Nat} (sk : ρ → List Value → List Value) (hsk : ∀ r st, (em r).toList ++ st = sk r st) (n : Nat) (X : xX p s m args meth c G cc nL own) (hk : xCl G ci C T N ty) (hM : ∀ σ' KK, P σ' KK → xM l y bytes maxL ret fr lc G (.ref b :: As) σ' (xlift em KK))
    (hw : GoodIn lw_all (wsV own index C y (ws_ y bytes maxL ret))) (hcd : y.cls = C ∧ y.cls ≠ "java/lang/invoke/MethodHandle" ∧ y.cls ≠ "java/lang/invoke/VarHandle" ∧ (parseMethodDescriptor y.desc).map (fun d => d.parameters.length) = some n) (hRm : fr + 1 ≤ R.frames ∧ 8 + (maxL + 11) + lc ≤ R.locals)
    (hn : As.length = n) (hst : st' = As.reverse ++ .ref b :: st) (hW : (st.map fun v => v.category).sum ≤ 8) (hd : decode cc pc = .ok (.invokevirtual index, 3)) (hrc : xrc σ b ci) (hp : xcall P σ K)
    (kk : ∀ r σ', K r σ' → xW p l e R s m args below meth c G nL Q σ' (pc + 3) lo (sk r st)) : xW p l e R s m args below meth c G nL Q σ pc lo st' := by
  intro H locs cells slots ls hS hR hL hc hs
  obtain ⟨bc, bs, h1, h2, hP⟩ := hp
  have hM := hM _ _ hP
  have hx := X
  obtain ⟨hx1, hb, hml, hown, hts, hG, hlk⟩ := X
  refine x_after (dp := 3) (va_runV (g := F0 m pc ls st') (rest := st) ⟨hx1, hb, hml, hown, hts⟩ hM (cwV n hts hw rfl rfl rfl hcd ⟨hRm.1, hRm.2⟩) ⟨xPc.blind G _ σ.1, xrc.recv hx hk hrc hR, xPre hx hS hR⟩ rfl hn hL.1 hst (by show 2 * 0 + _ ≤ 8; omega) hd (by show cells + bc ≤ _ ∧ slots + bs ≤ _; omega)) hS fun r h' hK H1 locs1 hS1 hR1 => ?_
  rw [hsk r st]
  exact kk r _ hK H1 locs1 _ _ ls hS1 hR1 hL (by show cells + bc + (σ.2.1 - bc) ≤ _; omega) (by show slots + bs + (σ.2.2 - bs) ≤ _; omega)
theorem x_callI {b : Nat} {P : xS → (Unit → xH → Prop) → Prop} {K : Unit → xS → Prop} (n : Nat) (X : xX p s m args meth c G cc nL own) (hM : ∀ σ' KK, P σ' KK → xM l y bytes maxL none fr lc G (.ref b :: As) σ' (xlift emV KK))
    (hw : GoodIn lw_all (ws_ y bytes maxL none)) (hini : Cond.initialized y.cls ∈ lw_all) (hlk : Cond.methodLink own index y ∈ lw_all) (him : Cond.instanceMethod y ∈ lw_all) (hy1 : y.name = "<init>") (hcd : y.cls ≠ "java/lang/invoke/MethodHandle" ∧ y.cls ≠ "java/lang/invoke/VarHandle" ∧ (parseMethodDescriptor y.desc).map (fun d => d.parameters.length) = some n) (hRm : fr + 1 ≤ R.frames ∧ 8 + (maxL + 11) + lc ≤ R.locals)
    (hn : As.length = n) (hst : st' = As.reverse ++ .ref b :: st) (hW : (st.map fun v => v.category).sum ≤ 8) (hd : decode cc pc = .ok (.invokespecial index, 3)) (hp : xcall P σ K)
    (kk : ∀ σ', K () σ' → xW p l e R s m args below meth c G nL Q σ' (pc + 3) lo st) : xW p l e R s m args below meth c G nL Q σ pc lo st' := by
  intro H locs cells slots ls hS hR hL hc hs
  obtain ⟨bc, bs, h1, h2, hP⟩ := hp
  have hM := hM _ _ hP
  have hx := X
  obtain ⟨hx1, hb, hml, hown, hts, hG, hlk0⟩ := X
  refine x_after (dp := 3) (va_runI (g := F0 m pc ls st') (rest := st) ⟨hx1, hb, hml, hown, hts⟩ hM (cwI n hts hw rfl rfl rfl (hts _ hini) (hts _ hlk) (hts _ him) hy1 hcd ⟨hRm.1, hRm.2⟩) ⟨xPc.blind G _ σ.1, xPre hx hS hR⟩ rfl hn hL.1 hst (by show 2 * 0 + _ ≤ 8; omega) hd (by show cells + bc ≤ _ ∧ slots + bs ≤ _; omega)) hS fun r h' hK H1 locs1 hS1 hR1 => ?_
  exact kk _ hK H1 locs1 _ _ ls hS1 hR1 hL (by show cells + bc + (σ.2.1 - bc) ≤ _; omega) (by show slots + bs + (σ.2.2 - bs) ≤ _; omega)
end X2
