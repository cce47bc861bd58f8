-- TreeMap: nodes by their place in the keys' order; lo, hi: the places that a node's subtree covers
def TS (n : Nat) (lf rt pr : Nat → Option Nat) (lo hi : Nat → Nat) (root : Option Nat) : Prop :=
  (∀ i, i < n → (lo i ≤ i ∧ i < hi i ∧ hi i ≤ n) ∧ ((lf i = none ∧ lo i = i) ∨ ∃ j, lf i = some j ∧ lo i ≤ j ∧ j < i ∧ lo j = lo i ∧ hi j = i ∧ pr j = some i) ∧ ((rt i = none ∧ hi i = i + 1) ∨ ∃ j, rt i = some j ∧ i < j ∧ j < hi i ∧ lo j = i + 1 ∧ hi j = hi i ∧ pr j = some i)) ∧
  ((n = 0 ∧ root = none) ∨ ∃ j, root = some j ∧ j < n ∧ lo j = 0 ∧ hi j = n ∧ pr j = none) ∧
  ∀ i, i < n → (pr i = none ∧ lo i = 0 ∧ hi i = n) ∨ ∃ p, pr i = some p ∧ p < n ∧ (lf p = some i ∨ rt p = some i)
def tN (N kA vA : Nat → Nat) (lf rt pr : Nat → Option Nat) (cl : Nat → Int32) (i : Nat) : xE := .inl (19, [.ref (kA i), .ref (vA i), va_rf ((lf i).map N), va_rf ((rt i).map N), va_rf ((pr i).map N), .int (cl i)])
/-- the TreeMap at a: n entries, keys ky, values' objects vA -/
def TM (κ : Nat → Nat) (h : xH) (a n : Nat) (N ky vA : Nat → Nat) : Prop := ∃ (kA : Nat → Nat) (lf rt pr : Nat → Option Nat) (lo hi : Nat → Nat) (root : Option Nat) (cl : Nat → Int32) (m : Int32) (v0 v1 v6 v7 v8 : Value),
  h a = some (.inl (2, [v0, v1, va_rf none, va_rf (root.map N), .int (nI n), .int m, v6, v7, v8])) ∧ (∀ i, i < n → h (N i) = some (tN N kA vA lf rt pr cl i)) ∧ (∀ i j, i < n → j < n → i ≠ j → N i ≠ N j) ∧ (∀ i, i < n → h (kA i) = some (.inl (14, [.int (nI (ky i))])) ∧ ky i < 64) ∧ (∀ i j, i < j → j < n → ky i < ky j) ∧ TS n lf rt pr lo hi root ∧ n ≤ 64 ∧ (κ 0 ≤ a ∧ ∀ i, i < n → κ 0 ≤ N i) ∧ (∀ i, i < n → cl i = 0 ∨ cl i = 1) ∧ ∃ es : Option Nat, v6 = va_rf es ∧ ∀ q, es = some q → h q = some (.inl (12, [.ref a]))
def t_find (n : Nat) (ky : Nat → Nat) (k : Nat) : Option Nat := (List.range n).find? (fun i => decide (ky i = k))
/-- the map at a holds W's words (0: none was written), made after h0 -/
def WM (κ : Nat → Nat) (h0 h : xH) (a : Nat) (W : Nat → Int32) : Prop := ∃ (n : Nat) (N ky vA : Nat → Nat), TM κ h a n N ky vA ∧ h0 a = none ∧ (∀ i, i < n → h0 (N i) = none) ∧ (∀ i, i < n → h (vA i) = some (.inl (14, [.int (W (ky i))]))) ∧ ∀ k, k < 64 → t_find n ky k = none → W k = 0
/-- the list at a and its array were made after h0 -/
def FS (κ : Nat → Nat) (h0 h : xH) (a : Nat) : Prop := h0 a = none ∧ κ 0 ≤ a ∧ ∃ (m x : Value) (d : Nat), h a = some (.inl (3, [m, .ref d, x])) ∧ h0 d = none ∧ κ 0 ≤ d
section F0
variable {κ : Nat → Nat} {h h' h0 : xH} {a n : Nat} {N ky vA : Nat → Nat} {W : Nat → Int32}
theorem TM.keep (hk : ∀ b e, h b = some e → (∀ fs, e ≠ .inl (4, fs)) → (∀ fs, e ≠ .inl (6, fs)) → h' b = some e) (hT : TM κ h a n N ky vA) : TM κ h' a n N ky vA := by
  obtain ⟨kA, lf, rt, pr, lo, hi, root, cl, m, v0, v1, v6, v7, v8, e1, e2, e3, e4, e5, e6, e7, e8, e9, es, e10, e11⟩ := hT
  exact ⟨kA, lf, rt, pr, lo, hi, root, cl, m, v0, v1, v6, v7, v8, hk _ _ e1 (fun fs z => by cases z) (fun fs z => by cases z), fun i hi' => hk _ _ (e2 i hi') (fun fs z => by unfold tN at z; cases z) (fun fs z => by unfold tN at z; cases z), e3, fun i hi' => ⟨hk _ _ (e4 i hi').1 (fun fs z => by cases z) (fun fs z => by cases z), (e4 i hi').2⟩, e5, e6, e7, e8, e9, es, e10, fun q hq => hk _ _ (e11 q hq) (fun fs z => by cases z) (fun fs z => by cases z)⟩
theorem WM.keep (hk : ∀ b e, h b = some e → (∀ fs, e ≠ .inl (4, fs)) → (∀ fs, e ≠ .inl (6, fs)) → h' b = some e) (hW : WM κ h0 h a W) : WM κ h0 h' a W := by
  obtain ⟨n, N, ky, vA, e1, e2, e3, e4, e5⟩ := hW
  exact ⟨n, N, ky, vA, e1.keep hk, e2, e3, fun i hi' => hk _ _ (e4 i hi') (fun fs z => by cases z) (fun fs z => by cases z), e5⟩
theorem WM.mono (hE : Ext h h') (hW : WM κ h0 h a W) : WM κ h0 h' a W := hW.keep (fun b e hb _ _ => hE b e hb)
theorem FS.keep (hk : ∀ b e, h b = some e → (∀ fs, e ≠ .inl (4, fs)) → (∀ fs, e ≠ .inl (6, fs)) → h' b = some e) (hF : FS κ h0 h a) : FS κ h0 h' a := by
  obtain ⟨f1, f2, m, x, d, f3, f4⟩ := hF
  exact ⟨f1, f2, m, x, d, hk _ _ f3 (fun fs z => by cases z) (fun fs z => by cases z), f4⟩
theorem FS.mono (hE : Ext h h') (hF : FS κ h0 h a) : FS κ h0 h' a := hF.keep (fun b e hb _ _ => hE b e hb)
end F0
