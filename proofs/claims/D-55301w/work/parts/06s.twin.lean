-- heap facts for the class's side
theorem xup_eq {h : xH} {a : Nat} {e : xE} : xup h a e a = some e := by simp [xup]
theorem xup_ne {h : xH} {a b : Nat} {e : xE} (hne : b ≠ a) : xup h a e b = h b := by simp [xup, hne]
section C1
variable {κ : Nat → Nat} {h : xH} {w : Nat × Nat} {a ci k : Nat} {fs : List Value}
theorem g_gi {x : Int32} {K : Int32 → Prop} (e : h a = some (.inl (ci, fs))) (e2 : fs[k]? = some (.int x)) : xgi (h, w) a ci k K ↔ K x := by
  constructor
  · rintro ⟨fs', y, e', e2', hK⟩
    have e' := e.symm.trans e'
    cases e'
    have e2' := e2.symm.trans e2'
    cases e2'
    exact hK
  · intro hK
    exact ⟨_, _, e, e2, hK⟩
theorem va_rf_inj {r r' : Option Nat} (h : va_rf r = va_rf r') : r = r' := by
  cases r <;> cases r' <;> first | rfl | cases h; rfl | cases h
theorem g_gq {r : Option Nat} {K : Option Nat → Prop} (e : h a = some (.inl (ci, fs))) (e2 : fs[k]? = some (va_rf r)) : xgq (h, w) a ci k K ↔ K r := by
  constructor
  · rintro ⟨fs', y, e', e2', hK⟩
    have e' := e.symm.trans e'
    cases e'
    have e2' := va_rf_inj (Option.some.inj (e2.symm.trans e2'))
    rw [e2']
    exact hK
  · intro hK
    exact ⟨_, _, e, e2, hK⟩
theorem g_pi {x : Int32} {K : xS → Prop} (e : h a = some (.inl (ci, fs))) (hA : κ 0 ≤ a) (hk : k < fs.length) : xpi κ (h, w) a ci k x K ↔ K (xup h a (.inl (ci, fs.set k (.int x))), w) := by
  constructor
  · rintro ⟨fs', e', -, -, hK⟩
    have e' := e.symm.trans e'
    cases e'
    exact hK
  · intro hK
    exact ⟨_, e, hA, hk, hK⟩
theorem g_pq {x : Option Nat} {K : xS → Prop} (e : h a = some (.inl (ci, fs))) (hA : κ 0 ≤ a) (hk : k < fs.length) : xpq κ (h, w) a ci k x K ↔ K (xup h a (.inl (ci, fs.set k (va_rf x))), w) := by
  constructor
  · rintro ⟨fs', e', -, -, hK⟩
    have e' := e.symm.trans e'
    cases e'
    exact hK
  · intro hK
    exact ⟨_, e, hA, hk, hK⟩
theorem g_rc (e : h a = some (.inl (ci, fs))) : xrc (h, w) a ci ↔ True := ⟨fun _ => trivial, fun _ => ⟨_, e⟩⟩
theorem g_an {ty : FieldType} {x : vp_A} {K : Int32 → Prop} (e : h a = some (.inr (ty, x))) : xan (h, w) a K ↔ K (nI x.1) := by
  constructor
  · rintro ⟨x', e', hK⟩
    have e' := e.symm.trans e'
    cases e'
    exact hK
  · intro hK
    exact ⟨_, e, hK⟩
theorem g_ai {ty : FieldType} {n i : Nat} {f : Nat → Int32} {K : Int32 → Prop} (e : h a = some (.inr (ty, n, .inl f))) (hi : i < n) (hn : n < 2 ^ 31) : xai ty (h, w) a (nI i) K ↔ K (f i) := by
  constructor
  · rintro ⟨n', f', e', -, hK⟩
    have e' := e.symm.trans e'
    cases e'
    rw [nI_clamp (by omega)] at hK
    exact hK
  · intro hK
    exact ⟨_, _, e, nI_in hi hn, by rw [nI_clamp (by omega)]; exact hK⟩
theorem g_si {ty : FieldType} {n i : Nat} {f : Nat → Int32} {x : Int32} {K : xS → Prop} (e : h a = some (.inr (ty, n, .inl f))) (hA : κ 0 ≤ a) (hi : i < n) (hn : n < 2 ^ 31) : xsi κ ty (h, w) a (nI i) x K ↔ K (xup h a (.inr (ty, n, .inl (upd f i (vp_nar ty x)))), w) := by
  constructor
  · rintro ⟨n', f', e', -, -, hK⟩
    have e' := e.symm.trans e'
    cases e'
    rw [nI_clamp (by omega)] at hK
    exact hK
  · intro hK
    exact ⟨_, _, e, hA, nI_in hi hn, by rw [nI_clamp (by omega)]; exact hK⟩
theorem g_aq {C : String} {n i : Nat} {f : Nat → Option Nat} {K : Option Nat → Prop} (e : h a = some (.inr (.object C, n, .inr (.inr (.inr (.inr f)))))) (hi : i < n) (hn : n < 2 ^ 31) : xaq (h, w) a (nI i) K ↔ K (f i) := by
  constructor
  · rintro ⟨C', n', f', e', -, hK⟩
    have e' := e.symm.trans e'
    cases e'
    rw [nI_clamp (by omega)] at hK
    exact hK
  · intro hK
    exact ⟨_, _, _, e, nI_in hi hn, by rw [nI_clamp (by omega)]; exact hK⟩
abbrev oA (n : Nat) (f : Nat → Option Nat) : xE := .inr (.object "java/lang/Object", n, .inr (.inr (.inr (.inr f))))
theorem g_sq {n i : Nat} {f : Nat → Option Nat} {r : Option Nat} {K : xS → Prop} (e : h a = some (oA n f)) (hA : κ 0 ≤ a) (hi : i < n) (hn : n < 2 ^ 31) (ho : xob2 (h, w) r) : xsq κ (h, w) a (nI i) r K ↔ K (xup h a (oA n (va_up f i r)), w) := by
  constructor
  · rintro ⟨n', f', e', -, -, -, hK⟩
    have e' := e.symm.trans e'
    cases e'
    rw [nI_clamp (by omega)] at hK
    exact hK
  · intro hK
    exact ⟨_, _, e, hA, nI_in hi hn, ho, by rw [nI_clamp (by omega)]; exact hK⟩
theorem c_pure {ρ : Type} {P : xS → (ρ → xH → Prop) → Prop} {r : ρ} {K : ρ → xS → Prop} (hP : ∀ (w : Nat × Nat) (K : ρ → xH → Prop), K r h → P (h, w) K) (hK : K r (h, w)) : xcall P (h, w) K := ⟨0, 0, Nat.zero_le _, Nat.zero_le _, hP _ _ hK⟩
theorem c_call {ρ : Type} {P : xS → (ρ → xH → Prop) → Prop} {c0 s0 : Nat} {K : ρ → xS → Prop} (c s : Nat) (hc : c ≤ c0) (hs : s ≤ s0) (hP : P (h, c, s) (fun r h' => K r (h', c0 - c, s0 - s))) : xcall P (h, c0, s0) K := ⟨c, s, hc, hs, hP⟩
end C1
-- strings
def ch8 (x : Int32) : Int32 := ((x &&& (255 : Int32)).toUInt32 % 65536).toInt32
def ch16 (x y : Int32) : Int32 := ((((x &&& (255 : Int32)) <<< ((0 : Int32) &&& 31)) ||| ((y &&& (255 : Int32)) <<< ((8 : Int32) &&& 31))).toUInt32 % 65536).toInt32
theorem nar_ch (x : UInt32) : narrow .char (.int (x % 65536).toInt32) = .int (x % 65536).toInt32 := by
  have e : x % 65536 % 65536 = x % 65536 := by
    rw [← UInt32.toNat_inj]
    simp
  simp [narrow, e]
/-- the String at a: n characters c -/
def isS (h : xH) (a n : Nat) (c : Nat → Int32) : Prop := n ≤ 1000 ∧ ∃ (v : Nat) (co hs hz : Int32) (N : Nat) (f : Nat → Int32), h a = some (.inl (9, [.ref v, .int co, .int hs, .int hz])) ∧ h v = some (.inr (.byte, N, .inl f)) ∧ ((co = 0 ∧ N = n ∧ ∀ i, i < n → ch8 (f i) = c i) ∨ (co = 1 ∧ N = 2 * n ∧ ∀ i, i < n → ch16 (f (2 * i)) (f (2 * i + 1)) = c i))
theorem nI_shl1 {n : Nat} (h : n < 1000) : nI n <<< ((1 : Int32) &&& 31) = nI (2 * n) := by
  revert n
  decide +kernel
theorem nI_shr1 {n : Nat} (h : n < 1002) : nI (2 * n) >>> ((1 : Int32) &&& 31) = nI n := by
  revert n
  decide +kernel
section C2
variable {κ : Nat → Nat} {h : xH} {w : Nat × Nat} {a n : Nat} {c : Nat → Int32}
theorem cc_checkIndex24 {i : Nat} {q : Option Nat} {σ : xS} (hi : i < n) (hn : n < 2 ^ 31) (K : Int32 → xH → Prop) (hK : K (nI i) σ.1) : P_J24_checkIndex κ (nI i) (nI n) q σ K := by
  unfold P_J24_checkIndex
  refine ⟨fun z => absurd z (nI_pos (by omega)), fun _ => ⟨fun _ => hK, fun z => absurd (nI_lt hi hn) z⟩⟩
theorem cc_checkIndex14 {i : Nat} {σ : xS} (hi : i < n) (hn : n < 2 ^ 31) (K : Unit → xH → Prop) (hK : K () σ.1) : P_J14_checkIndex κ (nI i) (nI n) σ K := by
  unfold P_J14_checkIndex
  exact t_pure (r := nI i) (fun τ K hk => cc_checkIndex24 hi hn K hk) hK
theorem cc_charAt (hS : isS h a n c) {i : Nat} (hi : i < n) (K : Int32 → xH → Prop) (hK : K (c i) h) : P_J14_charAt κ a (nI i) (h, w) K := by
  obtain ⟨hn, v, co, hs, hz, N, f, e1, e2, hd⟩ := hS
  unfold P_J14_charAt
  rw [g_rc e1, true_and]
  rcases hd with ⟨rfl, rfl, hf⟩ | ⟨rfl, rfl, hf⟩
  · refine c_pure (r := 1) (fun w K hk => ?_) ?_
    · unfold P_J14_isLatin1
      refine ⟨fun z => absurd z (by decide), fun _ => ?_⟩
      rw [g_gi e1 rfl]
      exact ⟨fun _ => hk, fun z => absurd rfl z⟩
    · refine ⟨fun z => absurd z (by decide), fun _ => ?_⟩
      rw [g_gq (r := some v) e1 rfl]
      refine c_pure (r := c i) (fun w K hk => ?_) ?_
      · unfold P_J17_charAt
        rw [t_nn, g_an e2]
        refine t_pure (r := ()) (fun τ K hk => cc_checkIndex14 hi (by omega) K hk) ?_
        rw [g_ai e2 hi (by omega)]
        refine ⟨nar_ch _, ?_⟩
        have := hf i hi
        unfold ch8 at this
        rw [this]
        exact hk
      · refine ⟨?_, hK⟩
        rw [← hf i hi]
        exact nar_ch _
  · refine c_pure (r := 0) (fun w K hk => ?_) ?_
    · unfold P_J14_isLatin1
      refine ⟨fun z => absurd z (by decide), fun _ => ?_⟩
      rw [g_gi e1 rfl]
      exact ⟨fun z => absurd z (by decide), fun _ => hk⟩
    · refine ⟨fun _ => ?_, fun z => absurd rfl z⟩
      rw [g_gq (r := some v) e1 rfl]
      have hlen : ∀ (w : Nat × Nat) (K : Int32 → xH → Prop), K (nI n) h → P_J15_length κ (some v) (h, w) K := fun w K hk => by
        unfold P_J15_length
        rw [t_nn, g_an e2]
        show K (nI (2 * n) >>> _) h
        rw [nI_shr1 (by omega)]
        exact hk
      refine c_pure (r := c i) (fun w K hk => ?_) ?_
      · unfold P_J15_charAt
        refine c_pure (r := ()) (fun w K hk => ?_) ?_
        · unfold P_J15_checkIndex
          refine c_pure (r := nI n) hlen ?_
          exact t_pure (r := ()) (fun τ K hk => cc_checkIndex14 hi (by omega) K hk) hk
        · refine c_pure (r := c i) (fun w K hk => ?_) ⟨?_, hk⟩
          · unfold P_J15_getChar
            refine ⟨fun z => absurd z (by decide), fun _ => ?_⟩
            rw [t_nn, nI_shl1 (by omega), nI_1, g_ai e2 (by omega) (by omega), g_ai e2 (by omega) (by omega)]
            refine ⟨nar_ch _, ?_⟩
            have := hf i hi
            unfold ch16 at this
            rw [this]
            exact hk
          · rw [← hf i hi]
            exact nar_ch _
      · refine ⟨?_, hK⟩
        rw [← hf i hi]
        exact nar_ch _
theorem cc_length (hS : isS h a n c) (K : Int32 → xH → Prop) (hK : K (nI n) h) : P_J14_length κ a (h, w) K := by
  obtain ⟨hn, v, co, hs, hz, N, f, e1, e2, hd⟩ := hS
  unfold P_J14_length
  rw [g_gq (r := some v) e1 rfl, t_nn, g_an e2, g_rc e1, true_and]
  refine c_pure (r := co) (fun w K hk => ?_) ?_
  · unfold P_J14_coder
    refine ⟨fun z => absurd z (by decide), fun _ => ?_⟩
    rw [g_gi e1 rfl]
    refine ⟨?_, hk⟩
    rcases hd with ⟨rfl, -⟩ | ⟨rfl, -⟩ <;> rfl
  · rcases hd with ⟨rfl, rfl, hf⟩ | ⟨rfl, rfl, hf⟩
    · have : nI N >>> ((0 : Int32) &&& 31) = nI N := by
        show nI N >>> ((0 : Int32) &&& 31) = nI N
        have : ((0 : Int32) &&& 31) = 0 := by decide
        rw [this]
        exact Int32.shiftRight_zero
      show K (nI N >>> _) h
      rw [this]
      exact hK
    · show K (nI (2 * n) >>> _) h
      rw [nI_shr1 (by omega)]
      exact hK
end C2
