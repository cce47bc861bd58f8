/-! ===== statics, constants, loops, joins, what is left ===== -/
theorem x_catq (r : Option Nat) : (va_rf r).category = 1 := by cases r <;> rfl
section X3
variable {p : Program} {l : Launch} {e : Env} {R : Room} {s : State} {m : MethodId} {args : Array Value} {below : List Frame} {meth : Method} {c : Code} {Q : State → Prop} {G : xG} {nL : Nat} {cc : ByteArray} {own : String} {H : Heap} {locs : List Loc} {cells slots : Nat}
variable {σ : xS} {pc pc' : Nat} {lo lo' : List (Nat × Value)} {st st' rest : List Value} {a : Nat} {ls : Array Slot}
theorem x_gets {C n d ref : String} {v : Value} {index : Nat} (X : xX p s m args meth c G cc nL own) (hs : (C, n, d, v) ∈ x_sts G.2) (hl : Cond.fieldLink own index ref n d ∈ lw_all) (hsame : ∀ x, s.fieldFound? C n d = some x → s.fieldFound? ref n d = some x) (hd : decode cc pc = .ok (.getstatic index, 3))
    (kk : xW p l e R s m args below meth c G nL Q σ (pc + 3) lo (v :: st)) : xW p l e R s m args below meth c G nL Q σ pc lo st := by
  intro H locs cells slots ls hS hR hL hc hs'
  obtain ⟨hx, hb, hml, hown, hts, hG, hlk⟩ := X
  exact va_gets hx hb (hG.2.2.2.2.2.1 _ hs) hS hown (hts _ hl) hsame hd (kk H locs cells slots ls hS hR hL hc hs')
theorem x_ldcS {tx : String} {index q : Nat} (X : xX p s m args meth c G cc nL own) (hs : (own, index, tx, q) ∈ x_ss G.2) (hd : decode cc pc = .ok (.ldc index, 2))
    (kk : xW p l e R s m args below meth c G nL Q σ (pc + 2) lo (.ref q :: st)) : xW p l e R s m args below meth c G nL Q σ pc lo st := by
  intro H locs cells slots ls hS hR hL hc hs'
  obtain ⟨hx, hb, hml, hown, hts, hG, hlk⟩ := X
  exact va_ldcS hx hb hown (hG.2.2.2.2.2.2.1 _ hs) hd (kk H locs cells slots ls hS hR hL hc hs')
theorem x_objInit {idx : Nat} (X : xX p s m args meth c G cc nL own) (h1 : Cond.methodLink own idx Lib.objectInit ∈ lw_all) (h2 : Cond.instanceMethod Lib.objectInit ∈ lw_all) (h3 : Cond.code Lib.objectInit ⟨#[0xb1]⟩ 1 none ∈ lw_all) (hd : decode cc pc = .ok (.invokespecial idx, 3)) (hW : (st.map fun v => v.category).sum ≤ 8) (hfr : 1 ≤ R.frames ∧ 20 ≤ R.locals)
    (kk : xW p l e R s m args below meth c G nL Q σ (pc + 3) lo st) : xW p l e R s m args below meth c G nL Q σ pc lo (.ref a :: st) := by
  intro H locs cells slots ls hS hR hL hc hs'
  obtain ⟨hx, hb, hml, hown, hts, hG, hlk⟩ := X
  exact W.objInit hx hb hown (hts _ h1) (hts _ h2) (hts _ h3) rfl (by rw [hml]; exact hL.1) rfl hd hfr.1 (by show 2 * 0 + _ + 12 ≤ _; omega) (kk H locs cells slots ls hS hR hL hc hs')
-- ===== locals that may be null =====
theorem lv_aloadq_n (hexec : p.tables.exec = Jvm.exec) (hb : c.code = cc) {k : Fin 4} {i : Nat} {x : Option Nat} (hdg : decode cc pc = .ok (.aload_n k, 1)) (hi : (k : Nat) = i) (hl : ls[i]? = some (.val (va_rf x))) (kk : W p l e R s m args below meth c H locs cells slots Q (F0 m (pc + 1) ls (va_rf x :: rest))) : W p l e R s m args below meth c H locs cells slots Q (F0 m pc ls rest) := by
  cases x with
  | none => exact lv_aload_nN hexec hb hdg hi hl kk
  | some x => exact lv_aload_n hexec hb hdg hi hl kk
theorem lv_aloadq (hexec : p.tables.exec = Jvm.exec) (hb : c.code = cc) {i : Nat} {x : Option Nat} (hdg : decode cc pc = .ok (.aload i, 2)) (hl : ls[i]? = some (.val (va_rf x))) (kk : W p l e R s m args below meth c H locs cells slots Q (F0 m (pc + 2) ls (va_rf x :: rest))) : W p l e R s m args below meth c H locs cells slots Q (F0 m pc ls rest) := by
  cases x with
  | none => exact lv_aloadN hexec hb hdg hl kk
  | some x => exact lv_aload hexec hb hdg hl kk
theorem lv_astoreq_n (hexec : p.tables.exec = Jvm.exec) (hb : c.code = cc) {k : Fin 4} {i nL : Nat} {x : Option Nat} {lv lv' : List (Nat × Value)} (hdg : decode cc pc = .ok (.astore_n k, 1)) (hi : (k : Nat) = i) (h : lv_has ls nL lv) (hn : i < nL) (hl : (i, va_rf x) :: lv.filter (fun q => !(q.1 == i) && !(q.1 + 1 == i && q.2.category == 2)) = lv')
    (kk : ∀ ls', lv_has ls' nL lv' → W p l e R s m args below meth c H locs cells slots Q (F0 m (pc + 1) ls' rest)) : W p l e R s m args below meth c H locs cells slots Q (F0 m pc ls (va_rf x :: rest)) := by
  cases x with
  | none => exact lv_astore_nN hexec hb hdg hi h hn hl kk
  | some x => exact lv_astore_n hexec hb hdg hi h hn hl kk
theorem lv_astoreq (hexec : p.tables.exec = Jvm.exec) (hb : c.code = cc) {i nL : Nat} {x : Option Nat} {lv lv' : List (Nat × Value)} (hdg : decode cc pc = .ok (.astore i, 2)) (h : lv_has ls nL lv) (hn : i < nL) (hl : (i, va_rf x) :: lv.filter (fun q => !(q.1 == i) && !(q.1 + 1 == i && q.2.category == 2)) = lv')
    (kk : ∀ ls', lv_has ls' nL lv' → W p l e R s m args below meth c H locs cells slots Q (F0 m (pc + 2) ls' rest)) : W p l e R s m args below meth c H locs cells slots Q (F0 m pc ls (va_rf x :: rest)) := by
  cases x with
  | none => exact lv_astoreN hexec hb hdg h hn hl kk
  | some x => exact lv_astore hexec hb hdg h hn hl kk
/-- a store, the new list of locals shown apart -/
theorem x_st {i : Nat} {v : Value} (lo' : List (Nat × Value)) (hl : (i, v) :: lo.filter (fun q => !(q.1 == i)) = lo') (hc : ∀ q ∈ lo, q.2.category = 1)
    (f : ∀ (H : Heap) (locs : List Loc) (cells slots : Nat) (ls : Array Slot), lv_has ls nL lo → (∀ ls', lv_has ls' nL ((i, v) :: lo.filter (fun q => !(q.1 == i) && !(q.1 + 1 == i && q.2.category == 2))) → W p l e R s m args below meth c H locs cells slots Q (F0 m pc' ls' st')) → W p l e R s m args below meth c H locs cells slots Q (F0 m pc ls st))
    (k : xW p l e R s m args below meth c G nL Q σ pc' lo' st') : xW p l e R s m args below meth c G nL Q σ pc lo st := by
  intro H locs cells slots ls h1 h2 h3 h4 h5
  refine f H locs cells slots ls h3 (fun ls' h' => k H locs cells slots ls' h1 h2 ?_ h4 h5)
  rw [← hl]
  refine ⟨h'.1, h'.2.1, fun q hq => h'.2.2 q ?_⟩
  rcases List.mem_cons.mp hq with e | hq
  · rw [e]; exact List.mem_cons_self
  · obtain ⟨q1, q2⟩ := List.mem_filter.mp hq
    refine List.mem_cons_of_mem _ (List.mem_filter.mpr ⟨q1, ?_⟩)
    rw [q2, hc q q1]
    simp
-- ===== loops and joins =====
def xloop {τ : Type} (B : (τ → xS → Prop) → τ → xS → Prop) : Nat → τ → xS → Prop
  | 0 => fun _ _ => False
  | n + 1 => B (xloop B n)
def xwhile {τ : Type} (B : (τ → xS → Prop) → τ → xS → Prop) (v : τ) (σ : xS) : Prop := ∃ n, xloop B n v σ
theorem x_while {τ : Type} {B : (τ → xS → Prop) → τ → xS → Prop} {v0 : τ} (loF : τ → List (Nat × Value)) (hp : xwhile B v0 σ)
    (hs : ∀ self : τ → xS → Prop, (∀ v σ, self v σ → xW p l e R s m args below meth c G nL Q σ pc (loF v) st) → ∀ v σ, B self v σ → xW p l e R s m args below meth c G nL Q σ pc (loF v) st) : xW p l e R s m args below meth c G nL Q σ pc (loF v0) st := by
  obtain ⟨n, hn⟩ := hp
  have key : ∀ n v σ, xloop B n v σ → xW p l e R s m args below meth c G nL Q σ pc (loF v) st := by
    intro n
    induction n with
    | zero => intro v σ h; exact h.elim
    | succ n ih => intro v σ h; exact hs _ ih v σ h
  exact key n v0 σ hn
def xjoin {τ : Type} (B : τ → xS → Prop) (K : (τ → xS → Prop) → Prop) : Prop := ∃ J, J = B ∧ K J
theorem x_join {τ : Type} {B : τ → xS → Prop} {K : (τ → xS → Prop) → Prop} {st0 : List Value} {lo0 : List (Nat × Value)} (pcJ : Nat) (loF : τ → List (Nat × Value)) (stF : τ → List Value) (hp : xjoin B K) (h1 : ∀ v σ', B v σ' → xW p l e R s m args below meth c G nL Q σ' pcJ (loF v) (stF v))
    (h2 : ∀ J : τ → xS → Prop, (∀ v σ', J v σ' → xW p l e R s m args below meth c G nL Q σ' pcJ (loF v) (stF v)) → K J → xW p l e R s m args below meth c G nL Q σ pc lo0 st0) : xW p l e R s m args below meth c G nL Q σ pc lo0 st0 := by
  obtain ⟨J, rfl, hK⟩ := hp
  exact h2 _ h1 hK
/-- a loop by a measure that falls -/
theorem xwhile_of {τ : Type} {B : (τ → xS → Prop) → τ → xS → Prop} (Inv : τ → xS → Prop) (μ : τ → xS → Nat) (hs : ∀ v σ, Inv v σ → ∀ self : τ → xS → Prop, (∀ v' σ', Inv v' σ' → μ v' σ' < μ v σ → self v' σ') → B self v σ) {v : τ} {σ : xS} (h : Inv v σ) : xwhile B v σ := by
  have key : ∀ n v σ, Inv v σ → μ v σ < n → xloop B n v σ := by
    intro n
    induction n with
    | zero => intro v σ _ h; exact absurd h (Nat.not_lt_zero _)
    | succ n ih => intro v σ hI hm; exact hs v σ hI _ (fun v' σ' hI' hm' => ih v' σ' hI' (by omega))
  exact ⟨_, key _ v σ h (Nat.lt_succ_self _)⟩
-- ===== ends with floats =====
theorem x_fret (X : xX p s m args meth c G cc nL own) (hr : meth.sig.returnType = some .float) {x : UInt32} (hd : decode cc pc = .ok (.freturn, 1)) {K : UInt32 → xH → Prop} (hp : K x σ.1) : xW p l e R s m args below meth c G nL (MQ below (xQ G (xlift emF K)) args s R.cells R.slots (xA G)) σ pc lo [.float x] := by
  intro H locs cells slots ls hS hR hL hc hs
  refine W.widen (k := R.cells) (n := R.slots) (by omega) (by omega) ?_
  exact W.fret X.1 X.2.1 hr (fun t ht hW => ⟨⟨_, σ.1, rfl, ⟨x, rfl, hp⟩, by rw [ht]; exact hR.moved hW.alike⟩, hS.F ht⟩) hS.2.2 hd X.2.2.2.2.2.2
theorem x_dret (X : xX p s m args meth c G cc nL own) (hr : meth.sig.returnType = some .double) {x : UInt64} (hd : decode cc pc = .ok (.dreturn, 1)) {K : UInt64 → xH → Prop} (hp : K x σ.1) : xW p l e R s m args below meth c G nL (MQ below (xQ G (xlift emD K)) args s R.cells R.slots (xA G)) σ pc lo [.double x] := by
  intro H locs cells slots ls hS hR hL hc hs
  refine W.widen (k := R.cells) (n := R.slots) (by omega) (by omega) ?_
  exact W.dret X.1 X.2.1 hr (fun t ht hW => ⟨⟨_, σ.1, rfl, ⟨x, rfl, hp⟩, by rw [ht]; exact hR.moved hW.alike⟩, hS.F ht⟩) hS.2.2 hd X.2.2.2.2.2.2
theorem x_putCF {C ref : String} {T : u_T} {N ci index : Nat} {ty : Nat → FieldType} (X : xX p s m args meth c G cc nL own) (hk : xCl G ci C T N ty) (k : Nat) (hkN : k < N) (hl : Cond.fieldLink own index ref (T k).2.1 (T k).2.2.1 ∈ lw_all)
    (hsame : ∀ x, s.fieldFound? (T k).1 (T k).2.1 (T k).2.2.1 = some x → s.fieldFound? ref (T k).2.1 (T k).2.2.1 = some x) (hfin : (T k).2.2.2 = true) (hin2 : meth.name = "<init>") (hdecl : (T k).1 = own) {fs : List Value} {v : Value} {h : xH} (hR : xRel G s h H) (hS : va_S (xA G) s.heap H locs) (h1 : h a = some (.inl (ci, fs))) (hA : G.2 0 ≤ a) (hlf : k < fs.length) (hn : narrow (ty k) v = v) (hfit : fits (ty k) v = true) (hd : decode cc pc = .ok (.putfield index, 3))
    (kk : ∀ (H1 : Heap) (locs1 : List Loc), va_S (xA G) s.heap H1 locs1 → xRel G s (xup h a (.inl (ci, fs.set k v))) H1 → W p l e R s m args below meth c H1 locs1 cells slots Q (F0 m (pc + 3) ls st)) : W p l e R s m args below meth c H locs cells slots Q (F0 m pc ls (v :: .ref a :: st)) := by
  obtain ⟨hx, hb, hml, hown, hts, ⟨hK, -, -⟩, -⟩ := X
  obtain ⟨⟨hc, hlt⟩, hin, hty, hnm⟩ := hk
  have hap := va_apart (own := own) hts hin ty hty hnm hK hc
  obtain ⟨r, cell, g1, q1, q2, q3, q4, q5, q6⟩ := (hR a _ h1).1 hlt
  have hr : r = (C, T, N) := Option.some.inj (g1.symm.trans hc)
  subst hr
  obtain ⟨hSl, hfc, kC, hkC, hkind⟩ := hK.1 ci _ hc
  obtain ⟨cf, kf, fi, f, hi, hsl⟩ := hSl k hkN
  have hlay := hts _ (hin _ (u_in_lay hkN))
  unfold u_lay at hlay
  rw [if_pos hfin] at hlay
  have hst := (u_facts hfc hkC (u_lays hts hin hkN) hi).1
  have hcf : m.cls = cf := by
    obtain ⟨_, _, c', _, _, _, -, -, hf', -, -, -, hown2, -⟩ := Cond.laysFinal_spec hlay
    have e1 : c' = cf := by have := hi.symm.trans hf'; simp at this; exact this.1.symm
    rw [hdecl] at hown2
    rw [← e1]; exact Option.some.inj (hown.symm.trans hown2)
  have h6 := u_fits hfc hkC hkind (Or.inr hlay) hi (hty k hkN) hn hfit
  refine W.putFinK hx hb hown (hts _ hl) (hsame _ hi) hst hcf hin2 (by rw [q2]; exact h6) q1 (q5 hA) (by rw [hsl]; exact k2_hasslot (q6 k hkN)) rfl rfl hd fun H' e1 e2 e3 => ?_
  rw [hsl] at e1 ⊢
  exact kk H' _ (hS.put e2 e3 hA) (hR.put ⟨fun _ => xOb.set g1 hap hkN hlf q2 q3 q4 q5 q6 e1, fun z => absurd hlt (Nat.not_lt.mpr z)⟩ e3)
theorem x_piF {C ref : String} {T : u_T} {N ci index : Nat} {ty : Nat → FieldType} (X : xX p s m args meth c G cc nL own) (hk : xCl G ci C T N ty) (k : Nat) (hkN : k < N) (hl : Cond.fieldLink own index ref (T k).2.1 (T k).2.2.1 ∈ lw_all)
    (hsame : ∀ x, s.fieldFound? (T k).1 (T k).2.1 (T k).2.2.1 = some x → s.fieldFound? ref (T k).2.1 (T k).2.2.1 = some x) (hfin : (T k).2.2.2 = true) (hin2 : meth.name = "<init>") (hdecl : (T k).1 = own) {x : Int32} (hn : narrow (ty k) (.int x) = .int x) (hfit : fits (ty k) (.int x) = true) (hd : decode cc pc = .ok (.putfield index, 3)) {K : xS → Prop} (hp : xpi G.2 σ a ci k x K)
    (kk : ∀ σ', K σ' → xW p l e R s m args below meth c G nL Q σ' (pc + 3) lo st) : xW p l e R s m args below meth c G nL Q σ pc lo (.int x :: .ref a :: st) := by
  intro H locs cells slots ls hS hR hL hc hs
  obtain ⟨fs, h1, h2, h3, h4⟩ := hp
  exact x_putCF X hk k hkN hl hsame hfin hin2 hdecl hR hS h1 h2 h3 hn hfit hd fun H1 locs1 hS1 hR1 => kk _ h4 H1 locs1 cells slots ls hS1 hR1 hL hc hs
theorem x_pqF {C ref : String} {T : u_T} {N ci index : Nat} {ty : Nat → FieldType} (X : xX p s m args meth c G cc nL own) (hk : xCl G ci C T N ty) (k : Nat) (hkN : k < N) (hl : Cond.fieldLink own index ref (T k).2.1 (T k).2.2.1 ∈ lw_all)
    (hsame : ∀ x, s.fieldFound? (T k).1 (T k).2.1 (T k).2.2.1 = some x → s.fieldFound? ref (T k).2.1 (T k).2.2.1 = some x) (hfin : (T k).2.2.2 = true) (hin2 : meth.name = "<init>") (hdecl : (T k).1 = own) (x : Option Nat) (hn : narrow (ty k) (va_rf x) = va_rf x) (hfit : fits (ty k) (va_rf x) = true) (hd : decode cc pc = .ok (.putfield index, 3)) {K : xS → Prop} (hp : xpq G.2 σ a ci k x K)
    (kk : ∀ σ', K σ' → xW p l e R s m args below meth c G nL Q σ' (pc + 3) lo st) : xW p l e R s m args below meth c G nL Q σ pc lo (va_rf x :: .ref a :: st) := by
  intro H locs cells slots ls hS hR hL hc hs
  obtain ⟨fs, h1, h2, h3, h4⟩ := hp
  exact x_putCF X hk k hkN hl hsame hfin hin2 hdecl hR hS h1 h2 h3 hn hfit hd fun H1 locs1 hS1 hR1 => kk _ h4 H1 locs1 cells slots ls hS1 hR1 hL hc hs
def xnn (r : Option Nat) (K : Nat → Prop) : Prop := ∃ a, r = some a ∧ K a
end X3
