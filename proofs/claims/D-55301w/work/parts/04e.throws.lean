section XZ
variable {p : Program} {l : Launch} {e : Env} {R : Room} {s : State} {m : MethodId} {args : Array Value} {below : List Frame} {meth : Method} {c : Code} {H : Heap} {locs : List Loc} {cells slots : Nat} {Q : State → Prop} {ls : Array Slot} {rest : List Value} {D : va_G} {cl : List vw_C} {tys : List (ClassId × FieldType)}
theorem xz_make0 {cc : ByteArray} {pc : Nat} (hexec : p.tables.exec = Jvm.exec) (hb : c.code = cc) (hl : l.stackTraces = false) {own cls : String} {names : List String} {ik ic ci : Nat} {A : Nat → Prop} {T0 : u_T}
    (hown : s.vm.findClass own = some m.cls) (hcls : Bundle.fit cls = true) (hnames : ∀ n ∈ names, Bundle.fit n = true)
    (hk : (Cond.classLink own ik cls).before args s = true) (hini : (Cond.initialized cls).before args s = true) (hat : ∀ w ∈ vx_at0 own ic cls names, w.before args s = true)
    (hgood : ∀ w ∈ Cond.classLink own ik cls :: Cond.initialized cls :: vx_at0 own ic cls names, vx_ot w = true)
    (hU : vx_Zq Bundle.tN "UNASSIGNED_STACK" Bundle.steD A s s.heap) (hN : vx_Zq Bundle.tN "SUPPRESSED_SENTINEL" Bundle.listD A s s.heap) (hS : va_S A s.heap H locs) (hsize : ls.size = c.maxLocals)
    (d0 : decode cc pc = .ok (.new ik, 3)) (d3 : decode cc (pc + 3) = .ok (.dup, 1)) (d4 : decode cc (pc + 4) = .ok (.invokespecial ic, 3))
    (hK : va_K D cl tys s) (hA : ∀ q, s.heap.size ≤ q → A q) (hc : cl[ci]? = some (cls, T0, 0))
    (hRframes : names.length + 3 < R.frames) (hRlocals : (rest.map fun v => v.category).sum + (13 * (names.length + 1) + 42) ≤ R.locals) (hRcells : cells + 1 ≤ R.cells) (hRslots : slots + 6 ≤ R.slots)
    (kk : ∀ (H1 : Heap) (ce : Cell), H1[H.size]? = some ce → ce.cls = D.1 ci → ce.vm = .none → H.size < H1.size → (∀ b : Nat, b < H.size → H1[b]? = H[b]?) → va_S A s.heap H1 locs → W p l e R s m args below meth c H1 locs (cells + 1) (slots + 6) Q (F0 m (pc + 7) ls (.ref H.size :: rest))) :
    W p l e R s m args below meth c H locs cells slots Q (F0 m pc ls rest) := by
  intro T hT X
  subst hT
  have htr : e.platform.stackTraces = false := (show e.platform.stackTraces = l.stackTraces by rw [X.admits.platform]).trans hl
  have Y := vx_rebase X (R' := { frames := R.frames, locals := R.locals, cells := 1, slots := 6 }) (Nat.le_refl _) (Nat.le_refl _) hRcells hRslots
  obtain ⟨s', hA'⟩ : ∃ z, z = (T.setVm s.vm).setFrames (.invoking m args :: below) := ⟨_, rfl⟩
  rw [← hA'] at Y
  have hvm : s'.vm = s.vm := by rw [hA']; rfl
  have hhp : s'.heap = T.heap := by rw [hA']; rfl
  have hW0 : s.WarmedH s'.vm := by rw [hvm]; exact State.WarmedH.refl s
  have hat' : ∀ w ∈ vx_at0 own ic cls names, w.before args s' = true := fun w hw => vx_ot_at hW0 hvm.symm (hgood w (List.mem_cons_of_mem _ (List.mem_cons_of_mem _ hw))) (hat w hw)
  have hk' : (Cond.classLink own ik cls).before args s' = true := vx_ot_at hW0 hvm.symm (hgood _ List.mem_cons_self) hk
  have hini' : (Cond.initialized cls).before args s' = true := vx_ot_at hW0 hvm.symm (hgood _ (List.mem_cons_of_mem _ List.mem_cons_self)) hini
  have hU' : vx_Zq Bundle.tN "UNASSIGNED_STACK" Bundle.steD A s' s'.heap := by rw [hhp]; exact vx_Zq.moved hW0.alike (hU.kept hS.2.1)
  have hN' : vx_Zq Bundle.tN "SUPPRESSED_SENTINEL" Bundle.listD A s' s'.heap := by rw [hhp]; exact vx_Zq.moved hW0.alike (hN.kept hS.2.1)
  have h : ∀ w ∈ Bundle.ownAtoms0 own ic cls names, w.before args s' = true := vx_own hat' (vx_isRefq hU'.1) (vx_isRefq hN'.1) hU'.2.word hN'.2.word
  have hown' : s'.vm.findClass own = some m.cls := by rw [hvm]; exact hown
  have hins : (Cond.instantiable cls 6).before args s' = true := h _ (by simp [Bundle.ownAtoms0])
  obtain ⟨vm₁, cX, kX, hfX, hkX, -, -, X₁, st1⟩ := Y.newCold hexec (own := own) (C := cls) (index := ik) (n := 6) hown' hk' hins hini'
    (g := F0 m pc ls rest) rfl (by rw [hb]; exact d0) (Nat.le_refl _) (Nat.le_refl _)
  generalize hT1 : (T.setVm vm₁).pushCell { cls := cX, slots := kX.instanceTypes.map defaultValue, vm := .none } = T1 at X₁ st1
  have hcat : (Value.ref T.heap.size).category = 1 := rfl
  have hcellA : T1.heap[T.heap.size]? = some (freshCell cX kX) := by rw [← hT1]; exact State.heap_pushCell_size _ _
  have d3' : decode c.code (pc + 3) = .ok (.dup, 1) := by rw [hb]; exact d3
  obtain ⟨V, ce, L, Z, hL, hlt, hcl9, hvm9, st⟩ := vx_ctorMade0 X₁ hexec htr (own := own) (cls := cls) (names := names) (ic := ic) hown' hcls hnames h (fun x hx => nomatch hx) hfX hkX hcellA (by rw [hhp]; exact Nat.le_refl _)
    (g := { method := m, pc := pc + 4, locals := ls, stack := .ref T.heap.size :: .ref T.heap.size :: rest, locked := none }) rfl hsize (rest := rest) rfl
    (by rw [hb]; exact d4) hRframes (by simp only [List.map_cons, List.sum_cons, hcat]; omega)
  have Z0 := Stand.forget (locs := []) Z (fun y hy => by rw [hL y hy, hhp]; exact Nat.le_refl _)
  obtain ⟨f1, f2⟩ := vx_frame Z0.same
  rw [hhp] at f1 f2
  have hcid : ce.cls = D.1 ci := by
    rw [hcl9]
    have h1 := (hK.1 ci _ hc).2.1
    rw [hvm] at hfX
    exact Option.some.inj (hfX.symm.trans h1)
  have hh : (V.setCell T.heap.size ce).heap[T.heap.size]? = some ce := heapAt_setCell_self (s := V) ce hlt
  subst hA'
  have X5 := vx_back9 X Y Z0
  have X6 : Stand p l e R s m args below meth c (V.setCell T.heap.size ce) locs (cells + 1) (slots + 6) := { X5 with same := X5.same.mono (by omega) (by omega) }
  obtain ⟨t, a1, b1⟩ := kk (V.setCell T.heap.size ce).heap ce hh hcid hvm9 (Array.getElem?_eq_some_iff.mp hh).1 (fun b hb => f2 b hb (fun z hz => nomatch hz)) ⟨Nat.le_trans hS.1 (Nat.le_of_lt (Array.getElem?_eq_some_iff.mp hh).1), fun x h1 h2 => (f2 x (Nat.lt_of_lt_of_le h1 hS.1) (fun z hz => nomatch hz)).trans (hS.2.1 x h1 h2), hS.2.2⟩ (V.setCell T.heap.size ce) rfl X6
  refine ⟨t, st1 _ ?_, b1⟩
  show Steps p.tables e below (T1.setTop { method := m, pc := pc + 3, locals := ls, stack := .ref T.heap.size :: rest, locked := none }) _
  jvm_step X₁.here [X₁.here.top, hexec, d3', Value.category]
  exact st _ a1
end XZ
/-! ===== contracts that may throw; calls of every kind; exceptions made, thrown, caught ===== -/
def xQX (G : xG) (KX : Nat → xH → Prop) : String → Nat → State → State → Prop := fun _ q st t => ∃ h : xH, KX q h ∧ xRel G t h t.heap ∧ va_F (xA G) st t
def xMX (l : Launch) (y : MethodName) (cc : ByteArray) (nL : Nat) (ret : Option FieldType) (fr lc : Nat) (G : xG) (av : List Value) (σ : xS) (KK : Option Value → xH → Prop) (KX : Nat → xH → Prop) : Prop :=
  vx_Met l y (ws_ y cc nL ret) ({ frames := fr, cells := σ.2.1, slots := σ.2.2, locals := lc }) (xPc G av σ.1) (xQ G KK) (xQX G KX) σ.2.1 σ.2.2 (xA G)
def xMH (l : Launch) (y : MethodName) (cc : ByteArray) (nL : Nat) (ret : Option FieldType) (hh : List (Nat × Nat × Nat × Nat)) (fr lc : Nat) (G : xG) (av : List Value) (σ : xS) (KK : Option Value → xH → Prop) (KX : Nat → xH → Prop) : Prop :=
  vx_Met l y (wsW_ y cc nL ret hh) ({ frames := fr, cells := σ.2.1, slots := σ.2.2, locals := lc }) (xPc G av σ.1) (xQ G KK) (xQX G KX) σ.2.1 σ.2.2 (xA G)
def xcallX {ρ : Type} (P : xS → (ρ → xH → Prop) → (Nat → xH → Prop) → Prop) (σ : xS) (K : ρ → xS → Prop) (KX : Nat → xS → Prop) : Prop := ∃ bc bs : Nat, bc ≤ σ.2.1 ∧ bs ≤ σ.2.2 ∧ P (σ.1, bc, bs) (fun r h => K r (h, σ.2.1 - bc, σ.2.2 - bs)) (fun q h => KX q (h, σ.2.1 - bc, σ.2.2 - bs))
section X5
variable {p : Program} {l : Launch} {e : Env} {R : Room} {s : State} {m : MethodId} {args : Array Value} {below : List Frame} {meth : Method} {c : Code} {Q : State → Prop} {G : xG} {nL : Nat} {cc : ByteArray} {own : String}
variable {σ : xS} {pc pc' : Nat} {lo lo' : List (Nat × Value)} {st st' : List Value} {KK : Option Value → xH → Prop} {KX : Nat → xH → Prop}
def xT (p : Program) (l : Launch) (e : Env) (R : Room) (s : State) (m : MethodId) (args : Array Value) (below : List Frame) (meth : Method) (c : Code) (G : xG) (nL : Nat) (Q : State → Prop) (σ : xS) (pc : Nat) (lo : List (Nat × Value)) (st : List Value) (q : Nat) : Prop :=
  ∀ (H : Heap) (locs : List Loc) (cells slots : Nat) (ls : Array Slot), va_S (xA G) s.heap H locs → xRel G s σ.1 H → lv_has ls nL lo → cells + σ.2.1 ≤ R.cells → slots + σ.2.2 ≤ R.slots → vx_W p l e R s m args below meth c H locs cells slots Q (F0 m pc ls st) q
theorem x_vx (k : xW p l e R s m args below meth c G nL (MQ below (xQ G KK) args s R.cells R.slots (xA G)) σ pc lo st) : xW p l e R s m args below meth c G nL (vx_MQ below (xQ G KK) (xQX G KX) args s R.cells R.slots (xA G)) σ pc lo st :=
  fun H locs cells slots ls h1 h2 h3 h4 h5 => vx_ret (k H locs cells slots ls h1 h2 h3 h4 h5)
theorem x_athrow (X : xX p s m args meth c G cc nL own) {q : Nat} (hd : decode cc pc = .ok (.athrow, 1)) (k : xT p l e R s m args below meth c G nL Q σ pc lo st q) : xW p l e R s m args below meth c G nL Q σ pc lo (.ref q :: st) :=
  fun H locs cells slots ls h1 h2 h3 h4 h5 => vx_athrow X.1 X.2.1 hd (k H locs cells slots ls h1 h2 h3 h4 h5)
theorem x_out {C : String} {T : u_T} {N ci : Nat} {ty : Nat → FieldType} {q : Nat} (X : xX p s m args meth c G cc nL own) (hk : xCl G ci C T N ty) (hout : ∀ x ∈ c.exceptionTable.toList, covers x pc = false) (hr : xrc σ q ci) (hq : G.2 0 ≤ q) (hp : KX q σ.1) :
    xT p l e R s m args below meth c G nL (vx_MQ below (xQ G KK) (xQX G KX) args s R.cells R.slots (xA G)) σ pc lo st q := by
  intro H locs cells slots ls hS hR hL hc hs
  obtain ⟨fs, h1⟩ := hr
  obtain ⟨r, cell, q0, q1, q2, q3, q4, q5, q6⟩ := (hR q _ h1).1 hk.1.2
  exact vx_out hout X.2.2.2.2.2.2 q1 (q5 hq) (E := C) (by rw [q2]; exact (X.2.2.2.2.2.1.1.1 ci _ hk.1.1).2.1) (fun t ht hal => ⟨σ.1, hp, by rw [ht]; exact hR.moved hal, hS.F ht⟩) hS.2.2 (by omega) (by omega)
theorem x_outP {C : String} {T : u_T} {N ci : Nat} {ty : Nat → FieldType} {q : Nat} (X : xX p s m args meth c G cc nL own) (hk : xCl G ci C T N ty) (hpass : ∀ z ∈ c.exceptionTable.toList, covers z pc = false ∨ (z.catchType ≠ 0 ∧ ∃ nm : String, (Cond.classLink own z.catchType nm).before args s = true ∧ va_Nc C nm s)) (hr : xrc σ q ci) (hq : G.2 0 ≤ q) (hp : KX q σ.1) :
    xT p l e R s m args below meth c G nL (vx_MQ below (xQ G KK) (xQX G KX) args s R.cells R.slots (xA G)) σ pc lo st q := by
  intro H locs cells slots ls hS hR hL hc hs
  obtain ⟨fs, h1⟩ := hr
  obtain ⟨r, cell, q0, q1, q2, q3, q4, q5, q6⟩ := (hR q _ h1).1 hk.1.2
  exact vx_outP X.2.2.2.1 X.2.2.2.2.2.2 hpass q1 (q5 hq) (by rw [q2]; exact (X.2.2.2.2.2.1.1.1 ci _ hk.1.1).2.1) (fun t ht hal => ⟨σ.1, hp, by rw [ht]; exact hR.moved hal, hS.F ht⟩) hS.2.2 (by omega) (by omega)
theorem x_catch {C name : String} {T : u_T} {N ci : Nat} {ty : Nat → FieldType} {q : Nat} (X : xX p s m args meth c G cc nL own) (hk : xCl G ci C T N ty) (pre : List ExceptionTableEntry) (x : ExceptionTableEntry) (suf : List ExceptionTableEntry) (hsplit : c.exceptionTable.toList = pre ++ x :: suf)
    (hpass : ∀ z ∈ pre, covers z pc = false ∨ (z.catchType ≠ 0 ∧ ∃ nm : String, (Cond.classLink own z.catchType nm).before args s = true ∧ va_Nc C nm s)) (hx : covers x pc = true) (h0 : x.catchType ≠ 0) (hlink : Cond.classLink own x.catchType name ∈ lw_all) (hcast : Cond.castable C name ∈ lw_tbl) (hr : xrc σ q ci) (hq : G.2 0 ≤ q)
    (kk : xW p l e R s m args below meth c G nL Q σ x.handlerPc lo [.ref q]) : xT p l e R s m args below meth c G nL Q σ pc lo st q := by
  intro H locs cells slots ls hS hR hL hc hs
  obtain ⟨fs, h1⟩ := hr
  obtain ⟨r, cell, q0, q1, q2, q3, q4, q5, q6⟩ := (hR q _ h1).1 hk.1.2
  exact vx_catch X.2.2.2.1 pre x suf hsplit hpass hx h0 (X.2.2.2.2.1 _ hlink) (va_Nw.use rfl (X.2.2.2.2.2.1.2.1 _ hcast rfl)) q1 (q5 hq) (by rw [q2]; exact (X.2.2.2.2.2.1.1.1 ci _ hk.1.1).2.1) (kk H locs cells slots ls hS hR hL hc hs)
theorem x_Nc (X : xX p s m args meth c G cc nL own) {a b : String} (h : (a, b) ∈ x_ncs) : va_Nc a b s := X.2.2.2.2.2.1.2.2.2.2.2.2.2.2.2.1 _ h
-- ===== entries =====
theorem x_entryX {y : MethodName} {cc : ByteArray} {nL : Nat} {ret : Option FieldType} {fr lc : Nat} {av : List Value} {σ : xS} {KK : Option Value → xH → Prop} (hy : plainName y.cls = true) (hlen : (lg_sl av).length ≤ nL)
    (body : ∀ (p : Program) (e : Env) (s : State) (m : MethodId) (args : Array Value) (below : List Frame) (meth : Method) (c : Code), xX p s m args meth c G cc nL y.cls → meth.sig.returnType = ret → meth.name = y.name → (∀ x ∈ c.exceptionTable.toList, False) →
      xW p l e ({ frames := fr, cells := σ.2.1, slots := σ.2.2, locals := lc }) s m args below meth c G nL (vx_MQ below (xQ G KK) (xQX G KX) args s σ.2.1 σ.2.2 (xA G)) σ 0 (lv_args 0 av) []) : xMX l y cc nL ret fr lc G av σ KK KX := by
  refine vx_ofW (cc := cc) (maxL := nL) (ret := ret) hy rfl ?_
  intro p e s m args below meth c s₁ B hml hno hv
  obtain ⟨rfl, hG, hR⟩ := hv
  have hts := atoms_spec (ws := ws_ y cc nL ret) B.pre
  have hl := lv_entry av (n := nL) hlen
  rw [lg_entry_eq]
  exact body p e s m _ below meth c ⟨B.exec, B.bytes, hml, findClass_of_methodNamed B.named, fun w h => hts w (List.mem_cons_of_mem _ h), hG, B.notSynchronized⟩ B.returns (name_of_methodNamed B.named B.method).1 hno s.heap [] 0 0 _ va_S.rf hR hl (by show 0 + σ.2.1 ≤ σ.2.1; omega) (by show 0 + σ.2.2 ≤ σ.2.2; omega)
theorem x_entryH {y : MethodName} {cc : ByteArray} {nL : Nat} {ret : Option FieldType} {hh : List (Nat × Nat × Nat × Nat)} {fr lc : Nat} {av : List Value} {σ : xS} {KK : Option Value → xH → Prop} (hy : plainName y.cls = true) (hlen : (lg_sl av).length ≤ nL)
    (body : ∀ (p : Program) (e : Env) (s : State) (m : MethodId) (args : Array Value) (below : List Frame) (meth : Method) (c : Code), xX p s m args meth c G cc nL y.cls → meth.sig.returnType = ret → meth.name = y.name → c.exceptionTable.toList = tableOf hh →
      xW p l e ({ frames := fr, cells := σ.2.1, slots := σ.2.2, locals := lc }) s m args below meth c G nL (vx_MQ below (xQ G KK) (xQX G KX) args s σ.2.1 σ.2.2 (xA G)) σ 0 (lv_args 0 av) []) : xMH l y cc nL ret hh fr lc G av σ KK KX := by
  refine vx_ofWH (cc := cc) (maxL := nL) (ret := ret) (hh := hh) hy rfl ?_
  intro p e s m args below meth c s₁ B hml hv
  obtain ⟨rfl, hG, hR⟩ := hv
  have hts := atoms_spec (ws := wsW_ y cc nL ret hh) B.pre
  have hl := lv_entry av (n := nL) hlen
  rw [lg_entry_eq]
  exact body p e s m _ below meth c ⟨B.exec, B.bytes, hml, findClass_of_methodNamed B.named, fun w h => hts w (List.mem_cons_of_mem _ h), hG, B.notSynchronized⟩ B.returns (name_of_methodNamed B.named B.method).1 (vx_table (x := y) B (hts _ List.mem_cons_self)) s.heap [] 0 0 _ va_S.rf hR hl (by show 0 + σ.2.1 ≤ σ.2.1; omega) (by show 0 + σ.2.2 ≤ σ.2.2; omega)
-- ===== calls =====
variable {y : MethodName} {bytes : ByteArray} {maxL fr lc index : Nat} {ret : Option FieldType} {As : List Value} {ρ : Type} {P : xS → (ρ → xH → Prop) → Prop} {PX : xS → (ρ → xH → Prop) → (Nat → xH → Prop) → Prop} {K : ρ → xS → Prop} {KE : Nat → xS → Prop} {em : ρ → Option Value} {hh : List (Nat × Nat × Nat × Nat)}
theorem x_callSN {host : String} (sk : ρ → List Value → List Value) (hsk : ∀ r st, (em r).toList ++ st = sk r st) (n : Nat) (X : xX p s m args meth c G cc nL own) (hM : ∀ σ' KK, P σ' KK → xM l y bytes maxL ret fr lc G As σ' (xlift em KK))
    (hl : Cond.methodLinkNest own index y host ∈ lw_tbl) (hst0 : Cond.static y ∈ lw_all) (hini : Cond.initialized y.cls ∈ lw_all) (hw : GoodIn lw_all (ws_ y bytes maxL ret)) (hcd : y.cls ≠ "java/lang/invoke/MethodHandle" ∧ y.cls ≠ "java/lang/invoke/VarHandle" ∧ (parseMethodDescriptor y.desc).map (fun d => d.parameters.length) = some n) (hRm : fr + 1 ≤ R.frames ∧ 8 + (maxL + 11) + lc ≤ R.locals)
    (hn : As.length = n) (hst : st' = As.reverse ++ st) (hW : (st.map fun v => v.category).sum ≤ 8) (hd : decode cc pc = .ok (.invokestatic index, 3)) (hp : xcall P σ K)
    (kk : ∀ r σ', K r σ' → xW p l e R s m args below meth c G nL Q σ' (pc + 3) lo (sk r st)) : xW p l e R s m args below meth c G nL Q σ pc lo st' := by
  intro H locs cells slots ls hS hR hL hc hs
  obtain ⟨bc, bs, h1, h2, hP⟩ := hp
  have hM := hM _ _ hP
  have hx := X
  obtain ⟨hx1, hb, hml, hown, hts, hG, hlk⟩ := X
  refine x_after (dp := 3) (va_runSN (g := F0 m pc ls st') (rest := st) ⟨hx1, hb, hml, hown, hts⟩ hM ⟨va_cnB n hts hw rfl rfl rfl (hG.2.1 _ hl rfl) (hts _ hini) hcd ⟨hRm.1, hRm.2⟩, hts _ hst0, trivial⟩ ⟨xPc.blind G As σ.1, xPre hx hS hR⟩ rfl hn hL.1 hst (by show 2 * 0 + _ ≤ 8; omega) hd (by show cells + bc ≤ _ ∧ slots + bs ≤ _; omega)) hS fun r h' hK H1 locs1 hS1 hR1 => ?_
  rw [hsk r st]
  exact kk r _ hK H1 locs1 _ _ ls hS1 hR1 hL (by show cells + bc + (σ.2.1 - bc) ≤ _; omega) (by show slots + bs + (σ.2.2 - bs) ≤ _; omega)
theorem x_callIN {host : String} {b : Nat} {P : xS → (Unit → xH → Prop) → Prop} {K : Unit → xS → Prop} (n : Nat) (X : xX p s m args meth c G cc nL own) (hM : ∀ σ' KK, P σ' KK → xM l y bytes maxL none fr lc G (.ref b :: As) σ' (xlift emV KK))
    (hl : Cond.methodLinkNest own index y host ∈ lw_tbl) (him : Cond.instanceMethod y ∈ lw_all) (hini : Cond.initialized y.cls ∈ lw_all) (hw : GoodIn lw_all (ws_ y bytes maxL none)) (hy1 : y.name = "<init>") (hcd : y.cls ≠ "java/lang/invoke/MethodHandle" ∧ y.cls ≠ "java/lang/invoke/VarHandle" ∧ (parseMethodDescriptor y.desc).map (fun d => d.parameters.length) = some n) (hRm : fr + 1 ≤ R.frames ∧ 8 + (maxL + 11) + lc ≤ R.locals)
    (hn : As.length = n) (hst : st' = As.reverse ++ .ref b :: st) (hW : (st.map fun v => v.category).sum ≤ 8) (hd : decode cc pc = .ok (.invokespecial index, 3)) (hp : xcall P σ K)
    (kk : ∀ σ', K () σ' → xW p l e R s m args below meth c G nL Q σ' (pc + 3) lo st) : xW p l e R s m args below meth c G nL Q σ pc lo st' := by
  intro H locs cells slots ls hS hR hL hc hs
  obtain ⟨bc, bs, h1, h2, hP⟩ := hp
  have hM := hM _ _ hP
  have hx := X
  obtain ⟨hx1, hb, hml, hown, hts, hG, hlk⟩ := X
  refine x_after (dp := 3) (va_runIN (g := F0 m pc ls st') (rest := st) ⟨hx1, hb, hml, hown, hts⟩ hM ⟨va_cnB n hts hw rfl rfl rfl (hG.2.1 _ hl rfl) (hts _ hini) hcd ⟨hRm.1, hRm.2⟩, hy1, hts _ him⟩ ⟨xPc.blind G _ σ.1, xPre hx hS hR⟩ rfl hn hL.1 hst (by show 2 * 0 + _ ≤ 8; omega) hd (by show cells + bc ≤ _ ∧ slots + bs ≤ _; omega)) hS fun r h' hK H1 locs1 hS1 hR1 => ?_
  exact kk _ hK H1 locs1 _ _ ls hS1 hR1 hL (by show cells + bc + (σ.2.1 - bc) ≤ _; omega) (by show slots + bs + (σ.2.2 - bs) ≤ _; omega)
theorem x_callF {x : MethodName} {count : Nat} {T : u_T} {N ci : Nat} {ty : Nat → FieldType} {C : String} {b : Nat} (sk : ρ → List Value → List Value) (hsk : ∀ r st, (em r).toList ++ st = sk r st) (n : Nat) (X : xX p s m args meth c G cc nL own) (hk : xCl G ci C T N ty) (hM : ∀ σ' KK, P σ' KK → xM l y bytes maxL ret fr lc G (.ref b :: As) σ' (xlift em KK))
    (h1 : Cond.methodLink own index x ∈ lw_all) (h2 : Cond.selects C x y ∈ lw_all) (h3 : Cond.instanceMethod y ∈ lw_all) (h4 : Cond.initialized y.cls ∈ lw_all) (h5 : Cond.code y bytes maxL ret ∈ lw_all) (hF : xFw C x y)
    (hcd : x.cls ≠ "java/lang/invoke/MethodHandle" ∧ x.cls ≠ "java/lang/invoke/VarHandle" ∧ (parseMethodDescriptor x.desc).map (fun d => d.parameters.length) = some n) (hRm : fr + 1 ≤ R.frames ∧ 8 + (maxL + 11) + lc ≤ R.locals)
    (hn : As.length = n) (hst : st' = As.reverse ++ .ref b :: st) (hW : (st.map fun v => v.category).sum ≤ 8) (hd : decode cc pc = .ok (.invokeinterface index count, 5)) (hrc : xrc σ b ci) (hp : xcall P σ K)
    (kk : ∀ r σ', K r σ' → xW p l e R s m args below meth c G nL Q σ' (pc + 5) lo (sk r st)) : xW p l e R s m args below meth c G nL Q σ pc lo st' := by
  intro H locs cells slots ls hS hR hL hc hs
  obtain ⟨bc, bs, g1, g2, hP⟩ := hp
  have hM := hM _ _ hP
  have hx := X
  obtain ⟨hx1, hb, hml, hown, hts, hG, hlk⟩ := X
  have hw : GoodIn lw_all (va_wsF own index C x y (ws_ y bytes maxL ret)) := by
    refine lw_app ?_ (lw_meth h5)
    intro w hw
    simp only [List.mem_cons, List.not_mem_nil, or_false] at hw
    rcases hw with e | e | e | e
    · rw [e]; exact h1
    · rw [e]; exact h2
    · rw [e]; exact h3
    · rw [e]; exact h4
  refine x_after (dp := 5) (va_runF (hG.1.1 ci _ hk.1.1).2 (g := F0 m pc ls st') (rest := st) ⟨hx1, hb, hml, hown, hts⟩ hM (va_cwF n hts hw rfl rfl rfl (hG.2.2.2.1 C x y hF) hcd ⟨hRm.1, hRm.2⟩) ⟨xPc.blind G _ σ.1, xrc.recv hx hk hrc hR, xPre hx hS hR⟩ rfl hn hL.1 hst (by show 2 * 0 + _ ≤ 8; omega) hd (by show cells + bc ≤ _ ∧ slots + bs ≤ _; omega)) hS fun r h' hK H1 locs1 hS1 hR1 => ?_
  rw [hsk r st]
  exact kk r _ hK H1 locs1 _ _ ls hS1 hR1 hL (by show cells + bc + (σ.2.1 - bc) ≤ _; omega) (by show slots + bs + (σ.2.2 - bs) ≤ _; omega)
theorem x_callU {x : MethodName} {owner : String} {T : u_T} {N ci : Nat} {ty : Nat → FieldType} {C : String} {b : Nat} (sk : ρ → List Value → List Value) (hsk : ∀ r st, (em r).toList ++ st = sk r st) (n : Nat) (X : xX p s m args meth c G cc nL own) (hk : xCl G ci C T N ty) (hM : ∀ σ' KK, P σ' KK → xM l y bytes maxL ret fr lc G (.ref b :: As) σ' (xlift em KK))
    (h1 : Cond.methodLink own index x ∈ lw_all) (h1b : Cond.sameMethod x.cls owner x.name x.desc ∈ lw_all) (h2 : Cond.selects C x y ∈ lw_all) (h3 : Cond.instanceMethod y ∈ lw_all) (h4 : Cond.initialized y.cls ∈ lw_all) (h5 : Cond.code y bytes maxL ret ∈ lw_all) (hyx : y = ⟨owner, x.name, x.desc⟩)
    (hcd : owner ≠ "java/lang/invoke/MethodHandle" ∧ owner ≠ "java/lang/invoke/VarHandle" ∧ (parseMethodDescriptor x.desc).map (fun d => d.parameters.length) = some n) (hRm : fr + 1 ≤ R.frames ∧ 8 + (maxL + 11) + lc ≤ R.locals)
    (hn : As.length = n) (hst : st' = As.reverse ++ .ref b :: st) (hW : (st.map fun v => v.category).sum ≤ 8) (hd : decode cc pc = .ok (.invokevirtual index, 3)) (hrc : xrc σ b ci) (hp : xcall P σ K)
    (kk : ∀ r σ', K r σ' → xW p l e R s m args below meth c G nL Q σ' (pc + 3) lo (sk r st)) : xW p l e R s m args below meth c G nL Q σ pc lo st' := by
  intro H locs cells slots ls hS hR hL hc hs
  obtain ⟨bc, bs, g1, g2, hP⟩ := hp
  have hM := hM _ _ hP
  have hx := X
  obtain ⟨hx1, hb, hml, hown, hts, hG, hlk⟩ := X
  have hw : GoodIn lw_all (va_wsU own index C owner x y (ws_ y bytes maxL ret)) := by
    refine lw_app ?_ (lw_meth h5)
    intro w hw
    simp only [List.mem_cons, List.not_mem_nil, or_false] at hw
    rcases hw with e | e | e | e | e
    · rw [e]; exact h1
    · rw [e]; exact h1b
    · rw [e]; exact h2
    · rw [e]; exact h3
    · rw [e]; exact h4
  refine x_after (dp := 3) (va_runU (g := F0 m pc ls st') (rest := st) ⟨hx1, hb, hml, hown, hts⟩ hM (va_cwU n hts hw rfl rfl rfl hyx hcd ⟨hRm.1, hRm.2⟩) ⟨xPc.blind G _ σ.1, xrc.recv hx hk hrc hR, xPre hx hS hR⟩ rfl hn hL.1 hst (by show 2 * 0 + _ ≤ 8; omega) hd (by show cells + bc ≤ _ ∧ slots + bs ≤ _; omega)) hS fun r h' hK H1 locs1 hS1 hR1 => ?_
  rw [hsk r st]
  exact kk r _ hK H1 locs1 _ _ ls hS1 hR1 hL (by show cells + bc + (σ.2.1 - bc) ≤ _; omega) (by show slots + bs + (σ.2.2 - bs) ≤ _; omega)
-- ===== calls that may throw =====
theorem x_afterX {KK : ρ → xH → Prop} {KX : Nat → xH → Prop} {H : Heap} {locs : List Loc} {cells slots bc bs : Nat} {ls : Array Slot} {st0 : List Value} {aa : Array Value}
    (hr : vx_Run p l e R s m args below meth c H locs cells slots bc bs (F0 m pc ls st0) st (xQ G (xlift em KK) aa) (xQX G KX) (xA G)) (hS : va_S (xA G) s.heap H locs)
    (kk : ∀ (r : ρ) (h' : xH), KK r h' → ∀ (H1 : Heap) (locs1 : List Loc), va_S (xA G) s.heap H1 locs1 → xRel G s h' H1 → W p l e R s m args below meth c H1 locs1 (cells + bc) (slots + bs) Q (F0 m (pc + 3) ls ((em r).toList ++ st)))
    (kx : ∀ (q : Nat) (h' : xH), KX q h' → ∀ (H1 : Heap) (locs1 : List Loc), va_S (xA G) s.heap H1 locs1 → xRel G s h' H1 → vx_W p l e R s m args below meth c H1 locs1 (cells + bc) (slots + bs) Q (F0 m pc ls st) q) : W p l e R s m args below meth c H locs cells slots Q (F0 m pc ls st0) := by
  intro T hT X
  have keep : ∀ (st₀ t T' : State) (L : List Loc), st₀.heap = H → T'.heap = t.heap → va_F (xA G) st₀ t → (∀ q ∈ L, xA G q.base) → va_S (xA G) s.heap T'.heap (locs ++ L) := by
    intro st₀ t T' L h0 e1 hF hL
    obtain ⟨hz, hk⟩ := hF
    rw [h0] at hz hk
    refine ⟨Nat.le_trans hS.1 (by rw [e1]; exact hz), fun q h1 h2 => by rw [e1, hk q (Nat.lt_of_lt_of_le h1 hS.1) h2]; exact hS.2.1 q h1 h2, fun q hq => ?_⟩
    rcases List.mem_append.mp hq with h | h
    · exact hS.2.2 q h
    · exact hL q h
  rcases hr T hT X with ⟨v, st₀, t, T', L, h0, X', hL, e1, e2, ⟨⟨v', h', hv, ⟨r, rfl, hK⟩, hR'⟩, hF⟩, st⟩ | ⟨q, st₀, t, T', L, E, ce, h0, X', hL, e1, e2, ⟨h', hK, hR', hF⟩, hce, hcv, hcl, st⟩
  · cases hv
    have hvm : s.vm.Alike t.vm := by rw [← e2]; exact X'.warmed.alike
    obtain ⟨t2, a1, b1⟩ := kk r h' hK T'.heap (locs ++ L) (keep st₀ t T' L h0 e1 hF hL) (by rw [e1]; exact xRel.moved hvm.symm hR') T' rfl X'
    exact ⟨t2, st t2 a1, b1⟩
  · have hvm : s.vm.Alike t.vm := by rw [← e2]; exact X'.warmed.alike
    obtain ⟨t2, a1, b1⟩ := kx q h' hK T'.heap (locs ++ L) (keep st₀ t T' L h0 e1 hF hL) (by rw [e1]; exact xRel.moved hvm.symm hR') T' rfl X'
    exact ⟨t2, st.trans a1, b1⟩
theorem x_callSX (sk : ρ → List Value → List Value) (hsk : ∀ r st, (em r).toList ++ st = sk r st) (n : Nat) (X : xX p s m args meth c G cc nL own) (hM : ∀ σ' KK KX, PX σ' KK KX → xMX l y bytes maxL ret fr lc G As σ' (xlift em KK) KX)
    (hw : GoodIn lw_all (va_wsS own index y (ws_ y bytes maxL ret))) (hcd : y.cls ≠ "java/lang/invoke/MethodHandle" ∧ y.cls ≠ "java/lang/invoke/VarHandle" ∧ (parseMethodDescriptor y.desc).map (fun d => d.parameters.length) = some n) (hRm : fr + 1 ≤ R.frames ∧ 8 + (maxL + 11) + lc ≤ R.locals)
    (hn : As.length = n) (hst : st' = As.reverse ++ st) (hW : (st.map fun v => v.category).sum ≤ 8) (hd : decode cc pc = .ok (.invokestatic index, 3)) (hp : xcallX PX σ K KE)
    (kk : ∀ r σ', K r σ' → xW p l e R s m args below meth c G nL Q σ' (pc + 3) lo (sk r st)) (kx : ∀ q σ', KE q σ' → xT p l e R s m args below meth c G nL Q σ' pc lo st q) : xW p l e R s m args below meth c G nL Q σ pc lo st' := by
  intro H locs cells slots ls hS hR hL hc hs
  obtain ⟨bc, bs, h1, h2, hP⟩ := hp
  have hM := hM _ _ _ hP
  have hx := X
  obtain ⟨hx1, hb, hml, hown, hts, hG, hlk⟩ := X
  refine x_afterX (vx_runS (g := F0 m pc ls st') (rest := st) ⟨hx1, hb, hml, hown, hts⟩ hM (va_cwS n hts hw rfl rfl rfl hcd ⟨hRm.1, hRm.2⟩) ⟨xPc.blind G As σ.1, xPre hx hS hR⟩ rfl hn hL.1 hst (by show 2 * 0 + _ ≤ 8; omega) hd (by show cells + bc ≤ _ ∧ slots + bs ≤ _; omega)) hS (fun r h' hK H1 locs1 hS1 hR1 => ?_) (fun q h' hK H1 locs1 hS1 hR1 => kx q _ hK H1 locs1 _ _ ls hS1 hR1 hL (by show cells + bc + (σ.2.1 - bc) ≤ _; omega) (by show slots + bs + (σ.2.2 - bs) ≤ _; omega))
  rw [hsk r st]
  exact kk r _ hK H1 locs1 _ _ ls hS1 hR1 hL (by show cells + bc + (σ.2.1 - bc) ≤ _; omega) (by show slots + bs + (σ.2.2 - bs) ≤ _; omega)
theorem x_callSNX {host : String} (sk : ρ → List Value → List Value) (hsk : ∀ r st, (em r).toList ++ st = sk r st) (n : Nat) (X : xX p s m args meth c G cc nL own) (hM : ∀ σ' KK KX, PX σ' KK KX → xMX l y bytes maxL ret fr lc G As σ' (xlift em KK) KX)
    (hl : Cond.methodLinkNest own index y host ∈ lw_tbl) (hst0 : Cond.static y ∈ lw_all) (hini : Cond.initialized y.cls ∈ lw_all) (hw : GoodIn lw_all (ws_ y bytes maxL ret)) (hcd : y.cls ≠ "java/lang/invoke/MethodHandle" ∧ y.cls ≠ "java/lang/invoke/VarHandle" ∧ (parseMethodDescriptor y.desc).map (fun d => d.parameters.length) = some n) (hRm : fr + 1 ≤ R.frames ∧ 8 + (maxL + 11) + lc ≤ R.locals)
    (hn : As.length = n) (hst : st' = As.reverse ++ st) (hW : (st.map fun v => v.category).sum ≤ 8) (hd : decode cc pc = .ok (.invokestatic index, 3)) (hp : xcallX PX σ K KE)
    (kk : ∀ r σ', K r σ' → xW p l e R s m args below meth c G nL Q σ' (pc + 3) lo (sk r st)) (kx : ∀ q σ', KE q σ' → xT p l e R s m args below meth c G nL Q σ' pc lo st q) : xW p l e R s m args below meth c G nL Q σ pc lo st' := by
  intro H locs cells slots ls hS hR hL hc hs
  obtain ⟨bc, bs, h1, h2, hP⟩ := hp
  have hM := hM _ _ _ hP
  have hx := X
  obtain ⟨hx1, hb, hml, hown, hts, hG, hlk⟩ := X
  refine x_afterX (vx_runSN (g := F0 m pc ls st') (rest := st) ⟨hx1, hb, hml, hown, hts⟩ hM ⟨va_cnB n hts hw rfl rfl rfl (hG.2.1 _ hl rfl) (hts _ hini) hcd ⟨hRm.1, hRm.2⟩, hts _ hst0, trivial⟩ ⟨xPc.blind G As σ.1, xPre hx hS hR⟩ rfl hn hL.1 hst (by show 2 * 0 + _ ≤ 8; omega) hd (by show cells + bc ≤ _ ∧ slots + bs ≤ _; omega)) hS (fun r h' hK H1 locs1 hS1 hR1 => ?_) (fun q h' hK H1 locs1 hS1 hR1 => kx q _ hK H1 locs1 _ _ ls hS1 hR1 hL (by show cells + bc + (σ.2.1 - bc) ≤ _; omega) (by show slots + bs + (σ.2.2 - bs) ≤ _; omega))
  rw [hsk r st]
  exact kk r _ hK H1 locs1 _ _ ls hS1 hR1 hL (by show cells + bc + (σ.2.1 - bc) ≤ _; omega) (by show slots + bs + (σ.2.2 - bs) ≤ _; omega)
theorem x_callVX {T : u_T} {N ci : Nat} {ty : Nat → FieldType} {C : String} {b : Nat} (sk : ρ → List Value → List Value) (hsk : ∀ r st, (em r).toList ++ st = sk r st) (n : Nat) (X : xX p s m args meth c G cc nL own) (hk : xCl G ci C T N ty) (hM : ∀ σ' KK KX, PX σ' KK KX → xMX l y bytes maxL ret fr lc G (.ref b :: As) σ' (xlift em KK) KX)
    (hw : GoodIn lw_all (wsV own index C y (ws_ y bytes maxL ret))) (hcd : y.cls = C ∧ y.cls ≠ "java/lang/invoke/MethodHandle" ∧ y.cls ≠ "java/lang/invoke/VarHandle" ∧ (parseMethodDescriptor y.desc).map (fun d => d.parameters.length) = some n) (hRm : fr + 1 ≤ R.frames ∧ 8 + (maxL + 11) + lc ≤ R.locals)
    (hn : As.length = n) (hst : st' = As.reverse ++ .ref b :: st) (hW : (st.map fun v => v.category).sum ≤ 8) (hd : decode cc pc = .ok (.invokevirtual index, 3)) (hrc : xrc σ b ci) (hp : xcallX PX σ K KE)
    (kk : ∀ r σ', K r σ' → xW p l e R s m args below meth c G nL Q σ' (pc + 3) lo (sk r st)) (kx : ∀ q σ', KE q σ' → xT p l e R s m args below meth c G nL Q σ' pc lo st q) : xW p l e R s m args below meth c G nL Q σ pc lo st' := by
  intro H locs cells slots ls hS hR hL hc hs
  obtain ⟨bc, bs, h1, h2, hP⟩ := hp
  have hM := hM _ _ _ hP
  have hx := X
  obtain ⟨hx1, hb, hml, hown, hts, hG, hlk⟩ := X
  refine x_afterX (vx_runV (g := F0 m pc ls st') (rest := st) ⟨hx1, hb, hml, hown, hts⟩ hM (cwV n hts hw rfl rfl rfl hcd ⟨hRm.1, hRm.2⟩) ⟨xPc.blind G _ σ.1, xrc.recv hx hk hrc hR, xPre hx hS hR⟩ rfl hn hL.1 hst (by show 2 * 0 + _ ≤ 8; omega) hd (by show cells + bc ≤ _ ∧ slots + bs ≤ _; omega)) hS (fun r h' hK H1 locs1 hS1 hR1 => ?_) (fun q h' hK H1 locs1 hS1 hR1 => kx q _ hK H1 locs1 _ _ ls hS1 hR1 hL (by show cells + bc + (σ.2.1 - bc) ≤ _; omega) (by show slots + bs + (σ.2.2 - bs) ≤ _; omega))
  rw [hsk r st]
  exact kk r _ hK H1 locs1 _ _ ls hS1 hR1 hL (by show cells + bc + (σ.2.1 - bc) ≤ _; omega) (by show slots + bs + (σ.2.2 - bs) ≤ _; omega)
theorem x_callSH (sk : ρ → List Value → List Value) (hsk : ∀ r st, (em r).toList ++ st = sk r st) (n : Nat) (X : xX p s m args meth c G cc nL own) (hM : ∀ σ' KK KX, PX σ' KK KX → xMH l y bytes maxL ret hh fr lc G As σ' (xlift em KK) KX)
    (hw : GoodIn lw_all (va_wsS own index y (wsW_ y bytes maxL ret hh))) (hcd : y.cls ≠ "java/lang/invoke/MethodHandle" ∧ y.cls ≠ "java/lang/invoke/VarHandle" ∧ (parseMethodDescriptor y.desc).map (fun d => d.parameters.length) = some n) (hRm : fr + 1 ≤ R.frames ∧ 8 + (maxL + 11) + lc ≤ R.locals)
    (hn : As.length = n) (hst : st' = As.reverse ++ st) (hW : (st.map fun v => v.category).sum ≤ 8) (hd : decode cc pc = .ok (.invokestatic index, 3)) (hp : xcallX PX σ K KE)
    (kk : ∀ r σ', K r σ' → xW p l e R s m args below meth c G nL Q σ' (pc + 3) lo (sk r st)) (kx : ∀ q σ', KE q σ' → xT p l e R s m args below meth c G nL Q σ' pc lo st q) : xW p l e R s m args below meth c G nL Q σ pc lo st' := by
  intro H locs cells slots ls hS hR hL hc hs
  obtain ⟨bc, bs, h1, h2, hP⟩ := hp
  have hM := hM _ _ _ hP
  have hx := X
  obtain ⟨hx1, hb, hml, hown, hts, hG, hlk⟩ := X
  refine x_afterX (vx_runSX (g := F0 m pc ls st') (rest := st) ⟨hx1, hb, hml, hown, hts⟩ hM (vx_cwSW n hts hw rfl rfl rfl hcd ⟨hRm.1, hRm.2⟩) ⟨xPc.blind G As σ.1, xPre hx hS hR⟩ rfl hn hL.1 hst (by show 2 * 0 + _ ≤ 8; omega) hd (by show cells + bc ≤ _ ∧ slots + bs ≤ _; omega)) hS (fun r h' hK H1 locs1 hS1 hR1 => ?_) (fun q h' hK H1 locs1 hS1 hR1 => kx q _ hK H1 locs1 _ _ ls hS1 hR1 hL (by show cells + bc + (σ.2.1 - bc) ≤ _; omega) (by show slots + bs + (σ.2.2 - bs) ≤ _; omega))
  rw [hsk r st]
  exact kk r _ hK H1 locs1 _ _ ls hS1 hR1 hL (by show cells + bc + (σ.2.1 - bc) ≤ _; omega) (by show slots + bs + (σ.2.2 - bs) ≤ _; omega)
theorem x_callVH {T : u_T} {N ci : Nat} {ty : Nat → FieldType} {C : String} {b : Nat} (sk : ρ → List Value → List Value) (hsk : ∀ r st, (em r).toList ++ st = sk r st) (n : Nat) (X : xX p s m args meth c G cc nL own) (hk : xCl G ci C T N ty) (hM : ∀ σ' KK KX, PX σ' KK KX → xMH l y bytes maxL ret hh fr lc G (.ref b :: As) σ' (xlift em KK) KX)
    (hw : GoodIn lw_all (wsV own index C y (wsW_ y bytes maxL ret hh))) (hcd : y.cls = C ∧ y.cls ≠ "java/lang/invoke/MethodHandle" ∧ y.cls ≠ "java/lang/invoke/VarHandle" ∧ (parseMethodDescriptor y.desc).map (fun d => d.parameters.length) = some n) (hRm : fr + 1 ≤ R.frames ∧ 8 + (maxL + 11) + lc ≤ R.locals)
    (hn : As.length = n) (hst : st' = As.reverse ++ .ref b :: st) (hW : (st.map fun v => v.category).sum ≤ 8) (hd : decode cc pc = .ok (.invokevirtual index, 3)) (hrc : xrc σ b ci) (hp : xcallX PX σ K KE)
    (kk : ∀ r σ', K r σ' → xW p l e R s m args below meth c G nL Q σ' (pc + 3) lo (sk r st)) (kx : ∀ q σ', KE q σ' → xT p l e R s m args below meth c G nL Q σ' pc lo st q) : xW p l e R s m args below meth c G nL Q σ pc lo st' := by
  intro H locs cells slots ls hS hR hL hc hs
  obtain ⟨bc, bs, h1, h2, hP⟩ := hp
  have hM := hM _ _ _ hP
  have hx := X
  obtain ⟨hx1, hb, hml, hown, hts, hG, hlk⟩ := X
  refine x_afterX (vx_runVX (g := F0 m pc ls st') (rest := st) ⟨hx1, hb, hml, hown, hts⟩ hM (vx_cwVW n hts hw rfl rfl rfl hcd ⟨hRm.1, hRm.2⟩) ⟨xPc.blind G _ σ.1, xrc.recv hx hk hrc hR, xPre hx hS hR⟩ rfl hn hL.1 hst (by show 2 * 0 + _ ≤ 8; omega) hd (by show cells + bc ≤ _ ∧ slots + bs ≤ _; omega)) hS (fun r h' hK H1 locs1 hS1 hR1 => ?_) (fun q h' hK H1 locs1 hS1 hR1 => kx q _ hK H1 locs1 _ _ ls hS1 hR1 hL (by show cells + bc + (σ.2.1 - bc) ≤ _; omega) (by show slots + bs + (σ.2.2 - bs) ≤ _; omega))
  rw [hsk r st]
  exact kk r _ hK H1 locs1 _ _ ls hS1 hR1 hL (by show cells + bc + (σ.2.1 - bc) ≤ _; omega) (by show slots + bs + (σ.2.2 - bs) ≤ _; omega)
-- ===== exceptions made =====
theorem x_hat {L : List Cond} (X : xX p s m args meth c G cc nL own) (h1 : ∀ w ∈ L, w ∈ lw_tbl) (h2 : L.all (fun w => goodWord w || (x_nw w && w.onTables)) = true) : ∀ w ∈ L, w.before args s = true := by
  intro w hw
  have h3 := List.all_eq_true.mp h2 w hw
  rcases Bool.or_eq_true _ _ |>.mp h3 with h4 | h4
  · exact X.2.2.2.2.1 _ (lw_g (h1 w hw) h4)
  · obtain ⟨h5, h6⟩ := (Bool.and_eq_true _ _).mp h4
    exact va_Nw.use h6 (X.2.2.2.2.2.1.2.1 _ (h1 w hw) h5)
theorem lw_inT (ws : List Cond) (ps : List Nat) (hp : ws = ps.filterMap (fun i => lw_tbl[i]?)) : ∀ w ∈ ws, w ∈ lw_tbl := by
  intro w h
  rw [hp] at h
  obtain ⟨i, -, hi⟩ := List.mem_filterMap.mp h
  exact List.mem_of_getElem? hi
def xmak (κ : Nat → Nat) (σ : xS) (ci : Nat) (K : Nat → xS → Prop) : Prop := 1 ≤ σ.2.1 ∧ 6 ≤ σ.2.2 ∧ ∀ q : Nat, σ.1 q = none → κ 0 ≤ q → K q (xup σ.1 q (.inl (ci, [])), σ.2.1 - 1, σ.2.2 - 6)
theorem x_make0 {cls : String} {T : u_T} {ty : Nat → FieldType} {names : List String} {ik ic ci : Nat} (X : xX p s m args meth c G cc nL own) (hl : l.stackTraces = false) (hk : xCl G ci cls T 0 ty) (hcls : Bundle.fit cls = true) (hnames : ∀ n ∈ names, Bundle.fit n = true)
    (hkl : Cond.classLink own ik cls ∈ lw_all) (hini : Cond.initialized cls ∈ lw_all) (hat : ∀ w ∈ vx_at0 own ic cls names, w ∈ lw_tbl) (hal : (vx_at0 own ic cls names).all (fun w => goodWord w || (x_nw w && w.onTables)) = true) (hgood : ∀ w ∈ Cond.classLink own ik cls :: Cond.initialized cls :: vx_at0 own ic cls names, vx_ot w = true)
    (d0 : decode cc pc = .ok (.new ik, 3)) (d3 : decode cc (pc + 3) = .ok (.dup, 1)) (d4 : decode cc (pc + 4) = .ok (.invokespecial ic, 3)) (hW : (st.map fun v => v.category).sum ≤ 8) (hRf : names.length + 3 < R.frames) (hRl : 13 * (names.length + 1) + 50 ≤ R.locals)
    {K : Nat → xS → Prop} (hp : xmak G.2 σ ci K) (kk : ∀ q σ', K q σ' → xW p l e R s m args below meth c G nL Q σ' (pc + 7) lo (.ref q :: st)) : xW p l e R s m args below meth c G nL Q σ pc lo st := by
  intro H locs cells slots ls hS hR hL hc hs
  obtain ⟨h1, h2, h3⟩ := hp
  have hx := X
  obtain ⟨hx1, hb, hml, hown, hts, hG, hlk⟩ := X
  refine xz_make0 (names := names) (ic := ic) (ci := ci) (tys := []) (T0 := T) hx1 hb hl hown hcls hnames (hts _ hkl) (hts _ hini) (x_hat hx hat hal) hgood hG.2.2.2.2.2.2.2.1 hG.2.2.2.2.2.2.2.2.1 hS (by rw [hml]; exact hL.1) d0 d3 d4 hG.1 hG.A hk.1.1 hRf (by omega) (by omega) (by omega) fun H1 ce e1 e2 e3 e4 e5 hS1 => ?_
  refine kk _ _ (h3 H.size hR.fresh (Nat.le_trans hG.2.2.1 hS.1)) H1 locs _ _ ls hS1 (hR.new ⟨fun _ => ⟨_, ce, hk.1.1, e1, e2, by rw [e3]; (intro z; cases z), by rw [e3]; rfl, fun _ => e3, fun k hk => absurd hk (Nat.not_lt_zero _)⟩, fun z => absurd hk.1.2 (Nat.not_lt.mpr z)⟩ e5) hL (by show cells + 1 + (σ.2.1 - 1) ≤ _; omega) (by show slots + 6 + (σ.2.2 - 6) ≤ _; omega)
theorem x_newE {C : String} {T : u_T} {N ci index : Nat} {ty : Nat → FieldType} (X : xX p s m args meth c G cc nL own) (hk : xCl G ci C T N ty) (hcl : Cond.classLink own index C ∈ lw_all) (hinst : Cond.instantiable C N ∈ lw_all) (hini : Cond.initialized C ∈ lw_all)
    (hd : decode cc pc = .ok (.new index, 3)) {K : Nat → xS → Prop} (hp : xnew G.2 σ (1000 + ci) N [] K) (kk : ∀ q σ', K q σ' → xW p l e R s m args below meth c G nL Q σ' (pc + 3) lo (.ref q :: st)) : xW p l e R s m args below meth c G nL Q σ pc lo st := by
  intro H locs cells slots ls hS hR hL hc hs
  obtain ⟨h1, h2, h3⟩ := hp
  obtain ⟨hx, hb, hml, hown, hts, hG, hlk⟩ := X
  obtain ⟨⟨hcc, hlt⟩, hin, hty, hnm⟩ := hk
  have hKn := hG.1.1 ci _ hcc
  refine W.newcK hx hb hown (hts _ hcl) (hts _ hinst) (hts _ hini) rfl hd (by omega) (by omega) hKn.2.1 rfl fun H1 kC hkC e1 z1 o1 => ?_
  refine kk _ _ (h3 H.size hR.fresh (Nat.le_trans hG.2.2.1 hS.1)) H1 locs _ _ ls ⟨Nat.le_trans hS.1 (by omega), fun x q1 q2 => (o1 x (Nat.lt_of_lt_of_le q1 hS.1)).trans (hS.2.1 x q1 q2), hS.2.2⟩ (hR.new ⟨fun z => absurd z (by show ¬ 1000 + ci < 1000; omega), fun _ => ⟨kC, by show s.vm.classes[G.1.1.1 (1000 + ci - 1000)]? = _; rw [Nat.add_sub_cancel_left]; exact hkC, by show H1[H.size]? = some (blank (G.1.1.1 (1000 + ci - 1000)) kC); rw [Nat.add_sub_cancel_left]; exact e1⟩⟩ o1) hL (by show cells + 1 + (σ.2.1 - 1) ≤ _; omega) (by show slots + N + (σ.2.2 - N) ≤ _; omega)
/-- super() of an exception's own constructor: Throwable's fields are set, its own stay as 'new' left them -/
def xsup (κ : Nat → Nat) (σ : xS) (a ci : Nat) (fs : List Value) (K : xS → Prop) : Prop := σ.1 a = some (.inl (1000 + ci, [])) ∧ κ 0 ≤ a ∧ ∀ u w : Value, K (xup σ.1 a (.inl (ci, .ref a :: u :: w :: fs)), σ.2)
end X5
