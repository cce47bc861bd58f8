-- super() of an exception's own constructor: java/lang/Exception's, on an object already made
section XS1
variable {p : Program} {l : Launch} {e : Env} {R : Room} {s : State} {m : MethodId} {args : Array Value} {below : List Frame} {meth : Method} {c : Code} {W : State} {locs : List Loc} {cells slots : Nat}
def xs_atoms (own : String) (ic : Nat) : List Cond :=
  Bundle.throwableAtoms ++ Bundle.chain0Atoms "java/lang/Exception" [] ++
  [.methodLink own ic (Bundle.init0 "java/lang/Exception"), .selects own Bundle.tFill0 Bundle.tFill0, .selects own Bundle.tFill Bundle.tFill,
   .lays own Bundle.tN "cause" "Ljava/lang/Throwable;", .lays own Bundle.tN "stackTrace" Bundle.steD, .lays own Bundle.tN "suppressedExceptions" Bundle.listD, .lays own Bundle.tN "detailMessage" "Ljava/lang/String;",
   .isRef (.static Bundle.tN "UNASSIGNED_STACK" Bundle.steD), .isRef (.static Bundle.tN "SUPPRESSED_SENTINEL" Bundle.listD),
   .fieldLink Bundle.tN 198 Bundle.tN "backtrace" "Ljava/lang/Object;", .lays Bundle.tN Bundle.tN "backtrace" "Ljava/lang/Object;", .lays own Bundle.tN "backtrace" "Ljava/lang/Object;"]
def xs_at (own : String) (ic : Nat) : List Cond := (xs_atoms own ic).filter vx_no
set_option maxHeartbeats 1000000 in
theorem xs_ctor (X : Stand p l e R s m args below meth c W locs cells slots) (hexec : p.tables.exec = Jvm.exec) (htr : e.platform.stackTraces = false) {own : String} {ic : Nat} (hown : s.vm.findClass own = some m.cls)
    (h : ∀ a ∈ xs_atoms own ic, a.before args s = true) {A : Nat → Prop} (hAl : ∀ x ∈ locs, A x.base) (hU : vx_Zq Bundle.tN "UNASSIGNED_STACK" Bundle.steD A s s.heap)
    {a : Addr} {cX : ClassId} {kX : Class} (hfound : s.vm.findClass own = some cX) (hk : s.vm.classes[cX]? = some kX) (hord : kX.kind = .ordinary) (hcell : W.heap[a]? = some (freshCell cX kX))
    {g : JFrame} (hg : g.method = m) (hsize : g.locals.size = c.maxLocals) {rest : List Value} (hstack : g.stack = .ref a :: rest) (hd6 : decode c.code g.pc = .ok (.invokespecial ic, 3))
    (hRframes : 3 < R.frames) (hRlocals : 2 * g.monitorRoom + (rest.map fun v => v.category).sum + 54 ≤ R.locals) :
    ∃ (V : State) (fC fS fP : Field) (u0 sen : Value) (cf1 i1 cf2 i2 cf3 i3 : Nat) (k1 k2 k3 : Class), s.fieldFound? Bundle.tN "cause" "Ljava/lang/Throwable;" = some (cf1, k1, i1, fC) ∧ s.fieldFound? Bundle.tN "stackTrace" Bundle.steD = some (cf2, k2, i2, fS) ∧ s.fieldFound? Bundle.tN "suppressedExceptions" Bundle.listD = some (cf3, k3, i3, fP) ∧
      Stand p l e R s m args below meth c (V.setCell a (((((freshCell cX kX).setSlot fC.slot (.ref a)).setSlot fS.slot u0).setSlot fP.slot sen).setSlot fS.slot u0)) (locs ++ [⟨a, fC.slot⟩, ⟨a, fS.slot⟩, ⟨a, fP.slot⟩, ⟨a, fS.slot⟩]) cells slots ∧ V.heap = W.heap ∧
      ∀ target, Steps p.tables e below ((V.setCell a (((((freshCell cX kX).setSlot fC.slot (.ref a)).setSlot fS.slot u0).setSlot fP.slot sen).setSlot fS.slot u0)).setTop { g with stack := rest, pc := g.pc + 3 }) target → Steps p.tables e below (W.setTop g) target := by
  have howns : e.platform.frameOwnsMonitors = true := by rw [X.admits.platform]
  have hfin : e.platform.finalization = false := by rw [X.admits.platform]
  have hpl : e.platform.magicAccessors = ({} : Platform).magicAccessors := by rw [X.admits.platform]
  have a' : ∀ x, x ∈ xs_atoms own ic → x.holds args s none s [] = true := fun x hx => h x hx
  obtain ⟨T, Z, L, LZ, Y⟩ := ThrowableC.of_atoms (args := args) howns hfin hpl (fun x hx => h x (by simp [xs_atoms, hx]))
  obtain ⟨P1, Ps, hlen, L1, hL, hP1m, hlink1, hlink⟩ := Bundle.chain0 (args := args) hpl Y.init0 [] "java/lang/Exception" (by decide +kernel) (by simp) (fun x hx => h x (by simp [xs_atoms, hx]))
  have hPs : Ps = [] := List.length_eq_zero_iff.mp hlen
  subst hPs
  have hsel0 : selectMethod e.platform s.vm cX T.fill0 = .method T.fill0 := by
    obtain ⟨c2, r2, m2, q1, q2, q3, q4, -⟩ := Cond.selects_spec (a' (.selects own Bundle.tFill0 Bundle.tFill0) (by simp [xs_atoms]))
    cases Option.some.inj (q1.symm.trans hfound)
    cases Option.some.inj (q2.symm.trans (State.methodFound?_of_named Y.fill0 (by decide)))
    cases Option.some.inj (q3.symm.trans Y.fill0)
    rw [Launch.admits_selectMethod X.admits]; exact q4
  have hselF : selectMethod e.platform s.vm cX T.fill = .method T.fill := by
    obtain ⟨c2, r2, m2, q1, q2, q3, q4, -⟩ := Cond.selects_spec (a' (.selects own Bundle.tFill Bundle.tFill) (by simp [xs_atoms]))
    cases Option.some.inj (q1.symm.trans hfound)
    cases Option.some.inj (q2.symm.trans (State.methodFound?_of_named Y.fill (by decide)))
    cases Option.some.inj (q3.symm.trans Y.fill)
    rw [Launch.admits_selectMethod X.admits]; exact q4
  obtain ⟨cellS0, hcS0, hiss⟩ := Y.statics
  obtain ⟨u0, hu0⟩ := Cond.staticRefV Y.unassigned L.unassignedStatic L.statics hcS0 hiss (a' (.isRef (.static Bundle.tN "UNASSIGNED_STACK" Bundle.steD)) (by simp [xs_atoms]))
  obtain ⟨sen, hsen⟩ := Cond.staticRefV Y.sentinel L.sentinelStatic L.statics hcS0 hiss (a' (.isRef (.static Bundle.tN "SUPPRESSED_SENTINEL" Bundle.listD)) (by simp [xs_atoms]))
  obtain ⟨ci198, i198, fB, hk198, hg198, ha198, hsB, -, hnB, htB, hffB⟩ := Cond.ownField (t := .object "java/lang/Object") Y.found L.cls (by decide +kernel) (a' (.fieldLink Bundle.tN 198 Bundle.tN "backtrace" "Ljava/lang/Object;") (by simp [xs_atoms])) (a' (.lays Bundle.tN Bundle.tN "backtrace" "Ljava/lang/Object;") (by simp [xs_atoms])) e.platform hpl
  have hnA : ¬ A T.aS := by
    obtain ⟨c9, k9, i9, f9, a9, cell9, z1, z2, z3, z4, z5, z6, z7, z8, z9, z10⟩ := hU.2
    cases Option.some.inj (z2.symm.trans Y.unassigned)
    cases Option.some.inj (z4.symm.trans L.statics)
    exact z10
  obtain ⟨cellS, hcS', heS, -, hkeep⟩ := X.same.2.2.2.2.2 T.aS cellS0 hcS0
  have hcellS : W.heap[T.aS]? = some cellS := hcS'
  have hout' : ∀ i, (⟨T.aS, i⟩ : Loc) ∉ locs := fun i hmem => hnA (hAl _ hmem)
  have hisS : cellS.vm.isStatics = true := by rw [heS]; exact hiss
  have hknownS : cellS.vm ≠ .unknown := by
    intro hu
    rw [hu] at hisS
    cases hisS
  have hneS : T.aS ≠ a := by
    intro e9
    rw [e9] at hcellS
    cases Option.some.inj (hcellS.symm.trans hcell)
    cases hisS
  obtain ⟨iM, hffM⟩ := Y.msg
  obtain ⟨tyC, dC, hdC, hdnC⟩ := Cond.laysAt hfound hk Y.cause (a' (.lays own Bundle.tN "cause" "Ljava/lang/Throwable;") (by simp [xs_atoms]))
  obtain ⟨tyS, dS, hdS, hdnS⟩ := Cond.laysAt hfound hk Y.stack (a' (.lays own Bundle.tN "stackTrace" Bundle.steD) (by simp [xs_atoms]))
  obtain ⟨tyP, dP, hdP, hdnP⟩ := Cond.laysAt hfound hk Y.supp (a' (.lays own Bundle.tN "suppressedExceptions" Bundle.listD) (by simp [xs_atoms]))
  obtain ⟨tyM, dM, hdM, hdnM⟩ := Cond.laysAt hfound hk hffM (a' (.lays own Bundle.tN "detailMessage" "Ljava/lang/String;") (by simp [xs_atoms]))
  obtain ⟨tyB, dB, hdB, hdnB⟩ := Cond.laysAt hfound hk hffB (a' (.lays own Bundle.tN "backtrace" "Ljava/lang/Object;") (by simp [xs_atoms]))
  have bC := Cond.laysApart hdB hdC hdnB hdnC (by rw [hnB, Y.causeName]; decide)
  have bS := Cond.laysApart hdB hdS hdnB hdnS (by rw [hnB, Y.stackName]; decide)
  have bP := Cond.laysApart hdB hdP hdnB hdnP (by rw [hnB, Y.suppName]; decide)
  have hskip : SkipFacts T e.platform s (fun u => u) u0 ((preparedCellV T.toThrowableT (freshCell cX kX) a u0 sen).withEntry W.cur) :=
    ⟨{ ci198 := ci198, i198 := i198, fBack := fB }, ⟨hk198, hg198, ha198, hsB⟩, by
      have := fresh_default (c := cX) tyB
      rw [htB] at this
      simpa [preparedCellV, Cell.setSlot, Cell.withEntry, Array.getElem?_setIfInBounds, bC, bS, bP, bC.symm, bS.symm, bP.symm, defaultValue] using this, fun _ _ => rfl⟩
  obtain ⟨tm, methC, cdC, kC, vm₁, hnC, -, -, -, -, -, -, -, hW₁, st1⟩ := Steps.initCold (tb := p.tables) (e := e) (below := below) (s := s) (U := W) X.here hexec X.warmed hpl hown (t := Bundle.init0 "java/lang/Exception") rfl rfl (by decide)
    (a' (.methodLink own ic (Bundle.init0 "java/lang/Exception")) (by simp [xs_atoms])) (h (.instanceMethod (Bundle.init0 "java/lang/Exception")) (by simp [xs_atoms, Bundle.chain0Atoms, Bundle.passAtoms])) (bytes := Bundle.five) (maxL := 1) (h (.code (Bundle.init0 "java/lang/Exception") Bundle.five 1 none) (by simp [xs_atoms, Bundle.chain0Atoms, Bundle.passAtoms]))
    (f := g) hg (a := a) (rest := rest) hstack hd6
  cases Option.some.inj (hnC.symm.trans hP1m)
  have X₁ := X.noted hW₁
  obtain ⟨vm₂, X₂, st2⟩ := X₁.ctorPlainOffV hexec (g := { g with stack := rest }) hg hsize T L Z LZ [P1]
    (fun P hP => by rcases List.mem_cons.mp hP with rfl | hP; exact L1; exact hL P hP) ⟨hlink1, hlink⟩ (u0 := u0) (sen := sen) (self := a) (cell := freshCell cX kX) (cellS := cellS)
    hcell (fun _ => by simp) (by simp) rfl rfl hsel0 hselF hcellS hneS hknownS (by rw [hkeep _ (hout' _)]; exact hu0) (by rw [hkeep _ (hout' _)]; exact hsen)
    (Takes.of_laid hk hord tyC (by rw [Y.causeType]; rfl)) (Takes.of_laid hk hord tyS (by rw [Y.stackType]; exact fits_refV_array _ u0)) (Takes.of_laid hk hord tyP (by rw [Y.suppType]; exact fits_refV_object _ sen)) Y.objLocals hskip htr [] hd6
    (by simp only [List.length_cons, List.length_nil]; omega) (by simp only [List.length_cons, List.length_nil]; exact hRlocals)
  refine ⟨(W.setVm vm₁).setVm vm₂, T.fCause, T.fStack, T.fSupp, u0.v, sen.v, _, _, _, _, _, _, _, _, _, Y.cause, Y.stack, Y.supp, X₂, rfl, fun target hwalk => st1 _ (fun acts => ?_)⟩
  rw [doInvoke_state]
  exact st2 _ hwalk
end XS1
section XS2
variable {p : Program} {l : Launch} {e : Env} {R : Room} {s : State} {m : MethodId} {args : Array Value} {below : List Frame} {meth : Method} {c : Code} {Q : State → Prop} {G : xG} {nL : Nat} {cc : ByteArray} {own : String}
variable {σ : xS} {pc pc' : Nat} {lo lo' : List (Nat × Value)} {st st' : List Value} {a : Nat}
theorem x_superC {idx ci : Nat} {T : u_T} {N : Nat} {ty : Nat → FieldType} {fs : List Value} (X : xX p s m args meth c G cc nL own) (hl : l.stackTraces = false) (hk : xCl G ci own T N ty)
    (h0 : T 0 = (Bundle.tN, "cause", "Ljava/lang/Throwable;", false)) (h1 : T 1 = (Bundle.tN, "stackTrace", Bundle.steD, false)) (h2 : T 2 = (Bundle.tN, "suppressedExceptions", Bundle.listD, false)) (hN : 3 ≤ N)
    (hdf : ∀ j, j < N → defaultValue (ty j) = vp_V (va_rf none :: va_rf none :: va_rf none :: fs) j) (hat : ∀ w ∈ xs_at own idx, w ∈ lw_tbl) (hal : (xs_at own idx).all (fun w => goodWord w || (x_nw w && w.onTables)) = true)
    (hd : decode cc pc = .ok (.invokespecial idx, 3)) (hRm : 5 ≤ R.frames ∧ 100 ≤ R.locals) (hW : (st.map fun v => v.category).sum ≤ 8) {K : xS → Prop} (hp : xsup G.2 σ a ci fs K)
    (kk : ∀ σ', K σ' → xW p l e R s m args below meth c G nL Q σ' (pc + 3) lo st) : xW p l e R s m args below meth c G nL Q σ pc lo (.ref a :: st) := by
  intro H locs cells slots ls hS hR hL hc hs
  obtain ⟨q1, hA, q3⟩ := hp
  obtain ⟨kC, hkC0, hcell0⟩ := (hR a _ q1).2 (by show 1000 ≤ 1000 + ci; omega)
  have e1 : 1000 + ci - 1000 = ci := by omega
  have hkC : s.vm.classes[G.1.1.1 ci]? = some kC := by
    have := hkC0
    simp only [e1] at this
    exact this
  have hcell : H[a]? = some (blank (G.1.1.1 ci) kC) := by
    have := hcell0
    simp only [e1] at this
    exact this
  have hX := X
  obtain ⟨hx1, hb, hml, hown, hts, hG, hlk⟩ := X
  obtain ⟨⟨hcc, hlt⟩, hin, hty, hnm⟩ := hk
  have hKn := hG.1.1 ci _ hcc
  have hap := va_apart (own := own) hts hin ty hty hnm hG.1 hcc
  obtain ⟨cell, k1, k2, k3, k4⟩ := (u_born ty hts hin hKn hkC hcell hty).to hdf
  cases Option.some.inj (k1.symm.trans hcell)
  obtain ⟨hS9, hfc, kC', hkC', hkind⟩ := hKn
  cases Option.some.inj (hkC.symm.trans hkC')
  have hU := hG.2.2.2.2.2.2.2.1
  have hV9 := hG.2.2.2.2.2.2.2.2.1
  intro T0 hT XX
  have htr : e.platform.stackTraces = false := (show e.platform.stackTraces = l.stackTraces by rw [XX.admits.platform]).trans hl
  have hat9 : ∀ w ∈ xs_at own idx, w.before args s = true := x_hat hX hat hal
  have h : ∀ w ∈ xs_atoms own idx, w.before args s = true := vx_own hat9 (vx_isRefq hU.1) (vx_isRefq hV9.1) hU.2.word hV9.2.word
  obtain ⟨V, fC, fS, fP, u0, sen, cf1, i1, cf2, i2, cf3, i3, c1, c2, c3, g1, g2, g3, X2, hV, st9⟩ := xs_ctor XX hx1 htr hown h (A := xA G) hS.2.2 hU hfc hkC hkind (by rw [hT]; exact hcell) (g := F0 m pc ls (.ref a :: st)) rfl (by rw [hml]; exact hL.1) (rest := st) rfl (by rw [hb]; exact hd) (by omega) (by show 2 * 0 + _ + 54 ≤ _; omega)
  have s0 : G.1.1.2 ci 0 = fC.slot := by
    obtain ⟨cf, kf, fi, f, hi, hsl⟩ := hS9 0 (show 0 < N by omega)
    have hi : s.fieldFound? (T 0).1 (T 0).2.1 (T 0).2.2.1 = some (cf, kf, fi, f) := hi
    rw [h0] at hi
    cases Option.some.inj (hi.symm.trans g1)
    exact hsl.symm
  have s1 : G.1.1.2 ci 1 = fS.slot := by
    obtain ⟨cf, kf, fi, f, hi, hsl⟩ := hS9 1 (show 1 < N by omega)
    have hi : s.fieldFound? (T 1).1 (T 1).2.1 (T 1).2.2.1 = some (cf, kf, fi, f) := hi
    rw [h1] at hi
    cases Option.some.inj (hi.symm.trans g2)
    exact hsl.symm
  have s2 : G.1.1.2 ci 2 = fP.slot := by
    obtain ⟨cf, kf, fi, f, hi, hsl⟩ := hS9 2 (show 2 < N by omega)
    have hi : s.fieldFound? (T 2).1 (T 2).2.1 (T 2).2.2.1 = some (cf, kf, fi, f) := hi
    rw [h2] at hi
    cases Option.some.inj (hi.symm.trans g3)
    exact hsl.symm
  rw [← s0, ← s1, ← s2] at X2 st9
  have hlen : 3 ≤ (va_rf none :: va_rf none :: va_rf none :: fs).length := by simp
  have t1 : ∀ j, j < N → ((blank (G.1.1.1 ci) kC).setSlot (G.1.1.2 ci 0) (.ref a)).slots[G.1.1.2 ci j]? = some (vp_V (.ref a :: va_rf none :: va_rf none :: fs) j) := fun j hj => by
    rw [t_set k4 hap (k := 0) (by omega) (.ref a) j hj, vp_updV_set (by simp) (.ref a) j]; rfl
  have t2 : ∀ j, j < N → (((blank (G.1.1.1 ci) kC).setSlot (G.1.1.2 ci 0) (.ref a)).setSlot (G.1.1.2 ci 1) u0).slots[G.1.1.2 ci j]? = some (vp_V (.ref a :: u0 :: va_rf none :: fs) j) := fun j hj => by
    rw [t_set t1 hap (k := 1) (by omega) u0 j hj, vp_updV_set (by simp) u0 j]; rfl
  have t3 : ∀ j, j < N → ((((blank (G.1.1.1 ci) kC).setSlot (G.1.1.2 ci 0) (.ref a)).setSlot (G.1.1.2 ci 1) u0).setSlot (G.1.1.2 ci 2) sen).slots[G.1.1.2 ci j]? = some (vp_V (.ref a :: u0 :: sen :: fs) j) := fun j hj => by
    rw [t_set t2 hap (k := 2) (by omega) sen j hj, vp_updV_set (by simp) sen j]; rfl
  have t4 : ∀ j, j < N → (((((blank (G.1.1.1 ci) kC).setSlot (G.1.1.2 ci 0) (.ref a)).setSlot (G.1.1.2 ci 1) u0).setSlot (G.1.1.2 ci 2) sen).setSlot (G.1.1.2 ci 1) u0).slots[G.1.1.2 ci j]? = some (vp_V (.ref a :: u0 :: sen :: fs) j) := fun j hj => by
    rw [t_set t3 hap (k := 1) (by omega) u0 j hj, vp_updV_set (by simp) u0 j]; rfl
  have hce : ∃ ce : Cell, ce = ((((blank (G.1.1.1 ci) kC).setSlot (G.1.1.2 ci 0) (.ref a)).setSlot (G.1.1.2 ci 1) u0).setSlot (G.1.1.2 ci 2) sen).setSlot (G.1.1.2 ci 1) u0 := ⟨_, rfl⟩
  obtain ⟨ce, hce⟩ := hce
  have hcls : ce.cls = G.1.1.1 ci := by rw [hce]; rfl
  have hvm : ce.vm = .none := by rw [hce]; rfl
  rw [← hce] at t4
  have X3 : Stand p l e R s m args below meth c (V.setCell a ce) (locs ++ [⟨a, G.1.1.2 ci 0⟩, ⟨a, G.1.1.2 ci 1⟩, ⟨a, G.1.1.2 ci 2⟩, ⟨a, G.1.1.2 ci 1⟩]) cells slots := by rw [hce]; exact X2
  have st3 : ∀ target, Steps p.tables e below ((V.setCell a ce).setTop { F0 m pc ls (.ref a :: st) with stack := st, pc := pc + 3 }) target → Steps p.tables e below (T0.setTop (F0 m pc ls (.ref a :: st))) target := by rw [hce]; exact st9
  have hVH : V.heap = H := hV.trans hT
  have ha : a < V.heap.size := by rw [hVH]; exact (Array.getElem?_eq_some_iff.mp hcell).1
  have hh : (V.setCell a ce).heap[a]? = some ce := heapAt_setCell_self (s := V) ce ha
  have hz : (V.setCell a ce).heap.size = H.size := by rw [← hVH]; simp [State.setCell]
  have ho : ∀ q : Nat, q ≠ a → (V.setCell a ce).heap[q]? = H[q]? := fun q hq => by rw [← hVH]; simp [State.setCell, Array.getElem?_setIfInBounds, Ne.symm hq]
  obtain ⟨t, a1, b1⟩ := kk _ (q3 u0 sen) (V.setCell a ce).heap _ cells slots ls ⟨by rw [hz]; exact hS.1, fun q z1 z2 => (ho q (fun z => z2 (by rw [z]; exact hA))).trans (hS.2.1 q z1 z2), fun x hx => by
      rcases List.mem_append.mp hx with hx | hx
      · exact hS.2.2 x hx
      · simp only [List.mem_cons, List.not_mem_nil, or_false] at hx
        rcases hx with rfl | rfl | rfl | rfl <;> exact hA⟩ (hR.put ⟨fun _ => ⟨_, ce, hcc, hh, hcls, by rw [hvm]; (intro z; cases z), by rw [hvm]; rfl, fun _ => hvm, t4⟩, fun z => absurd hlt (Nat.not_lt.mpr z)⟩ ho) hL hc hs _ rfl X3
  exact ⟨t, st3 t a1, b1⟩
theorem xsp_X6 : ∀ w ∈ xs_at "WordCache$Refused" 7, w ∈ lw_tbl := by decide +kernel
theorem xsl_X6 : (xs_at "WordCache$Refused" 7).all (fun w => goodWord w || (x_nw w && w.onTables)) = true := by decide +kernel
theorem x_superX6 (X : xX p s m args meth c G cc nL RX6) (hl : l.stackTraces = false) (hk : xCl G 26 RX6 TX6 9 tyX6) (hd : decode cc pc = .ok (.invokespecial 7, 3)) (hRm : 5 ≤ R.frames ∧ 100 ≤ R.locals) (hW : (st.map fun v => v.category).sum ≤ 8) {K : xS → Prop} (hp : xsup G.2 σ a 26 [va_rf none, va_rf none, .int 0, .int 0, .int 0, va_rf none] K)
    (kk : ∀ σ', K σ' → xW p l e R s m args below meth c G nL Q σ' (pc + 3) lo st) : xW p l e R s m args below meth c G nL Q σ pc lo (.ref a :: st) :=
  x_superC X hl hk rfl rfl rfl (by decide) x_dflt_X6 xsp_X6 xsl_X6 hd hRm hW hp kk
theorem xsp_X14 : ∀ w ∈ xs_at "WordCache$TextException" 1, w ∈ lw_tbl := by decide +kernel
theorem xsl_X14 : (xs_at "WordCache$TextException" 1).all (fun w => goodWord w || (x_nw w && w.onTables)) = true := by decide +kernel
theorem x_superX14 (X : xX p s m args meth c G cc nL RX14) (hl : l.stackTraces = false) (hk : xCl G 38 RX14 TX14 7 tyX14) (hd : decode cc pc = .ok (.invokespecial 1, 3)) (hRm : 5 ≤ R.frames ∧ 100 ≤ R.locals) (hW : (st.map fun v => v.category).sum ≤ 8) {K : xS → Prop} (hp : xsup G.2 σ a 38 [va_rf none, va_rf none, .int 0, .int 0] K)
    (kk : ∀ σ', K σ' → xW p l e R s m args below meth c G nL Q σ' (pc + 3) lo st) : xW p l e R s m args below meth c G nL Q σ pc lo (.ref a :: st) :=
  x_superC X hl hk rfl rfl rfl (by decide) x_dflt_X14 xsp_X14 xsl_X14 hd hRm hW hp kk
end XS2
