theorem x_nnS {b : Nat} {K : Nat → Prop} (h : xnn (some b) K) : K b := by
  obtain ⟨b', e, h⟩ := h
  cases e
  exact h
section X8
variable {p : Program} {l : Launch} {e : Env} {R : Room} {s : State} {m : MethodId} {args : Array Value} {below : List Frame} {meth : Method} {c : Code} {Q : State → Prop} {G : xG} {nL : Nat} {cc : ByteArray} {own : String}
variable {σ : xS} {pc pc' : Nat} {lo lo' : List (Nat × Value)} {st st' : List Value} {a : Nat}
variable {y : MethodName} {bytes : ByteArray} {maxL fr lc index : Nat} {ret : Option FieldType} {As : List Value} {ρ : Type} {P : xS → (ρ → xH → Prop) → Prop} {K : ρ → xS → Prop} {em : ρ → Option Value}
theorem x_dwX (X : xX p s m args meth c G cc nL own) {w : Cond} (hw : w ∈ x_dw) : w.before args s = true := x_dwA args (x_dw_only w hw) (X.2.2.2.2.2.1.2.2.2.2.2.2.2.2.2.2.2.1 w hw)
theorem x_dfX (X : xX p s m args meth c G cc nL own) {q : String × String × String × String} (hq : q ∈ x_df) : (Cond.interfaceMethod q.1 q.2.1 q.2.2.1 q.2.2.2).before args s = true := x_iface (Vm.Alike.refl s.vm) (X.2.2.2.2.2.1.2.2.2.2.2.2.2.2.2.2.2.2 q hq)
theorem x_dcl (X : xX p s m args meth c G cc nL own) {x : MethodName} (h : Cond.declares x ∈ lw_tbl) : va_Decl s x := va_Decl.abs (X.2.2.2.2.2.1.2.1 _ h rfl)
theorem x_dco (X : xX p s m args meth c G cc nL own) {x : MethodName} {b : ByteArray} {mm : Nat} {r : Option FieldType} (hi : Cond.instanceMethod x ∈ lw_all) (hc : Cond.code x b mm r ∈ lw_all) : va_Decl s x := va_Decl.of (X.2.2.2.2.1 _ hi) (X.2.2.2.2.1 _ hc)
theorem x_selP {C : String} {T : u_T} {N ci : Nat} {ty : Nat → FieldType} (X : xX p s m args meth c G cc nL own) (hk : xCl G ci C T N ty) (hy : y.cls ≠ "java/lang/invoke/MethodHandle" ∧ y.cls ≠ "java/lang/invoke/VarHandle") (hpriv : Cond.privateMethod y ∈ x_dw) (hinst : Cond.instanceMethod y ∈ lw_all) (hsame : Cond.sameMethod y.cls y.cls y.name y.desc ∈ lw_all) : (Cond.selects C y y).before args s = true := by
  have hpriv := x_dwX X hpriv
  have hinst := X.2.2.2.2.1 _ hinst
  have hsame := X.2.2.2.2.1 _ hsame
  have hc : s.vm.findClass C = some (G.1.1.1 ci) := (X.2.2.2.2.2.1.1.1 ci _ hk.1.1).2.1
  obtain ⟨mk, methM, hnamed, hmethM, -, -⟩ := Cond.instanceMethod_spec hinst
  have hfound : s.methodFound? y.cls y.name y.desc = some mk := State.methodFound?_of_named hnamed hy
  have hcls := findClass_of_methodNamed hnamed
  obtain ⟨-, k, hk1, hk2⟩ := Cond.sameMethod_spec hcls hfound hsame
  have hsel : selectMethod {} s.vm (G.1.1.1 ci) mk = .method mk := selectMethod_private hmethM (Cond.privateMethod_at hpriv mk methM hnamed hmethM)
  simp only [Cond.before, Cond.holds, Cond.value, hc, hfound, hnamed, hsel, hk1]
  simp; exact hk2
theorem x_selJ {C : String} {x x' : MethodName} (hf : s.methodFound? x.cls x.name x.desc = s.methodFound? x'.cls x'.name x'.desc) (h : (Cond.selects C x' y).before args s = true) : (Cond.selects C x y).before args s = true := by
  simp only [Cond.before, Cond.holds, Cond.value] at h ⊢
  rw [hf]
  exact h
theorem x_selPoll (X : xX p s m args meth c G cc nL own) (h : Cond.selects "java/util/PriorityQueue" ⟨"java/util/Queue", "poll", "()Ljava/lang/Object;"⟩ y ∈ lw_all) : (Cond.selects "java/util/PriorityQueue" ⟨"java/util/AbstractQueue", "poll", "()Ljava/lang/Object;"⟩ y).before args s = true := by
  have h1 : (Cond.sameMethod "java/util/AbstractQueue" "java/util/Queue" "poll" "()Ljava/lang/Object;").before args s = true := x_dwX X (by simp [x_dw])
  refine x_selJ ?_ (X.2.2.2.2.1 _ h)
  simp only [Cond.before, Cond.holds, Cond.value] at h1
  cases hc : s.vm.findClass "java/util/AbstractQueue" with
  | none => simp [hc] at h1
  | some c1 =>
    cases hf : s.methodFound? "java/util/AbstractQueue" "poll" "()Ljava/lang/Object;" with
    | none => simp [hc, hf] at h1
    | some r =>
      cases hn : s.methodNamed? ⟨"java/util/Queue", "poll", "()Ljava/lang/Object;"⟩ with
      | none => simp [hc, hf, hn] at h1
      | some r2 =>
        have e : r = r2 := by
          simp only [hc, hf, hn] at h1
          simp at h1
          exact h1.1
        rw [e]
        exact (State.methodFound?_of_named hn (by decide)).symm
theorem xf_runJ {x : MethodName} {J : String} {H : Heap} {locs : List Loc} {cells slots mc ms n count : Nat} {ws : List Cond} {rm : Room} {Pc : Array Value → State → Prop} {Qc : Array Value → State → Outcome → State → Prop} {free : Addr → Prop} {Ts : List Cond} {C : String} {cC : ClassId} {b : Addr} {rest : List Value} {g : JFrame}
    (hat : ClassAt s C cC) (S : CallFix p m c cc nL s args Ts own) (hM : Met l y ws rm Pc Qc mc ms free) (bk : rm.cells = mc ∧ rm.slots = ms ∧ rm.frames + 1 ≤ R.frames ∧ 8 + (maxL + 11) + rm.locals ≤ R.locals ∧ (∀ w ∈ ws, ∀ (a' : Array Value) (U : State), s.WarmedH U.vm → w.before a' U = true) ∧ Cond.code y bytes maxL ret ∈ ws)
    (hini : (Cond.initialized y.cls).before args s = true) (hlink : (Cond.methodLink own index x).before args s = true) (hdecl : (Cond.declares ⟨J, x.name, x.desc⟩).before args s = true) (hpubJ : (Cond.publicMethod ⟨J, x.name, x.desc⟩).before args s = true) (hface : (Cond.interfaceMethod x.cls J x.name x.desc).before args s = true) (hxo : x.cls ≠ J) (hsel : (Cond.selects C x y).before args s = true) (hinst : (Cond.instanceMethod y).before args s = true)
    (hpub : (Cond.publicMethod y).before args s = true) (hunh : (Cond.unhidden C x.name x.desc).before args s = true) (hcast : (Cond.castable C x.cls).before args s = true) (hxm : x.cls ≠ "java/lang/invoke/MethodHandle" ∧ x.cls ≠ "java/lang/invoke/VarHandle") (hlen : ∀ sig, parseMethodDescriptor x.desc = some sig → n = sig.parameters.length)
    (hp : PreV s H C b Pc As) (hg : g.method = m) (hn : As.length = n) (hsize : g.locals.size = nL) (hstack : g.stack = As.reverse ++ .ref b :: rest) (hW : 2 * g.monitorRoom + (rest.map fun v => v.category).sum ≤ 8) (hdg : decode cc g.pc = .ok (.invokeinterface index count, 5)) (hf : cells + mc ≤ R.cells ∧ slots + ms ≤ R.slots) :
    va_Run5 p l e R s m args below meth c H locs cells slots mc ms g rest (Qc (Value.ref b :: As).toArray) (free) := by
  obtain ⟨hrc, hrs, hfr, hlo, hws, hcw⟩ := bk
  have hK : Back l R p e below s args y 5 8 (PreOf R mc ms Pc) (PostOf Qc mc ms free) := back_of (bytes := bytes) (maxL := maxL) (ret := ret) hM hp.1 hrc hrs hfr hlo hws hcw (fun a' U hW => word_at hW (Or.inl (by first | rfl | simp [Cond.onTables, Cond.keeps, Cond.steady])) hini)
  obtain ⟨hx, hb, hml, ho, -⟩ := S
  obtain ⟨-, ⟨cellB, hcB, hoB, hclB⟩, hPc⟩ := hp
  obtain ⟨hfc, kB, hkB, -⟩ := hat
  cases hfc.symm.trans hclB
  intro T hT X
  obtain ⟨v, vm₁, ⟨U', l2, c2, s2⟩, hW₁, X', ⟨g', mk, t, L, e1, e2, hq, h1, hL, h2, h3⟩, st⟩ := X.interfaceBackUp hx ho hlink hdecl hpubJ hface hxo hsel hinst hpub hunh hcast hxm hK hclB hkB ⟨cellB, by rw [hT]; exact hcB, rfl, hoB⟩ hg (hsize.trans hml.symm) (Steps.refl _) (argsL := As) (rest := rest) (fun sig h => hn.trans (hlen sig h)) hstack hW (by rw [hb]; exact hdg)
    (fun vm₁ hW₁ => ⟨hf.1, hf.2, hPc (T.setVm vm₁) hT hW₁⟩)
  dsimp only [Pt.U, Pt.locs, Pt.cells, Pt.slots] at X' e1 e2 h1 h2 h3 st
  subst h1; subst h2; subst h3
  exact ⟨v, (T.setVm vm₁).calling g' mk (Value.ref b :: As).toArray, t, U', L, hT, X', hL, e1, e2, hq, fun target h => st.trans h⟩
/-- an interface's method that stands in an interface above -/
theorem x_callFJ {x : MethodName} {J : String} {count : Nat} {T : u_T} {N ci : Nat} {ty : Nat → FieldType} {C : String} {b : Nat} (sk : ρ → List Value → List Value) (hsk : ∀ r st, (em r).toList ++ st = sk r st) (n : Nat) (X : xX p s m args meth c G cc nL own) (hk : xCl G ci C T N ty) (hM : ∀ σ' KK, P σ' KK → xM l y bytes maxL ret fr lc G (.ref b :: As) σ' (xlift em KK))
    (h1 : Cond.methodLink own index x ∈ x_dw) (h6 : Cond.declares ⟨J, x.name, x.desc⟩ ∈ x_dw) (h7 : Cond.publicMethod ⟨J, x.name, x.desc⟩ ∈ x_dw) (h8 : (x.cls, J, x.name, x.desc) ∈ x_df) (h9 : Cond.publicMethod y ∈ x_dw) (h10 : Cond.unhidden C x.name x.desc ∈ x_dw) (h11 : Cond.castable C x.cls ∈ x_dw) (h2 : Cond.selects C ⟨J, x.name, x.desc⟩ y ∈ lw_all) (h3 : Cond.instanceMethod y ∈ lw_all) (h4 : Cond.initialized y.cls ∈ lw_all) (h5 : Cond.code y bytes maxL ret ∈ lw_all)
    (hcd : x.cls ≠ "java/lang/invoke/MethodHandle" ∧ x.cls ≠ "java/lang/invoke/VarHandle" ∧ (parseMethodDescriptor x.desc).map (fun d => d.parameters.length) = some n) (hJ : (J ≠ "java/lang/invoke/MethodHandle" ∧ J ≠ "java/lang/invoke/VarHandle") ∧ x.cls ≠ J) (hRm : fr + 1 ≤ R.frames ∧ 8 + (maxL + 11) + lc ≤ R.locals)
    (hn : As.length = n) (hst : st' = As.reverse ++ .ref b :: st) (hW : (st.map fun v => v.category).sum ≤ 8) (hd : decode cc pc = .ok (.invokeinterface index count, 5)) (hrc : xrc σ b ci) (hp : xcall P σ K)
    (kk : ∀ r σ', K r σ' → xW p l e R s m args below meth c G nL Q σ' (pc + 5) lo (sk r st)) : xW p l e R s m args below meth c G nL Q σ pc lo st' := by
  intro H locs cells slots ls hS hR hL hc hs
  obtain ⟨bc, bs, g1, g2, hP⟩ := hp
  have hM := hM _ _ hP
  have hx := X
  obtain ⟨hx1, hb, hml, hown, hts, hG, hlk⟩ := X
  have hw : GoodIn lw_all (ws_ y bytes maxL ret) := lw_meth h5
  have hface : (Cond.interfaceMethod x.cls J x.name x.desc).before args s = true := x_dfX hx h8
  have hsel : (Cond.selects C x y).before args s = true := by
    obtain ⟨cL, kL, r1, -, -, -, hfound, hn1⟩ := Cond.interfaceMethod_spec hface
    refine x_selJ (x' := ⟨J, x.name, x.desc⟩) ?_ (hts _ h2)
    rw [hfound]
    exact (State.methodFound?_of_named hn1 hJ.1).symm
  refine x_after (dp := 5) (xf_runJ (n := n) (index := index) (count := count) (x := x) (J := J) (hG.1.1 ci _ hk.1.1).2 (g := F0 m pc ls st') (rest := st) ⟨hx1, hb, hml, hown, hts⟩ hM ⟨rfl, rfl, hRm.1, hRm.2, pay_in hts hw, List.mem_cons_self⟩ (hts _ h4) (x_dwX hx h1) (x_dwX hx h6) (x_dwX hx h7) hface hJ.2 hsel (hts _ h3) (x_dwX hx h9) (x_dwX hx h10) (x_dwX hx h11) ⟨hcd.1, hcd.2.1⟩ (fun sig h => ?_) ⟨xPc.blind G _ σ.1, xrc.recv hx hk hrc hR, xPre hx hS hR⟩ rfl hn hL.1 hst (by show 2 * 0 + _ ≤ 8; omega) hd (by show cells + bc ≤ _ ∧ slots + bs ≤ _; omega)) hS fun r h' hK H1 locs1 hS1 hR1 => ?_
  · have h2 := hcd.2.2
    rw [h] at h2
    exact (Option.some.inj h2).symm
  rw [hsk r st]
  exact kk r _ hK H1 locs1 _ _ ls hS1 hR1 hL (by show cells + bc + (σ.2.1 - bc) ≤ _; omega) (by show slots + bs + (σ.2.2 - bs) ≤ _; omega)
theorem x_ldcM (X : xX p s m args meth c G cc nL own) {idx : Nat} (hl : Cond.classLink own idx "[Ljava/lang/Object;" ∈ lw_all) (hd : decode cc pc = .ok (.ldc idx, 2)) (kk : xW p l e R s m args below meth c G nL Q σ (pc + 2) lo (.ref (G.2 7) :: st)) : xW p l e R s m args below meth c G nL Q σ pc lo st :=
  fun H locs cells slots ls hS hR hL hc hs => va_ldcM X.1 X.2.1 X.2.2.2.1 (X.2.2.2.2.1 _ hl) X.2.2.2.2.2.1.2.2.2.2.2.2.2.2.2.2.1 hd (kk H locs cells slots ls hS hR hL hc hs)
/-- an array of objects that the law made -/
def xoa (κ : Nat → Nat) (σ : xS) (a : Nat) : Prop := κ 0 ≤ a ∧ ∃ x, σ.1 a = some (.inr (.object "java/lang/Object", x))
def xab (κ : Nat → Nat) (σ : xS) (a : Nat) : Prop := κ 0 ≤ a ∧ ∃ x, σ.1 a = some (.inr (.byte, x))
theorem x_getClass (X : xX p s m args meth c G cc nL own) {idx : Nat} (hl : Cond.methodLink own idx ⟨"java/lang/Object", "getClass", "()Ljava/lang/Class;"⟩ ∈ lw_all) (h2 : Cond.selects "[Ljava/lang/Object;" ⟨"java/lang/Object", "getClass", "()Ljava/lang/Class;"⟩ ⟨"java/lang/Object", "getClass", "()Ljava/lang/Class;"⟩ ∈ lw_all) (h3 : Cond.instanceMethod ⟨"java/lang/Object", "getClass", "()Ljava/lang/Class;"⟩ ∈ lw_all) (h4 : Cond.native ⟨"java/lang/Object", "getClass", "()Ljava/lang/Class;"⟩ ∈ lw_all)
    (hRm : 1 ≤ R.frames ∧ 22 ≤ R.locals) (hW : (st.map fun v => v.category).sum ≤ 8) (hp : xoa G.2 σ a) (hd : decode cc pc = .ok (.invokevirtual idx, 3)) (kk : xW p l e R s m args below meth c G nL Q σ (pc + 3) lo (.ref (G.2 7) :: st)) : xW p l e R s m args below meth c G nL Q σ pc lo (.ref a :: st) := by
  intro H locs cells slots ls hS hR hL hc hs
  obtain ⟨hA, x, hx⟩ := hp
  obtain ⟨cell, g1, g2, g3, g4, g5, g6, g7⟩ := hR a _ hx
  exact va_getC X.1 X.2.1 (X.2.2.1.trans hL.1.symm) X.2.2.2.1 (X.2.2.2.2.1 _ hl) (x_dwX X (by simp [x_dw])) (X.2.2.2.2.1 _ h2) (X.2.2.2.2.1 _ h3) (X.2.2.2.2.1 _ h4) X.2.2.2.2.2.1.2.2.2.2.2.2.2.2.2.2.1 ⟨cell, g1, by rw [g4 hA]; rfl, g7.2 hA⟩ hRm.1 (by omega) hd (kk H locs cells slots ls hS hR hL hc hs)
theorem x_castB (X : xX p s m args meth c G cc nL own) {idx : Nat} (hl : Cond.classLink own idx "[B" ∈ lw_all) (hp : xab G.2 σ a) (hd : decode cc pc = .ok (.checkcast idx, 3)) (kk : xW p l e R s m args below meth c G nL Q σ (pc + 3) lo (.ref a :: st)) : xW p l e R s m args below meth c G nL Q σ pc lo (.ref a :: st) := by
  intro H locs cells slots ls hS hR hL hc hs
  obtain ⟨hA, x, hx⟩ := hp
  obtain ⟨cell, g1, g2, g3, g4, g5, g6, g7⟩ := hR a _ hx
  intro T hT XX
  obtain ⟨vm', X', st9⟩ := XX.checkcastYes X.1 X.2.2.2.1 (X.2.2.2.2.1 _ hl) (by rw [hT]; exact g1) (by rw [g4 hA]; rfl) (g7.2 hA) (va_asg _ _) (g := F0 m pc ls (.ref a :: st)) rfl rfl (by rw [X.2.1]; exact hd)
  obtain ⟨t, a1, b1⟩ := kk H locs cells slots ls hS hR hL hc hs (T.setVm vm') hT X'
  exact ⟨t, st9 t a1, b1⟩
/-- a byte array's clone -/
def xclb (κ : Nat → Nat) (σ : xS) (a : Nat) (K : Nat → xS → Prop) : Prop := κ 0 ≤ a ∧ ∃ x : vp_A, σ.1 a = some (.inr (.byte, x)) ∧ 1 ≤ σ.2.1 ∧ x.1 ≤ σ.2.2 ∧ (∀ j, j < x.1 → fits .byte (xc x j) = true) ∧ ∀ q : Nat, σ.1 q = none → κ 0 ≤ q → K q (xup σ.1 q (.inr (.byte, x)), σ.2.1 - 1, σ.2.2 - x.1)
theorem x_cloneB (X : xX p s m args meth c G cc nL own) {idx : Nat} (hl : Cond.methodLink own idx ⟨"[B", "clone", "()Ljava/lang/Object;"⟩ ∈ lw_all) (h2 : Cond.sameMethod "[B" "java/lang/Object" "clone" "()Ljava/lang/Object;" ∈ lw_all) (h3 : Cond.native ⟨"java/lang/Object", "clone", "()Ljava/lang/Object;"⟩ ∈ lw_all) (h4 : Cond.instanceMethod ⟨"java/lang/Object", "clone", "()Ljava/lang/Object;"⟩ ∈ lw_all) (h5 : Cond.selects "[B" ⟨"[B", "clone", "()Ljava/lang/Object;"⟩ ⟨"java/lang/Object", "clone", "()Ljava/lang/Object;"⟩ ∈ lw_all) (h6 : Cond.castable "[B" "java/lang/Cloneable" ∈ lw_tbl)
    (hRm : 1 ≤ R.frames ∧ 22 ≤ R.locals) (hW : (st.map fun v => v.category).sum ≤ 8) (hd : decode cc pc = .ok (.invokevirtual idx, 3)) {K : Nat → xS → Prop} (hp : xclb G.2 σ a K) (kk : ∀ q σ', K q σ' → xW p l e R s m args below meth c G nL Q σ' (pc + 3) lo (.ref q :: st)) : xW p l e R s m args below meth c G nL Q σ pc lo (.ref a :: st) := by
  intro H locs cells slots ls hS hR hL hc hs
  obtain ⟨hA, x, hx, h1, h2', hf, h3'⟩ := hp
  obtain ⟨cell, g1, g2, g3, g4, g5, g6, g7⟩ := hR a _ hx
  obtain ⟨hx1, hb, hml, hown, hts, hG, hlk⟩ := X
  have g2' := g2
  obtain ⟨-, kA, hkA, comp, hkind⟩ := g2'
  obtain ⟨c0, t0', f1, f2, f3⟩ := Cond.castable_spec (va_Nw.use (A := args) rfl (hG.2.1 _ h6 rfl))
  have hcl : s.vm.findClass "[B" = some cell.cls := g7.2 hA
  cases hcl.symm.trans f1
  have hsz : cell.slots.size = x.1 := g5
  intro T hT XX
  have hcellT : T.heap[a]? = some cell := by rw [hT]; exact g1
  obtain ⟨-, kA', hkA', comp', hkind'⟩ := State.isArrayOf_alike XX.warmed.alike g2
  obtain ⟨vm', X', st9⟩ := XX.cloneArray hx1 hown (hts _ hl) (hts _ h2) (hts _ h3) (hts _ h4) (hts _ h5) (a := a) (cell := cell) hcellT (fun k h => by rw [g4 hA] at h; cases h) g3 hcl f2 f3 (fun i v hv => by
      have hi : i < x.1 := by
        have := (Array.getElem?_eq_some_iff.mp hv).1
        omega
      have hv' := (g6 i hi).symm.trans hv
      cases hv'
      have hk' : T.vm.classes[cell.cls]? = some kA' := hkA'
      simpa [State.fitsSlot, State.slotType?, hk', hkind'] using hf i hi) (g := F0 m pc ls (.ref a :: st)) rfl (by rw [hml]; exact hL.1) rfl (by rw [hb]; exact hd) hRm.1 (by show 2 * 0 + _ + 14 ≤ _; omega) (by omega) (by omega) (hloader := Vm.clonesLoader_of_array hkA hkind)
  have hsz1 : (H.push ({ cls := cell.cls, slots := cell.slots } : Cell) : Heap).size = H.size + 1 := by simp
  have o1 : ∀ q : Nat, q < H.size → (H.push ({ cls := cell.cls, slots := cell.slots } : Cell) : Heap)[q]? = H[q]? := fun q hq => by simp [Array.getElem?_push, Nat.ne_of_lt hq]
  obtain ⟨t, b1, b2⟩ := kk H.size _ (h3' H.size hR.fresh (Nat.le_trans hG.2.2.1 hS.1)) (H.push ({ cls := cell.cls, slots := cell.slots } : Cell)) locs (cells + 1) (slots + cell.slots.size) ls ⟨Nat.le_trans hS.1 (by omega), fun x q1 q2 => (o1 x (Nat.lt_of_lt_of_le q1 hS.1)).trans (hS.2.1 x q1 q2), hS.2.2⟩ (hR.new ⟨{ cls := cell.cls, slots := cell.slots }, by simp, ⟨(fun k hk => by cases hk), kA, hkA, comp, hkind⟩, (fun z => by cases z), fun _ => rfl, hsz, g6, (fun C hC => by cases hC), fun _ => hcl⟩ o1) hL (by show cells + 1 + (σ.2.1 - 1) ≤ _; omega) (by show slots + cell.slots.size + (σ.2.2 - x.1) ≤ _; omega) _ (by show T.heap.push _ = _; rw [hT]) X'
  refine ⟨t, st9 t ?_, b2⟩
  rw [hT]
  exact b1
theorem x_piN {C ref host : String} {T : u_T} {N ci : Nat} {ty : Nat → FieldType} (X : xX p s m args meth c G cc nL own) (hk : xCl G ci C T N ty) (k : Nat) (hkN : k < N) (hl : Cond.fieldLinkNest own index ref (T k).2.1 (T k).2.2.1 host ∈ lw_tbl)
    (hsame : ∀ x, s.fieldFound? (T k).1 (T k).2.1 (T k).2.2.1 = some x → s.fieldFound? ref (T k).2.1 (T k).2.2.1 = some x) (hfin : (T k).2.2.2 = false) {x : Int32} (hn : narrow (ty k) (.int x) = .int x) (hfit : fits (ty k) (.int x) = true) (hd : decode cc pc = .ok (.putfield index, 3)) {K : xS → Prop} (hp : xpi G.2 σ a ci k x K)
    (kk : ∀ σ', K σ' → xW p l e R s m args below meth c G nL Q σ' (pc + 3) lo st) : xW p l e R s m args below meth c G nL Q σ pc lo (.int x :: .ref a :: st) := by
  intro H locs cells slots ls hS hR hL hc hs
  obtain ⟨fs, h1, h2, h3, h4⟩ := hp
  obtain ⟨f, cell, ⟨cf, k', i', g1⟩, g2, g3, g4, g5, g6, g7⟩ := x_putC X hk k hkN hsame hfin ((hR a _ h1).1 hk.1.2) h2 h3 hn hfit
  exact va_WputK X.1 X.2.1 (f := f) X.2.2.2.1 (va_Nw.use rfl (X.2.2.2.2.2.1.2.1 _ hl rfl)) g1 g2 g3 g4 g5 g6 rfl rfl hd fun H' e1 e2 e3 => kk _ h4 H' _ cells slots ls (hS.put e2 e3 h2) (hR.put ⟨fun _ => g7 H' e1, fun z => absurd hk.1.2 (Nat.not_lt.mpr z)⟩ e3) hL hc hs
/-- a switch none of whose cases is met -/
theorem x_lookL (d : Int) (x : Int32) (ks : List (Int32 × Int)) (h : ∀ q ∈ ks, ¬ x = q.1) : Op.lookupswitch.offset (ks.map fun q => (q.1.toInt, q.2)) d x.toInt = d := by
  induction ks with
  | nil => rfl
  | cons k r ih =>
    rw [List.map_cons, Op.lookupswitch.offset_cons, if_neg (fun e => h k List.mem_cons_self (Int32.toInt_inj.mp e).symm)]
    exact ih fun q hq => h q (List.mem_cons_of_mem _ hq)
theorem x_mmax (X : xX p s m args meth c G cc nL own) {idx : Nat} {x y : Int32} {bs : ByteArray} (hl : Cond.methodLink own idx Lib.Math.max.name ∈ lw_all) (h2 : Cond.static Lib.Math.max.name ∈ lw_all) (h3 : Cond.initialized "java/lang/Math" ∈ lw_all) (h4 : Cond.code Lib.Math.max.name bs 2 (some .int) ∈ lw_all) (hb : bs = Lib.Math.max.code)
    (hRm : 1 ≤ R.frames ∧ 21 ≤ R.locals) (hW : (st.map fun v => v.category).sum ≤ 8) (hd : decode cc pc = .ok (.invokestatic idx, 3)) (kk : xW p l e R s m args below meth c G nL Q σ (pc + 3) lo (.int (if x < y then y else x) :: st)) : xW p l e R s m args below meth c G nL Q σ pc lo (.int y :: .int x :: st) := by
  subst hb
  intro H locs cells slots ls hS hR hL hc hs
  exact va_mmax X.1 X.2.1 (X.2.2.1.trans hL.1.symm) X.2.2.2.1 (X.2.2.2.2.1 _ hl) (X.2.2.2.2.1 _ h2) (X.2.2.2.2.1 _ h3) (X.2.2.2.2.1 _ h4) hRm.1 (by omega) (by omega) (by omega) hd (kk H locs cells slots ls hS hR hL hc hs)
theorem x_mmin (X : xX p s m args meth c G cc nL own) {idx : Nat} {x y : Int32} {bs : ByteArray} (hl : Cond.methodLink own idx Lib.Math.min.name ∈ lw_all) (h2 : Cond.static Lib.Math.min.name ∈ lw_all) (h3 : Cond.initialized "java/lang/Math" ∈ lw_all) (h4 : Cond.code Lib.Math.min.name bs 2 (some .int) ∈ lw_all) (hb : bs = Lib.Math.min.code)
    (hRm : 1 ≤ R.frames ∧ 21 ≤ R.locals) (hW : (st.map fun v => v.category).sum ≤ 8) (hd : decode cc pc = .ok (.invokestatic idx, 3)) (kk : xW p l e R s m args below meth c G nL Q σ (pc + 3) lo (.int (if y < x then y else x) :: st)) : xW p l e R s m args below meth c G nL Q σ pc lo (.int y :: .int x :: st) := by
  subst hb
  intro H locs cells slots ls hS hR hL hc hs
  exact va_mmin X.1 X.2.1 (X.2.2.1.trans hL.1.symm) X.2.2.2.1 (X.2.2.2.2.1 _ hl) (X.2.2.2.2.1 _ h2) (X.2.2.2.2.1 _ h3) (X.2.2.2.2.1 _ h4) hRm.1 (by omega) (by omega) (by omega) hd (kk H locs cells slots ls hS hR hL hc hs)
theorem x_maxB : prog_32_method_65_code = Lib.Math.max.code := by decide +kernel
theorem x_minB : prog_32_method_69_code = Lib.Math.min.code := by decide +kernel
end X8
