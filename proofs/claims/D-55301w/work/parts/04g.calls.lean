section X7
variable {p : Program} {l : Launch} {e : Env} {R : Room} {s : State} {m : MethodId} {args : Array Value} {below : List Frame} {meth : Method} {c : Code} {Q : State → Prop} {G : xG} {nL : Nat} {cc : ByteArray} {own : String}
variable {σ : xS} {pc pc' : Nat} {lo lo' : List (Nat × Value)} {st st' : List Value} {a : Nat}
variable {y : MethodName} {bytes : ByteArray} {maxL fr lc index : Nat} {ret : Option FieldType} {As : List Value} {ρ : Type} {P : xS → (ρ → xH → Prop) → Prop} {K : ρ → xS → Prop} {em : ρ → Option Value}
/-- a method named through a class above (or abstract there), answered by y for an object of C -/
theorem x_callO {x : MethodName} {owner : String} {T : u_T} {N ci : Nat} {ty : Nat → FieldType} {C : String} {b : Nat} (sk : ρ → List Value → List Value) (hsk : ∀ r st, (em r).toList ++ st = sk r st) (n : Nat) (X : xX p s m args meth c G cc nL own) (hk : xCl G ci C T N ty) (hM : ∀ σ' KK, P σ' KK → xM l y bytes maxL ret fr lc G (.ref b :: As) σ' (xlift em KK))
    (h1 : (Cond.methodLink own index x).before args s = true) (h1b : (Cond.sameMethod x.cls owner x.name x.desc).before args s = true) (hdl : va_Decl s ⟨owner, x.name, x.desc⟩) (h2 : (Cond.selects C x y).before args s = true) (h3 : Cond.instanceMethod y ∈ lw_all) (h4 : Cond.initialized y.cls ∈ lw_all) (h5 : Cond.code y bytes maxL ret ∈ lw_all)
    (hcd : owner ≠ "java/lang/invoke/MethodHandle" ∧ owner ≠ "java/lang/invoke/VarHandle" ∧ (parseMethodDescriptor x.desc).map (fun d => d.parameters.length) = some n) (hRm : fr + 1 ≤ R.frames ∧ 8 + (maxL + 11) + lc ≤ R.locals)
    (hn : As.length = n) (hst : st' = As.reverse ++ .ref b :: st) (hW : (st.map fun v => v.category).sum ≤ 8) (hd : decode cc pc = .ok (.invokevirtual index, 3)) (hrc : xrc σ b ci) (hp : xcall P σ K)
    (kk : ∀ r σ', K r σ' → xW p l e R s m args below meth c G nL Q σ' (pc + 3) lo (sk r st)) : xW p l e R s m args below meth c G nL Q σ pc lo st' := by
  intro H locs cells slots ls hS hR hL hc hs
  obtain ⟨bc, bs, g1, g2, hP⟩ := hp
  have hM := hM _ _ hP
  have hx := X
  obtain ⟨hx1, hb, hml, hown, hts, hG, hlk⟩ := X
  have hw : GoodIn lw_all (ws_ y bytes maxL ret) := lw_meth h5
  refine x_after (dp := 3) (va_runU (own := own) (C := C) (owner := owner) (x := x) (y := y) (bytes := bytes) (index := index) (n := n) (g := F0 m pc ls st') (rest := st) ⟨hx1, hb, hml, hown, hts⟩ hM ⟨⟨rfl, rfl, hRm.1, hRm.2, pay_in hts hw, List.mem_cons_self⟩, hts _ h5, hts _ h4, ⟨hcd.1, hcd.2.1⟩, fun sig h => ?_, h1, h1b, hdl, h2, hts _ h3⟩ ⟨xPc.blind G _ σ.1, xrc.recv hx hk hrc hR, xPre hx hS hR⟩ rfl hn hL.1 hst (by show 2 * 0 + _ ≤ 8; omega) hd (by show cells + bc ≤ _ ∧ slots + bs ≤ _; omega)) hS fun r h' hK H1 locs1 hS1 hR1 => ?_
  · have h2 := hcd.2.2
    rw [h] at h2
    exact (Option.some.inj h2).symm
  rw [hsk r st]
  exact kk r _ hK H1 locs1 _ _ ls hS1 hR1 hL (by show cells + bc + (σ.2.1 - bc) ≤ _; omega) (by show slots + bs + (σ.2.2 - bs) ≤ _; omega)
/-- super.m(..) -/
theorem x_callSU {T : u_T} {N ci : Nat} {ty : Nat → FieldType} {C : String} {b : Nat} (sk : ρ → List Value → List Value) (hsk : ∀ r st, (em r).toList ++ st = sk r st) (n : Nat) (X : xX p s m args meth c G cc nL own) (hk : xCl G ci C T N ty) (hM : ∀ σ' KK, P σ' KK → xM l y bytes maxL ret fr lc G (.ref b :: As) σ' (xlift em KK))
    (h1 : Cond.methodLink own index y ∈ lw_all) (h1b : Cond.sameMethod y.cls y.cls y.name y.desc ∈ lw_all) (h2 : Cond.superclass own y.cls ∈ lw_all) (h3 : Cond.instanceMethod y ∈ lw_all) (h4 : Cond.initialized y.cls ∈ lw_all) (h5 : Cond.code y bytes maxL ret ∈ lw_all)
    (hcd : y.name ≠ "<init>" ∧ (parseMethodDescriptor y.desc).map (fun d => d.parameters.length) = some n) (hRm : fr + 1 ≤ R.frames ∧ 8 + (maxL + 11) + lc ≤ R.locals)
    (hn : As.length = n) (hst : st' = As.reverse ++ .ref b :: st) (hW : (st.map fun v => v.category).sum ≤ 8) (hd : decode cc pc = .ok (.invokespecial index, 3)) (hrc : xrc σ b ci) (hp : xcall P σ K)
    (kk : ∀ r σ', K r σ' → xW p l e R s m args below meth c G nL Q σ' (pc + 3) lo (sk r st)) : xW p l e R s m args below meth c G nL Q σ pc lo st' := by
  intro H locs cells slots ls hS hR hL hc hs
  obtain ⟨bc, bs, g1, g2, hP⟩ := hp
  have hM := hM _ _ hP
  have hx := X
  obtain ⟨hx1, hb, hml, hown, hts, hG, hlk⟩ := X
  have hw : GoodIn lw_all (va_wsSU own index y (ws_ y bytes maxL ret)) := by
    refine lw_app ?_ (lw_meth h5)
    intro w hw
    simp only [List.mem_cons, List.not_mem_nil, or_false] at hw
    rcases hw with e | e | e | e | e
    · rw [e]; exact h1
    · rw [e]; exact h1b
    · rw [e]; exact h2
    · rw [e]; exact h3
    · rw [e]; exact h4
  refine x_after (dp := 3) (va_runSU (hG.1.1 ci _ hk.1.1).2 (g := F0 m pc ls st') (rest := st) ⟨hx1, hb, hml, hown, hts⟩ hM (va_cwSU n hts hw rfl rfl rfl hcd ⟨hRm.1, hRm.2⟩) ⟨xPc.blind G _ σ.1, xrc.recv hx hk hrc hR, xPre hx hS hR⟩ rfl hn hL.1 hst (by show 2 * 0 + _ ≤ 8; omega) hd (by show cells + bc ≤ _ ∧ slots + bs ≤ _; omega)) hS fun r h' hK H1 locs1 hS1 hR1 => ?_
  rw [hsk r st]
  exact kk r _ hK H1 locs1 _ _ ls hS1 hR1 hL (by show cells + bc + (σ.2.1 - bc) ≤ _; omega) (by show slots + bs + (σ.2.2 - bs) ≤ _; omega)
/-- a private method of a nest mate -/
theorem x_callVN {host : String} {T : u_T} {N ci : Nat} {ty : Nat → FieldType} {C : String} {b : Nat} (sk : ρ → List Value → List Value) (hsk : ∀ r st, (em r).toList ++ st = sk r st) (n : Nat) (X : xX p s m args meth c G cc nL own) (hk : xCl G ci C T N ty) (hM : ∀ σ' KK, P σ' KK → xM l y bytes maxL ret fr lc G (.ref b :: As) σ' (xlift em KK))
    (hl : Cond.methodLinkNest own index y host ∈ lw_tbl) (him : Cond.instanceMethod y ∈ lw_all) (hsel : Cond.selects C y y ∈ lw_all) (hini : Cond.initialized y.cls ∈ lw_all) (hw : GoodIn lw_all (ws_ y bytes maxL ret)) (hcd : y.cls ≠ "java/lang/invoke/MethodHandle" ∧ y.cls ≠ "java/lang/invoke/VarHandle" ∧ (parseMethodDescriptor y.desc).map (fun d => d.parameters.length) = some n) (hRm : fr + 1 ≤ R.frames ∧ 8 + (maxL + 11) + lc ≤ R.locals)
    (hn : As.length = n) (hst : st' = As.reverse ++ .ref b :: st) (hW : (st.map fun v => v.category).sum ≤ 8) (hd : decode cc pc = .ok (.invokevirtual index, 3)) (hrc : xrc σ b ci) (hp : xcall P σ K)
    (kk : ∀ r σ', K r σ' → xW p l e R s m args below meth c G nL Q σ' (pc + 3) lo (sk r st)) : xW p l e R s m args below meth c G nL Q σ pc lo st' := by
  intro H locs cells slots ls hS hR hL hc hs
  obtain ⟨bc, bs, g1, g2, hP⟩ := hp
  have hM := hM _ _ hP
  have hx := X
  obtain ⟨hx1, hb, hml, hown, hts, hG, hlk⟩ := X
  refine x_after (dp := 3) (va_runVN (g := F0 m pc ls st') (rest := st) ⟨hx1, hb, hml, hown, hts⟩ hM ⟨va_cnB n hts hw rfl rfl rfl (hG.2.1 _ hl rfl) (hts _ hini) hcd ⟨hRm.1, hRm.2⟩, hts _ him, hts _ hsel⟩ ⟨xPc.blind G _ σ.1, xrc.recv hx hk hrc hR, xPre hx hS hR⟩ rfl hn hL.1 hst (by show 2 * 0 + _ ≤ 8; omega) hd (by show cells + bc ≤ _ ∧ slots + bs ≤ _; omega)) hS fun r h' hK H1 locs1 hS1 hR1 => ?_
  rw [hsk r st]
  exact kk r _ hK H1 locs1 _ _ ls hS1 hR1 hL (by show cells + bc + (σ.2.1 - bc) ≤ _; omega) (by show slots + bs + (σ.2.2 - bs) ≤ _; omega)
theorem x_kk {A : ρ → xS → Prop} {B : Prop} (hp : xcall P σ K) (kk : ∀ r σ', K r σ' → A r σ') (f : xcall P σ K → (∀ r σ', K r σ' → A r σ') → B) : B := f hp kk
/-- one call, the answerer by the receiver's class -/
theorem x_or {P1 P2 : xS → (ρ → xH → Prop) → Prop} {B : Prop} (hp : xcall (fun τ L => P1 τ L ∨ P2 τ L) σ K) (f1 : xcall P1 σ K → B) (f2 : xcall P2 σ K → B) : B := by
  obtain ⟨bc, bs, h1, h2, h | h⟩ := hp
  · exact f1 ⟨bc, bs, h1, h2, h⟩
  · exact f2 ⟨bc, bs, h1, h2, h⟩
theorem x_and {a ci : Nat} {P1 : xS → (ρ → xH → Prop) → Prop} (hp : xcall (fun τ L => xrc τ a ci ∧ P1 τ L) σ K) : xrc σ a ci ∧ xcall P1 σ K := by
  obtain ⟨bc, bs, h1, h2, h3, h4⟩ := hp
  exact ⟨h3, bc, bs, h1, h2, h4⟩
end X7
