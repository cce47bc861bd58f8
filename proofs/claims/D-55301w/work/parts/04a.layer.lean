/-! ===== the layer: an abstract heap and one predicate for a frame's walk ===== -/
abbrev xE : Type := (Nat × List Value) ⊕ (FieldType × vp_A)
abbrev xH : Type := Nat → Option xE
abbrev xS : Type := xH × Nat × Nat
abbrev xG : Type := (va_G × List vw_C) × (Nat → Nat)
def xA (G : xG) : Nat → Prop := fun q => G.2 0 ≤ q
def xc (x : vp_A) (j : Nat) : Value := match x.2 with
  | .inl f => .int (f j)
  | .inr (.inl f) => .long (f j)
  | .inr (.inr (.inl f)) => .float (f j)
  | .inr (.inr (.inr (.inl f))) => .double (f j)
  | .inr (.inr (.inr (.inr f))) => va_rf (f j)
def xup (h : xH) (a : Nat) (e : xE) : xH := fun b => if b = a then some e else h b
def xOb (G : xG) (ci : Nat) (fs : List Value) (a : Nat) (H : Heap) : Prop :=
  ∃ (r : vw_C) (cell : Cell), G.1.2[ci]? = some r ∧ H[a]? = some cell ∧ cell.cls = G.1.1.1 ci ∧ cell.vm ≠ .unknown ∧ cell.vm.isStatics = false ∧ (G.2 0 ≤ a → cell.vm = .none) ∧ ∀ k, k < r.2.2 → cell.slots[G.1.1.2 ci k]? = some (vp_V fs k)
/-- an array's class: of an object array its component's; of one that the law made, its name -/
def xAt (G : xG) (U : State) (ty : FieldType) (a : Nat) (cell : Cell) : Prop :=
  (∀ C, ty = .object C → ∃ (kA : Class) (comp : ClassId), U.vm.classes[cell.cls]? = some kA ∧ kA.kind = .array comp (.object C) ∧ U.vm.findClass C = some comp) ∧ (G.2 0 ≤ a → U.vm.findClass ("[" ++ ty.toString) = some cell.cls)
def xAr (G : xG) (U : State) (ty : FieldType) (x : vp_A) (a : Nat) (H : Heap) : Prop :=
  ∃ cell : Cell, H[a]? = some cell ∧ U.isArrayOf cell ty ∧ cell.vm ≠ .unknown ∧ (G.2 0 ≤ a → cell.vm = .none) ∧ cell.slots.size = x.1 ∧ (∀ j, j < x.1 → cell.slots[j]? = some (xc x j)) ∧
    xAt G U ty a cell
/-- an object as 'new' leaves it (an exception's, ahead of its constructor): class number 1000 + ci -/
def xFr (G : xG) (U : State) (ci : Nat) (a : Nat) (H : Heap) : Prop := ∃ kC : Class, U.vm.classes[G.1.1.1 ci]? = some kC ∧ H[a]? = some (blank (G.1.1.1 ci) kC)
def x_at (G : xG) (U : State) (a : Nat) (e : xE) (H : Heap) : Prop := match e with
  | .inl o => (o.1 < 1000 → xOb G o.1 o.2 a H) ∧ (1000 ≤ o.1 → xFr G U (o.1 - 1000) a H)
  | .inr x => xAr G U x.1 x.2 a H
def xRel (G : xG) (U : State) (h : xH) (H : Heap) : Prop := ∀ (a : Nat) (e : xE), h a = some e → x_at G U a e H
theorem x_at.kept {G : xG} {U : State} {a : Nat} {e : xE} {H H1 : Heap} (h : x_at G U a e H) (hq : H1[a]? = H[a]?) : x_at G U a e H1 := by
  cases e with
  | inl o =>
    refine ⟨fun z => ?_, fun z => ?_⟩
    · obtain ⟨r, cell, h1, h2, h3⟩ := h.1 z
      exact ⟨r, cell, h1, by rw [hq]; exact h2, h3⟩
    · obtain ⟨kC, h1, h2⟩ := h.2 z
      exact ⟨kC, h1, by rw [hq]; exact h2⟩
  | inr x =>
    obtain ⟨cell, h1, h2⟩ := h
    exact ⟨cell, by rw [hq]; exact h1, h2⟩
theorem x_at.moved {G : xG} {u U : State} {a : Nat} {e : xE} {H : Heap} (hvm : u.vm.Alike U.vm) (h : x_at G u a e H) : x_at G U a e H := by
  cases e with
  | inl o =>
    refine ⟨h.1, fun z => ?_⟩
    obtain ⟨kC, h1, h2⟩ := h.2 z
    obtain ⟨k', hk', he⟩ := hvm.2.2 _ _ h1
    refine ⟨k', hk', ?_⟩
    rw [h2, he]
    rfl
  | inr x =>
    obtain ⟨cell, h1, h2, h3, h4, h5, h6, h7⟩ := h
    refine ⟨cell, h1, State.isArrayOf_alike hvm h2, h3, h4, h5, h6, fun C hC => ?_, fun z => by rw [hvm.findClass]; exact h7.2 z⟩
    obtain ⟨kA, comp, k1, k2, k3⟩ := h7.1 C hC
    obtain ⟨k', hk', he⟩ := hvm.2.2 _ _ k1
    exact ⟨k', comp, hk', by rw [he]; exact k2, by rw [hvm.findClass]; exact k3⟩
theorem xRel.moved {G : xG} {u U : State} {h : xH} {H : Heap} (hvm : u.vm.Alike U.vm) (hR : xRel G u h H) : xRel G U h H := fun a e he => (hR a e he).moved hvm
theorem x_at.lt {G : xG} {U : State} {a : Nat} {e : xE} {H : Heap} (h : x_at G U a e H) : a < H.size := by
  cases e with
  | inl o =>
    rcases Nat.lt_or_ge o.1 1000 with z | z
    · obtain ⟨r, cell, h1, h2, h3⟩ := h.1 z
      exact (Array.getElem?_eq_some_iff.mp h2).1
    · obtain ⟨kC, h1, h2⟩ := h.2 z
      exact (Array.getElem?_eq_some_iff.mp h2).1
  | inr x =>
    obtain ⟨cell, h1, h2⟩ := h
    exact (Array.getElem?_eq_some_iff.mp h1).1
theorem xRel.put {G : xG} {U : State} {h : xH} {H H1 : Heap} {a : Nat} {e : xE} (hR : xRel G U h H) (he : x_at G U a e H1) (oq : ∀ q : Nat, q ≠ a → H1[q]? = H[q]?) : xRel G U (xup h a e) H1 := by
  intro b e' hb
  unfold xup at hb
  by_cases hab : b = a
  · rw [if_pos hab] at hb
    cases hb
    rw [hab]; exact he
  · rw [if_neg hab] at hb
    exact (hR b e' hb).kept (oq b hab)
theorem xRel.new {G : xG} {U : State} {h : xH} {H H1 : Heap} {e : xE} (hR : xRel G U h H) (he : x_at G U H.size e H1) (oq : ∀ q : Nat, q < H.size → H1[q]? = H[q]?) : xRel G U (xup h H.size e) H1 := by
  intro b e' hb
  unfold xup at hb
  by_cases hab : b = H.size
  · rw [if_pos hab] at hb
    cases hb
    rw [hab]; exact he
  · rw [if_neg hab] at hb
    exact (hR b e' hb).kept (oq b (hR b e' hb).lt)
theorem xRel.fresh {G : xG} {U : State} {h : xH} {H : Heap} (hR : xRel G U h H) : h H.size = none := by
  cases hh : h H.size with
  | none => rfl
  | some e => exact absurd (hR _ _ hh).lt (Nat.lt_irrefl _)
/-- the words that do not ride in the lists -/
def x_nw : Cond → Bool
  | .fieldLinkNest _ _ _ _ _ _ => true
  | .methodLinkNest _ _ _ _ => true
  | .declares _ => true
  | .castable _ _ => true
  | _ => false
def xN (U : State) : Prop := ∀ w ∈ lw_tbl, x_nw w = true → va_Nw w U
/-- an interface's method: x asked of an object of C, y answers -/
def xFw (C : String) (x y : MethodName) : Prop := (Cond.declares x ∈ lw_tbl ∧ Cond.interfaceMethod x.cls x.cls x.name x.desc ∈ lw_tbl ∧ Cond.publicMethod y ∈ lw_tbl ∧ Cond.unhidden C x.name x.desc ∈ lw_tbl ∧ Cond.castable C x.cls ∈ lw_tbl) ∧ x.cls ≠ "java/lang/invoke/MethodHandle" ∧ x.cls ≠ "java/lang/invoke/VarHandle"
def xF (U : State) : Prop := ∀ (C : String) (x y : MethodName), xFw C x y → va_Fw C x y U
theorem xN.warm {s U : State} (hW : s.WarmedH U.vm) (h : xN s) : xN U := by
  intro w hw hn
  have h1 := h w hw hn
  cases w <;> first | exact va_Nw.warmF hW h1 | exact va_Nw.warmM hW h1 | exact va_Nw.warmD hW h1 | exact va_Nw.warmC hW h1 | cases hn
theorem xF.warm {s U : State} (hW : s.WarmedH U.vm) (h : xF s) : xF U := fun C x y hx => va_Fw.moved hx.2 hW.alike (h C x y hx)
/-- the statics whose values the Statement gives; κ i: the address of a constant -/
def x_op (κ : Nat → Nat) (i : Nat) : Option Nat := if κ (i + 1) = 0 then none else some (κ i)
def x_sts (κ : Nat → Nat) : List (String × String × String × Value) := [("java/lang/Integer$IntegerCache", "high", "I", .int 127), ("java/lang/String", "COMPACT_STRINGS", "Z", .int 1), ("java/lang/StringUTF16", "$assertionsDisabled", "Z", .int 1), ("java/lang/StringUTF16", "HI_BYTE_SHIFT", "I", .int 0), ("java/lang/StringUTF16", "LO_BYTE_SHIFT", "I", .int 8), ("java/lang/Integer$IntegerCache", "cache", "[Ljava/lang/Integer;", .ref (κ 1)), ("java/util/ArrayList", "DEFAULTCAPACITY_EMPTY_ELEMENTDATA", "[Ljava/lang/Object;", .ref (κ 2)), ("java/lang/Integer", "DigitOnes", "[B", .ref (κ 3)), ("java/lang/Integer", "DigitTens", "[B", .ref (κ 4)), ("jdk/internal/util/Preconditions", "SIOOBE_FORMATTER", "Ljava/util/function/BiFunction;", va_rf (x_op κ 5))]
/-- the String constants: class, entry, text, address (one text, one object) -/
def x_ss (κ : Nat → Nat) : List (String × Nat × String × Nat) := [("WordCache", 72, "", κ 10), ("WordCache", 115, "read", κ 11), ("WordCache$Order", 26, "read", κ 11), ("WordCache$Order", 32, "write", κ 12), ("WordCache$Order", 34, "pin", κ 13), ("WordCache$Order", 36, "free", κ 14), ("WordCache$Order", 38, "flush", κ 15), ("WordCache$Order", 40, "device", κ 16), ("WordCache$Order", 42, "ticks", κ 17), ("WordCache$Order", 44, "shape", κ 18), ("WordCache", 124, "write", κ 12), ("WordCache", 126, "device", κ 16), ("WordCache", 128, "ticks", κ 17), ("WordCache", 130, "pin", κ 13), ("WordCache", 132, "free", κ 14), ("WordCache", 134, "flush", κ 15), ("WordCache", 136, "shape", κ 18), ("WordCache", 138, "rule", κ 19), ("WordCache$Reader", 88, "read", κ 11), ("java/lang/StringLatin1", 151, "", κ 10), ("java/lang/StringUTF16", 295, "", κ 10), ("WordCache$Reader", 58, " ", κ 20), ("WordCache$Reader", 90, "write", κ 12), ("WordCache$Reader", 76, "=", κ 21), ("WordCache$Reader", 95, "pin", κ 13), ("WordCache$Reader", 78, "free", κ 14), ("WordCache$Reader", 84, "lush", κ 22), ("WordCache$Reader", 86, "flush", κ 15), ("WordCache$Reader", 101, "device", κ 16), ("WordCache$Reader", 103, "ticks", κ 17), ("WordCache$Machine", 328, "", κ 10), ("WordCache$Machine", 330, " ", κ 20), ("WordCache$Line", 58, "-", κ 23), ("WordCache$Line", 71, "!", κ 24), ("WordCache$Line", 73, "", κ 10), ("WordCacheModel", 168, "read ", κ 25), ("WordCacheModel", 170, "write ", κ 26), ("WordCacheModel", 172, "pin ", κ 27), ("WordCacheModel", 174, "free ", κ 28), ("WordCacheModel", 176, "flush", κ 15), ("WordCacheModel", 178, "device ", κ 29), ("WordCacheModel", 180, "ticks ", κ 30)]
def x_ncs : List (String × String) := [("java/lang/IllegalArgumentException", "java/lang/IndexOutOfBoundsException"), ("java/util/NoSuchElementException", "java/lang/IndexOutOfBoundsException"), ("java/lang/UnsupportedOperationException", "java/lang/IllegalArgumentException")]
/-- what a class's rows ask -/
def xCl (G : xG) (ci : Nat) (C : String) (T : u_T) (N : Nat) (ty : Nat → FieldType) : Prop :=
  (G.1.2[ci]? = some (C, T, N) ∧ ci < 1000) ∧ (∀ w ∈ u_ws C T N, w ∈ lw_all) ∧ (∀ k, k < N → parseFieldDescriptor (T k).2.2.1 = some (ty k)) ∧ (∀ a, a < N → ∀ b, b < N → a ≠ b → (T a).2.1 ≠ (T b).2.1)
/-- words of the Statement outside its tables, and those that their rows ask -/
def x_dw : List Cond := [.methodLink "WordCache" 397 ⟨"java/util/Deque", "isEmpty", "()Z"⟩, .methodLink "WordCache" 404 ⟨"java/util/Deque", "clear", "()V"⟩, .methodLink "java/util/AbstractQueue" 20 ⟨"java/util/AbstractQueue", "poll", "()Ljava/lang/Object;"⟩, .sameMethod "java/util/AbstractQueue" "java/util/Queue" "poll" "()Ljava/lang/Object;",
  .declares ⟨"java/util/Collection", "isEmpty", "()Z"⟩, .declares ⟨"java/util/Collection", "clear", "()V"⟩, .publicMethod ⟨"java/util/Collection", "isEmpty", "()Z"⟩, .publicMethod ⟨"java/util/Collection", "clear", "()V"⟩, .publicMethod ⟨"java/util/ArrayDeque", "isEmpty", "()Z"⟩, .publicMethod ⟨"java/util/ArrayDeque", "clear", "()V"⟩, .unhidden "java/util/ArrayDeque" "isEmpty" "()Z", .unhidden "java/util/ArrayDeque" "clear" "()V", .castable "java/util/ArrayDeque" "java/util/Deque",
  .declares ⟨"java/lang/Object", "getClass", "()Ljava/lang/Class;"⟩, .privateMethod ⟨"java/lang/AbstractStringBuilder", "appendNull", "()Ljava/lang/AbstractStringBuilder;"⟩, .privateMethod ⟨"java/lang/AbstractStringBuilder", "ensureCapacityInternal", "(I)V"⟩, .privateMethod ⟨"java/lang/AbstractStringBuilder", "newCapacity", "(I)I"⟩, .privateMethod ⟨"java/lang/AbstractStringBuilder", "putStringAt", "(ILjava/lang/String;)V"⟩, .privateMethod ⟨"java/lang/AbstractStringBuilder", "inflateIfNeededFor", "(Ljava/lang/String;)V"⟩, .privateMethod ⟨"java/lang/AbstractStringBuilder", "inflate", "()V"⟩]
def x_df : List (String × String × String × String) := [("java/util/Deque", "java/util/Collection", "isEmpty", "()Z"), ("java/util/Deque", "java/util/Collection", "clear", "()V")]
theorem x_dw_only : ∀ w ∈ x_dw, w.tabsOnly = true := by decide
def xDw (U : State) : Prop := (∀ w ∈ x_dw, w.before #[] U = true) ∧ ∀ q ∈ x_df, (Cond.interfaceMethod q.1 q.2.1 q.2.2.1 q.2.2.2).before #[] U = true
theorem x_iface {a a' : Array Value} {s U : State} (hal : s.vm.Alike U.vm) {ref owner name desc : String} (h : (Cond.interfaceMethod ref owner name desc).before a s = true) : (Cond.interfaceMethod ref owner name desc).before a' U = true := by
  have h1 : (Cond.interfaceMethod ref owner name desc).before a' (s.setVm U.vm) = (Cond.interfaceMethod ref owner name desc).before a s := by
    simp only [Cond.before, Cond.holds, Cond.value, State.vm_setVm, hal.findClass, State.methodFound?_setVm hal, State.methodNamed?_setVm hal, arm_isInterface_setVm hal]
  have h2 : (Cond.interfaceMethod ref owner name desc).before a' U = (Cond.interfaceMethod ref owner name desc).before a' (s.setVm U.vm) := rfl
  rw [h2, h1]; exact h
theorem x_dwA {w : Cond} {U : State} (A : Array Value) (hc : w.tabsOnly = true) (h : w.before #[] U = true) : w.before A U = true := by
  have := Cond.tabsOnly_warm (args' := A) (T := U) (State.WarmedH.refl U) w hc h
  rwa [show U.setVm U.vm = U from rfl] at this
theorem xDw.warm {s U : State} (hW : s.WarmedH U.vm) (h : xDw s) : xDw U := by
  refine ⟨fun w hw => ?_, fun q hq => x_iface hW.alike (h.2 q hq)⟩
  have := Cond.tabsOnly_warm (args' := #[]) (T := U) hW w (x_dw_only w hw) (h.1 w hw)
  rwa [show U.setVm U.vm = U from rfl] at this
def xGd (G : xG) (U : State) : Prop := va_K G.1.1 G.1.2 [] U ∧ xN U ∧ G.2 0 ≤ U.heap.size ∧ xF U ∧ va_AO "java/lang/Object" U ∧ (∀ q ∈ x_sts G.2, va_Z q.1 q.2.1 q.2.2.1 q.2.2.2 (xA G) U U.heap) ∧ (∀ q ∈ x_ss G.2, vk_R q.1 q.2.1 q.2.2.1 q.2.2.2 U) ∧ vx_Zq Bundle.tN "UNASSIGNED_STACK" Bundle.steD (xA G) U U.heap ∧ vx_Zq Bundle.tN "SUPPRESSED_SENTINEL" Bundle.listD (xA G) U U.heap ∧ (∀ q ∈ x_ncs, va_Nc q.1 q.2 U) ∧ va_Mi "[Ljava/lang/Object;" (G.2 7) U ∧ xDw U
theorem xGd.warm {G : xG} {s U : State} (hW : s.WarmedH U.vm) (hz : s.heap.size ≤ U.heap.size) (hk : ∀ q : Nat, q < s.heap.size → ¬ xA G q → U.heap[q]? = s.heap[q]?) (h : xGd G s) : xGd G U :=
  ⟨va_K.moved hW.alike h.1, h.2.1.warm hW, Nat.le_trans h.2.2.1 hz, h.2.2.2.1.warm hW, va_AO.moved hW.alike h.2.2.2.2.1, fun q hq => va_Z.moved hW.alike (va_Z.kept (h.2.2.2.2.2.1 q hq) hk), fun q hq => vk_R.warm hW (h.2.2.2.2.2.2.1 q hq), vx_Zq.moved hW.alike (vx_Zq.kept h.2.2.2.2.2.2.2.1 hk), vx_Zq.moved hW.alike (vx_Zq.kept h.2.2.2.2.2.2.2.2.1 hk), fun q hq => va_Nc.moved hW.alike (h.2.2.2.2.2.2.2.2.2.1 q hq), va_Mi.moved hW.alike h.2.2.2.2.2.2.2.2.2.2.1, h.2.2.2.2.2.2.2.2.2.2.2.warm hW⟩
theorem xGd.A {G : xG} {s : State} (h : xGd G s) : ∀ q : Nat, s.heap.size ≤ q → xA G q := fun _ hq => Nat.le_trans h.2.2.1 hq
def xX (p : Program) (s : State) (m : MethodId) (args : Array Value) (meth : Method) (c : Code) (G : xG) (cc : ByteArray) (nL : Nat) (own : String) : Prop :=
  p.tables.exec = Jvm.exec ∧ c.code = cc ∧ c.maxLocals = nL ∧ s.vm.findClass own = some m.cls ∧ (∀ w ∈ lw_all, w.before args s = true) ∧ xGd G s ∧ meth.locks = false
section X1
variable {p : Program} {l : Launch} {e : Env} {R : Room} {s : State} {m : MethodId} {args : Array Value} {below : List Frame} {meth : Method} {c : Code} {Q : State → Prop} {G : xG} {nL : Nat} {cc : ByteArray} {own : String}
def xW (p : Program) (l : Launch) (e : Env) (R : Room) (s : State) (m : MethodId) (args : Array Value) (below : List Frame) (meth : Method) (c : Code) (G : xG) (nL : Nat) (Q : State → Prop) (σ : xS) (pc : Nat) (lo : List (Nat × Value)) (st : List Value) : Prop :=
  ∀ (H : Heap) (locs : List Loc) (cells slots : Nat) (ls : Array Slot), va_S (xA G) s.heap H locs → xRel G s σ.1 H → lv_has ls nL lo → cells + σ.2.1 ≤ R.cells → slots + σ.2.2 ≤ R.slots → W p l e R s m args below meth c H locs cells slots Q (F0 m pc ls st)
variable {σ : xS} {pc pc' : Nat} {lo lo' : List (Nat × Value)} {st st' : List Value}
theorem x_up (f : ∀ (H : Heap) (locs : List Loc) (cells slots : Nat) (ls : Array Slot), lv_has ls nL lo → W p l e R s m args below meth c H locs cells slots Q (F0 m pc' ls st') → W p l e R s m args below meth c H locs cells slots Q (F0 m pc ls st))
    (k : xW p l e R s m args below meth c G nL Q σ pc' lo st') : xW p l e R s m args below meth c G nL Q σ pc lo st :=
  fun H locs cells slots ls h1 h2 h3 h4 h5 => f H locs cells slots ls h3 (k H locs cells slots ls h1 h2 h3 h4 h5)
theorem x_upL (f : ∀ (H : Heap) (locs : List Loc) (cells slots : Nat) (ls : Array Slot), lv_has ls nL lo → (∀ ls', lv_has ls' nL lo' → W p l e R s m args below meth c H locs cells slots Q (F0 m pc' ls' st')) → W p l e R s m args below meth c H locs cells slots Q (F0 m pc ls st))
    (k : xW p l e R s m args below meth c G nL Q σ pc' lo' st') : xW p l e R s m args below meth c G nL Q σ pc lo st :=
  fun H locs cells slots ls h1 h2 h3 h4 h5 => f H locs cells slots ls h3 (fun ls' h' => k H locs cells slots ls' h1 h2 h' h4 h5)
theorem x_if {pt : Nat} {C : Prop} (f : ∀ (H : Heap) (locs : List Loc) (cells slots : Nat) (ls : Array Slot), (C → W p l e R s m args below meth c H locs cells slots Q (F0 m pt ls st')) → (¬ C → W p l e R s m args below meth c H locs cells slots Q (F0 m pc' ls st')) → W p l e R s m args below meth c H locs cells slots Q (F0 m pc ls st))
    (k1 : C → xW p l e R s m args below meth c G nL Q σ pt lo st') (k2 : ¬ C → xW p l e R s m args below meth c G nL Q σ pc' lo st') : xW p l e R s m args below meth c G nL Q σ pc lo st :=
  fun H locs cells slots ls h1 h2 h3 h4 h5 => f H locs cells slots ls (fun q => k1 q H locs cells slots ls h1 h2 h3 h4 h5) (fun q => k2 q H locs cells slots ls h1 h2 h3 h4 h5)
theorem x_lo (ks : List Nat) (hl : lv_pick lo ks = lo') (k : xW p l e R s m args below meth c G nL Q σ pc lo' st) : xW p l e R s m args below meth c G nL Q σ pc lo st :=
  fun H locs cells slots ls h1 h2 h3 h4 h5 => k H locs cells slots ls h1 h2 (lv_sub h3 ks hl) h4 h5
-- ===== fields =====
def xgi (σ : xS) (a ci k : Nat) (K : Int32 → Prop) : Prop := ∃ fs x, σ.1 a = some (.inl (ci, fs)) ∧ fs[k]? = some (.int x) ∧ K x
def xgq (σ : xS) (a ci k : Nat) (K : Option Nat → Prop) : Prop := ∃ fs r, σ.1 a = some (.inl (ci, fs)) ∧ fs[k]? = some (va_rf r) ∧ K r
def xpi (κ : Nat → Nat) (σ : xS) (a ci k : Nat) (x : Int32) (K : xS → Prop) : Prop := ∃ fs, σ.1 a = some (.inl (ci, fs)) ∧ κ 0 ≤ a ∧ k < fs.length ∧ K (xup σ.1 a (.inl (ci, fs.set k (.int x))), σ.2)
def xpq (κ : Nat → Nat) (σ : xS) (a ci k : Nat) (r : Option Nat) (K : xS → Prop) : Prop := ∃ fs, σ.1 a = some (.inl (ci, fs)) ∧ κ 0 ≤ a ∧ k < fs.length ∧ K (xup σ.1 a (.inl (ci, fs.set k (va_rf r))), σ.2)
theorem x_getC {C ref : String} {T : u_T} {N ci : Nat} {ty : Nat → FieldType} (X : xX p s m args meth c G cc nL own) (hk : xCl G ci C T N ty) (k : Nat) (hkN : k < N)
    (hsame : ∀ x, s.fieldFound? (T k).1 (T k).2.1 (T k).2.2.1 = some x → s.fieldFound? ref (T k).2.1 (T k).2.2.1 = some x) {a : Nat} {fs : List Value} {v : Value} {H : Heap} (ha : xOb G ci fs a H) (hv : fs[k]? = some v) :
    ∃ (cf i : Nat) (kf : Class) (f : Field) (cell : Cell), s.fieldFound? ref (T k).2.1 (T k).2.2.1 = some (cf, kf, i, f) ∧ f.isStatic = false ∧ H[a]? = some cell ∧ cell.vm ≠ .unknown ∧ cell.slots[f.slot]? = some v := by
  obtain ⟨hx, hb, hml, hown, hts, ⟨hK, -, -⟩, -⟩ := X
  obtain ⟨⟨hc, hlt⟩, hin, hty, hnm⟩ := hk
  obtain ⟨r, cell, h1, q1, q2, q3, q4, q5, q6⟩ := ha
  have hr : r = (C, T, N) := Option.some.inj (h1.symm.trans hc)
  subst hr
  obtain ⟨hS, hfc, kC, hkC, hkind⟩ := hK.1 ci _ hc
  obtain ⟨cf, kf, fi, f, hi, hsl⟩ := hS k hkN
  refine ⟨cf, fi, kf, f, cell, hsame _ hi, (u_facts hfc hkC (u_lays hts hin hkN) hi).1, q1, q3, ?_⟩
  rw [hsl, q6 k hkN]
  simp [vp_V, hv]
variable {C ref : String} {T : u_T} {N ci index : Nat} {ty : Nat → FieldType} {a : Nat}
theorem x_gi (X : xX p s m args meth c G cc nL own) (hk : xCl G ci C T N ty) (k : Nat) (hkN : k < N) (hl : Cond.fieldLink own index ref (T k).2.1 (T k).2.2.1 ∈ lw_all)
    (hsame : ∀ x, s.fieldFound? (T k).1 (T k).2.1 (T k).2.2.1 = some x → s.fieldFound? ref (T k).2.1 (T k).2.2.1 = some x) (hd : decode cc pc = .ok (.getfield index, 3)) {K : Int32 → Prop} (hp : xgi σ a ci k K)
    (kk : ∀ x, K x → xW p l e R s m args below meth c G nL Q σ (pc + 3) lo (.int x :: st)) : xW p l e R s m args below meth c G nL Q σ pc lo (.ref a :: st) := by
  intro H locs cells slots ls hS hR hL hc hs
  obtain ⟨fs, x, h1, h2, h3⟩ := hp
  obtain ⟨cf, i, kf, f, cell, g1, g2, g3, g4, g5⟩ := x_getC X hk k hkN hsame ((hR a _ h1).1 hk.1.2) h2
  exact W.getf X.1 X.2.1 X.2.2.2.1 (X.2.2.2.2.1 _ hl) g1 g2 g3 g4 g5 rfl rfl hd (kk x h3 H locs cells slots ls hS hR hL hc hs)
theorem x_gq (X : xX p s m args meth c G cc nL own) (hk : xCl G ci C T N ty) (k : Nat) (hkN : k < N) (hl : Cond.fieldLink own index ref (T k).2.1 (T k).2.2.1 ∈ lw_all)
    (hsame : ∀ x, s.fieldFound? (T k).1 (T k).2.1 (T k).2.2.1 = some x → s.fieldFound? ref (T k).2.1 (T k).2.2.1 = some x) (hd : decode cc pc = .ok (.getfield index, 3)) {K : Option Nat → Prop} (hp : xgq σ a ci k K)
    (kk : ∀ x, K x → xW p l e R s m args below meth c G nL Q σ (pc + 3) lo (va_rf x :: st)) : xW p l e R s m args below meth c G nL Q σ pc lo (.ref a :: st) := by
  intro H locs cells slots ls hS hR hL hc hs
  obtain ⟨fs, x, h1, h2, h3⟩ := hp
  obtain ⟨cf, i, kf, f, cell, g1, g2, g3, g4, g5⟩ := x_getC X hk k hkN hsame ((hR a _ h1).1 hk.1.2) h2
  exact W.getf X.1 X.2.1 X.2.2.2.1 (X.2.2.2.2.1 _ hl) g1 g2 g3 g4 g5 rfl rfl hd (kk x h3 H locs cells slots ls hS hR hL hc hs)
theorem x_giN {host : String} (X : xX p s m args meth c G cc nL own) (hk : xCl G ci C T N ty) (k : Nat) (hkN : k < N) (hl : Cond.fieldLinkNest own index ref (T k).2.1 (T k).2.2.1 host ∈ lw_tbl)
    (hsame : ∀ x, s.fieldFound? (T k).1 (T k).2.1 (T k).2.2.1 = some x → s.fieldFound? ref (T k).2.1 (T k).2.2.1 = some x) (hd : decode cc pc = .ok (.getfield index, 3)) {K : Int32 → Prop} (hp : xgi σ a ci k K)
    (kk : ∀ x, K x → xW p l e R s m args below meth c G nL Q σ (pc + 3) lo (.int x :: st)) : xW p l e R s m args below meth c G nL Q σ pc lo (.ref a :: st) := by
  intro H locs cells slots ls hS hR hL hc hs
  obtain ⟨fs, x, h1, h2, h3⟩ := hp
  obtain ⟨cf, i, kf, f, cell, g1, g2, g3, g4, g5⟩ := x_getC X hk k hkN hsame ((hR a _ h1).1 hk.1.2) h2
  exact va_Wgetf X.1 X.2.1 X.2.2.2.1 (va_Nw.use rfl (X.2.2.2.2.2.1.2.1 _ hl rfl)) g1 g2 g3 g4 g5 rfl rfl hd (kk x h3 H locs cells slots ls hS hR hL hc hs)
theorem x_gqN {host : String} (X : xX p s m args meth c G cc nL own) (hk : xCl G ci C T N ty) (k : Nat) (hkN : k < N) (hl : Cond.fieldLinkNest own index ref (T k).2.1 (T k).2.2.1 host ∈ lw_tbl)
    (hsame : ∀ x, s.fieldFound? (T k).1 (T k).2.1 (T k).2.2.1 = some x → s.fieldFound? ref (T k).2.1 (T k).2.2.1 = some x) (hd : decode cc pc = .ok (.getfield index, 3)) {K : Option Nat → Prop} (hp : xgq σ a ci k K)
    (kk : ∀ x, K x → xW p l e R s m args below meth c G nL Q σ (pc + 3) lo (va_rf x :: st)) : xW p l e R s m args below meth c G nL Q σ pc lo (.ref a :: st) := by
  intro H locs cells slots ls hS hR hL hc hs
  obtain ⟨fs, x, h1, h2, h3⟩ := hp
  obtain ⟨cf, i, kf, f, cell, g1, g2, g3, g4, g5⟩ := x_getC X hk k hkN hsame ((hR a _ h1).1 hk.1.2) h2
  exact va_Wgetf X.1 X.2.1 X.2.2.2.1 (va_Nw.use rfl (X.2.2.2.2.2.1.2.1 _ hl rfl)) g1 g2 g3 g4 g5 rfl rfl hd (kk x h3 H locs cells slots ls hS hR hL hc hs)
theorem xOb.set {G : xG} {ci k : Nat} {C : String} {T : u_T} {N : Nat} {fs : List Value} {a : Nat} {H1 : Heap} {cell : Cell} {v : Value} (h1 : G.1.2[ci]? = some (C, T, N)) (hap : ∀ x y, x < N → y < N → x ≠ y → (G.1.1.2 ci) x ≠ (G.1.1.2 ci) y) (hk : k < N) (hl : k < fs.length)
    (q2 : cell.cls = G.1.1.1 ci) (q3 : cell.vm ≠ .unknown) (q4 : cell.vm.isStatics = false) (q5 : G.2 0 ≤ a → cell.vm = .none) (q6 : ∀ k, k < N → cell.slots[G.1.1.2 ci k]? = some (vp_V fs k)) (e1 : H1[a]? = some (cell.setSlot (G.1.1.2 ci k) v)) : xOb G ci (fs.set k v) a H1 := by
  refine ⟨_, _, h1, e1, q2, q3, q4, q5, fun j hj => ?_⟩
  rw [t_set q6 hap hk v j hj, vp_updV_set hl v j]
theorem x_putC (X : xX p s m args meth c G cc nL own) (hk : xCl G ci C T N ty) (k : Nat) (hkN : k < N)
    (hsame : ∀ x, s.fieldFound? (T k).1 (T k).2.1 (T k).2.2.1 = some x → s.fieldFound? ref (T k).2.1 (T k).2.2.1 = some x) (hfin : (T k).2.2.2 = false) {fs : List Value} {v : Value} {H : Heap} (ha : xOb G ci fs a H) (hA : G.2 0 ≤ a) (hl : k < fs.length) (hn : narrow (ty k) v = v) (hfit : fits (ty k) v = true) :
    ∃ (f : Field) (cell : Cell), (∃ cf k' i, s.fieldFound? ref (T k).2.1 (T k).2.2.1 = some (cf, k', i, f)) ∧ f.isStatic = false ∧ k2_Sd s f cell.cls v ∧ H[a]? = some cell ∧ cell.vm = .none ∧ f.slot < cell.slots.size ∧ ∀ H1 : Heap, H1[a]? = some (cell.setSlot f.slot v) → xOb G ci (fs.set k v) a H1 := by
  obtain ⟨hx, hb, hml, hown, hts, ⟨hK, -, -⟩, -⟩ := X
  obtain ⟨⟨hc, hlt⟩, hin, hty, hnm⟩ := hk
  have hap := va_apart (own := own) hts hin ty hty hnm hK hc
  obtain ⟨r, cell, h1, q1, q2, q3, q4, q5, q6⟩ := ha
  have hr : r = (C, T, N) := Option.some.inj (h1.symm.trans hc)
  subst hr
  obtain ⟨hS, hfc, kC, hkC, hkind⟩ := hK.1 ci _ hc
  obtain ⟨cf, kf, fi, f, hi, hsl⟩ := hS k hkN
  have hlay := hts _ (hin _ (u_in_lay hkN))
  unfold u_lay at hlay
  rw [if_neg (by rw [hfin]; decide)] at hlay
  have hst := (u_facts hfc hkC (u_lays hts hin hkN) hi).1
  have h6 := u_store hfc hkC hkind hlay hi (hty k hkN) hn hfit
  refine ⟨f, cell, ⟨_, _, _, hsame _ hi⟩, hst, by rw [q2]; exact h6, q1, q5 hA, by rw [hsl]; exact k2_hasslot (q6 k hkN), fun H1 e1 => ?_⟩
  rw [hsl] at e1
  exact xOb.set h1 hap hkN hl q2 q3 q4 q5 q6 e1
theorem x_pi (X : xX p s m args meth c G cc nL own) (hk : xCl G ci C T N ty) (k : Nat) (hkN : k < N) (hl : Cond.fieldLink own index ref (T k).2.1 (T k).2.2.1 ∈ lw_all)
    (hsame : ∀ x, s.fieldFound? (T k).1 (T k).2.1 (T k).2.2.1 = some x → s.fieldFound? ref (T k).2.1 (T k).2.2.1 = some x) (hfin : (T k).2.2.2 = false) {x : Int32} (hn : narrow (ty k) (.int x) = .int x) (hfit : fits (ty k) (.int x) = true) (hd : decode cc pc = .ok (.putfield index, 3)) {K : xS → Prop} (hp : xpi G.2 σ a ci k x K)
    (kk : ∀ σ', K σ' → xW p l e R s m args below meth c G nL Q σ' (pc + 3) lo st) : xW p l e R s m args below meth c G nL Q σ pc lo (.int x :: .ref a :: st) := by
  intro H locs cells slots ls hS hR hL hc hs
  obtain ⟨fs, h1, h2, h3, h4⟩ := hp
  obtain ⟨f, cell, g1, g2, g3, g4, g5, g6, g7⟩ := x_putC X hk k hkN hsame hfin ((hR a _ h1).1 hk.1.2) h2 h3 hn hfit
  exact W.putK X.1 X.2.1 (f := f) ⟨X.2.2.2.1, X.2.2.2.2.1 _ hl, g1, g2⟩ g3 g4 g5 g6 rfl rfl hd fun H' e1 e2 e3 => kk _ h4 H' _ cells slots ls (hS.put e2 e3 h2) (hR.put ⟨fun _ => g7 H' e1, fun z => absurd hk.1.2 (Nat.not_lt.mpr z)⟩ e3) hL hc hs
theorem x_pq (X : xX p s m args meth c G cc nL own) (hk : xCl G ci C T N ty) (k : Nat) (hkN : k < N) (hl : Cond.fieldLink own index ref (T k).2.1 (T k).2.2.1 ∈ lw_all)
    (hsame : ∀ x, s.fieldFound? (T k).1 (T k).2.1 (T k).2.2.1 = some x → s.fieldFound? ref (T k).2.1 (T k).2.2.1 = some x) (hfin : (T k).2.2.2 = false) (x : Option Nat) (hn : narrow (ty k) (va_rf x) = va_rf x) (hfit : fits (ty k) (va_rf x) = true) (hd : decode cc pc = .ok (.putfield index, 3)) {K : xS → Prop} (hp : xpq G.2 σ a ci k x K)
    (kk : ∀ σ', K σ' → xW p l e R s m args below meth c G nL Q σ' (pc + 3) lo st) : xW p l e R s m args below meth c G nL Q σ pc lo (va_rf x :: .ref a :: st) := by
  intro H locs cells slots ls hS hR hL hc hs
  obtain ⟨fs, h1, h2, h3, h4⟩ := hp
  obtain ⟨f, cell, g1, g2, g3, g4, g5, g6, g7⟩ := x_putC X hk k hkN hsame hfin ((hR a _ h1).1 hk.1.2) h2 h3 hn hfit
  exact W.putK X.1 X.2.1 (f := f) ⟨X.2.2.2.1, X.2.2.2.2.1 _ hl, g1, g2⟩ g3 g4 g5 g6 rfl rfl hd fun H' e1 e2 e3 => kk _ h4 H' _ cells slots ls (hS.put e2 e3 h2) (hR.put ⟨fun _ => g7 H' e1, fun z => absurd hk.1.2 (Nat.not_lt.mpr z)⟩ e3) hL hc hs
end X1
