section X9
variable {p : Program} {l : Launch} {e : Env} {R : Room} {s : State} {m : MethodId} {args : Array Value} {below : List Frame} {meth : Method} {c : Code} {Q : State → Prop} {G : xG} {nL : Nat} {cc : ByteArray} {own : String}
variable {σ : xS} {pc pc' : Nat} {lo lo' : List (Nat × Value)} {st st' : List Value} {a : Nat}
theorem x_ldcwS {tx : String} {index q : Nat} (X : xX p s m args meth c G cc nL own) (hs : (own, index, tx, q) ∈ x_ss G.2) (hd : decode cc pc = .ok (.ldc_w index, 3))
    (kk : xW p l e R s m args below meth c G nL Q σ (pc + 3) lo (.ref q :: st)) : xW p l e R s m args below meth c G nL Q σ pc lo st := by
  intro H locs cells slots ls hS hR hL hc hs'
  obtain ⟨hx, hb, hml, hown, hts, hG, hlk⟩ := X
  intro T hT XX
  obtain ⟨t, a1, b1⟩ := kk H locs cells slots ls hS hR hL hc hs' T hT XX
  have hZ := hG.2.2.2.2.2.2.1 _ hs
  exact ⟨t, XX.ldcStringW hx hown (text := tx) (a := q) hZ.1 hZ.2 (g := F0 m pc ls st) rfl (by rw [hb]; exact hd) t a1, b1⟩
end X9
