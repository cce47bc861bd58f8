/-- the lines of set q that may give way -/
def gS (A : Nat → Nat) (g : Nat → Int32) (q i : Nat) (y : Nat) : Prop := ∃ k, k < i ∧ m_canGive g (4 * q + k) = true ∧ y = A (6 + (4 * q + k))
section E4
variable {κ A : Nat → Nat} {h h' H M0 : xH} {g : Nat → Int32} {s l r a b b3 d n q k : Nat} {w : Nat × Nat}
theorem mE_noA {N : Nat} {F : Nat → Option Nat} : mE A g k ≠ oA N F := by
  unfold mE
  intro z
  split at z
  · cases z
  split at z
  · cases z
  split at z
  · cases z
  split at z
  · cases z
  split at z
  · cases z
  split at z
  · cases z
  split at z <;> cases z
theorem cc_giving (hM : MB κ A s l h) (hr : r < 4) (hr3 : g 3 = nI r) (hq : q < s) (hLN : ∀ k, k < l → m_canGive g (4 * q + k) = true → LN g (4 * q + k)) {c0 s0 : Nat} (hc : 20 ≤ c0) (hs : 8000 ≤ s0) (K : Option Nat → xH → Prop)
    (hK : ∀ (h' : xH) (o od n : Nat) (p : Nat → Nat) (m : Int32), Ext h h' → mD A s l h' → AL κ h' o od n (fun i => some (p i)) m → n ≤ 4 → SRT p n (gS A g q l) (fun y => n_rk g r (n_inv A s l y)) → K (some o) (mput h' A s l g)) : P_X2_giving κ (A 5) (nI q) (mput h A s l g, c0, s0) K := by
  obtain ⟨hA, hD, hS, ⟨hs1, hs4⟩, ⟨hl1, hl4⟩, hκ2, F0, he2, hF0⟩ := hM
  obtain ⟨d0, m0, B, D, M, hS1, hS2⟩ := hS
  have hX0 := mput_ext (g := g) hD
  have hA5 := mput_5 (h := h) (g := g) hA
  have hB1 := hS1.mono hX0
  have hB2 := (hS2 q hq).mono hX0
  have hz2 := hX0 _ _ he2
  have hlines : ∀ a, lin s l a → mput h A s l g (A (6 + a)) = some (.inl (5, lFs A g a)) := fun a hl => mput_l hA hl
  -- at the end
  have fin : ∀ (H' : xH) (o od n : Nat) (p : Nat → Nat) (m : Int32), Ext (mput h A s l g) H' → AL κ H' o od n (fun i => some (p i)) m → mput h A s l g o = none → n ≤ 4 → SRT p n (gS A g q l) (fun y => n_rk g r (n_inv A s l y)) → K (some o) H' := by
    intro H' o od n p m k1 k2 k3 k4 k5
    have hHA : ∀ k, mdm s l k → H' (A k) = some (mE A g k) := fun k hk => k1 _ _ (mput_k hA hk)
    rw [← mput_back hA hHA]
    refine hK _ o od n p m (fun b e hb => by rw [mcut_in (hD.ne hb)]; exact k1 _ _ (hX0 _ _ hb)) mcut_D (k2.same (mcut_in (fun k hk z => ?_)) (mcut_in (fun k hk z => ?_))) k4 k5
    · rw [← z, mput_k hA hk] at k3
      cases k3
    · obtain ⟨N, F, -, y2, -⟩ := k2
      rw [← z, hHA k hk] at y2
      exact mE_noA (Option.some.inj y2)
  generalize mput h A s l g = M0 at *
  unfold P_X2_giving
  refine ⟨by show 1 ≤ c0; omega, by show 4 ≤ s0; omega, fun a ha hκa => ?_⟩
  have ha : M0 a = none := ha
  have xa : Ext M0 (xup M0 a (.inl (27, [va_rf none, .int 0, va_rf none, .int 0]))) := Ext.new ha
  show xgi (xup M0 a (.inl (27, [va_rf none, .int 0, va_rf none, .int 0])), _) (A 5) 1 11 _
  rw [g_gi (x := g 3) (xa _ _ hA5) rfl, hr3]
  refine c_call 1 0 (by show 1 ≤ c0 - 1; omega) (Nat.zero_le _) (cc_byRule hr (Nat.le_refl _) _ (fun b3 hb3 hκb3 => ?_))
  obtain ⟨hb3a, hb3n⟩ := xup_none hb3
  have eb3 : xup (xup M0 a (.inl (27, [va_rf none, .int 0, va_rf none, .int 0]))) b3 (.inl (28 + r, [])) b3 = some (.inl (28 + r, [])) := xup_eq
  have ea3 : xup (xup M0 a (.inl (27, [va_rf none, .int 0, va_rf none, .int 0]))) b3 (.inl (28 + r, [])) a = some (.inl (27, [va_rf none, .int 0, va_rf none, .int 0])) := by rw [xup_ne hb3a.symm, xup_eq]
  have x3 : Ext M0 (xup (xup M0 a (.inl (27, [va_rf none, .int 0, va_rf none, .int 0]))) b3 (.inl (28 + r, []))) := xa.new2 hb3n
  generalize xup (xup M0 a (.inl (27, [va_rf none, .int 0, va_rf none, .int 0]))) b3 (.inl (28 + r, [])) = H3 at *
  refine c_call 1 11 (by show 1 ≤ c0 - 1 - 1; omega) (by show 11 ≤ s0 - 4 - 0; omega) (cc_init42 (S := gS A g q l) (rk := fun y => n_rk g r (n_inv A s l y)) ea3 hκa (Nat.le_refl _) (Nat.le_refl _) _ (fun H4 d hd0 hQ hfr4 hno4 => ?_))
  have x4 : Ext M0 H4 := fun b e hb => hfr4 b e (x3 _ _ hb) (fun z => by rw [z, ha] at hb; cases hb)
  have eb4 : H4 b3 = some (.inl (28 + r, [])) := hfr4 _ _ eb3 (fun z => hb3a z)
  have hd3 : M0 d = none := by
    cases hh : M0 d with
    | none => rfl
    | some e => rw [x3 _ _ hh] at hd0; cases hd0
  rw [g_gq (r := some (A 39)) (x4 _ _ hA5) rfl, t_nn, (hB1.mono x4).rc, true_and]
  refine c_pure (r := some (B q)) (fun w K hk => cc_get4 (hB1.mono x4) hq K hk) ?_
  rw [t_nn, (hB2.mono x4).rc, true_and, true_and]
  refine c_call 1 4 (by show 1 ≤ c0 - 1 - 1 - 1; omega) (by show 4 ≤ s0 - 4 - 0 - 11; omega) (cc_iterator (hB2.mono x4) (Nat.le_refl _) (Nat.le_refl _) _ (fun p hp hκp hI => ?_))
  have hp0 : M0 p = none := by
    cases hh : M0 p with
    | none => rfl
    | some e => rw [x4 _ _ hh] at hp; cases hp
  have x5 : Ext M0 (xup H4 p (itE 0 (-1) (M q) (B q))) := x4.new2 hp0
  have hpa : p ≠ a := fun z => by
    obtain ⟨N, F, qq, m, e1, -⟩ := hQ
    rw [z, e1] at hp; cases hp
  have hpd : p ≠ d := fun z => by
    obtain ⟨N, F, qq, m, -, e2, -⟩ := hQ
    rw [z, e2] at hp; cases hp
  have hpb : p ≠ b3 := fun z => by rw [z, eb4] at hp; cases hp
  have hQ5 : PQ κ (xup H4 p (itE 0 (-1) (M q) (B q))) a d b3 0 (gS A g q l) (fun y => n_rk g r (n_inv A s l y)) (gS A g q 0) := (hQ.same (xup_ne hpa.symm) (xup_ne hpd.symm)).congr (fun y => ⟨fun z => z.elim, fun ⟨k, hk, _⟩ => absurd hk (Nat.not_lt_zero _)⟩)
  have eb5 : xup H4 p (itE 0 (-1) (M q) (B q)) b3 = some (.inl (28 + r, [])) := by rw [xup_ne hpb.symm]; exact eb4
  have hI5 : IT (xup H4 p (itE 0 (-1) (M q) (B q))) p (B q) 0 (M q) := ⟨-1, xup_eq⟩
  have hSl : ∀ y, gS A g q l y → ∃ a, lin s l a ∧ y = A (6 + a) ∧ LN g a := fun y ⟨k, hk, hg, e⟩ => ⟨4 * q + k, lin_q hs4 hl4 hq hk, e, hLN k hk hg⟩
  have hSO : ∀ H1, Ext M0 H1 → H1 b3 = some (.inl (28 + r, [])) → SO H1 b3 5 (gS A g q l) := fun H1 x1 e1 => ⟨fun y hy => by
    obtain ⟨a, hl, e, -⟩ := hSl y hy
    exact ⟨_, by rw [e]; exact x1 _ _ (hlines a hl)⟩, ⟨by omega, rfl, by omega⟩, 28 + r, [], e1, by omega⟩
  have hCM : ∀ H1, Ext M0 H1 → H1 b3 = some (.inl (28 + r, [])) → CM κ H1 b3 (gS A g q l) (fun y => n_rk g r (n_inv A s l y)) := fun H1 x1 e1 => CM_line hA hr e1 (fun a hl => x1 _ _ (hlines a hl)) hSl
  show xwhile _ () (xup H4 p (itE 0 (-1) (M q) (B q)), _)
  refine x_for l (fun i v σ => i ≤ l ∧ ∃ (H1 : xH) (c1 s1 n d1 : Nat), σ = (H1, c1, s1) ∧ 16 ≤ c1 + i ∧ 7900 ≤ s1 + 100 * i ∧ Ext M0 H1 ∧ IT H1 p (B q) i (M q) ∧ H1 b3 = some (.inl (28 + r, [])) ∧ n ≤ i ∧ PQ κ H1 a d1 b3 n (gS A g q l) (fun y => n_rk g r (n_inv A s l y)) (gS A g q i) ∧ M0 d1 = none) ?_ ?_ (v := ()) ⟨Nat.zero_le _, _, _, _, 0, d, rfl, by show 16 ≤ c0 - 1 - 1 - 1 - 1 + 0; omega, by show 7900 ≤ s0 - 4 - 0 - 11 - 4 + 100 * 0; omega, x5, hI5, eb5, Nat.le_refl _, hQ5, hd3⟩
  · rintro i v σ ⟨-, H1, c1, s1, n, d1, rfl, hc1, hs1', x1, hI1, eb1, hn, hQ1, hd1⟩ hi self hself
    unfold B_X2_giving_34
    refine x_it (hB2.mono x1) hI1 hκp (by omega) (fun z => absurd z (by omega)) (fun _ hI2 => ?_)
    have hpa1 : p ≠ a ∧ p ≠ d1 := by
      obtain ⟨N, F, qq, m, e1, e2, -⟩ := hQ1
      obtain ⟨j, ej⟩ := hI1
      exact ⟨fun z => (by rw [z, e1] at ej; cases ej), fun z => (by rw [z, e2] at ej; cases ej)⟩
    have hpb1 : p ≠ b3 := fun z => by
      obtain ⟨j, ej⟩ := hI1
      rw [z, eb1] at ej
      have := (Prod.mk.inj (Sum.inl.inj (Option.some.inj ej))).1
      omega
    have x2 : Ext M0 (xup H1 p (itE (i + 1) (nI i) (M q) (B q))) := x1.new2 hp0
    have eb2 : xup H1 p (itE (i + 1) (nI i) (M q) (B q)) b3 = some (.inl (28 + r, [])) := by rw [xup_ne hpb1.symm]; exact eb1
    have hQ2 := hQ1.same (h' := xup H1 p (itE (i + 1) (nI i) (M q) (B q))) (xup_ne hpa1.1.symm) (xup_ne hpa1.2.symm)
    generalize xup H1 p (itE (i + 1) (nI i) (M q) (B q)) = H2 at *
    have hlin := lin_q hs4 hl4 hq hi
    have el := x2 _ _ (hlines _ hlin)
    show xnn (some (A (6 + (4 * q + i)))) _
    rw [t_nn, g_rc el, true_and, true_and]
    refine c_pure (r := bI (m_canGive g (4 * q + i))) (fun w K hk => cc_mayGiveH el K hk) ?_
    refine ⟨fun z => ?_, fun z => ?_⟩
    · have z := (bI_0 _).mp z
      refine hself _ _ ⟨by omega, H2, _, _, n, d1, rfl, by omega, by omega, x2, hI2, eb2, by omega, hQ2.congr (fun y => ?_), hd1⟩
      constructor
      · rintro ⟨k, hk, u⟩
        exact ⟨k, by omega, u⟩
      · rintro ⟨k, hk, u1, u2⟩
        refine ⟨k, ?_, u1, u2⟩
        by_cases hki : k = i
        · rw [hki, z] at u1; cases u1
        · omega
    · have z := bI_c z
      rw [hQ2.rc, true_and]
      have hxE : ¬ gS A g q i (A (6 + (4 * q + i))) := fun ⟨k, hk, _, e⟩ => by
        have := hA.2 _ _ (mdl hlin) (mdl (lin_q hs4 hl4 hq (show k < l by omega))) e
        omega
      refine c_call 1 100 (by omega) (by omega) (cc_add42 hQ2 (hSO H2 x2 eb2) (hCM H2 x2 eb2) ⟨i, hi, z, rfl⟩ hxE (by omega) (Nat.le_refl _) (Nat.le_refl _) _ (fun H3' d' hQ3 hfr hd' hno => ?_))
      have hne := (hSO H2 x2 eb2)
      have hbne : b3 ≠ a ∧ b3 ≠ d1 := by
        obtain ⟨N, F, qq, m, e1, e2, -⟩ := hQ2
        exact hne.ne e1 e2 b3 (Or.inr rfl)
      refine hself _ _ ⟨by omega, H3', _, _, n + 1, d', rfl, by omega, by omega, fun b e hb => hfr b e (x2 _ _ hb) (fun u => by rw [u, ha] at hb; cases hb) (fun u => by rw [u, hd1] at hb; cases hb), ?_, hfr _ _ eb2 hbne.1 hbne.2, by omega, hQ3.congr (fun y => ?_), ?_⟩
      · obtain ⟨j, ej⟩ := hI2
        exact ⟨j, hfr _ _ ej hpa1.1 hpa1.2⟩
      · constructor
        · rintro (rfl | ⟨k, hk, u⟩)
          · exact ⟨i, by omega, z, rfl⟩
          · exact ⟨k, by omega, u⟩
        · rintro ⟨k, hk, u1, u2⟩
          by_cases hki : k = i
          · rw [hki] at u2
            exact Or.inl u2
          · exact Or.inr ⟨k, by omega, u1, u2⟩
      · rcases hd' with hd' | hd'
        · rw [hd']; exact hd1
        · cases hh : M0 d' with
          | none => rfl
          | some e => rw [x2 _ _ hh] at hd'; cases hd'
  · rintro v σ ⟨-, H1, c1, s1, n, d1, rfl, hc1, hs1', x1, hI1, eb1, hn, hQ1, hd1⟩ self
    unfold B_X2_giving_34
    refine x_it (hB2.mono x1) hI1 hκp (Nat.le_refl _) (fun _ => ?_) (fun z => absurd z (Nat.lt_irrefl _))
    refine ⟨by show 1 ≤ c1; omega, by show 3 ≤ s1; omega, fun o ho hκo => ?_⟩
    have ho : H1 o = none := ho
    have ho0 : M0 o = none := by
      cases hh : M0 o with
      | none => rfl
      | some e => rw [x1 _ _ hh] at ho; cases ho
    refine c_call 0 0 (Nat.zero_le _) (Nat.zero_le _) (cc_init3 (c := 0) (fs := []) xup_eq hκo _ ?_)
    rw [xup_xup]
    have x6 : Ext M0 (xup H1 o (.inl (3, [.int 0, .ref (κ 2), .int 0]))) := x1.new2 ho0
    have hoa : o ≠ a ∧ o ≠ d1 := by
      obtain ⟨N, F, qq, m, e1, e2, -⟩ := hQ1
      exact ⟨fun z => (by rw [z, e1] at ho; cases ho), fun z => (by rw [z, e2] at ho; cases ho)⟩
    have hob : o ≠ b3 := fun z => by rw [z, eb1] at ho; cases ho
    have eb6 : xup H1 o (.inl (3, [.int 0, .ref (κ 2), .int 0])) b3 = some (.inl (28 + r, [])) := by rw [xup_ne hob.symm]; exact eb1
    refine cc_drain (hQ1.same (xup_ne hoa.1.symm) (xup_ne hoa.2.symm)) (o := o) (od := κ 2) (m := 0) ⟨0, F0, by rw [xup_eq, nI_0], x6 _ _ hz2, Nat.le_refl _, by omega, fun i hi => absurd hi (Nat.not_lt_zero _), fun i _ => hF0 i, Or.inl ⟨rfl, rfl⟩⟩ (hSO _ x6 eb6) (fun y hy => ?_) (hCM _ x6 eb6) (by omega) hκo rfl (fun z => by rw [z, hz2] at hd1; cases hd1) hκ2 hκa (fun fs z => by rw [eb6] at z; have := (Prod.mk.inj (Sum.inl.inj (Option.some.inj z))).1; omega) x6 ha hd1 ho0 (by show n ≤ c1 - 1 - 0; omega) (by show 1500 * n ≤ s1 - 3 - 0; omega) K (fun H' p od' m' y1 y2 y3 y4 => fin H' o od' n p m' y1 y2 ho0 (by omega) y3)
    obtain ⟨a, hl, e, -⟩ := hSl y hy
    exact ⟨_, by rw [e]; exact x6 _ _ (hlines a hl)⟩
end E4
