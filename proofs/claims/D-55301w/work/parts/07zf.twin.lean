-- after an insertion: the colours are mended
section F6
variable {κ : Nat → Nat} {h : xH} {a n i j : Nat} {N kA vA : Nat → Nat} {v : Nat → Value} {sz m : Int32} {T T' : Nat → Nat → Option Nat} {cl cl' : Nat → Int32} {w : Nat × Nat} {lo hi : Nat → Nat}
theorem cc_fixEnd (hR : rOK κ a n N) (hT : TQ n T lo hi) (hc : colOK n cl) (hn : 0 < n) (K : Unit → xH → Prop) (hK : ∀ T' cl' lo' hi', TQ n T' lo' hi' → colOK n cl' → K () (rput h a n N kA vA v sz m T' cl')) : xgq (rput h a n N kA vA v sz m T cl, w) a 2 3 fun v6005 => xnn v6005 fun b6006 => xpi κ (rput h a n N kA vA v sz m T cl, w) b6006 19 5 (1 : Int32) fun σ6007 => K () σ6007.1 := by
  obtain ⟨r, e, hr⟩ := hT.hasRoot hn
  rw [r_ro, e]
  show xnn (some (N r)) _
  rw [t_nn, r_wc hR hr]
  exact hK T (setO cl (some r) 1) lo hi hT (setO_ok hc (Or.inr rfl))
theorem cc_fixX (hR : rOK κ a n N) (hT : TQ n T lo hi) (hc : colOK n cl) (hi' : i < n) (hp : ∀ p, T 2 i = some p → cl p = 1) (K : Unit → xH → Prop) (hK : ∀ T' cl' lo' hi', TQ n T' lo' hi' → colOK n cl' → K () (rput h a n N kA vA v sz m T' cl')) (f : Nat) : xloop (B_J1_fixAfterInsertion_5 κ K a) (f + 1) (some (N i)) (rput h a n N kA vA v sz m T cl, w) := by
  unfold xloop B_J1_fixAfterInsertion_5
  refine ⟨fun z => (by cases z), fun b z => ?_⟩
  cases z
  rw [r_ro]
  refine ⟨fun _ => cc_fixEnd hR hT hc (by omega) K hK, fun z => ?_⟩
  cases eP : T 2 i with
  | none =>
    exfalso
    rw [hT.root hi' eP] at z
    exact z rfl
  | some p =>
    have hpn := (hT.up hi' eP).2
    rw [r_p hR hi', eP]
    show xnn (some (N p)) _
    rw [t_nn, r_c hR hpn, hp p eP]
    exact ⟨fun z => absurd z (by decide), fun _ => cc_fixEnd hR hT hc (by omega) K hK⟩
theorem cc_fixGo (hR : rOK κ a n N) (K : Unit → xH → Prop) (hK : ∀ T' cl' lo' hi', TQ n T' lo' hi' → colOK n cl' → K () (rput h a n N kA vA v sz m T' cl')) : ∀ (f i : Nat) (T : Nat → Nat → Option Nat) (cl : Nat → Int32) (lo hi : Nat → Nat), TQ n T lo hi → colOK n cl → i < n → n ≤ (hi i - lo i) + f → xloop (B_J1_fixAfterInsertion_5 κ K a) (f + 2) (some (N i)) (rput h a n N kA vA v sz m T cl, w) := by
  intro f
  induction f with
  | zero =>
    intro i T cl lo hi hT hc hi' hf
    refine cc_fixX hR hT hc hi' (fun p hp => ?_) K hK 1
    have := hT.up hi' hp
    have := hT.1 p this.2
    omega
  | succ f ih =>
    intro i T cl lo hi hT hc hi' hf
    unfold xloop B_J1_fixAfterInsertion_5
    refine ⟨fun z => (by cases z), fun b z => ?_⟩
    cases z
    rw [r_ro]
    refine ⟨fun _ => cc_fixEnd hR hT hc (by omega) K hK, fun z => ?_⟩
    cases eP : T 2 i with
    | none =>
      exfalso
      rw [hT.root hi' eP] at z
      exact z rfl
    | some p =>
      have hpn := (hT.up hi' eP).2
      have hup := (hT.up hi' eP).1
      have hh9 := (hT.2.2.2.2.2.2.2.2 i p hi' eP).2
      have dpi : p ≠ i := by rintro rfl; omega
      rw [r_p hR hi', eP]
      show xnn (some (N p)) _
      rw [t_nn, r_c hR hpn]
      refine ⟨fun z0 => ?_, fun _ => cc_fixEnd hR hT hc (by omega) K hK⟩
      have PA : ∀ (T1 : Nat → Nat → Option Nat) (cl1 : Nat → Int32) (w : Nat × Nat) (L : Option Nat → xH → Prop), T1 2 i = some p → L (some (N p)) (rput h a n N kA vA v sz m T1 cl1) → P_J1_parentOf κ (some (N i)) (rput h a n N kA vA v sz m T1 cl1, w) L := fun T1 cl1 w L e hL => cc_pa hR hi' L (by rw [e]; exact hL)
      refine c_pure (r := some (N p)) (fun w L hL => PA _ _ w L eP hL) ?_
      refine c_pure (r := some (N p)) (fun w L hL => PA _ _ w L eP hL) ?_
      refine c_pure (r := (T 2 p).map N) (fun w L hL => cc_pa hR hpn L hL) ?_
      cases ePP : T 2 p with
      | none =>
        refine c_pure (r := none) (fun w L hL => cc_le0 L hL) ?_
        refine ⟨fun z => (by cases z), fun _ => ?_⟩
        refine c_pure (r := some (N p)) (fun w L hL => PA _ _ w L eP hL) ?_
        refine c_pure (r := none) (fun w L hL => cc_pa hR hpn L (by rw [ePP]; exact hL)) ?_
        refine c_pure (r := none) (fun w L hL => cc_le0 L hL) ?_
        refine c_pure (r := (1 : Int32)) (fun w L hL => cc_co (o := none) hR hc (fun j z => by cases z) L hL) ?_
        refine ⟨fun z => absurd z (by decide), fun _ => ?_⟩
        refine c_pure (r := some (N p)) (fun w L hL => PA _ _ w L eP hL) ?_
        refine c_pure (r := (T 0 p).map N) (fun w L hL => cc_le hR hpn L hL) ?_
        have iff1 := some_inj (o := T 0 p) hR hi' (fun j hj => (hT.lt hpn).1 j hj)
        refine ⟨fun z => ?_, fun z => ?_⟩
        · have e0 := iff1.mp z.symm
          refine c_pure (r := some (N p)) (fun w L hL => PA _ _ w L eP hL) ?_
          rw [r_rc, true_and]
          refine ⟨0, 0, Nat.zero_le _, Nat.zero_le _, cc_rotateRight hR hT hpn e0 _ ?_⟩
          have hT1 := rotR_TQ hT hpn e0
          have q1 : rotR T p i 2 p = some i := rotR_x T p i
          have q2 : rotR T p i 2 i = none := by rw [rotR_y T (Ne.symm dpi), ePP]
          refine c_pure (r := some (N i)) (fun w L hL => cc_pa hR hpn L (by rw [q1]; exact hL)) ?_
          refine ⟨0, 0, Nat.zero_le _, Nat.zero_le _, cc_sc (o := some i) hR (Or.inr rfl) (fun j z => by cases z; exact hi') _ ?_⟩
          refine c_pure (r := some (N i)) (fun w L hL => cc_pa hR hpn L (by rw [q1]; exact hL)) ?_
          refine c_pure (r := none) (fun w L hL => cc_pa hR hi' L (by rw [q2]; exact hL)) ?_
          refine ⟨0, 0, Nat.zero_le _, Nat.zero_le _, cc_sc (o := none) hR (Or.inl rfl) (fun j z => by cases z) _ ?_⟩
          refine c_pure (r := some (N i)) (fun w L hL => cc_pa hR hpn L (by rw [q1]; exact hL)) ?_
          refine c_pure (r := none) (fun w L hL => cc_pa hR hi' L (by rw [q2]; exact hL)) ?_
          rw [r_rc, true_and]
          refine ⟨0, 0, Nat.zero_le _, Nat.zero_le _, ⟨fun _ => ?_, fun b z => (by cases z)⟩⟩
          refine cc_fixX hR hT1 (setO_ok (setO_ok hc (o := some i) (Or.inr rfl)) (o := none) (Or.inl rfl)) hpn (fun q hq => ?_) K hK (f + 1)
          rw [q1] at hq
          cases hq
          exact upd_eq
        · refine c_pure (r := some (N p)) (fun w L hL => PA _ _ w L eP hL) ?_
          refine ⟨0, 0, Nat.zero_le _, Nat.zero_le _, cc_sc (o := some p) hR (Or.inr rfl) (fun j z => by cases z; exact hpn) _ ?_⟩
          refine c_pure (r := some (N p)) (fun w L hL => PA _ _ w L eP hL) ?_
          refine c_pure (r := none) (fun w L hL => cc_pa hR hpn L (by rw [ePP]; exact hL)) ?_
          refine ⟨0, 0, Nat.zero_le _, Nat.zero_le _, cc_sc (o := none) hR (Or.inl rfl) (fun j z => by cases z) _ ?_⟩
          refine c_pure (r := some (N p)) (fun w L hL => PA _ _ w L eP hL) ?_
          refine c_pure (r := none) (fun w L hL => cc_pa hR hpn L (by rw [ePP]; exact hL)) ?_
          rw [r_rc, true_and]
          refine ⟨0, 0, Nat.zero_le _, Nat.zero_le _, ⟨fun _ => ?_, fun b z => (by cases z)⟩⟩
          refine cc_fixX hR hT (setO_ok (setO_ok hc (o := some p) (Or.inr rfl)) (o := none) (Or.inl rfl)) hi' (fun q hq => ?_) K hK (f + 1)
          rw [eP] at hq
          cases hq
          exact upd_eq
      | some g =>
        have hgn := (hT.up hpn ePP).2
        have hup2 := (hT.up hpn ePP).1
        have hg9 := (hT.2.2.2.2.2.2.2.2 p g hpn ePP).2
        have dgp : g ≠ p := by rintro rfl; omega
        have dgi : g ≠ i := by rintro rfl; omega
        have PG : ∀ (cl1 : Nat → Int32) (w : Nat × Nat) (L : Option Nat → xH → Prop), L (some (N g)) (rput h a n N kA vA v sz m T cl1) → P_J1_parentOf κ (some (N p)) (rput h a n N kA vA v sz m T cl1, w) L := fun cl1 w L hL => cc_pa hR hpn L (by rw [ePP]; exact hL)
        refine c_pure (r := (T 0 g).map N) (fun w L hL => cc_le hR hgn L hL) ?_
        have iff0 := some_inj (o := T 0 g) hR hpn (fun j hj => (hT.lt hgn).1 j hj)
        refine ⟨fun z => ?_, fun z => ?_⟩
        · have e0 : T 0 g = some p := iff0.mp z.symm
          refine c_pure (r := some (N p)) (fun w L hL => PA _ _ w L eP hL) ?_
          refine c_pure (r := some (N g)) (fun w L hL => PG _ w L hL) ?_
          refine c_pure (r := (T 1 g).map N) (fun w L hL => cc_ri hR hgn L hL) ?_
          have hyo : ∀ j, T 1 g = some j → j < n := fun j hj => (hT.lt hgn).2.1 j hj
          refine c_pure (r := colO cl (T 1 g)) (fun w L hL => cc_co hR hc hyo L hL) ?_
          refine ⟨fun zc => ?_, fun zc => ?_⟩
          · -- both of the upper ones are red
            refine c_pure (r := some (N p)) (fun w L hL => PA _ _ w L eP hL) ?_
            refine ⟨0, 0, Nat.zero_le _, Nat.zero_le _, cc_sc (o := some p) hR (Or.inr rfl) (fun j z => by cases z; exact hpn) _ ?_⟩
            refine ⟨0, 0, Nat.zero_le _, Nat.zero_le _, cc_sc (o := T 1 g) hR (Or.inr rfl) hyo _ ?_⟩
            refine c_pure (r := some (N p)) (fun w L hL => PA _ _ w L eP hL) ?_
            refine c_pure (r := some (N g)) (fun w L hL => PG _ w L hL) ?_
            refine ⟨0, 0, Nat.zero_le _, Nat.zero_le _, cc_sc (o := some g) hR (Or.inl rfl) (fun j z => by cases z; exact hgn) _ ?_⟩
            refine c_pure (r := some (N p)) (fun w L hL => PA _ _ w L eP hL) ?_
            refine c_pure (r := some (N g)) (fun w L hL => PG _ w L hL) ?_
            exact ih g T _ lo hi hT (setO_ok (setO_ok (setO_ok hc (Or.inr rfl)) (Or.inr rfl)) (Or.inl rfl)) hgn (by omega)
          · refine c_pure (r := some (N p)) (fun w L hL => PA _ _ w L eP hL) ?_
            refine c_pure (r := (T 1 p).map N) (fun w L hL => cc_ri hR hpn L hL) ?_
            have iff1 := some_inj (o := T 1 p) hR hi' (fun j hj => (hT.lt hpn).2.1 j hj)
            refine ⟨fun z => ?_, fun z => ?_⟩
            · have e1 := iff1.mp z.symm
              refine c_pure (r := some (N p)) (fun w L hL => PA _ _ w L eP hL) ?_
              rw [r_rc, true_and]
              refine ⟨0, 0, Nat.zero_le _, Nat.zero_le _, cc_rotateLeft hR hT hpn e1 _ ?_⟩
              have hT1 := rotL_TQ hT hpn e1
              have q1 : rotL T p i 2 p = some i := rotL_x T p i
              have q2 : rotL T p i 2 i = some g := by rw [rotL_y T (Ne.symm dpi), ePP]
              have q3 : rotL T p i 0 g = some i := rotL_pp T ePP e0 dgi
              have q4 : rotL T p i 1 i ≠ some p := fun z => by
                have b1 := hT1.2.2.2.2.1 i p hi' z
                have b2 := hT1.2.2.2.2.2.2.2.2 p i hpn q1
                have b3 := hT1.2.2.1 g i hgn q3
                have b4 := hT.2.2.2.2.1 p i hpn e1
                omega
              refine c_pure (r := some (N i)) (fun w L hL => cc_pa hR hpn L (by rw [q1]; exact hL)) ?_
              refine ⟨0, 0, Nat.zero_le _, Nat.zero_le _, cc_sc (o := some i) hR (Or.inr rfl) (fun j z => by cases z; exact hi') _ ?_⟩
              refine c_pure (r := some (N i)) (fun w L hL => cc_pa hR hpn L (by rw [q1]; exact hL)) ?_
              refine c_pure (r := some (N g)) (fun w L hL => cc_pa hR hi' L (by rw [q2]; exact hL)) ?_
              refine ⟨0, 0, Nat.zero_le _, Nat.zero_le _, cc_sc (o := some g) hR (Or.inl rfl) (fun j z => by cases z; exact hgn) _ ?_⟩
              refine c_pure (r := some (N i)) (fun w L hL => cc_pa hR hpn L (by rw [q1]; exact hL)) ?_
              refine c_pure (r := some (N g)) (fun w L hL => cc_pa hR hi' L (by rw [q2]; exact hL)) ?_
              rw [r_rc, true_and]
              refine ⟨0, 0, Nat.zero_le _, Nat.zero_le _, cc_rotateRight hR hT1 hgn q3 _ ?_⟩
              have hT2 := rotR_TQ hT1 hgn q3
              have q5 : rotR (rotL T p i) g i 2 p = some i := by rw [rotR_o _ (Ne.symm dgp) dpi q4, q1]
              refine cc_fixX hR hT2 (setO_ok (setO_ok hc (o := some i) (Or.inr rfl)) (o := some g) (Or.inl rfl)) hpn (fun q hq => ?_) K hK (f + 1)
              rw [q5] at hq
              cases hq
              show upd (upd cl i 1) g 0 i = 1
              rw [upd_ne (Ne.symm dgi), upd_eq]
            · refine c_pure (r := some (N p)) (fun w L hL => PA _ _ w L eP hL) ?_
              refine ⟨0, 0, Nat.zero_le _, Nat.zero_le _, cc_sc (o := some p) hR (Or.inr rfl) (fun j z => by cases z; exact hpn) _ ?_⟩
              refine c_pure (r := some (N p)) (fun w L hL => PA _ _ w L eP hL) ?_
              refine c_pure (r := some (N g)) (fun w L hL => PG _ w L hL) ?_
              refine ⟨0, 0, Nat.zero_le _, Nat.zero_le _, cc_sc (o := some g) hR (Or.inl rfl) (fun j z => by cases z; exact hgn) _ ?_⟩
              refine c_pure (r := some (N p)) (fun w L hL => PA _ _ w L eP hL) ?_
              refine c_pure (r := some (N g)) (fun w L hL => PG _ w L hL) ?_
              rw [r_rc, true_and]
              refine ⟨0, 0, Nat.zero_le _, Nat.zero_le _, cc_rotateRight hR hT hgn e0 _ ?_⟩
              have hT1 := rotR_TQ hT hgn e0
              have q1 : rotR T g p 2 i = some p := by rw [rotR_o T (Ne.symm dgi) (Ne.symm dpi) (fun y => z (iff1.mpr y).symm), eP]
              refine cc_fixX hR hT1 (setO_ok (setO_ok hc (o := some p) (Or.inr rfl)) (o := some g) (Or.inl rfl)) hi' (fun q hq => ?_) K hK (f + 1)
              rw [q1] at hq
              cases hq
              show upd (upd cl p 1) g 0 p = 1
              rw [upd_ne (Ne.symm dgp), upd_eq]
        · have e0 : T 1 g = some p := by
            rcases hg9 with y | y
            · exact absurd (iff0.mpr y).symm z
            · exact y
          refine c_pure (r := some (N p)) (fun w L hL => PA _ _ w L eP hL) ?_
          refine c_pure (r := some (N g)) (fun w L hL => PG _ w L hL) ?_
          refine c_pure (r := (T 0 g).map N) (fun w L hL => cc_le hR hgn L hL) ?_
          have hyo : ∀ j, T 0 g = some j → j < n := fun j hj => (hT.lt hgn).1 j hj
          refine c_pure (r := colO cl (T 0 g)) (fun w L hL => cc_co hR hc hyo L hL) ?_
          refine ⟨fun zc => ?_, fun zc => ?_⟩
          · refine c_pure (r := some (N p)) (fun w L hL => PA _ _ w L eP hL) ?_
            refine ⟨0, 0, Nat.zero_le _, Nat.zero_le _, cc_sc (o := some p) hR (Or.inr rfl) (fun j z => by cases z; exact hpn) _ ?_⟩
            refine ⟨0, 0, Nat.zero_le _, Nat.zero_le _, cc_sc (o := T 0 g) hR (Or.inr rfl) hyo _ ?_⟩
            refine c_pure (r := some (N p)) (fun w L hL => PA _ _ w L eP hL) ?_
            refine c_pure (r := some (N g)) (fun w L hL => PG _ w L hL) ?_
            refine ⟨0, 0, Nat.zero_le _, Nat.zero_le _, cc_sc (o := some g) hR (Or.inl rfl) (fun j z => by cases z; exact hgn) _ ?_⟩
            refine c_pure (r := some (N p)) (fun w L hL => PA _ _ w L eP hL) ?_
            refine c_pure (r := some (N g)) (fun w L hL => PG _ w L hL) ?_
            exact ih g T _ lo hi hT (setO_ok (setO_ok (setO_ok hc (Or.inr rfl)) (Or.inr rfl)) (Or.inl rfl)) hgn (by omega)
          · refine c_pure (r := some (N p)) (fun w L hL => PA _ _ w L eP hL) ?_
            refine c_pure (r := (T 0 p).map N) (fun w L hL => cc_le hR hpn L hL) ?_
            have iff1 := some_inj (o := T 0 p) hR hi' (fun j hj => (hT.lt hpn).1 j hj)
            refine ⟨fun z => ?_, fun z => ?_⟩
            · have e1 := iff1.mp z.symm
              refine c_pure (r := some (N p)) (fun w L hL => PA _ _ w L eP hL) ?_
              rw [r_rc, true_and]
              refine ⟨0, 0, Nat.zero_le _, Nat.zero_le _, cc_rotateRight hR hT hpn e1 _ ?_⟩
              have hT1 := rotR_TQ hT hpn e1
              have q1 : rotR T p i 2 p = some i := rotR_x T p i
              have q2 : rotR T p i 2 i = some g := by rw [rotR_y T (Ne.symm dpi), ePP]
              have q3 : rotR T p i 1 g = some i := rotR_pp T ePP e0 dgi
              have q4 : rotR T p i 0 i ≠ some p := fun z => by
                have b1 := hT1.2.2.1 i p hi' z
                have b4 := hT.2.2.1 p i hpn e1
                omega
              refine c_pure (r := some (N i)) (fun w L hL => cc_pa hR hpn L (by rw [q1]; exact hL)) ?_
              refine ⟨0, 0, Nat.zero_le _, Nat.zero_le _, cc_sc (o := some i) hR (Or.inr rfl) (fun j z => by cases z; exact hi') _ ?_⟩
              refine c_pure (r := some (N i)) (fun w L hL => cc_pa hR hpn L (by rw [q1]; exact hL)) ?_
              refine c_pure (r := some (N g)) (fun w L hL => cc_pa hR hi' L (by rw [q2]; exact hL)) ?_
              refine ⟨0, 0, Nat.zero_le _, Nat.zero_le _, cc_sc (o := some g) hR (Or.inl rfl) (fun j z => by cases z; exact hgn) _ ?_⟩
              refine c_pure (r := some (N i)) (fun w L hL => cc_pa hR hpn L (by rw [q1]; exact hL)) ?_
              refine c_pure (r := some (N g)) (fun w L hL => cc_pa hR hi' L (by rw [q2]; exact hL)) ?_
              rw [r_rc, true_and]
              refine ⟨0, 0, Nat.zero_le _, Nat.zero_le _, cc_rotateLeft hR hT1 hgn q3 _ ?_⟩
              have hT2 := rotL_TQ hT1 hgn q3
              have q5 : rotL (rotR T p i) g i 2 p = some i := by rw [rotL_o _ (Ne.symm dgp) dpi q4, q1]
              refine cc_fixX hR hT2 (setO_ok (setO_ok hc (o := some i) (Or.inr rfl)) (o := some g) (Or.inl rfl)) hpn (fun q hq => ?_) K hK (f + 1)
              rw [q5] at hq
              cases hq
              show upd (upd cl i 1) g 0 i = 1
              rw [upd_ne (Ne.symm dgi), upd_eq]
            · refine c_pure (r := some (N p)) (fun w L hL => PA _ _ w L eP hL) ?_
              refine ⟨0, 0, Nat.zero_le _, Nat.zero_le _, cc_sc (o := some p) hR (Or.inr rfl) (fun j z => by cases z; exact hpn) _ ?_⟩
              refine c_pure (r := some (N p)) (fun w L hL => PA _ _ w L eP hL) ?_
              refine c_pure (r := some (N g)) (fun w L hL => PG _ w L hL) ?_
              refine ⟨0, 0, Nat.zero_le _, Nat.zero_le _, cc_sc (o := some g) hR (Or.inl rfl) (fun j z => by cases z; exact hgn) _ ?_⟩
              refine c_pure (r := some (N p)) (fun w L hL => PA _ _ w L eP hL) ?_
              refine c_pure (r := some (N g)) (fun w L hL => PG _ w L hL) ?_
              rw [r_rc, true_and]
              refine ⟨0, 0, Nat.zero_le _, Nat.zero_le _, cc_rotateLeft hR hT hgn e0 _ ?_⟩
              have hT1 := rotL_TQ hT hgn e0
              have q1 : rotL T g p 2 i = some p := by rw [rotL_o T (Ne.symm dgi) (Ne.symm dpi) (fun y => z (iff1.mpr y).symm), eP]
              refine cc_fixX hR hT1 (setO_ok (setO_ok hc (o := some p) (Or.inr rfl)) (o := some g) (Or.inl rfl)) hi' (fun q hq => ?_) K hK (f + 1)
              rw [q1] at hq
              cases hq
              show upd (upd cl p 1) g 0 p = 1
              rw [upd_ne (Ne.symm dgp), upd_eq]
theorem cc_fixAfter (hR : rOK κ a n N) (hT : TQ n T lo hi) (hc : colOK n cl) (hi' : i < n) (K : Unit → xH → Prop) (hK : ∀ T' cl' lo' hi', TQ n T' lo' hi' → colOK n cl' → K () (rput h a n N kA vA v sz m T' cl')) : P_J1_fixAfterInsertion κ a (some (N i)) (rput h a n N kA vA v sz m T cl, w) K := by
  unfold P_J1_fixAfterInsertion
  rw [t_nn, r_wc hR hi']
  exact ⟨n + 2, cc_fixGo hR K hK n i T _ lo hi hT (setO_ok hc (o := some i) (Or.inl rfl)) hi' (by omega)⟩
end F6
