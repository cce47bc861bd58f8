-- X2_init
def P_X2_init (κ : Nat → Nat) (a0 : Nat) (σ : xS) (K : Unit → xH → Prop) : Prop :=
  xnea κ σ .int (64 : Int32) (fun N => (N, .inl fun _ => 0)) fun q1 σ2 => xpq κ σ2 a0 1 0 (some q1) fun σ3 => xnew κ σ3 2 9 [va_rf none, va_rf none, va_rf none, va_rf none, .int 0, .int 0, va_rf none, va_rf none, va_rf none] fun q4 σ5 => xcall (fun τ L => P_J1_init κ q4 τ L) σ5 fun _ σ6 => xpq κ σ6 a0 1 1 (some q4) fun σ7 => xnew κ σ7 3 3 [.int 0, va_rf none, .int 0] fun q8 σ9 => xcall (fun τ L => P_J4_init κ q8 τ L) σ9 fun _ σ10 => xpq κ σ10 a0 1 2 (some q8) fun σ11 => xnew κ σ11 4 4 [.int 0, .int 0, va_rf none, va_rf none] fun q12 σ13 => xcall (fun τ L => P_J6_init κ q12 τ L) σ13 fun _ σ14 => xpq κ σ14 a0 1 3 (some q12) fun σ15 => xnea κ σ15 .int (4 : Int32) (fun N => (N, .inl fun _ => 0)) fun q16 σ17 => xpq κ σ17 a0 1 4 (some q16) fun σ18 => xnea κ σ18 .int (16 : Int32) (fun N => (N, .inl fun _ => 0)) fun q19 σ20 => xpq κ σ20 a0 1 5 (some q19) fun σ21 => xnea κ σ21 .int (16 : Int32) (fun N => (N, .inl fun _ => 0)) fun q22 σ23 => xpq κ σ23 a0 1 6 (some q22) fun σ24 => xnea κ σ24 .int (3 : Int32) (fun N => (N, .inl fun _ => 0)) fun q25 σ26 => xpq κ σ26 a0 1 7 (some q25) fun σ27 => xrc σ27 a0 1 ∧ xcall (fun τ L => P_X2_shapesAnew κ a0 (2 : Int32) (2 : Int32) τ L) σ27 fun _ σ28 => K () σ28.1
theorem mdX2_init : yX2_init.cls ≠ "java/lang/invoke/MethodHandle" ∧ yX2_init.cls ≠ "java/lang/invoke/VarHandle" ∧ (parseMethodDescriptor yX2_init.desc).map (fun d => d.parameters.length) = some 0 := by decide +kernel
set_option maxHeartbeats 4000000 in
set_option maxRecDepth 100000 in
theorem R_X2_init (l : Launch) (hl : l.stackTraces = false) (G : xG) (hG : G.1.2 = x_cl) (a0 : Nat) (σ : xS) (K : Unit → xH → Prop) (hp : P_X2_init G.2 a0 σ K) : xM l yX2_init cX2_init 1 (Option.none : Option Jvm.ClassFile.FieldType) 8 216 G [(.ref a0)] σ (xlift emV K) := by
  refine x_entry (by decide) (Nat.le_of_ble_eq_true rfl) ?_
  intro p e s m args below meth c X hr hin
  have X : xX p s m args meth c G cX2_init 1 RX2 := X
  have hx := X.1
  have hb := X.2.1
  have hts := X.2.2.2.2.1
  have hown := X.2.2.2.1
  unfold P_X2_init at hp
  refine x_same (lo' := [(0, .ref a0)]) rfl ?_
  refine x_up (pc' := 1) (fun _ _ _ _ _ L => lv_aload_n hx hb dX2_init_0 rfl (lv_at L 0 rfl)) ?_
  refine x_objInit X q177 q170 q171 dX2_init_1 (Nat.le_of_ble_eq_true rfl) ⟨Nat.le_of_ble_eq_true rfl, Nat.le_of_ble_eq_true rfl⟩ ?_
  refine x_pc (pc' := 4) rfl ?_
  refine x_up (pc' := 5) (fun _ _ _ _ _ L => lv_aload_n hx hb dX2_init_4 rfl (lv_at L 0 rfl)) ?_
  refine x_up (pc' := 7) (fun _ _ _ _ _ L => lv_bipush (v := (64 : Int32)) hx hb dX2_init_5 (by decide)) ?_
  refine x_nea .int rfl (fun _ h => nomatch h) X q212 (fun N => (N, .inl fun _ => 0)) (fun _ => rfl) (fun _ _ => rfl) (by decide) dX2_init_7 hp (fun q1 σ2 hp1 => ?_)
  refine x_pc (pc' := 9) rfl ?_
  refine x_pqF X (kX2 hG) 0 (by decide) q458 (fun _ h => h) rfl hin rfl (some q1) (x_nar _ (by decide)) (x_fit _ (by decide)) dX2_init_9 hp1 (fun σ3 hp2 => ?_)
  refine x_pc (pc' := 12) rfl ?_
  refine x_up (pc' := 13) (fun _ _ _ _ _ L => lv_aload_n hx hb dX2_init_12 rfl (lv_at L 0 rfl)) ?_
  refine x_new X (kJ1 hG) q178 q179 q102 (fs := [va_rf none, va_rf none, va_rf none, va_rf none, .int 0, .int 0, va_rf none, va_rf none, va_rf none]) x_dflt_J1 dX2_init_13 hp2 (fun q4 σ5 hp3 => ?_)
  refine x_pc (pc' := 16) rfl ?_
  refine x_up (pc' := 17) (fun _ _ _ _ _ L => lv_dup hx hb dX2_init_16 rfl) ?_
  refine x_callI 0 X (fun σ' KK h => R_J1_init l hl G hG q4 σ' KK h) (lw_meth q182) q102 q180 q181 rfl mdJ1_init ⟨Nat.le_of_ble_eq_true rfl, Nat.le_of_ble_eq_true rfl⟩ rfl rfl (Nat.le_of_ble_eq_true rfl) dX2_init_17 hp3 (fun σ6 hp4 => ?_)
  refine x_pc (pc' := 20) rfl ?_
  refine x_pqF X (kX2 hG) 1 (by decide) q460 (fun _ h => h) rfl hin rfl (some q4) (x_nar _ (by decide)) (x_fit _ (by decide)) dX2_init_20 hp4 (fun σ7 hp5 => ?_)
  refine x_pc (pc' := 23) rfl ?_
  refine x_up (pc' := 24) (fun _ _ _ _ _ L => lv_aload_n hx hb dX2_init_23 rfl (lv_at L 0 rfl)) ?_
  refine x_new X (kJ4 hG) q213 q214 q105 (fs := [.int 0, va_rf none, .int 0]) x_dflt_J4 dX2_init_24 hp5 (fun q8 σ9 hp6 => ?_)
  refine x_pc (pc' := 27) rfl ?_
  refine x_up (pc' := 28) (fun _ _ _ _ _ L => lv_dup hx hb dX2_init_27 rfl) ?_
  refine x_callI 0 X (fun σ' KK h => R_J4_init l hl G hG q8 σ' KK h) (lw_meth q217) q105 q215 q216 rfl mdJ4_init ⟨Nat.le_of_ble_eq_true rfl, Nat.le_of_ble_eq_true rfl⟩ rfl rfl (Nat.le_of_ble_eq_true rfl) dX2_init_28 hp6 (fun σ10 hp7 => ?_)
  refine x_pc (pc' := 31) rfl ?_
  refine x_pqF X (kX2 hG) 2 (by decide) q462 (fun _ h => h) rfl hin rfl (some q8) (x_nar _ (by decide)) (x_fit _ (by decide)) dX2_init_31 hp7 (fun σ11 hp8 => ?_)
  refine x_pc (pc' := 34) rfl ?_
  refine x_up (pc' := 35) (fun _ _ _ _ _ L => lv_aload_n hx hb dX2_init_34 rfl (lv_at L 0 rfl)) ?_
  refine x_new X (kJ6 hG) q246 q247 q107 (fs := [.int 0, .int 0, va_rf none, va_rf none]) x_dflt_J6 dX2_init_35 hp8 (fun q12 σ13 hp9 => ?_)
  refine x_pc (pc' := 38) rfl ?_
  refine x_up (pc' := 39) (fun _ _ _ _ _ L => lv_dup hx hb dX2_init_38 rfl) ?_
  refine x_callI 0 X (fun σ' KK h => R_J6_init l hl G hG q12 σ' KK h) (lw_meth q250) q107 q248 q249 rfl mdJ6_init ⟨Nat.le_of_ble_eq_true rfl, Nat.le_of_ble_eq_true rfl⟩ rfl rfl (Nat.le_of_ble_eq_true rfl) dX2_init_39 hp9 (fun σ14 hp10 => ?_)
  refine x_pc (pc' := 42) rfl ?_
  refine x_pqF X (kX2 hG) 3 (by decide) q464 (fun _ h => h) rfl hin rfl (some q12) (x_nar _ (by decide)) (x_fit _ (by decide)) dX2_init_42 hp10 (fun σ15 hp11 => ?_)
  refine x_pc (pc' := 45) rfl ?_
  refine x_up (pc' := 46) (fun _ _ _ _ _ L => lv_aload_n hx hb dX2_init_45 rfl (lv_at L 0 rfl)) ?_
  refine x_up (pc' := 47) (fun _ _ _ _ _ L => lv_iconst (v := (4 : Int32)) hx hb dX2_init_46 (by decide)) ?_
  refine x_nea .int rfl (fun _ h => nomatch h) X q212 (fun N => (N, .inl fun _ => 0)) (fun _ => rfl) (fun _ _ => rfl) (by decide) dX2_init_47 hp11 (fun q16 σ17 hp12 => ?_)
  refine x_pc (pc' := 49) rfl ?_
  refine x_pqF X (kX2 hG) 4 (by decide) q466 (fun _ h => h) rfl hin rfl (some q16) (x_nar _ (by decide)) (x_fit _ (by decide)) dX2_init_49 hp12 (fun σ18 hp13 => ?_)
  refine x_pc (pc' := 52) rfl ?_
  refine x_up (pc' := 53) (fun _ _ _ _ _ L => lv_aload_n hx hb dX2_init_52 rfl (lv_at L 0 rfl)) ?_
  refine x_up (pc' := 55) (fun _ _ _ _ _ L => lv_bipush (v := (16 : Int32)) hx hb dX2_init_53 (by decide)) ?_
  refine x_nea .int rfl (fun _ h => nomatch h) X q212 (fun N => (N, .inl fun _ => 0)) (fun _ => rfl) (fun _ _ => rfl) (by decide) dX2_init_55 hp13 (fun q19 σ20 hp14 => ?_)
  refine x_pc (pc' := 57) rfl ?_
  refine x_pqF X (kX2 hG) 5 (by decide) q468 (fun _ h => h) rfl hin rfl (some q19) (x_nar _ (by decide)) (x_fit _ (by decide)) dX2_init_57 hp14 (fun σ21 hp15 => ?_)
  refine x_pc (pc' := 60) rfl ?_
  refine x_up (pc' := 61) (fun _ _ _ _ _ L => lv_aload_n hx hb dX2_init_60 rfl (lv_at L 0 rfl)) ?_
  refine x_up (pc' := 63) (fun _ _ _ _ _ L => lv_bipush (v := (16 : Int32)) hx hb dX2_init_61 (by decide)) ?_
  refine x_nea .int rfl (fun _ h => nomatch h) X q212 (fun N => (N, .inl fun _ => 0)) (fun _ => rfl) (fun _ _ => rfl) (by decide) dX2_init_63 hp15 (fun q22 σ23 hp16 => ?_)
  refine x_pc (pc' := 65) rfl ?_
  refine x_pqF X (kX2 hG) 6 (by decide) q469 (fun _ h => h) rfl hin rfl (some q22) (x_nar _ (by decide)) (x_fit _ (by decide)) dX2_init_65 hp16 (fun σ24 hp17 => ?_)
  refine x_pc (pc' := 68) rfl ?_
  refine x_up (pc' := 69) (fun _ _ _ _ _ L => lv_aload_n hx hb dX2_init_68 rfl (lv_at L 0 rfl)) ?_
  refine x_up (pc' := 70) (fun _ _ _ _ _ L => lv_iconst (v := (3 : Int32)) hx hb dX2_init_69 (by decide)) ?_
  refine x_nea .int rfl (fun _ h => nomatch h) X q212 (fun N => (N, .inl fun _ => 0)) (fun _ => rfl) (fun _ _ => rfl) (by decide) dX2_init_70 hp17 (fun q25 σ26 hp18 => ?_)
  refine x_pc (pc' := 72) rfl ?_
  refine x_pqF X (kX2 hG) 7 (by decide) q470 (fun _ h => h) rfl hin rfl (some q25) (x_nar _ (by decide)) (x_fit _ (by decide)) dX2_init_72 hp18 (fun σ27 hp19 => ?_)
  refine x_pc (pc' := 75) rfl ?_
  refine x_up (pc' := 76) (fun _ _ _ _ _ L => lv_aload_n hx hb dX2_init_75 rfl (lv_at L 0 rfl)) ?_
  refine x_up (pc' := 77) (fun _ _ _ _ _ L => lv_iconst (v := (2 : Int32)) hx hb dX2_init_76 (by decide)) ?_
  refine x_up (pc' := 78) (fun _ _ _ _ _ L => lv_iconst (v := (2 : Int32)) hx hb dX2_init_77 (by decide)) ?_
  refine x_callV (em := emV) (fun r st => st) (fun _ _ => rfl) 2 X (kX2 hG) (fun σ' KK h => R_X2_shapesAnew l hl G hG a0 (2 : Int32) (2 : Int32) σ' KK h) (lw_V q267 q269 qs0 q100 q270) ⟨rfl, mdX2_shapesAnew⟩ ⟨Nat.le_of_ble_eq_true rfl, Nat.le_of_ble_eq_true rfl⟩ rfl rfl (Nat.le_of_ble_eq_true rfl) dX2_init_78 hp19.1 hp19.2 (fun _ σ28 hp20 => ?_)
  refine x_pc (pc' := 81) rfl ?_
  exact x_vret X hr dX2_init_81 hp20
-- J2_init_J11
def P_J2_init_J11 (κ : Nat → Nat) (a0 : Nat) (σ : xS) (K : Unit → xH → Prop) : Prop :=
  K () σ.1
set_option maxHeartbeats 4000000 in
set_option maxRecDepth 100000 in
theorem R_J2_init_J11 (l : Launch) (hl : l.stackTraces = false) (G : xG) (hG : G.1.2 = x_cl) (a0 : Nat) (σ : xS) (K : Unit → xH → Prop) (hp : P_J2_init_J11 G.2 a0 σ K) : xM l yJ2_init cJ2_init 1 (Option.none : Option Jvm.ClassFile.FieldType) 1 20 G [(.ref a0)] σ (xlift emV K) := by
  refine x_entry (by decide) (Nat.le_of_ble_eq_true rfl) ?_
  intro p e s m args below meth c X hr hin
  have X : xX p s m args meth c G cJ2_init 1 RJ2 := X
  have hx := X.1
  have hb := X.2.1
  have hts := X.2.2.2.2.1
  have hown := X.2.2.2.1
  unfold P_J2_init_J11 at hp
  refine x_same (lo' := [(0, .ref a0)]) rfl ?_
  refine x_up (pc' := 1) (fun _ _ _ _ _ L => lv_aload_n hx hb dJ2_init_0 rfl (lv_at L 0 rfl)) ?_
  refine x_objInit X q224 q170 q171 dJ2_init_1 (Nat.le_of_ble_eq_true rfl) ⟨Nat.le_of_ble_eq_true rfl, Nat.le_of_ble_eq_true rfl⟩ ?_
  refine x_pc (pc' := 4) rfl ?_
  exact x_vret X hr dJ2_init_4 hp
-- J11_init
def P_J11_init (κ : Nat → Nat) (a0 : Nat) (σ : xS) (K : Unit → xH → Prop) : Prop :=
  xcall (fun τ L => P_J2_init_J11 κ a0 τ L) σ fun _ σ1 => xneq κ σ1 (17 : Int32) fun q2 σ3 => xpq κ σ3 a0 7 0 (some q2) fun σ4 => K () σ4.1
theorem mdJ11_init : yJ11_init.cls ≠ "java/lang/invoke/MethodHandle" ∧ yJ11_init.cls ≠ "java/lang/invoke/VarHandle" ∧ (parseMethodDescriptor yJ11_init.desc).map (fun d => d.parameters.length) = some 0 := by decide +kernel
set_option maxHeartbeats 4000000 in
set_option maxRecDepth 100000 in
theorem R_J11_init (l : Launch) (hl : l.stackTraces = false) (G : xG) (hG : G.1.2 = x_cl) (a0 : Nat) (σ : xS) (K : Unit → xH → Prop) (hp : P_J11_init G.2 a0 σ K) : xM l yJ11_init cJ11_init 1 (Option.none : Option Jvm.ClassFile.FieldType) 2 40 G [(.ref a0)] σ (xlift emV K) := by
  refine x_entry (by decide) (Nat.le_of_ble_eq_true rfl) ?_
  intro p e s m args below meth c X hr hin
  have X : xX p s m args meth c G cJ11_init 1 RJ11 := X
  have hx := X.1
  have hb := X.2.1
  have hts := X.2.2.2.2.1
  have hown := X.2.2.2.1
  unfold P_J11_init at hp
  refine x_same (lo' := [(0, .ref a0)]) rfl ?_
  refine x_up (pc' := 1) (fun _ _ _ _ _ L => lv_aload_n hx hb dJ11_init_0 rfl (lv_at L 0 rfl)) ?_
  refine x_callI 0 X (fun σ' KK h => R_J2_init_J11 l hl G hG a0 σ' KK h) (lw_meth q223) q103 q541 q222 rfl mdJ2_init ⟨Nat.le_of_ble_eq_true rfl, Nat.le_of_ble_eq_true rfl⟩ rfl rfl (Nat.le_of_ble_eq_true rfl) dJ11_init_1 hp (fun σ1 hp1 => ?_)
  refine x_pc (pc' := 4) rfl ?_
  refine x_up (pc' := 5) (fun _ _ _ _ _ L => lv_aload_n hx hb dJ11_init_4 rfl (lv_at L 0 rfl)) ?_
  refine x_up (pc' := 7) (fun _ _ _ _ _ L => lv_bipush (v := (17 : Int32)) hx hb dJ11_init_5 (by decide)) ?_
  refine x_neq X q542 dJ11_init_7 hp1 (fun q2 σ3 hp2 => ?_)
  refine x_pc (pc' := 10) rfl ?_
  refine x_pq X (kJ11 hG) 0 (by decide) q543 (fun _ h => h) rfl (some q2) (x_nar _ (by decide)) (x_fit _ (by decide)) dJ11_init_10 hp2 (fun σ4 hp3 => ?_)
  refine x_pc (pc' := 13) rfl ?_
  exact x_vret X hr dJ11_init_13 hp3
-- J15_newBytesLength
def P_J15_newBytesLength (κ : Nat → Nat) (x0 : Int32) (σ : xS) (K : Int32 → xH → Prop) : Prop :=
  ((0 ≤ x0 → (((x0 < (1073741823 : Int32) → (K (x0 <<< ((1 : Int32) &&& 31)) σ.1)) ∧ (¬ x0 < (1073741823 : Int32) → (False))))) ∧ (¬ 0 ≤ x0 → (False)))
theorem mdJ15_newBytesLength : yJ15_newBytesLength.cls ≠ "java/lang/invoke/MethodHandle" ∧ yJ15_newBytesLength.cls ≠ "java/lang/invoke/VarHandle" ∧ (parseMethodDescriptor yJ15_newBytesLength.desc).map (fun d => d.parameters.length) = some 1 := by decide +kernel
set_option maxHeartbeats 4000000 in
set_option maxRecDepth 100000 in
theorem R_J15_newBytesLength (l : Launch) (hl : l.stackTraces = false) (G : xG) (hG : G.1.2 = x_cl) (x0 : Int32) (σ : xS) (K : Int32 → xH → Prop) (hp : P_J15_newBytesLength G.2 x0 σ K) : xM l yJ15_newBytesLength cJ15_newBytesLength 1 (Option.some Jvm.ClassFile.FieldType.int) 0 0 G [.int x0] σ (xlift emI K) := by
  refine x_entry (by decide) (Nat.le_of_ble_eq_true rfl) ?_
  intro p e s m args below meth c X hr hin
  have X : xX p s m args meth c G cJ15_newBytesLength 1 RJ15 := X
  have hx := X.1
  have hb := X.2.1
  have hts := X.2.2.2.2.1
  have hown := X.2.2.2.1
  unfold P_J15_newBytesLength at hp
  refine x_same (lo' := [(0, .int x0)]) rfl ?_
  refine x_up (pc' := 1) (fun _ _ _ _ _ L => lv_iload_n hx hb dJ15_newBytesLength_0 rfl (lv_at L 0 rfl)) ?_
  refine x_if (C := 0 ≤ x0) (pt := 12) (pc' := 4) (fun _ _ _ _ _ => lv_if_ge (tgt := 12) hx hb dJ15_newBytesLength_1 (by decide)) (fun c1 => ?_) (fun c1 => ?_)
  · have hp1 := hp.1 c1
    refine x_up (pc' := 13) (fun _ _ _ _ _ L => lv_iload_n hx hb dJ15_newBytesLength_12 rfl (lv_at L 0 rfl)) ?_
    refine x_up (pc' := 15) (fun _ _ _ _ _ L => lv_ldc (v := 1073741823) hx hb hown (hts _ q572) dJ15_newBytesLength_13) ?_
    refine x_if (C := x0 < (1073741823 : Int32)) (pt := 55) (pc' := 18) (fun _ _ _ _ _ => lv_icmp_lt (tgt := 55) hx hb dJ15_newBytesLength_15 (by decide)) (fun c15 => ?_) (fun c15 => ?_)
    · have hp2 := hp1.1 c15
      refine x_up (pc' := 56) (fun _ _ _ _ _ L => lv_iload_n hx hb dJ15_newBytesLength_55 rfl (lv_at L 0 rfl)) ?_
      refine x_up (pc' := 57) (fun _ _ _ _ _ L => lv_iconst (v := (1 : Int32)) hx hb dJ15_newBytesLength_56 (by decide)) ?_
      refine x_up (pc' := 58) (fun _ _ _ _ _ L => lv_ishl hx hb dJ15_newBytesLength_57) ?_
      exact x_iret X hr rfl dJ15_newBytesLength_58 hp2
    · have hp3 := hp1.2 c15
      exact hp3.elim
  · have hp4 := hp.2 c1
    exact hp4.elim
-- J15_newBytesFor
def P_J15_newBytesFor (κ : Nat → Nat) (x0 : Int32) (σ : xS) (K : Option Nat → xH → Prop) : Prop :=
  xcall (fun τ L => P_J15_newBytesLength κ x0 τ L) σ fun v1 σ2 => xnea κ σ2 .byte v1 (fun N => (N, .inl fun _ => 0)) fun q3 σ4 => K (some q3) σ4.1
theorem mdJ15_newBytesFor : yJ15_newBytesFor.cls ≠ "java/lang/invoke/MethodHandle" ∧ yJ15_newBytesFor.cls ≠ "java/lang/invoke/VarHandle" ∧ (parseMethodDescriptor yJ15_newBytesFor.desc).map (fun d => d.parameters.length) = some 1 := by decide +kernel
set_option maxHeartbeats 4000000 in
set_option maxRecDepth 100000 in
theorem R_J15_newBytesFor (l : Launch) (hl : l.stackTraces = false) (G : xG) (hG : G.1.2 = x_cl) (x0 : Int32) (σ : xS) (K : Option Nat → xH → Prop) (hp : P_J15_newBytesFor G.2 x0 σ K) : xM l yJ15_newBytesFor cJ15_newBytesFor 1 (Option.some (Jvm.ClassFile.FieldType.array Jvm.ClassFile.FieldType.byte)) 1 20 G [.int x0] σ (xlift emQ K) := by
  refine x_entry (by decide) (Nat.le_of_ble_eq_true rfl) ?_
  intro p e s m args below meth c X hr hin
  have X : xX p s m args meth c G cJ15_newBytesFor 1 RJ15 := X
  have hx := X.1
  have hb := X.2.1
  have hts := X.2.2.2.2.1
  have hown := X.2.2.2.1
  unfold P_J15_newBytesFor at hp
  refine x_same (lo' := [(0, .int x0)]) rfl ?_
  refine x_up (pc' := 1) (fun _ _ _ _ _ L => lv_iload_n hx hb dJ15_newBytesFor_0 rfl (lv_at L 0 rfl)) ?_
  refine x_callS (em := emI) (fun r st => .int r :: st) (fun _ _ => rfl) 1 X (fun σ' KK h => R_J15_newBytesLength l hl G hG x0 σ' KK h) (lw_S q569 q570 q118 q571) mdJ15_newBytesLength ⟨Nat.le_of_ble_eq_true rfl, Nat.le_of_ble_eq_true rfl⟩ rfl rfl (Nat.le_of_ble_eq_true rfl) dJ15_newBytesFor_1 hp (fun v1 σ2 hp1 => ?_)
  refine x_pc (pc' := 4) rfl ?_
  refine x_nea .byte rfl (fun _ h => nomatch h) X q587 (fun N => (N, .inl fun _ => 0)) (fun _ => rfl) (fun _ _ => rfl) (by decide) dJ15_newBytesFor_4 hp1 (fun q3 σ4 hp2 => ?_)
  refine x_pc (pc' := 6) rfl ?_
  exact x_aret X hr (Or.inr ⟨_, rfl⟩) dJ15_newBytesFor_6 (some q3) hp2
-- J12_init
def P_J12_init (κ : Nat → Nat) (a0 : Nat) (x1 : Int32) (σ : xS) (K : Unit → xH → Prop) : Prop :=
  (((1 : Int32) = 0 → (xcall (fun τ L => P_J15_newBytesFor κ x1 τ L) σ fun v1 σ2 => xpq κ σ2 a0 8 0 v1 fun σ3 => narrow .byte (.int (1 : Int32)) = .int (1 : Int32) ∧ fits .byte (.int (1 : Int32)) = true ∧ xpi κ σ3 a0 8 1 (1 : Int32) fun σ4 => K () σ4.1)) ∧ (¬ (1 : Int32) = 0 → (xnea κ σ .byte x1 (fun N => (N, .inl fun _ => 0)) fun q5 σ6 => xpq κ σ6 a0 8 0 (some q5) fun σ7 => narrow .byte (.int (0 : Int32)) = .int (0 : Int32) ∧ fits .byte (.int (0 : Int32)) = true ∧ xpi κ σ7 a0 8 1 (0 : Int32) fun σ8 => K () σ8.1)))
theorem mdJ12_init : yJ12_init.cls ≠ "java/lang/invoke/MethodHandle" ∧ yJ12_init.cls ≠ "java/lang/invoke/VarHandle" ∧ (parseMethodDescriptor yJ12_init.desc).map (fun d => d.parameters.length) = some 1 := by decide +kernel
set_option maxHeartbeats 4000000 in
set_option maxRecDepth 100000 in
theorem R_J12_init (l : Launch) (hl : l.stackTraces = false) (G : xG) (hG : G.1.2 = x_cl) (a0 : Nat) (x1 : Int32) (σ : xS) (K : Unit → xH → Prop) (hp : P_J12_init G.2 a0 x1 σ K) : xM l yJ12_init cJ12_init 2 (Option.none : Option Jvm.ClassFile.FieldType) 2 40 G [(.ref a0), .int x1] σ (xlift emV K) := by
  refine x_entry (by decide) (Nat.le_of_ble_eq_true rfl) ?_
  intro p e s m args below meth c X hr hin
  have X : xX p s m args meth c G cJ12_init 2 RJ12 := X
  have hx := X.1
  have hb := X.2.1
  have hts := X.2.2.2.2.1
  have hown := X.2.2.2.1
  unfold P_J12_init at hp
  refine x_same (lo' := [(0, .ref a0), (1, .int x1)]) rfl ?_
  refine x_up (pc' := 1) (fun _ _ _ _ _ L => lv_aload_n hx hb dJ12_init_0 rfl (lv_at L 0 rfl)) ?_
  refine x_objInit X q563 q170 q171 dJ12_init_1 (Nat.le_of_ble_eq_true rfl) ⟨Nat.le_of_ble_eq_true rfl, Nat.le_of_ble_eq_true rfl⟩ ?_
  refine x_pc (pc' := 4) rfl ?_
  refine x_gets (C := "java/lang/String") (n := "COMPACT_STRINGS") (d := "Z") (v := .int (1 : Int32)) X (by simp [x_sts]) q564 (fun _ h => h) dJ12_init_4 ?_
  refine x_pc (pc' := 7) rfl ?_
  refine x_if (C := (1 : Int32) = 0) (pt := 25) (pc' := 10) (fun _ _ _ _ _ => lv_if_eq (tgt := 25) hx hb dJ12_init_7 (by decide)) (fun c7 => ?_) (fun c7 => ?_)
  · have hp1 := hp.1 c7
    refine x_up (pc' := 26) (fun _ _ _ _ _ L => lv_aload_n hx hb dJ12_init_25 rfl (lv_at L 0 rfl)) ?_
    refine x_up (pc' := 27) (fun _ _ _ _ _ L => lv_iload_n hx hb dJ12_init_26 rfl (lv_at L 1 rfl)) ?_
    refine x_callS (em := emQ) (fun r st => va_rf r :: st) (fun _ _ => rfl) 1 X (fun σ' KK h => R_J15_newBytesFor l hl G hG x1 σ' KK h) (lw_S q566 q567 q118 q568) mdJ15_newBytesFor ⟨Nat.le_of_ble_eq_true rfl, Nat.le_of_ble_eq_true rfl⟩ rfl rfl (Nat.le_of_ble_eq_true rfl) dJ12_init_27 hp1 (fun v1 σ2 hp2 => ?_)
    refine x_pc (pc' := 30) rfl ?_
    refine x_pq X (kJ13 hG) 0 (by decide) q573 (fun _ h => h) rfl v1 (x_nar _ (by decide)) (x_fit _ (by decide)) dJ12_init_30 hp2 (fun σ3 hp3 => ?_)
    refine x_pc (pc' := 33) rfl ?_
    refine x_up (pc' := 34) (fun _ _ _ _ _ L => lv_aload_n hx hb dJ12_init_33 rfl (lv_at L 0 rfl)) ?_
    refine x_up (pc' := 35) (fun _ _ _ _ _ L => lv_iconst (v := (1 : Int32)) hx hb dJ12_init_34 (by decide)) ?_
    obtain ⟨hn35, hf35, hp4⟩ := hp3
    refine x_pi X (kJ13 hG) 1 (by decide) q574 (fun _ h => h) rfl hn35 hf35 dJ12_init_35 hp4 (fun σ4 hp5 => ?_)
    refine x_pc (pc' := 38) rfl ?_
    exact x_vret X hr dJ12_init_38 hp5
  · have hp6 := hp.2 c7
    refine x_up (pc' := 11) (fun _ _ _ _ _ L => lv_aload_n hx hb dJ12_init_10 rfl (lv_at L 0 rfl)) ?_
    refine x_up (pc' := 12) (fun _ _ _ _ _ L => lv_iload_n hx hb dJ12_init_11 rfl (lv_at L 1 rfl)) ?_
    refine x_nea .byte rfl (fun _ h => nomatch h) X q587 (fun N => (N, .inl fun _ => 0)) (fun _ => rfl) (fun _ _ => rfl) (by decide) dJ12_init_12 hp6 (fun q5 σ6 hp7 => ?_)
    refine x_pc (pc' := 14) rfl ?_
    refine x_pq X (kJ13 hG) 0 (by decide) q573 (fun _ h => h) rfl (some q5) (x_nar _ (by decide)) (x_fit _ (by decide)) dJ12_init_14 hp7 (fun σ7 hp8 => ?_)
    refine x_pc (pc' := 17) rfl ?_
    refine x_up (pc' := 18) (fun _ _ _ _ _ L => lv_aload_n hx hb dJ12_init_17 rfl (lv_at L 0 rfl)) ?_
    refine x_up (pc' := 19) (fun _ _ _ _ _ L => lv_iconst (v := (0 : Int32)) hx hb dJ12_init_18 (by decide)) ?_
    obtain ⟨hn19, hf19, hp9⟩ := hp8
    refine x_pi X (kJ13 hG) 1 (by decide) q574 (fun _ h => h) rfl hn19 hf19 dJ12_init_19 hp9 (fun σ8 hp10 => ?_)
    refine x_pc (pc' := 22) rfl ?_
    refine x_up (pc' := 38) (fun _ _ _ _ _ L => lv_goto (tgt := 38) hx hb dJ12_init_22 (by decide)) ?_
    exact x_vret X hr dJ12_init_38 hp10
-- J13_init
def P_J13_init (κ : Nat → Nat) (a0 : Nat) (σ : xS) (K : Unit → xH → Prop) : Prop :=
  xcall (fun τ L => P_J12_init κ a0 (16 : Int32) τ L) σ fun _ σ1 => K () σ1.1
theorem mdJ13_init : yJ13_init.cls ≠ "java/lang/invoke/MethodHandle" ∧ yJ13_init.cls ≠ "java/lang/invoke/VarHandle" ∧ (parseMethodDescriptor yJ13_init.desc).map (fun d => d.parameters.length) = some 0 := by decide +kernel
set_option maxHeartbeats 4000000 in
set_option maxRecDepth 100000 in
theorem R_J13_init (l : Launch) (hl : l.stackTraces = false) (G : xG) (hG : G.1.2 = x_cl) (a0 : Nat) (σ : xS) (K : Unit → xH → Prop) (hp : P_J13_init G.2 a0 σ K) : xM l yJ13_init cJ13_init 1 (Option.none : Option Jvm.ClassFile.FieldType) 3 61 G [(.ref a0)] σ (xlift emV K) := by
  refine x_entry (by decide) (Nat.le_of_ble_eq_true rfl) ?_
  intro p e s m args below meth c X hr hin
  have X : xX p s m args meth c G cJ13_init 1 RJ13 := X
  have hx := X.1
  have hb := X.2.1
  have hts := X.2.2.2.2.1
  have hown := X.2.2.2.1
  unfold P_J13_init at hp
  refine x_same (lo' := [(0, .ref a0)]) rfl ?_
  refine x_up (pc' := 1) (fun _ _ _ _ _ L => lv_aload_n hx hb dJ13_init_0 rfl (lv_at L 0 rfl)) ?_
  refine x_up (pc' := 3) (fun _ _ _ _ _ L => lv_bipush (v := (16 : Int32)) hx hb dJ13_init_1 (by decide)) ?_
  refine x_callI 1 X (fun σ' KK h => R_J12_init l hl G hG a0 (16 : Int32) σ' KK h) (lw_meth q562) q115 q560 q561 rfl mdJ12_init ⟨Nat.le_of_ble_eq_true rfl, Nat.le_of_ble_eq_true rfl⟩ rfl rfl (Nat.le_of_ble_eq_true rfl) dJ13_init_3 hp (fun σ1 hp1 => ?_)
  refine x_pc (pc' := 6) rfl ?_
  exact x_vret X hr dJ13_init_6 hp1
-- X1_init
def P_X1_init (κ : Nat → Nat) (a0 : Nat) (σ : xS) (K : Unit → xH → Prop) : Prop :=
  xnew κ σ 1 20 [va_rf none, va_rf none, va_rf none, va_rf none, va_rf none, va_rf none, va_rf none, va_rf none, .int 0, .int 0, .int 0, .int 0, .int 0, .int 0, .int 0, .int 0, .int 0, .int 0, .int 0, .int 0] fun q1 σ2 => xcall (fun τ L => P_X2_init κ q1 τ L) σ2 fun _ σ3 => xpq κ σ3 a0 0 0 (some q1) fun σ4 => xnew κ σ4 7 3 [va_rf none, .int 0, .int 0] fun q5 σ6 => xcall (fun τ L => P_J11_init κ q5 τ L) σ6 fun _ σ7 => xpq κ σ7 a0 0 2 (some q5) fun σ8 => xnew κ σ8 8 4 [va_rf none, .int 0, .int 0, .int 0] fun q9 σ10 => xcall (fun τ L => P_J13_init κ q9 τ L) σ10 fun _ σ11 => xpq κ σ11 a0 0 3 (some q9) fun σ12 => xpq κ σ12 a0 0 4 (some (κ 10)) fun σ13 => xpi κ σ13 a0 0 5 (-1 : Int32) fun σ14 => K () σ14.1
theorem mdX1_init : yX1_init.cls ≠ "java/lang/invoke/MethodHandle" ∧ yX1_init.cls ≠ "java/lang/invoke/VarHandle" ∧ (parseMethodDescriptor yX1_init.desc).map (fun d => d.parameters.length) = some 0 := by decide +kernel
set_option maxHeartbeats 4000000 in
set_option maxRecDepth 100000 in
theorem R_X1_init (l : Launch) (hl : l.stackTraces = false) (G : xG) (hG : G.1.2 = x_cl) (a0 : Nat) (σ : xS) (K : Unit → xH → Prop) (hp : P_X1_init G.2 a0 σ K) : xM l yX1_init cX1_init 1 (Option.none : Option Jvm.ClassFile.FieldType) 9 236 G [(.ref a0)] σ (xlift emV K) := by
  refine x_entry (by decide) (Nat.le_of_ble_eq_true rfl) ?_
  intro p e s m args below meth c X hr hin
  have X : xX p s m args meth c G cX1_init 1 RX1 := X
  have hx := X.1
  have hb := X.2.1
  have hts := X.2.2.2.2.1
  have hown := X.2.2.2.1
  unfold P_X1_init at hp
  refine x_same (lo' := [(0, .ref a0)]) rfl ?_
  refine x_up (pc' := 1) (fun _ _ _ _ _ L => lv_aload_n hx hb dX1_init_0 rfl (lv_at L 0 rfl)) ?_
  refine x_objInit X q169 q170 q171 dX1_init_1 (Nat.le_of_ble_eq_true rfl) ⟨Nat.le_of_ble_eq_true rfl, Nat.le_of_ble_eq_true rfl⟩ ?_
  refine x_pc (pc' := 4) rfl ?_
  refine x_up (pc' := 5) (fun _ _ _ _ _ L => lv_aload_n hx hb dX1_init_4 rfl (lv_at L 0 rfl)) ?_
  refine x_new X (kX2 hG) q172 q173 q100 (fs := [va_rf none, va_rf none, va_rf none, va_rf none, va_rf none, va_rf none, va_rf none, va_rf none, .int 0, .int 0, .int 0, .int 0, .int 0, .int 0, .int 0, .int 0, .int 0, .int 0, .int 0, .int 0]) x_dflt_X2 dX1_init_5 hp (fun q1 σ2 hp1 => ?_)
  refine x_pc (pc' := 8) rfl ?_
  refine x_up (pc' := 9) (fun _ _ _ _ _ L => lv_dup hx hb dX1_init_8 rfl) ?_
  refine x_callI 0 X (fun σ' KK h => R_X2_init l hl G hG q1 σ' KK h) (lw_meth q176) q100 q174 q175 rfl mdX2_init ⟨Nat.le_of_ble_eq_true rfl, Nat.le_of_ble_eq_true rfl⟩ rfl rfl (Nat.le_of_ble_eq_true rfl) dX1_init_9 hp1 (fun σ3 hp2 => ?_)
  refine x_pc (pc' := 12) rfl ?_
  refine x_pq X (kX1 hG) 0 (by decide) q589 (fun _ h => h) rfl (some q1) (x_nar _ (by decide)) (x_fit _ (by decide)) dX1_init_12 hp2 (fun σ4 hp3 => ?_)
  refine x_pc (pc' := 15) rfl ?_
  refine x_up (pc' := 16) (fun _ _ _ _ _ L => lv_aload_n hx hb dX1_init_15 rfl (lv_at L 0 rfl)) ?_
  refine x_new X (kJ11 hG) q536 q537 q114 (fs := [va_rf none, .int 0, .int 0]) x_dflt_J11 dX1_init_16 hp3 (fun q5 σ6 hp4 => ?_)
  refine x_pc (pc' := 19) rfl ?_
  refine x_up (pc' := 20) (fun _ _ _ _ _ L => lv_dup hx hb dX1_init_19 rfl) ?_
  refine x_callI 0 X (fun σ' KK h => R_J11_init l hl G hG q5 σ' KK h) (lw_meth q540) q114 q538 q539 rfl mdJ11_init ⟨Nat.le_of_ble_eq_true rfl, Nat.le_of_ble_eq_true rfl⟩ rfl rfl (Nat.le_of_ble_eq_true rfl) dX1_init_20 hp4 (fun σ7 hp5 => ?_)
  refine x_pc (pc' := 23) rfl ?_
  refine x_pqF X (kX1 hG) 2 (by decide) q591 (fun _ h => h) rfl hin rfl (some q5) (x_nar _ (by decide)) (x_fit _ (by decide)) dX1_init_23 hp5 (fun σ8 hp6 => ?_)
  refine x_pc (pc' := 26) rfl ?_
  refine x_up (pc' := 27) (fun _ _ _ _ _ L => lv_aload_n hx hb dX1_init_26 rfl (lv_at L 0 rfl)) ?_
  refine x_new X (kJ13 hG) q555 q556 q116 (fs := [va_rf none, .int 0, .int 0, .int 0]) x_dflt_J13 dX1_init_27 hp6 (fun q9 σ10 hp7 => ?_)
  refine x_pc (pc' := 30) rfl ?_
  refine x_up (pc' := 31) (fun _ _ _ _ _ L => lv_dup hx hb dX1_init_30 rfl) ?_
  refine x_callI 0 X (fun σ' KK h => R_J13_init l hl G hG q9 σ' KK h) (lw_meth q559) q116 q557 q558 rfl mdJ13_init ⟨Nat.le_of_ble_eq_true rfl, Nat.le_of_ble_eq_true rfl⟩ rfl rfl (Nat.le_of_ble_eq_true rfl) dX1_init_31 hp7 (fun σ11 hp8 => ?_)
  refine x_pc (pc' := 34) rfl ?_
  refine x_pqF X (kX1 hG) 3 (by decide) q592 (fun _ h => h) rfl hin rfl (some q9) (x_nar _ (by decide)) (x_fit _ (by decide)) dX1_init_34 hp8 (fun σ12 hp9 => ?_)
  refine x_pc (pc' := 37) rfl ?_
  refine x_up (pc' := 38) (fun _ _ _ _ _ L => lv_aload_n hx hb dX1_init_37 rfl (lv_at L 0 rfl)) ?_
  refine x_ldcS (tx := "") (q := G.2 10) X (by simp [x_ss, RX1]) dX1_init_38 ?_
  refine x_pc (pc' := 40) rfl ?_
  refine x_pq X (kX1 hG) 4 (by decide) q593 (fun _ h => h) rfl (some (G.2 10)) (x_nar _ (by decide)) (x_fit _ (by decide)) dX1_init_40 hp9 (fun σ13 hp10 => ?_)
  refine x_pc (pc' := 43) rfl ?_
  refine x_up (pc' := 44) (fun _ _ _ _ _ L => lv_aload_n hx hb dX1_init_43 rfl (lv_at L 0 rfl)) ?_
  refine x_up (pc' := 45) (fun _ _ _ _ _ L => lv_iconst (v := (-1 : Int32)) hx hb dX1_init_44 (by decide)) ?_
  refine x_pi X (kX1 hG) 5 (by decide) q594 (fun _ h => h) rfl rfl rfl dX1_init_45 hp10 (fun σ14 hp11 => ?_)
  refine x_pc (pc' := 48) rfl ?_
  exact x_vret X hr dX1_init_48 hp11
-- J1_size
def P_J1_size (κ : Nat → Nat) (a0 : Nat) (σ : xS) (K : Int32 → xH → Prop) : Prop :=
  xgi σ a0 2 4 fun v1 => K v1 σ.1
theorem mdJ1_size : yJ1_size.cls ≠ "java/lang/invoke/MethodHandle" ∧ yJ1_size.cls ≠ "java/lang/invoke/VarHandle" ∧ (parseMethodDescriptor yJ1_size.desc).map (fun d => d.parameters.length) = some 0 := by decide +kernel
set_option maxHeartbeats 4000000 in
set_option maxRecDepth 100000 in
theorem R_J1_size (l : Launch) (hl : l.stackTraces = false) (G : xG) (hG : G.1.2 = x_cl) (a0 : Nat) (σ : xS) (K : Int32 → xH → Prop) (hp : P_J1_size G.2 a0 σ K) : xM l yJ1_size cJ1_size 1 (Option.some Jvm.ClassFile.FieldType.int) 0 0 G [(.ref a0)] σ (xlift emI K) := by
  refine x_entry (by decide) (Nat.le_of_ble_eq_true rfl) ?_
  intro p e s m args below meth c X hr hin
  have X : xX p s m args meth c G cJ1_size 1 RJ1 := X
  have hx := X.1
  have hb := X.2.1
  have hts := X.2.2.2.2.1
  have hown := X.2.2.2.1
  unfold P_J1_size at hp
  refine x_same (lo' := [(0, .ref a0)]) rfl ?_
  refine x_up (pc' := 1) (fun _ _ _ _ _ L => lv_aload_n hx hb dJ1_size_0 rfl (lv_at L 0 rfl)) ?_
  refine x_gi X (kJ1 hG) 4 (by decide) q189 (fun _ h => h) dJ1_size_1 hp (fun v1 hp1 => ?_)
  refine x_pc (pc' := 4) rfl ?_
  exact x_iret X hr rfl dJ1_size_4 hp1
-- J2_init_J19
def P_J2_init_J19 (κ : Nat → Nat) (a0 : Nat) (σ : xS) (K : Unit → xH → Prop) : Prop :=
  K () σ.1
set_option maxHeartbeats 4000000 in
set_option maxRecDepth 100000 in
theorem R_J2_init_J19 (l : Launch) (hl : l.stackTraces = false) (G : xG) (hG : G.1.2 = x_cl) (a0 : Nat) (σ : xS) (K : Unit → xH → Prop) (hp : P_J2_init_J19 G.2 a0 σ K) : xM l yJ2_init cJ2_init 1 (Option.none : Option Jvm.ClassFile.FieldType) 1 20 G [(.ref a0)] σ (xlift emV K) := by
  refine x_entry (by decide) (Nat.le_of_ble_eq_true rfl) ?_
  intro p e s m args below meth c X hr hin
  have X : xX p s m args meth c G cJ2_init 1 RJ2 := X
  have hx := X.1
  have hb := X.2.1
  have hts := X.2.2.2.2.1
  have hown := X.2.2.2.1
  unfold P_J2_init_J19 at hp
  refine x_same (lo' := [(0, .ref a0)]) rfl ?_
  refine x_up (pc' := 1) (fun _ _ _ _ _ L => lv_aload_n hx hb dJ2_init_0 rfl (lv_at L 0 rfl)) ?_
  refine x_objInit X q224 q170 q171 dJ2_init_1 (Nat.le_of_ble_eq_true rfl) ⟨Nat.le_of_ble_eq_true rfl, Nat.le_of_ble_eq_true rfl⟩ ?_
  refine x_pc (pc' := 4) rfl ?_
  exact x_vret X hr dJ2_init_4 hp
-- J18_init
def P_J18_init (κ : Nat → Nat) (a0 : Nat) (σ : xS) (K : Unit → xH → Prop) : Prop :=
  xcall (fun τ L => P_J2_init_J19 κ a0 τ L) σ fun _ σ1 => K () σ1.1
theorem mdJ18_init : yJ18_init.cls ≠ "java/lang/invoke/MethodHandle" ∧ yJ18_init.cls ≠ "java/lang/invoke/VarHandle" ∧ (parseMethodDescriptor yJ18_init.desc).map (fun d => d.parameters.length) = some 0 := by decide +kernel
set_option maxHeartbeats 4000000 in
set_option maxRecDepth 100000 in
theorem R_J18_init (l : Launch) (hl : l.stackTraces = false) (G : xG) (hG : G.1.2 = x_cl) (a0 : Nat) (σ : xS) (K : Unit → xH → Prop) (hp : P_J18_init G.2 a0 σ K) : xM l yJ18_init cJ18_init 1 (Option.none : Option Jvm.ClassFile.FieldType) 2 40 G [(.ref a0)] σ (xlift emV K) := by
  refine x_entry (by decide) (Nat.le_of_ble_eq_true rfl) ?_
  intro p e s m args below meth c X hr hin
  have X : xX p s m args meth c G cJ18_init 1 RJ18 := X
  have hx := X.1
  have hb := X.2.1
  have hts := X.2.2.2.2.1
  have hown := X.2.2.2.1
  unfold P_J18_init at hp
  refine x_same (lo' := [(0, .ref a0)]) rfl ?_
  refine x_up (pc' := 1) (fun _ _ _ _ _ L => lv_aload_n hx hb dJ18_init_0 rfl (lv_at L 0 rfl)) ?_
  refine x_callI 0 X (fun σ' KK h => R_J2_init_J19 l hl G hG a0 σ' KK h) (lw_meth q223) q103 q709 q222 rfl mdJ2_init ⟨Nat.le_of_ble_eq_true rfl, Nat.le_of_ble_eq_true rfl⟩ rfl rfl (Nat.le_of_ble_eq_true rfl) dJ18_init_1 hp (fun σ1 hp1 => ?_)
  refine x_pc (pc' := 4) rfl ?_
  exact x_vret X hr dJ18_init_4 hp1
-- J19_init
def P_J19_init (κ : Nat → Nat) (a0 : Nat) (x1 : Option Nat) (σ : xS) (K : Unit → xH → Prop) : Prop :=
  xpq κ σ a0 12 0 x1 fun σ1 => xcall (fun τ L => P_J18_init κ a0 τ L) σ1 fun _ σ2 => K () σ2.1
theorem mdJ19_init : yJ19_init.cls ≠ "java/lang/invoke/MethodHandle" ∧ yJ19_init.cls ≠ "java/lang/invoke/VarHandle" ∧ (parseMethodDescriptor yJ19_init.desc).map (fun d => d.parameters.length) = some 1 := by decide +kernel
set_option maxHeartbeats 4000000 in
set_option maxRecDepth 100000 in
theorem R_J19_init (l : Launch) (hl : l.stackTraces = false) (G : xG) (hG : G.1.2 = x_cl) (a0 : Nat) (x1 : Option Nat) (σ : xS) (K : Unit → xH → Prop) (hp : P_J19_init G.2 a0 x1 σ K) : xM l yJ19_init cJ19_init 2 (Option.none : Option Jvm.ClassFile.FieldType) 3 60 G [(.ref a0), va_rf x1] σ (xlift emV K) := by
  refine x_entry (by decide) (by simp [lg_sl, x_catq, x_cati, x_catr, x_catn]) ?_
  intro p e s m args below meth c X hr hin
  have X : xX p s m args meth c G cJ19_init 2 RJ19 := X
  have hx := X.1
  have hb := X.2.1
  have hts := X.2.2.2.2.1
  have hown := X.2.2.2.1
  unfold P_J19_init at hp
  refine x_same (lo' := [(0, .ref a0), (1, va_rf x1)]) (by simp [lv_args, x_catq, x_cati, x_catr, x_catn]) ?_
  refine x_up (pc' := 1) (fun _ _ _ _ _ L => lv_aload_n hx hb dJ19_init_0 rfl (lv_at L 0 rfl)) ?_
  refine x_up (pc' := 2) (fun _ _ _ _ _ L => lv_aloadq_n hx hb dJ19_init_1 rfl (lv_at L 1 rfl)) ?_
  refine x_pqF X (kJ19 hG) 0 (by decide) q710 (fun _ h => h) rfl hin rfl x1 (x_nar _ (by decide)) (x_fit _ (by decide)) dJ19_init_2 hp (fun σ1 hp1 => ?_)
  refine x_pc (pc' := 5) rfl ?_
  refine x_up (pc' := 6) (fun _ _ _ _ _ L => lv_aload_n hx hb dJ19_init_5 rfl (lv_at L 0 rfl)) ?_
  refine x_callI 0 X (fun σ' KK h => R_J18_init l hl G hG a0 σ' KK h) (lw_meth q708) q123 q706 q707 rfl mdJ18_init ⟨Nat.le_of_ble_eq_true rfl, Nat.le_of_ble_eq_true rfl⟩ rfl rfl (Nat.le_of_ble_eq_true rfl) dJ19_init_6 hp1 (fun σ2 hp2 => ?_)
  refine x_pc (pc' := 9) rfl ?_
  exact x_vret X hr dJ19_init_9 hp2
-- J1_entrySet
def P_J1_entrySet (κ : Nat → Nat) (a0 : Nat) (σ : xS) (K : Option Nat → xH → Prop) : Prop :=
  xgq σ a0 2 6 fun v1 => ((v1 = none → (xnew κ σ 12 1 [va_rf none] fun q3 σ4 => xcall (fun τ L => P_J19_init κ q3 (some a0) τ L) σ4 fun _ σ5 => xpq κ σ5 a0 2 6 (some q3) fun σ6 => K (some q3) σ6.1)) ∧ (∀ b2 : Nat, v1 = some b2 → (K (some b2) σ.1)))
theorem mdJ1_entrySet : yJ1_entrySet.cls ≠ "java/lang/invoke/MethodHandle" ∧ yJ1_entrySet.cls ≠ "java/lang/invoke/VarHandle" ∧ (parseMethodDescriptor yJ1_entrySet.desc).map (fun d => d.parameters.length) = some 0 := by decide +kernel
set_option maxHeartbeats 4000000 in
set_option maxRecDepth 100000 in
theorem R_J1_entrySet (l : Launch) (hl : l.stackTraces = false) (G : xG) (hG : G.1.2 = x_cl) (a0 : Nat) (σ : xS) (K : Option Nat → xH → Prop) (hp : P_J1_entrySet G.2 a0 σ K) : xM l yJ1_entrySet cJ1_entrySet 2 (Option.some (Jvm.ClassFile.FieldType.object "java/util/Set")) 4 81 G [(.ref a0)] σ (xlift emQ K) := by
  refine x_entry (by decide) (Nat.le_of_ble_eq_true rfl) ?_
  intro p e s m args below meth c X hr hin
  have X : xX p s m args meth c G cJ1_entrySet 2 RJ1 := X
  have hx := X.1
  have hb := X.2.1
  have hts := X.2.2.2.2.1
  have hown := X.2.2.2.1
  unfold P_J1_entrySet at hp
  refine x_same (lo' := [(0, .ref a0)]) rfl ?_
  refine x_up (pc' := 1) (fun _ _ _ _ _ L => lv_aload_n hx hb dJ1_entrySet_0 rfl (lv_at L 0 rfl)) ?_
  refine x_gq X (kJ1 hG) 6 (by decide) q192 (fun _ h => h) dJ1_entrySet_1 hp (fun v1 hp1 => ?_)
  refine x_pc (pc' := 4) rfl ?_
  refine x_upL (pc' := 5) (lo' := [(1, va_rf v1), (0, .ref a0)]) (fun _ _ _ _ _ L => lv_astoreq_n hx hb dJ1_entrySet_4 rfl L (by decide) rfl) ?_
  refine x_up (pc' := 6) (fun _ _ _ _ _ L => lv_aloadq_n hx hb dJ1_entrySet_5 rfl (lv_at L 0 rfl)) ?_
  rcases v1 with _ | b2
  · have hp2 := hp1.1 rfl
    refine x_up (pc' := 13) (fun _ _ _ _ _ L => lv_ifnullN (tgt := 13) hx hb dJ1_entrySet_6 (by decide)) ?_
    refine x_up (pc' := 14) (fun _ _ _ _ _ L => lv_aload_n hx hb dJ1_entrySet_13 rfl (lv_at L 1 rfl)) ?_
    refine x_new X (kJ19 hG) q701 q702 q124 (fs := [va_rf none]) x_dflt_J19 dJ1_entrySet_14 hp2 (fun q3 σ4 hp3 => ?_)
    refine x_pc (pc' := 17) rfl ?_
    refine x_up (pc' := 18) (fun _ _ _ _ _ L => lv_dup hx hb dJ1_entrySet_17 rfl) ?_
    refine x_up (pc' := 19) (fun _ _ _ _ _ L => lv_aload_n hx hb dJ1_entrySet_18 rfl (lv_at L 1 rfl)) ?_
    refine x_callI 1 X (fun σ' KK h => R_J19_init l hl G hG q3 (some a0) σ' KK h) (lw_meth q705) q124 q703 q704 rfl mdJ19_init ⟨Nat.le_of_ble_eq_true rfl, Nat.le_of_ble_eq_true rfl⟩ rfl rfl (Nat.le_of_ble_eq_true rfl) dJ1_entrySet_19 hp3 (fun σ5 hp4 => ?_)
    refine x_pc (pc' := 22) rfl ?_
    refine x_up (pc' := 23) (fun _ _ _ _ _ L => lv_dup_x1 hx hb dJ1_entrySet_22 rfl rfl) ?_
    refine x_pq X (kJ1 hG) 6 (by decide) q192 (fun _ h => h) rfl (some q3) (x_nar _ (by decide)) (x_fit _ (by decide)) dJ1_entrySet_23 hp4 (fun σ6 hp5 => ?_)
    refine x_pc (pc' := 26) rfl ?_
    exact x_aret X hr (Or.inl ⟨_, rfl⟩) dJ1_entrySet_26 (some q3) hp5
  · have hp6 := hp1.2 _ rfl
    refine x_up (pc' := 9) (fun _ _ _ _ _ L => lv_ifnull hx hb dJ1_entrySet_6) ?_
    refine x_up (pc' := 10) (fun _ _ _ _ _ L => lv_aload_n hx hb dJ1_entrySet_9 rfl (lv_at L 0 rfl)) ?_
    refine x_up (pc' := 26) (fun _ _ _ _ _ L => lv_goto (tgt := 26) hx hb dJ1_entrySet_10 (by decide)) ?_
    exact x_aret X hr (Or.inl ⟨_, rfl⟩) dJ1_entrySet_26 (some b2) hp6
-- J1_getFirstEntry
def B_J1_getFirstEntry_9 (κ : Nat → Nat) (K : Option Nat → xH → Prop) : ((Option Nat) → xS → Prop) → (Option Nat) → xS → Prop := fun self10003 w10001 σ10002 =>
  xnn w10001 fun b10004 => xgq σ10002 b10004 19 2 fun v10005 => ((v10005 = none → (K (some b10004) σ10002.1)) ∧ (∀ b10006 : Nat, v10005 = some b10006 → (xgq σ10002 b10004 19 2 fun v10007 => self10003 v10007 σ10002)))
def P_J1_getFirstEntry (κ : Nat → Nat) (a0 : Nat) (σ : xS) (K : Option Nat → xH → Prop) : Prop :=
  xgq σ a0 2 3 fun v1 => ((v1 = none → (K none σ.1)) ∧ (∀ b2 : Nat, v1 = some b2 → (xwhile (B_J1_getFirstEntry_9 κ K) (some b2) σ)))
theorem mdJ1_getFirstEntry : yJ1_getFirstEntry.cls ≠ "java/lang/invoke/MethodHandle" ∧ yJ1_getFirstEntry.cls ≠ "java/lang/invoke/VarHandle" ∧ (parseMethodDescriptor yJ1_getFirstEntry.desc).map (fun d => d.parameters.length) = some 0 := by decide +kernel
set_option maxHeartbeats 4000000 in
set_option maxRecDepth 100000 in
theorem R_J1_getFirstEntry (l : Launch) (hl : l.stackTraces = false) (G : xG) (hG : G.1.2 = x_cl) (a0 : Nat) (σ : xS) (K : Option Nat → xH → Prop) (hp : P_J1_getFirstEntry G.2 a0 σ K) : xM l yJ1_getFirstEntry cJ1_getFirstEntry 2 (Option.some (Jvm.ClassFile.FieldType.object "java/util/TreeMap$Entry")) 0 0 G [(.ref a0)] σ (xlift emQ K) := by
  refine x_entry (by decide) (Nat.le_of_ble_eq_true rfl) ?_
  intro p e s m args below meth c X hr hin
  have X : xX p s m args meth c G cJ1_getFirstEntry 2 RJ1 := X
  have hx := X.1
  have hb := X.2.1
  have hts := X.2.2.2.2.1
  have hown := X.2.2.2.1
  unfold P_J1_getFirstEntry at hp
  refine x_same (lo' := [(0, .ref a0)]) rfl ?_
  refine x_up (pc' := 1) (fun _ _ _ _ _ L => lv_aload_n hx hb dJ1_getFirstEntry_0 rfl (lv_at L 0 rfl)) ?_
  refine x_gq X (kJ1 hG) 3 (by decide) q188 (fun _ h => h) dJ1_getFirstEntry_1 hp (fun v1 hp1 => ?_)
  refine x_pc (pc' := 4) rfl ?_
  refine x_upL (pc' := 5) (lo' := [(1, va_rf v1), (0, .ref a0)]) (fun _ _ _ _ _ L => lv_astoreq_n hx hb dJ1_getFirstEntry_4 rfl L (by decide) rfl) ?_
  refine x_up (pc' := 6) (fun _ _ _ _ _ L => lv_aloadq_n hx hb dJ1_getFirstEntry_5 rfl (lv_at L 0 rfl)) ?_
  rcases v1 with _ | b2
  · have hp2 := hp1.1 rfl
    refine x_up (pc' := 24) (fun _ _ _ _ _ L => lv_ifnullN (tgt := 24) hx hb dJ1_getFirstEntry_6 (by decide)) ?_
    refine x_up (pc' := 25) (fun _ _ _ _ _ L => lv_aload_nN hx hb dJ1_getFirstEntry_24 rfl (lv_at L 0 rfl)) ?_
    exact x_aret X hr (Or.inl ⟨_, rfl⟩) dJ1_getFirstEntry_25 none hp2
  · have hp3 := hp1.2 _ rfl
    refine x_up (pc' := 9) (fun _ _ _ _ _ L => lv_ifnull hx hb dJ1_getFirstEntry_6) ?_
    refine x_lo (lo' := [(1, .ref b2)]) [0] rfl ?_
    refine x_while (v0 := (some b2)) (fun w3 => [(1, va_rf w3)]) hp3 (fun self4 hself5 => ?_)
    rintro y7 σ6 hp4
    unfold B_J1_getFirstEntry_9 at hp4
    refine x_same (lo' := [(1, va_rf y7)]) rfl ?_
    refine x_up (pc' := 10) (fun _ _ _ _ _ L => lv_aloadq_n hx hb dJ1_getFirstEntry_9 rfl (lv_at L 0 rfl)) ?_
    obtain ⟨b8, rfl, hp5⟩ := hp4
    refine x_gq X (kJ31 hG) 2 (by decide) q1302 (fun _ h => h) dJ1_getFirstEntry_10 hp5 (fun v9 hp6 => ?_)
    refine x_pc (pc' := 13) rfl ?_
    rcases v9 with _ | b10
    · have hp7 := hp6.1 rfl
      refine x_up (pc' := 24) (fun _ _ _ _ _ L => lv_ifnullN (tgt := 24) hx hb dJ1_getFirstEntry_13 (by decide)) ?_
      refine x_up (pc' := 25) (fun _ _ _ _ _ L => lv_aload_n hx hb dJ1_getFirstEntry_24 rfl (lv_at L 0 rfl)) ?_
      exact x_aret X hr (Or.inl ⟨_, rfl⟩) dJ1_getFirstEntry_25 (some b8) hp7
    · have hp8 := hp6.2 _ rfl
      refine x_up (pc' := 16) (fun _ _ _ _ _ L => lv_ifnull hx hb dJ1_getFirstEntry_13) ?_
      refine x_up (pc' := 17) (fun _ _ _ _ _ L => lv_aload_n hx hb dJ1_getFirstEntry_16 rfl (lv_at L 0 rfl)) ?_
      refine x_gq X (kJ31 hG) 2 (by decide) q1302 (fun _ h => h) dJ1_getFirstEntry_17 hp8 (fun v11 hp9 => ?_)
      refine x_pc (pc' := 20) rfl ?_
      refine x_upL (pc' := 21) (lo' := [(1, va_rf v11)]) (fun _ _ _ _ _ L => lv_astoreq_n hx hb dJ1_getFirstEntry_20 rfl L (by decide) rfl) ?_
      refine x_up (pc' := 9) (fun _ _ _ _ _ L => lv_goto (tgt := 9) hx hb dJ1_getFirstEntry_21 (by decide)) ?_
      refine x_lo (lo' := [(1, va_rf v11)]) [0] rfl ?_
      exact hself5 v11 σ6 hp9
-- J20_init
def P_J20_init (κ : Nat → Nat) (a0 : Nat) (x1 : Option Nat) (x2 : Option Nat) (σ : xS) (K : Unit → xH → Prop) : Prop :=
  xpq κ σ a0 13 3 x1 fun σ1 => xnn x1 fun b2 => xgi σ1 b2 2 5 fun v3 => xpi κ σ1 a0 13 2 v3 fun σ4 => xpq κ σ4 a0 13 1 none fun σ5 => xpq κ σ5 a0 13 0 x2 fun σ6 => K () σ6.1
theorem mdJ20_init : yJ20_init.cls ≠ "java/lang/invoke/MethodHandle" ∧ yJ20_init.cls ≠ "java/lang/invoke/VarHandle" ∧ (parseMethodDescriptor yJ20_init.desc).map (fun d => d.parameters.length) = some 2 := by decide +kernel
set_option maxHeartbeats 4000000 in
set_option maxRecDepth 100000 in
theorem R_J20_init (l : Launch) (hl : l.stackTraces = false) (G : xG) (hG : G.1.2 = x_cl) (a0 : Nat) (x1 : Option Nat) (x2 : Option Nat) (σ : xS) (K : Unit → xH → Prop) (hp : P_J20_init G.2 a0 x1 x2 σ K) : xM l yJ20_init cJ20_init 3 (Option.none : Option Jvm.ClassFile.FieldType) 1 20 G [(.ref a0), va_rf x1, va_rf x2] σ (xlift emV K) := by
  refine x_entry (by decide) (by simp [lg_sl, x_catq, x_cati, x_catr, x_catn]) ?_
  intro p e s m args below meth c X hr hin
  have X : xX p s m args meth c G cJ20_init 3 RJ20 := X
  have hx := X.1
  have hb := X.2.1
  have hts := X.2.2.2.2.1
  have hown := X.2.2.2.1
  unfold P_J20_init at hp
  refine x_same (lo' := [(0, .ref a0), (1, va_rf x1), (2, va_rf x2)]) (by simp [lv_args, x_catq, x_cati, x_catr, x_catn]) ?_
  refine x_up (pc' := 1) (fun _ _ _ _ _ L => lv_aload_n hx hb dJ20_init_0 rfl (lv_at L 0 rfl)) ?_
  refine x_up (pc' := 2) (fun _ _ _ _ _ L => lv_aloadq_n hx hb dJ20_init_1 rfl (lv_at L 1 rfl)) ?_
  refine x_pqF X (kJ21 hG) 3 (by decide) q740 (fun _ h => h) rfl hin rfl x1 (x_nar _ (by decide)) (x_fit _ (by decide)) dJ20_init_2 hp (fun σ1 hp1 => ?_)
  refine x_pc (pc' := 5) rfl ?_
  refine x_up (pc' := 6) (fun _ _ _ _ _ L => lv_aload_n hx hb dJ20_init_5 rfl (lv_at L 0 rfl)) ?_
  refine x_objInit X q736 q170 q171 dJ20_init_6 (Nat.le_of_ble_eq_true rfl) ⟨Nat.le_of_ble_eq_true rfl, Nat.le_of_ble_eq_true rfl⟩ ?_
  refine x_pc (pc' := 9) rfl ?_
  refine x_up (pc' := 10) (fun _ _ _ _ _ L => lv_aload_n hx hb dJ20_init_9 rfl (lv_at L 0 rfl)) ?_
  refine x_up (pc' := 11) (fun _ _ _ _ _ L => lv_aloadq_n hx hb dJ20_init_10 rfl (lv_at L 1 rfl)) ?_
  obtain ⟨b2, rfl, hp2⟩ := hp1
  refine x_giN X (kJ1 hG) 5 (by decide) q191 (fun _ h => h) dJ20_init_11 hp2 (fun v3 hp3 => ?_)
  refine x_pc (pc' := 14) rfl ?_
  refine x_pi X (kJ21 hG) 2 (by decide) q739 (fun _ h => h) rfl rfl rfl dJ20_init_14 hp3 (fun σ4 hp4 => ?_)
  refine x_pc (pc' := 17) rfl ?_
  refine x_up (pc' := 18) (fun _ _ _ _ _ L => lv_aload_n hx hb dJ20_init_17 rfl (lv_at L 0 rfl)) ?_
  refine x_up (pc' := 19) (fun _ _ _ _ _ L => lv_null hx hb dJ20_init_18) ?_
  refine x_pq X (kJ21 hG) 1 (by decide) q738 (fun _ h => h) rfl none (x_nar _ (by decide)) (x_fit _ (by decide)) dJ20_init_19 hp4 (fun σ5 hp5 => ?_)
  refine x_pc (pc' := 22) rfl ?_
  refine x_up (pc' := 23) (fun _ _ _ _ _ L => lv_aload_n hx hb dJ20_init_22 rfl (lv_at L 0 rfl)) ?_
  refine x_up (pc' := 24) (fun _ _ _ _ _ L => lv_aloadq_n hx hb dJ20_init_23 rfl (lv_at L 2 rfl)) ?_
  refine x_pq X (kJ21 hG) 0 (by decide) q737 (fun _ h => h) rfl x2 (x_nar _ (by decide)) (x_fit _ (by decide)) dJ20_init_24 hp5 (fun σ6 hp6 => ?_)
  refine x_pc (pc' := 27) rfl ?_
  exact x_vret X hr dJ20_init_27 hp6
-- J21_init
def P_J21_init (κ : Nat → Nat) (a0 : Nat) (x1 : Option Nat) (x2 : Option Nat) (σ : xS) (K : Unit → xH → Prop) : Prop :=
  xcall (fun τ L => P_J20_init κ a0 x1 x2 τ L) σ fun _ σ1 => K () σ1.1
theorem mdJ21_init : yJ21_init.cls ≠ "java/lang/invoke/MethodHandle" ∧ yJ21_init.cls ≠ "java/lang/invoke/VarHandle" ∧ (parseMethodDescriptor yJ21_init.desc).map (fun d => d.parameters.length) = some 2 := by decide +kernel
set_option maxHeartbeats 4000000 in
set_option maxRecDepth 100000 in
theorem R_J21_init (l : Launch) (hl : l.stackTraces = false) (G : xG) (hG : G.1.2 = x_cl) (a0 : Nat) (x1 : Option Nat) (x2 : Option Nat) (σ : xS) (K : Unit → xH → Prop) (hp : P_J21_init G.2 a0 x1 x2 σ K) : xM l yJ21_init cJ21_init 3 (Option.none : Option Jvm.ClassFile.FieldType) 2 42 G [(.ref a0), va_rf x1, va_rf x2] σ (xlift emV K) := by
  refine x_entry (by decide) (by simp [lg_sl, x_catq, x_cati, x_catr, x_catn]) ?_
  intro p e s m args below meth c X hr hin
  have X : xX p s m args meth c G cJ21_init 3 RJ21 := X
  have hx := X.1
  have hb := X.2.1
  have hts := X.2.2.2.2.1
  have hown := X.2.2.2.1
  unfold P_J21_init at hp
  refine x_same (lo' := [(0, .ref a0), (1, va_rf x1), (2, va_rf x2)]) (by simp [lv_args, x_catq, x_cati, x_catr, x_catn]) ?_
  refine x_up (pc' := 1) (fun _ _ _ _ _ L => lv_aload_n hx hb dJ21_init_0 rfl (lv_at L 0 rfl)) ?_
  refine x_up (pc' := 2) (fun _ _ _ _ _ L => lv_aloadq_n hx hb dJ21_init_1 rfl (lv_at L 1 rfl)) ?_
  refine x_up (pc' := 3) (fun _ _ _ _ _ L => lv_aloadq_n hx hb dJ21_init_2 rfl (lv_at L 2 rfl)) ?_
  refine x_callI 2 X (fun σ' KK h => R_J20_init l hl G hG a0 x1 x2 σ' KK h) (lw_meth q735) q125 q733 q734 rfl mdJ20_init ⟨Nat.le_of_ble_eq_true rfl, Nat.le_of_ble_eq_true rfl⟩ rfl rfl (Nat.le_of_ble_eq_true rfl) dJ21_init_3 hp (fun σ1 hp1 => ?_)
  refine x_pc (pc' := 6) rfl ?_
  exact x_vret X hr dJ21_init_6 hp1
-- J19_iterator
def P_J19_iterator (κ : Nat → Nat) (a0 : Nat) (σ : xS) (K : Option Nat → xH → Prop) : Prop :=
  xnew κ σ 13 4 [va_rf none, va_rf none, .int 0, va_rf none] fun q1 σ2 => xgq σ2 a0 12 0 fun v3 => xgq σ2 a0 12 0 fun v4 => xnn v4 fun b5 => xrc σ2 b5 2 ∧ xcall (fun τ L => P_J1_getFirstEntry κ b5 τ L) σ2 fun v6 σ7 => xcall (fun τ L => P_J21_init κ q1 v3 v6 τ L) σ7 fun _ σ8 => K (some q1) σ8.1
theorem mdJ19_iterator : yJ19_iterator.cls ≠ "java/lang/invoke/MethodHandle" ∧ yJ19_iterator.cls ≠ "java/lang/invoke/VarHandle" ∧ (parseMethodDescriptor yJ19_iterator.desc).map (fun d => d.parameters.length) = some 0 := by decide +kernel
set_option maxHeartbeats 4000000 in
set_option maxRecDepth 100000 in
theorem R_J19_iterator (l : Launch) (hl : l.stackTraces = false) (G : xG) (hG : G.1.2 = x_cl) (a0 : Nat) (σ : xS) (K : Option Nat → xH → Prop) (hp : P_J19_iterator G.2 a0 σ K) : xM l yJ19_iterator cJ19_iterator 1 (Option.some (Jvm.ClassFile.FieldType.object "java/util/Iterator")) 3 64 G [(.ref a0)] σ (xlift emQ K) := by
  refine x_entry (by decide) (Nat.le_of_ble_eq_true rfl) ?_
  intro p e s m args below meth c X hr hin
  have X : xX p s m args meth c G cJ19_iterator 1 RJ19 := X
  have hx := X.1
  have hb := X.2.1
  have hts := X.2.2.2.2.1
  have hown := X.2.2.2.1
  unfold P_J19_iterator at hp
  refine x_same (lo' := [(0, .ref a0)]) rfl ?_
  refine x_new X (kJ21 hG) q724 q725 q126 (fs := [va_rf none, va_rf none, .int 0, va_rf none]) x_dflt_J21 dJ19_iterator_0 hp (fun q1 σ2 hp1 => ?_)
  refine x_pc (pc' := 3) rfl ?_
  refine x_up (pc' := 4) (fun _ _ _ _ _ L => lv_dup hx hb dJ19_iterator_3 rfl) ?_
  refine x_up (pc' := 5) (fun _ _ _ _ _ L => lv_aload_n hx hb dJ19_iterator_4 rfl (lv_at L 0 rfl)) ?_
  refine x_gq X (kJ19 hG) 0 (by decide) q710 (fun _ h => h) dJ19_iterator_5 hp1 (fun v3 hp2 => ?_)
  refine x_pc (pc' := 8) rfl ?_
  refine x_up (pc' := 9) (fun _ _ _ _ _ L => lv_aload_n hx hb dJ19_iterator_8 rfl (lv_at L 0 rfl)) ?_
  refine x_gq X (kJ19 hG) 0 (by decide) q710 (fun _ h => h) dJ19_iterator_9 hp2 (fun v4 hp3 => ?_)
  refine x_pc (pc' := 12) rfl ?_
  obtain ⟨b5, rfl, hp4⟩ := hp3
  refine x_callV (em := emQ) (fun r st => va_rf r :: st) (fun _ _ => rfl) 0 X (kJ1 hG) (fun σ' KK h => R_J1_getFirstEntry l hl G hG b5 σ' KK h) (lw_V q726 q727 q728 q102 q729) ⟨rfl, mdJ1_getFirstEntry⟩ ⟨Nat.le_of_ble_eq_true rfl, Nat.le_of_ble_eq_true rfl⟩ rfl rfl (by simp only [List.map_cons, List.map_nil, List.sum_cons, List.sum_nil, x_catq, x_cati, x_catr, x_catn] <;> decide) dJ19_iterator_12 hp4.1 hp4.2 (fun v6 σ7 hp5 => ?_)
  refine x_pc (pc' := 15) rfl ?_
  refine x_callI 2 X (fun σ' KK h => R_J21_init l hl G hG q1 v3 v6 σ' KK h) (lw_meth q732) q126 q730 q731 rfl mdJ21_init ⟨Nat.le_of_ble_eq_true rfl, Nat.le_of_ble_eq_true rfl⟩ rfl rfl (Nat.le_of_ble_eq_true rfl) dJ19_iterator_15 hp5 (fun σ8 hp6 => ?_)
  refine x_pc (pc' := 18) rfl ?_
  exact x_aret X hr (Or.inl ⟨_, rfl⟩) dJ19_iterator_18 (some q1) hp6
-- J20_hasNext
def P_J20_hasNext (κ : Nat → Nat) (a0 : Nat) (σ : xS) (K : Int32 → xH → Prop) : Prop :=
  xgq σ a0 13 0 fun v1 => ((v1 = none → (K (0 : Int32) σ.1)) ∧ (∀ b2 : Nat, v1 = some b2 → (K (1 : Int32) σ.1)))
theorem mdJ20_hasNext : yJ20_hasNext.cls ≠ "java/lang/invoke/MethodHandle" ∧ yJ20_hasNext.cls ≠ "java/lang/invoke/VarHandle" ∧ (parseMethodDescriptor yJ20_hasNext.desc).map (fun d => d.parameters.length) = some 0 := by decide +kernel
set_option maxHeartbeats 4000000 in
set_option maxRecDepth 100000 in
theorem R_J20_hasNext (l : Launch) (hl : l.stackTraces = false) (G : xG) (hG : G.1.2 = x_cl) (a0 : Nat) (σ : xS) (K : Int32 → xH → Prop) (hp : P_J20_hasNext G.2 a0 σ K) : xM l yJ20_hasNext cJ20_hasNext 1 (Option.some Jvm.ClassFile.FieldType.boolean) 0 0 G [(.ref a0)] σ (xlift emI K) := by
  refine x_entry (by decide) (Nat.le_of_ble_eq_true rfl) ?_
  intro p e s m args below meth c X hr hin
  have X : xX p s m args meth c G cJ20_hasNext 1 RJ20 := X
  have hx := X.1
  have hb := X.2.1
  have hts := X.2.2.2.2.1
  have hown := X.2.2.2.1
  unfold P_J20_hasNext at hp
  refine x_same (lo' := [(0, .ref a0)]) rfl ?_
  refine x_up (pc' := 1) (fun _ _ _ _ _ L => lv_aload_n hx hb dJ20_hasNext_0 rfl (lv_at L 0 rfl)) ?_
  refine x_gq X (kJ21 hG) 0 (by decide) q737 (fun _ h => h) dJ20_hasNext_1 hp (fun v1 hp1 => ?_)
  refine x_pc (pc' := 4) rfl ?_
  rcases v1 with _ | b2
  · have hp2 := hp1.1 rfl
    refine x_up (pc' := 11) (fun _ _ _ _ _ L => lv_ifnullN (tgt := 11) hx hb dJ20_hasNext_4 (by decide)) ?_
    refine x_up (pc' := 12) (fun _ _ _ _ _ L => lv_iconst (v := (0 : Int32)) hx hb dJ20_hasNext_11 (by decide)) ?_
    exact x_iret X hr rfl dJ20_hasNext_12 hp2
  · have hp3 := hp1.2 _ rfl
    refine x_up (pc' := 7) (fun _ _ _ _ _ L => lv_ifnull hx hb dJ20_hasNext_4) ?_
    refine x_up (pc' := 8) (fun _ _ _ _ _ L => lv_iconst (v := (1 : Int32)) hx hb dJ20_hasNext_7 (by decide)) ?_
    refine x_up (pc' := 12) (fun _ _ _ _ _ L => lv_goto (tgt := 12) hx hb dJ20_hasNext_8 (by decide)) ?_
    exact x_iret X hr rfl dJ20_hasNext_12 hp3
-- J1_successor
def B_J1_successor_42 (κ : Nat → Nat) (K : Option Nat → xH → Prop) : ((Option Nat × Option Nat) → xS → Prop) → (Option Nat × Option Nat) → xS → Prop := fun self43003 w43001 σ43002 =>
  ((w43001.1 = none → (K none σ43002.1)) ∧ (∀ b43004 : Nat, w43001.1 = some b43004 → (xgq σ43002 b43004 19 3 fun v43005 => ((w43001.2 = v43005 → (xgq σ43002 b43004 19 4 fun v43006 => self43003 (v43006, (some b43004)) σ43002)) ∧ (¬ w43001.2 = v43005 → (K (some b43004) σ43002.1))))))
def B_J1_successor_18 (κ : Nat → Nat) (K : Option Nat → xH → Prop) : ((Option Nat) → xS → Prop) → (Option Nat) → xS → Prop := fun self19003 w19001 σ19002 =>
  xnn w19001 fun b19004 => xgq σ19002 b19004 19 2 fun v19005 => ((v19005 = none → (K (some b19004) σ19002.1)) ∧ (∀ b19006 : Nat, v19005 = some b19006 → (xgq σ19002 b19004 19 2 fun v19007 => self19003 v19007 σ19002)))
def P_J1_successor (κ : Nat → Nat) (x0 : Option Nat) (σ : xS) (K : Option Nat → xH → Prop) : Prop :=
  ((x0 = none → (K none σ.1)) ∧ (∀ b1 : Nat, x0 = some b1 → (xgq σ b1 19 3 fun v2 => ((v2 = none → (xgq σ b1 19 4 fun v4 => xwhile (B_J1_successor_42 κ K) (v4, (some b1)) σ)) ∧ (∀ b3 : Nat, v2 = some b3 → (xgq σ b1 19 3 fun v5 => xwhile (B_J1_successor_18 κ K) v5 σ))))))
theorem mdJ1_successor : yJ1_successor.cls ≠ "java/lang/invoke/MethodHandle" ∧ yJ1_successor.cls ≠ "java/lang/invoke/VarHandle" ∧ (parseMethodDescriptor yJ1_successor.desc).map (fun d => d.parameters.length) = some 1 := by decide +kernel
set_option maxHeartbeats 4000000 in
set_option maxRecDepth 100000 in
theorem R_J1_successor (l : Launch) (hl : l.stackTraces = false) (G : xG) (hG : G.1.2 = x_cl) (x0 : Option Nat) (σ : xS) (K : Option Nat → xH → Prop) (hp : P_J1_successor G.2 x0 σ K) : xM l yJ1_successor cJ1_successor 3 (Option.some (Jvm.ClassFile.FieldType.object "java/util/TreeMap$Entry")) 0 0 G [va_rf x0] σ (xlift emQ K) := by
  refine x_entry (by decide) (by simp [lg_sl, x_catq, x_cati, x_catr, x_catn]) ?_
  intro p e s m args below meth c X hr hin
  have X : xX p s m args meth c G cJ1_successor 3 RJ1 := X
  have hx := X.1
  have hb := X.2.1
  have hts := X.2.2.2.2.1
  have hown := X.2.2.2.1
  unfold P_J1_successor at hp
  refine x_same (lo' := [(0, va_rf x0)]) (by simp [lv_args, x_catq, x_cati, x_catr, x_catn]) ?_
  refine x_up (pc' := 1) (fun _ _ _ _ _ L => lv_aloadq_n hx hb dJ1_successor_0 rfl (lv_at L 0 rfl)) ?_
  rcases x0 with _ | b1
  · have hp1 := hp.1 rfl
    refine x_up (pc' := 4) (fun _ _ _ _ _ L => lv_ifnonnullN hx hb dJ1_successor_1) ?_
    refine x_up (pc' := 5) (fun _ _ _ _ _ L => lv_null hx hb dJ1_successor_4) ?_
    exact x_aret X hr (Or.inl ⟨_, rfl⟩) dJ1_successor_5 none hp1
  · have hp2 := hp.2 _ rfl
    refine x_up (pc' := 6) (fun _ _ _ _ _ L => lv_ifnonnull (tgt := 6) hx hb dJ1_successor_1 (by decide)) ?_
    refine x_up (pc' := 7) (fun _ _ _ _ _ L => lv_aload_n hx hb dJ1_successor_6 rfl (lv_at L 0 rfl)) ?_
    refine x_gq X (kJ31 hG) 3 (by decide) q1303 (fun _ h => h) dJ1_successor_7 hp2 (fun v2 hp3 => ?_)
    refine x_pc (pc' := 10) rfl ?_
    rcases v2 with _ | b3
    · have hp4 := hp3.1 rfl
      refine x_up (pc' := 35) (fun _ _ _ _ _ L => lv_ifnullN (tgt := 35) hx hb dJ1_successor_10 (by decide)) ?_
      refine x_up (pc' := 36) (fun _ _ _ _ _ L => lv_aload_n hx hb dJ1_successor_35 rfl (lv_at L 0 rfl)) ?_
      refine x_gq X (kJ31 hG) 4 (by decide) q1305 (fun _ h => h) dJ1_successor_36 hp4 (fun v4 hp5 => ?_)
      refine x_pc (pc' := 39) rfl ?_
      refine x_upL (pc' := 40) (lo' := [(1, va_rf v4), (0, .ref b1)]) (fun _ _ _ _ _ L => lv_astoreq_n hx hb dJ1_successor_39 rfl L (by decide) rfl) ?_
      refine x_up (pc' := 41) (fun _ _ _ _ _ L => lv_aload_n hx hb dJ1_successor_40 rfl (lv_at L 1 rfl)) ?_
      refine x_st (pc' := 42) ([(2, .ref b1), (1, va_rf v4), (0, .ref b1)]) rfl (by simp [x_catq, x_cati, x_catr, x_catn]) (fun _ _ _ _ _ L => lv_astore_n hx hb dJ1_successor_41 rfl L (by decide) rfl) ?_
      refine x_lo (lo' := [(1, va_rf v4), (2, .ref b1)]) [1, 0] rfl ?_
      refine x_while (v0 := (v4, (some b1))) (fun w5 => [(1, va_rf w5.1), (2, va_rf w5.2)]) hp5 (fun self6 hself7 => ?_)
      rintro ⟨y9, y10⟩ σ8 hp6
      unfold B_J1_successor_42 at hp6
      refine x_same (lo' := [(1, va_rf y9), (2, va_rf y10)]) rfl ?_
      refine x_up (pc' := 43) (fun _ _ _ _ _ L => lv_aloadq_n hx hb dJ1_successor_42 rfl (lv_at L 0 rfl)) ?_
      rcases y9 with _ | b11
      · have hp7 := hp6.1 rfl
        refine x_up (pc' := 64) (fun _ _ _ _ _ L => lv_ifnullN (tgt := 64) hx hb dJ1_successor_43 (by decide)) ?_
        refine x_up (pc' := 65) (fun _ _ _ _ _ L => lv_aload_nN hx hb dJ1_successor_64 rfl (lv_at L 0 rfl)) ?_
        exact x_aret X hr (Or.inl ⟨_, rfl⟩) dJ1_successor_65 none hp7
      · have hp8 := hp6.2 _ rfl
        refine x_up (pc' := 46) (fun _ _ _ _ _ L => lv_ifnull hx hb dJ1_successor_43) ?_
        refine x_up (pc' := 47) (fun _ _ _ _ _ L => lv_aloadq_n hx hb dJ1_successor_46 rfl (lv_at L 1 rfl)) ?_
        refine x_up (pc' := 48) (fun _ _ _ _ _ L => lv_aload_n hx hb dJ1_successor_47 rfl (lv_at L 0 rfl)) ?_
        refine x_gq X (kJ31 hG) 3 (by decide) q1303 (fun _ h => h) dJ1_successor_48 hp8 (fun v12 hp9 => ?_)
        refine x_pc (pc' := 51) rfl ?_
        refine x_ifn (C := y10 = v12) (pt := 64) (pc' := 54) (fun _ _ _ _ _ => lv_acmp_ne (rx := y10) (ry := v12) (tgt := 64) hx hb dJ1_successor_51 (by decide)) (fun c51 => ?_) (fun c51 => ?_)
        · have hp10 := hp9.1 c51
          refine x_up (pc' := 55) (fun _ _ _ _ _ L => lv_aload_n hx hb dJ1_successor_54 rfl (lv_at L 0 rfl)) ?_
          refine x_upL (pc' := 56) (lo' := [(2, .ref b11), (1, .ref b11)]) (fun _ _ _ _ _ L => lv_astore_n hx hb dJ1_successor_55 rfl L (by decide) rfl) ?_
          refine x_up (pc' := 57) (fun _ _ _ _ _ L => lv_aload_n hx hb dJ1_successor_56 rfl (lv_at L 1 rfl)) ?_
          refine x_gq X (kJ31 hG) 4 (by decide) q1305 (fun _ h => h) dJ1_successor_57 hp10 (fun v13 hp11 => ?_)
          refine x_pc (pc' := 60) rfl ?_
          refine x_upL (pc' := 61) (lo' := [(1, va_rf v13), (2, .ref b11)]) (fun _ _ _ _ _ L => lv_astoreq_n hx hb dJ1_successor_60 rfl L (by decide) rfl) ?_
          refine x_up (pc' := 42) (fun _ _ _ _ _ L => lv_goto (tgt := 42) hx hb dJ1_successor_61 (by decide)) ?_
          refine x_lo (lo' := [(1, va_rf v13), (2, .ref b11)]) [0, 1] rfl ?_
          exact hself7 (v13, (some b11)) σ8 hp11
        · have hp12 := hp9.2 c51
          refine x_up (pc' := 65) (fun _ _ _ _ _ L => lv_aload_n hx hb dJ1_successor_64 rfl (lv_at L 0 rfl)) ?_
          exact x_aret X hr (Or.inl ⟨_, rfl⟩) dJ1_successor_65 (some b11) hp12
    · have hp13 := hp3.2 _ rfl
      refine x_up (pc' := 13) (fun _ _ _ _ _ L => lv_ifnull hx hb dJ1_successor_10) ?_
      refine x_up (pc' := 14) (fun _ _ _ _ _ L => lv_aload_n hx hb dJ1_successor_13 rfl (lv_at L 0 rfl)) ?_
      refine x_gq X (kJ31 hG) 3 (by decide) q1303 (fun _ h => h) dJ1_successor_14 hp13 (fun v14 hp14 => ?_)
      refine x_pc (pc' := 17) rfl ?_
      refine x_upL (pc' := 18) (lo' := [(1, va_rf v14), (0, .ref b1)]) (fun _ _ _ _ _ L => lv_astoreq_n hx hb dJ1_successor_17 rfl L (by decide) rfl) ?_
      refine x_lo (lo' := [(1, va_rf v14)]) [0] rfl ?_
      refine x_while (v0 := v14) (fun w15 => [(1, va_rf w15)]) hp14 (fun self16 hself17 => ?_)
      rintro y19 σ18 hp15
      unfold B_J1_successor_18 at hp15
      refine x_same (lo' := [(1, va_rf y19)]) rfl ?_
      refine x_up (pc' := 19) (fun _ _ _ _ _ L => lv_aloadq_n hx hb dJ1_successor_18 rfl (lv_at L 0 rfl)) ?_
      obtain ⟨b20, rfl, hp16⟩ := hp15
      refine x_gq X (kJ31 hG) 2 (by decide) q1302 (fun _ h => h) dJ1_successor_19 hp16 (fun v21 hp17 => ?_)
      refine x_pc (pc' := 22) rfl ?_
      rcases v21 with _ | b22
      · have hp18 := hp17.1 rfl
        refine x_up (pc' := 33) (fun _ _ _ _ _ L => lv_ifnullN (tgt := 33) hx hb dJ1_successor_22 (by decide)) ?_
        refine x_up (pc' := 34) (fun _ _ _ _ _ L => lv_aload_n hx hb dJ1_successor_33 rfl (lv_at L 0 rfl)) ?_
        exact x_aret X hr (Or.inl ⟨_, rfl⟩) dJ1_successor_34 (some b20) hp18
      · have hp19 := hp17.2 _ rfl
        refine x_up (pc' := 25) (fun _ _ _ _ _ L => lv_ifnull hx hb dJ1_successor_22) ?_
        refine x_up (pc' := 26) (fun _ _ _ _ _ L => lv_aload_n hx hb dJ1_successor_25 rfl (lv_at L 0 rfl)) ?_
        refine x_gq X (kJ31 hG) 2 (by decide) q1302 (fun _ h => h) dJ1_successor_26 hp19 (fun v23 hp20 => ?_)
        refine x_pc (pc' := 29) rfl ?_
        refine x_upL (pc' := 30) (lo' := [(1, va_rf v23)]) (fun _ _ _ _ _ L => lv_astoreq_n hx hb dJ1_successor_29 rfl L (by decide) rfl) ?_
        refine x_up (pc' := 18) (fun _ _ _ _ _ L => lv_goto (tgt := 18) hx hb dJ1_successor_30 (by decide)) ?_
        refine x_lo (lo' := [(1, va_rf v23)]) [0] rfl ?_
        exact hself17 v23 σ18 hp20
-- J20_nextEntry
def P_J20_nextEntry (κ : Nat → Nat) (a0 : Nat) (σ : xS) (K : Option Nat → xH → Prop) : Prop :=
  xgq σ a0 13 0 fun v1 => ((v1 = none → (False)) ∧ (∀ b2 : Nat, v1 = some b2 → (xgq σ a0 13 3 fun v3 => xnn v3 fun b4 => xgi σ b4 2 5 fun v5 => xgi σ a0 13 2 fun v6 => ((v5 = v6 → (xcall (fun τ L => P_J1_successor κ (some b2) τ L) σ fun v7 σ8 => xpq κ σ8 a0 13 0 v7 fun σ9 => xpq κ σ9 a0 13 1 (some b2) fun σ10 => K (some b2) σ10.1)) ∧ (¬ v5 = v6 → (False))))))
theorem mdJ20_nextEntry : yJ20_nextEntry.cls ≠ "java/lang/invoke/MethodHandle" ∧ yJ20_nextEntry.cls ≠ "java/lang/invoke/VarHandle" ∧ (parseMethodDescriptor yJ20_nextEntry.desc).map (fun d => d.parameters.length) = some 0 := by decide +kernel
set_option maxHeartbeats 4000000 in
set_option maxRecDepth 100000 in
theorem R_J20_nextEntry (l : Launch) (hl : l.stackTraces = false) (G : xG) (hG : G.1.2 = x_cl) (a0 : Nat) (σ : xS) (K : Option Nat → xH → Prop) (hp : P_J20_nextEntry G.2 a0 σ K) : xM l yJ20_nextEntry cJ20_nextEntry 2 (Option.some (Jvm.ClassFile.FieldType.object "java/util/TreeMap$Entry")) 1 22 G [(.ref a0)] σ (xlift emQ K) := by
  refine x_entry (by decide) (Nat.le_of_ble_eq_true rfl) ?_
  intro p e s m args below meth c X hr hin
  have X : xX p s m args meth c G cJ20_nextEntry 2 RJ20 := X
  have hx := X.1
  have hb := X.2.1
  have hts := X.2.2.2.2.1
  have hown := X.2.2.2.1
  unfold P_J20_nextEntry at hp
  refine x_same (lo' := [(0, .ref a0)]) rfl ?_
  refine x_up (pc' := 1) (fun _ _ _ _ _ L => lv_aload_n hx hb dJ20_nextEntry_0 rfl (lv_at L 0 rfl)) ?_
  refine x_gq X (kJ21 hG) 0 (by decide) q737 (fun _ h => h) dJ20_nextEntry_1 hp (fun v1 hp1 => ?_)
  refine x_pc (pc' := 4) rfl ?_
  refine x_upL (pc' := 5) (lo' := [(1, va_rf v1), (0, .ref a0)]) (fun _ _ _ _ _ L => lv_astoreq_n hx hb dJ20_nextEntry_4 rfl L (by decide) rfl) ?_
  refine x_up (pc' := 6) (fun _ _ _ _ _ L => lv_aloadq_n hx hb dJ20_nextEntry_5 rfl (lv_at L 0 rfl)) ?_
  rcases v1 with _ | b2
  · have hp2 := hp1.1 rfl
    refine x_up (pc' := 9) (fun _ _ _ _ _ L => lv_ifnonnullN hx hb dJ20_nextEntry_6) ?_
    exact hp2.elim
  · have hp3 := hp1.2 _ rfl
    refine x_up (pc' := 17) (fun _ _ _ _ _ L => lv_ifnonnull (tgt := 17) hx hb dJ20_nextEntry_6 (by decide)) ?_
    refine x_up (pc' := 18) (fun _ _ _ _ _ L => lv_aload_n hx hb dJ20_nextEntry_17 rfl (lv_at L 1 rfl)) ?_
    refine x_gq X (kJ21 hG) 3 (by decide) q740 (fun _ h => h) dJ20_nextEntry_18 hp3 (fun v3 hp4 => ?_)
    refine x_pc (pc' := 21) rfl ?_
    obtain ⟨b4, rfl, hp5⟩ := hp4
    refine x_giN X (kJ1 hG) 5 (by decide) q191 (fun _ h => h) dJ20_nextEntry_21 hp5 (fun v5 hp6 => ?_)
    refine x_pc (pc' := 24) rfl ?_
    refine x_up (pc' := 25) (fun _ _ _ _ _ L => lv_aload_n hx hb dJ20_nextEntry_24 rfl (lv_at L 1 rfl)) ?_
    refine x_gi X (kJ21 hG) 2 (by decide) q739 (fun _ h => h) dJ20_nextEntry_25 hp6 (fun v6 hp7 => ?_)
    refine x_pc (pc' := 28) rfl ?_
    refine x_if (C := v5 = v6) (pt := 39) (pc' := 31) (fun _ _ _ _ _ => lv_icmp_eq (tgt := 39) hx hb dJ20_nextEntry_28 (by decide)) (fun c28 => ?_) (fun c28 => ?_)
    · have hp8 := hp7.1 c28
      refine x_up (pc' := 40) (fun _ _ _ _ _ L => lv_aload_n hx hb dJ20_nextEntry_39 rfl (lv_at L 1 rfl)) ?_
      refine x_up (pc' := 41) (fun _ _ _ _ _ L => lv_aload_n hx hb dJ20_nextEntry_40 rfl (lv_at L 0 rfl)) ?_
      refine x_callS (em := emQ) (fun r st => va_rf r :: st) (fun _ _ => rfl) 1 X (fun σ' KK h => R_J1_successor l hl G hG (some b2) σ' KK h) (lw_S q1269 q1270 q102 q1271) mdJ1_successor ⟨Nat.le_of_ble_eq_true rfl, Nat.le_of_ble_eq_true rfl⟩ rfl rfl (Nat.le_of_ble_eq_true rfl) dJ20_nextEntry_41 hp8 (fun v7 σ8 hp9 => ?_)
      refine x_pc (pc' := 44) rfl ?_
      refine x_pq X (kJ21 hG) 0 (by decide) q737 (fun _ h => h) rfl v7 (x_nar _ (by decide)) (x_fit _ (by decide)) dJ20_nextEntry_44 hp9 (fun σ9 hp10 => ?_)
      refine x_pc (pc' := 47) rfl ?_
      refine x_up (pc' := 48) (fun _ _ _ _ _ L => lv_aload_n hx hb dJ20_nextEntry_47 rfl (lv_at L 1 rfl)) ?_
      refine x_up (pc' := 49) (fun _ _ _ _ _ L => lv_aload_n hx hb dJ20_nextEntry_48 rfl (lv_at L 0 rfl)) ?_
      refine x_pq X (kJ21 hG) 1 (by decide) q738 (fun _ h => h) rfl (some b2) (x_nar _ (by decide)) (x_fit _ (by decide)) dJ20_nextEntry_49 hp10 (fun σ10 hp11 => ?_)
      refine x_pc (pc' := 52) rfl ?_
      refine x_up (pc' := 53) (fun _ _ _ _ _ L => lv_aload_n hx hb dJ20_nextEntry_52 rfl (lv_at L 0 rfl)) ?_
      exact x_aret X hr (Or.inl ⟨_, rfl⟩) dJ20_nextEntry_53 (some b2) hp11
    · have hp12 := hp7.2 c28
      exact hp12.elim
-- J21_next_2
def P_J21_next_2 (κ : Nat → Nat) (a0 : Nat) (σ : xS) (K : Option Nat → xH → Prop) : Prop :=
  xrc σ a0 13 ∧ xcall (fun τ L => P_J20_nextEntry κ a0 τ L) σ fun v1 σ2 => K v1 σ2.1
theorem mdJ21_next_2 : yJ21_next_2.cls ≠ "java/lang/invoke/MethodHandle" ∧ yJ21_next_2.cls ≠ "java/lang/invoke/VarHandle" ∧ (parseMethodDescriptor yJ21_next_2.desc).map (fun d => d.parameters.length) = some 0 := by decide +kernel
set_option maxHeartbeats 4000000 in
set_option maxRecDepth 100000 in
theorem R_J21_next_2 (l : Launch) (hl : l.stackTraces = false) (G : xG) (hG : G.1.2 = x_cl) (a0 : Nat) (σ : xS) (K : Option Nat → xH → Prop) (hp : P_J21_next_2 G.2 a0 σ K) : xM l yJ21_next_2 cJ21_next_2 1 (Option.some (Jvm.ClassFile.FieldType.object "java/util/Map$Entry")) 2 43 G [(.ref a0)] σ (xlift emQ K) := by
  refine x_entry (by decide) (Nat.le_of_ble_eq_true rfl) ?_
  intro p e s m args below meth c X hr hin
  have X : xX p s m args meth c G cJ21_next_2 1 RJ21 := X
  have hx := X.1
  have hb := X.2.1
  have hts := X.2.2.2.2.1
  have hown := X.2.2.2.1
  unfold P_J21_next_2 at hp
  refine x_same (lo' := [(0, .ref a0)]) rfl ?_
  refine x_up (pc' := 1) (fun _ _ _ _ _ L => lv_aload_n hx hb dJ21_next_2_0 rfl (lv_at L 0 rfl)) ?_
  refine x_callO (x := ⟨"java/util/TreeMap$EntryIterator", "nextEntry", "()Ljava/util/TreeMap$Entry;"⟩) (owner := "java/util/TreeMap$PrivateEntryIterator") (em := emQ) (fun r st => va_rf r :: st) (fun _ _ => rfl) 0 X (kJ21 hG) (fun σ' KK h => R_J20_nextEntry l hl G hG a0 σ' KK h) (hts _ q1261) (hts _ q1262) (x_dcl X q1263) (hts _ q1264) q1265 q125 q1266 (by decide +kernel) ⟨Nat.le_of_ble_eq_true rfl, Nat.le_of_ble_eq_true rfl⟩ rfl rfl (Nat.le_of_ble_eq_true rfl) dJ21_next_2_1 hp.1 hp.2 (fun v1 σ2 hp1 => ?_)
  refine x_pc (pc' := 4) rfl ?_
  exact x_aret X hr (Or.inl ⟨_, rfl⟩) dJ21_next_2_4 v1 hp1
-- J21_next
def P_J21_next (κ : Nat → Nat) (a0 : Nat) (σ : xS) (K : Option Nat → xH → Prop) : Prop :=
  xrc σ a0 13 ∧ xcall (fun τ L => P_J21_next_2 κ a0 τ L) σ fun v1 σ2 => K v1 σ2.1
theorem mdJ21_next : yJ21_next.cls ≠ "java/lang/invoke/MethodHandle" ∧ yJ21_next.cls ≠ "java/lang/invoke/VarHandle" ∧ (parseMethodDescriptor yJ21_next.desc).map (fun d => d.parameters.length) = some 0 := by decide +kernel
set_option maxHeartbeats 4000000 in
set_option maxRecDepth 100000 in
theorem R_J21_next (l : Launch) (hl : l.stackTraces = false) (G : xG) (hG : G.1.2 = x_cl) (a0 : Nat) (σ : xS) (K : Option Nat → xH → Prop) (hp : P_J21_next G.2 a0 σ K) : xM l yJ21_next cJ21_next 1 (Option.some (Jvm.ClassFile.FieldType.object "java/lang/Object")) 3 63 G [(.ref a0)] σ (xlift emQ K) := by
  refine x_entry (by decide) (Nat.le_of_ble_eq_true rfl) ?_
  intro p e s m args below meth c X hr hin
  have X : xX p s m args meth c G cJ21_next 1 RJ21 := X
  have hx := X.1
  have hb := X.2.1
  have hts := X.2.2.2.2.1
  have hown := X.2.2.2.1
  unfold P_J21_next at hp
  refine x_same (lo' := [(0, .ref a0)]) rfl ?_
  refine x_up (pc' := 1) (fun _ _ _ _ _ L => lv_aload_n hx hb dJ21_next_0 rfl (lv_at L 0 rfl)) ?_
  refine x_callV (em := emQ) (fun r st => va_rf r :: st) (fun _ _ => rfl) 0 X (kJ21 hG) (fun σ' KK h => R_J21_next_2 l hl G hG a0 σ' KK h) (lw_V q1257 q1258 q1259 q126 q1260) ⟨rfl, mdJ21_next_2⟩ ⟨Nat.le_of_ble_eq_true rfl, Nat.le_of_ble_eq_true rfl⟩ rfl rfl (Nat.le_of_ble_eq_true rfl) dJ21_next_1 hp.1 hp.2 (fun v1 σ2 hp1 => ?_)
  refine x_pc (pc' := 4) rfl ?_
  exact x_aret X hr (Or.inl ⟨_, rfl⟩) dJ21_next_4 v1 hp1
-- J31_getKey
def P_J31_getKey (κ : Nat → Nat) (a0 : Nat) (σ : xS) (K : Option Nat → xH → Prop) : Prop :=
  xgq σ a0 19 0 fun v1 => K v1 σ.1
theorem mdJ31_getKey : yJ31_getKey.cls ≠ "java/lang/invoke/MethodHandle" ∧ yJ31_getKey.cls ≠ "java/lang/invoke/VarHandle" ∧ (parseMethodDescriptor yJ31_getKey.desc).map (fun d => d.parameters.length) = some 0 := by decide +kernel
set_option maxHeartbeats 4000000 in
set_option maxRecDepth 100000 in
theorem R_J31_getKey (l : Launch) (hl : l.stackTraces = false) (G : xG) (hG : G.1.2 = x_cl) (a0 : Nat) (σ : xS) (K : Option Nat → xH → Prop) (hp : P_J31_getKey G.2 a0 σ K) : xM l yJ31_getKey cJ31_getKey 1 (Option.some (Jvm.ClassFile.FieldType.object "java/lang/Object")) 0 0 G [(.ref a0)] σ (xlift emQ K) := by
  refine x_entry (by decide) (Nat.le_of_ble_eq_true rfl) ?_
  intro p e s m args below meth c X hr hin
  have X : xX p s m args meth c G cJ31_getKey 1 RJ31 := X
  have hx := X.1
  have hb := X.2.1
  have hts := X.2.2.2.2.1
  have hown := X.2.2.2.1
  unfold P_J31_getKey at hp
  refine x_same (lo' := [(0, .ref a0)]) rfl ?_
  refine x_up (pc' := 1) (fun _ _ _ _ _ L => lv_aload_n hx hb dJ31_getKey_0 rfl (lv_at L 0 rfl)) ?_
  refine x_gq X (kJ31 hG) 0 (by decide) q1298 (fun _ h => h) dJ31_getKey_1 hp (fun v1 hp1 => ?_)
  refine x_pc (pc' := 4) rfl ?_
  exact x_aret X hr (Or.inl ⟨_, rfl⟩) dJ31_getKey_4 v1 hp1
-- J31_getValue
def P_J31_getValue (κ : Nat → Nat) (a0 : Nat) (σ : xS) (K : Option Nat → xH → Prop) : Prop :=
  xgq σ a0 19 1 fun v1 => K v1 σ.1
theorem mdJ31_getValue : yJ31_getValue.cls ≠ "java/lang/invoke/MethodHandle" ∧ yJ31_getValue.cls ≠ "java/lang/invoke/VarHandle" ∧ (parseMethodDescriptor yJ31_getValue.desc).map (fun d => d.parameters.length) = some 0 := by decide +kernel
set_option maxHeartbeats 4000000 in
set_option maxRecDepth 100000 in
theorem R_J31_getValue (l : Launch) (hl : l.stackTraces = false) (G : xG) (hG : G.1.2 = x_cl) (a0 : Nat) (σ : xS) (K : Option Nat → xH → Prop) (hp : P_J31_getValue G.2 a0 σ K) : xM l yJ31_getValue cJ31_getValue 1 (Option.some (Jvm.ClassFile.FieldType.object "java/lang/Object")) 0 0 G [(.ref a0)] σ (xlift emQ K) := by
  refine x_entry (by decide) (Nat.le_of_ble_eq_true rfl) ?_
  intro p e s m args below meth c X hr hin
  have X : xX p s m args meth c G cJ31_getValue 1 RJ31 := X
  have hx := X.1
  have hb := X.2.1
  have hts := X.2.2.2.2.1
  have hown := X.2.2.2.1
  unfold P_J31_getValue at hp
  refine x_same (lo' := [(0, .ref a0)]) rfl ?_
  refine x_up (pc' := 1) (fun _ _ _ _ _ L => lv_aload_n hx hb dJ31_getValue_0 rfl (lv_at L 0 rfl)) ?_
  refine x_gq X (kJ31 hG) 1 (by decide) q1300 (fun _ h => h) dJ31_getValue_1 hp (fun v1 hp1 => ?_)
  refine x_pc (pc' := 4) rfl ?_
  exact x_aret X hr (Or.inl ⟨_, rfl⟩) dJ31_getValue_4 v1 hp1
-- J23_compare
def P_J23_compare (κ : Nat → Nat) (x0 : Int32) (x1 : Int32) (σ : xS) (K : Int32 → xH → Prop) : Prop :=
  ((x1 ≤ x0 → (((x0 = x1 → (K (0 : Int32) σ.1)) ∧ (¬ x0 = x1 → (K (1 : Int32) σ.1))))) ∧ (¬ x1 ≤ x0 → (K (-1 : Int32) σ.1)))
theorem mdJ23_compare : yJ23_compare.cls ≠ "java/lang/invoke/MethodHandle" ∧ yJ23_compare.cls ≠ "java/lang/invoke/VarHandle" ∧ (parseMethodDescriptor yJ23_compare.desc).map (fun d => d.parameters.length) = some 2 := by decide +kernel
set_option maxHeartbeats 4000000 in
set_option maxRecDepth 100000 in
theorem R_J23_compare (l : Launch) (hl : l.stackTraces = false) (G : xG) (hG : G.1.2 = x_cl) (x0 : Int32) (x1 : Int32) (σ : xS) (K : Int32 → xH → Prop) (hp : P_J23_compare G.2 x0 x1 σ K) : xM l yJ23_compare cJ23_compare 2 (Option.some Jvm.ClassFile.FieldType.int) 0 0 G [.int x0, .int x1] σ (xlift emI K) := by
  refine x_entry (by decide) (Nat.le_of_ble_eq_true rfl) ?_
  intro p e s m args below meth c X hr hin
  have X : xX p s m args meth c G cJ23_compare 2 RJ23 := X
  have hx := X.1
  have hb := X.2.1
  have hts := X.2.2.2.2.1
  have hown := X.2.2.2.1
  unfold P_J23_compare at hp
  refine x_same (lo' := [(0, .int x0), (1, .int x1)]) rfl ?_
  refine x_up (pc' := 1) (fun _ _ _ _ _ L => lv_iload_n hx hb dJ23_compare_0 rfl (lv_at L 0 rfl)) ?_
  refine x_up (pc' := 2) (fun _ _ _ _ _ L => lv_iload_n hx hb dJ23_compare_1 rfl (lv_at L 1 rfl)) ?_
  refine x_if (C := x1 ≤ x0) (pt := 9) (pc' := 5) (fun _ _ _ _ _ => lv_icmp_ge (tgt := 9) hx hb dJ23_compare_2 (by decide)) (fun c2 => ?_) (fun c2 => ?_)
  · have hp1 := hp.1 c2
    refine x_up (pc' := 10) (fun _ _ _ _ _ L => lv_iload_n hx hb dJ23_compare_9 rfl (lv_at L 0 rfl)) ?_
    refine x_up (pc' := 11) (fun _ _ _ _ _ L => lv_iload_n hx hb dJ23_compare_10 rfl (lv_at L 1 rfl)) ?_
    refine x_ifn (C := x0 = x1) (pt := 18) (pc' := 14) (fun _ _ _ _ _ => lv_icmp_ne (tgt := 18) hx hb dJ23_compare_11 (by decide)) (fun c11 => ?_) (fun c11 => ?_)
    · have hp2 := hp1.1 c11
      refine x_up (pc' := 15) (fun _ _ _ _ _ L => lv_iconst (v := (0 : Int32)) hx hb dJ23_compare_14 (by decide)) ?_
      refine x_up (pc' := 19) (fun _ _ _ _ _ L => lv_goto (tgt := 19) hx hb dJ23_compare_15 (by decide)) ?_
      exact x_iret X hr rfl dJ23_compare_19 hp2
    · have hp3 := hp1.2 c11
      refine x_up (pc' := 19) (fun _ _ _ _ _ L => lv_iconst (v := (1 : Int32)) hx hb dJ23_compare_18 (by decide)) ?_
      exact x_iret X hr rfl dJ23_compare_19 hp3
  · have hp4 := hp.2 c2
    refine x_up (pc' := 6) (fun _ _ _ _ _ L => lv_iconst (v := (-1 : Int32)) hx hb dJ23_compare_5 (by decide)) ?_
    refine x_up (pc' := 19) (fun _ _ _ _ _ L => lv_goto (tgt := 19) hx hb dJ23_compare_6 (by decide)) ?_
    exact x_iret X hr rfl dJ23_compare_19 hp4
-- J23_compareTo_2
def P_J23_compareTo_2 (κ : Nat → Nat) (a0 : Nat) (x1 : Option Nat) (σ : xS) (K : Int32 → xH → Prop) : Prop :=
  xgi σ a0 14 0 fun v1 => xnn x1 fun b2 => xgi σ b2 14 0 fun v3 => xcall (fun τ L => P_J23_compare κ v1 v3 τ L) σ fun v4 σ5 => K v4 σ5.1
theorem mdJ23_compareTo_2 : yJ23_compareTo_2.cls ≠ "java/lang/invoke/MethodHandle" ∧ yJ23_compareTo_2.cls ≠ "java/lang/invoke/VarHandle" ∧ (parseMethodDescriptor yJ23_compareTo_2.desc).map (fun d => d.parameters.length) = some 1 := by decide +kernel
set_option maxHeartbeats 4000000 in
set_option maxRecDepth 100000 in
theorem R_J23_compareTo_2 (l : Launch) (hl : l.stackTraces = false) (G : xG) (hG : G.1.2 = x_cl) (a0 : Nat) (x1 : Option Nat) (σ : xS) (K : Int32 → xH → Prop) (hp : P_J23_compareTo_2 G.2 a0 x1 σ K) : xM l yJ23_compareTo_2 cJ23_compareTo_2 2 (Option.some Jvm.ClassFile.FieldType.int) 1 21 G [(.ref a0), va_rf x1] σ (xlift emI K) := by
  refine x_entry (by decide) (by simp [lg_sl, x_catq, x_cati, x_catr, x_catn]) ?_
  intro p e s m args below meth c X hr hin
  have X : xX p s m args meth c G cJ23_compareTo_2 2 RJ23 := X
  have hx := X.1
  have hb := X.2.1
  have hts := X.2.2.2.2.1
  have hown := X.2.2.2.1
  unfold P_J23_compareTo_2 at hp
  refine x_same (lo' := [(0, .ref a0), (1, va_rf x1)]) (by simp [lv_args, x_catq, x_cati, x_catr, x_catn]) ?_
  refine x_up (pc' := 1) (fun _ _ _ _ _ L => lv_aload_n hx hb dJ23_compareTo_2_0 rfl (lv_at L 0 rfl)) ?_
  refine x_gi X (kJ23 hG) 0 (by decide) q2439 (fun _ h => h) dJ23_compareTo_2_1 hp (fun v1 hp1 => ?_)
  refine x_pc (pc' := 4) rfl ?_
  refine x_up (pc' := 5) (fun _ _ _ _ _ L => lv_aloadq_n hx hb dJ23_compareTo_2_4 rfl (lv_at L 1 rfl)) ?_
  obtain ⟨b2, rfl, hp2⟩ := hp1
  refine x_gi X (kJ23 hG) 0 (by decide) q2439 (fun _ h => h) dJ23_compareTo_2_5 hp2 (fun v3 hp3 => ?_)
  refine x_pc (pc' := 8) rfl ?_
  refine x_callS (em := emI) (fun r st => .int r :: st) (fun _ _ => rfl) 2 X (fun σ' KK h => R_J23_compare l hl G hG v1 v3 σ' KK h) (lw_S q1415 q1416 q128 q1417) mdJ23_compare ⟨Nat.le_of_ble_eq_true rfl, Nat.le_of_ble_eq_true rfl⟩ rfl rfl (Nat.le_of_ble_eq_true rfl) dJ23_compareTo_2_8 hp3 (fun v4 σ5 hp4 => ?_)
  refine x_pc (pc' := 11) rfl ?_
  exact x_iret X hr rfl dJ23_compareTo_2_11 hp4
-- J23_compareTo
def P_J23_compareTo (κ : Nat → Nat) (a0 : Nat) (x1 : Option Nat) (σ : xS) (K : Int32 → xH → Prop) : Prop :=
  xnn x1 fun b1 => xrc σ b1 14 ∧ xrc σ a0 14 ∧ xcall (fun τ L => P_J23_compareTo_2 κ a0 (some b1) τ L) σ fun v2 σ3 => K v2 σ3.1
theorem mdJ23_compareTo : yJ23_compareTo.cls ≠ "java/lang/invoke/MethodHandle" ∧ yJ23_compareTo.cls ≠ "java/lang/invoke/VarHandle" ∧ (parseMethodDescriptor yJ23_compareTo.desc).map (fun d => d.parameters.length) = some 1 := by decide +kernel
set_option maxHeartbeats 4000000 in
set_option maxRecDepth 100000 in
theorem R_J23_compareTo (l : Launch) (hl : l.stackTraces = false) (G : xG) (hG : G.1.2 = x_cl) (a0 : Nat) (x1 : Option Nat) (σ : xS) (K : Int32 → xH → Prop) (hp : P_J23_compareTo G.2 a0 x1 σ K) : xM l yJ23_compareTo cJ23_compareTo 2 (Option.some Jvm.ClassFile.FieldType.int) 2 42 G [(.ref a0), va_rf x1] σ (xlift emI K) := by
  refine x_entry (by decide) (by simp [lg_sl, x_catq, x_cati, x_catr, x_catn]) ?_
  intro p e s m args below meth c X hr hin
  have X : xX p s m args meth c G cJ23_compareTo 2 RJ23 := X
  have hx := X.1
  have hb := X.2.1
  have hts := X.2.2.2.2.1
  have hown := X.2.2.2.1
  unfold P_J23_compareTo at hp
  refine x_same (lo' := [(0, .ref a0), (1, va_rf x1)]) (by simp [lv_args, x_catq, x_cati, x_catr, x_catn]) ?_
  refine x_up (pc' := 1) (fun _ _ _ _ _ L => lv_aload_n hx hb dJ23_compareTo_0 rfl (lv_at L 0 rfl)) ?_
  refine x_up (pc' := 2) (fun _ _ _ _ _ L => lv_aloadq_n hx hb dJ23_compareTo_1 rfl (lv_at L 1 rfl)) ?_
  obtain ⟨b1, rfl, hp1⟩ := hp
  refine x_castS X (kJ23 hG) q673 hp1.1 dJ23_compareTo_2 ?_
  have hp2 := hp1.2
  refine x_pc (pc' := 5) rfl ?_
  refine x_callV (em := emI) (fun r st => .int r :: st) (fun _ _ => rfl) 1 X (kJ23 hG) (fun σ' KK h => R_J23_compareTo_2 l hl G hG a0 (some b1) σ' KK h) (lw_V q1411 q1412 q1413 q128 q1414) ⟨rfl, mdJ23_compareTo_2⟩ ⟨Nat.le_of_ble_eq_true rfl, Nat.le_of_ble_eq_true rfl⟩ rfl rfl (Nat.le_of_ble_eq_true rfl) dJ23_compareTo_5 hp2.1 hp2.2 (fun v2 σ3 hp3 => ?_)
  refine x_pc (pc' := 8) rfl ?_
  exact x_iret X hr rfl dJ23_compareTo_8 hp3
-- X7_compare
def P_X7_compare (κ : Nat → Nat) (a0 : Nat) (x1 : Option Nat) (x2 : Option Nat) (σ : xS) (K : Int32 → xH → Prop) : Prop :=
  xnn x1 fun b1 => xgi σ b1 5 5 fun v2 => xnn x2 fun b3 => xgi σ b3 5 5 fun v4 => K (v2 - v4) σ.1
theorem mdX7_compare : yX7_compare.cls ≠ "java/lang/invoke/MethodHandle" ∧ yX7_compare.cls ≠ "java/lang/invoke/VarHandle" ∧ (parseMethodDescriptor yX7_compare.desc).map (fun d => d.parameters.length) = some 2 := by decide +kernel
set_option maxHeartbeats 4000000 in
set_option maxRecDepth 100000 in
theorem R_X7_compare (l : Launch) (hl : l.stackTraces = false) (G : xG) (hG : G.1.2 = x_cl) (a0 : Nat) (x1 : Option Nat) (x2 : Option Nat) (σ : xS) (K : Int32 → xH → Prop) (hp : P_X7_compare G.2 a0 x1 x2 σ K) : xM l yX7_compare cX7_compare 3 (Option.some Jvm.ClassFile.FieldType.int) 0 0 G [(.ref a0), va_rf x1, va_rf x2] σ (xlift emI K) := by
  refine x_entry (by decide) (by simp [lg_sl, x_catq, x_cati, x_catr, x_catn]) ?_
  intro p e s m args below meth c X hr hin
  have X : xX p s m args meth c G cX7_compare 3 RX7 := X
  have hx := X.1
  have hb := X.2.1
  have hts := X.2.2.2.2.1
  have hown := X.2.2.2.1
  unfold P_X7_compare at hp
  refine x_same (lo' := [(0, .ref a0), (1, va_rf x1), (2, va_rf x2)]) (by simp [lv_args, x_catq, x_cati, x_catr, x_catn]) ?_
  refine x_up (pc' := 1) (fun _ _ _ _ _ L => lv_aloadq_n hx hb dX7_compare_0 rfl (lv_at L 1 rfl)) ?_
  obtain ⟨b1, rfl, hp1⟩ := hp
  refine x_giN X (kX3 hG) 5 (by decide) q308 (fun _ h => h) dX7_compare_1 hp1 (fun v2 hp2 => ?_)
  refine x_pc (pc' := 4) rfl ?_
  refine x_up (pc' := 5) (fun _ _ _ _ _ L => lv_aloadq_n hx hb dX7_compare_4 rfl (lv_at L 2 rfl)) ?_
  obtain ⟨b3, rfl, hp3⟩ := hp2
  refine x_giN X (kX3 hG) 5 (by decide) q308 (fun _ h => h) dX7_compare_5 hp3 (fun v4 hp4 => ?_)
  refine x_pc (pc' := 8) rfl ?_
  refine x_up (pc' := 9) (fun _ _ _ _ _ L => lv_isub hx hb dX7_compare_8) ?_
  exact x_iret X hr rfl dX7_compare_9 hp4
-- X7_compare_2
def P_X7_compare_2 (κ : Nat → Nat) (a0 : Nat) (x1 : Option Nat) (x2 : Option Nat) (σ : xS) (K : Int32 → xH → Prop) : Prop :=
  xnn x1 fun b1 => xrc σ b1 5 ∧ xnn x2 fun b2 => xrc σ b2 5 ∧ xrc σ a0 28 ∧ xcall (fun τ L => P_X7_compare κ a0 (some b1) (some b2) τ L) σ fun v3 σ4 => K v3 σ4.1
theorem mdX7_compare_2 : yX7_compare_2.cls ≠ "java/lang/invoke/MethodHandle" ∧ yX7_compare_2.cls ≠ "java/lang/invoke/VarHandle" ∧ (parseMethodDescriptor yX7_compare_2.desc).map (fun d => d.parameters.length) = some 2 := by decide +kernel
set_option maxHeartbeats 4000000 in
set_option maxRecDepth 100000 in
theorem R_X7_compare_2 (l : Launch) (hl : l.stackTraces = false) (G : xG) (hG : G.1.2 = x_cl) (a0 : Nat) (x1 : Option Nat) (x2 : Option Nat) (σ : xS) (K : Int32 → xH → Prop) (hp : P_X7_compare_2 G.2 a0 x1 x2 σ K) : xM l yX7_compare_2 cX7_compare_2 3 (Option.some Jvm.ClassFile.FieldType.int) 1 22 G [(.ref a0), va_rf x1, va_rf x2] σ (xlift emI K) := by
  refine x_entry (by decide) (by simp [lg_sl, x_catq, x_cati, x_catr, x_catn]) ?_
  intro p e s m args below meth c X hr hin
  have X : xX p s m args meth c G cX7_compare_2 3 RX7 := X
  have hx := X.1
  have hb := X.2.1
  have hts := X.2.2.2.2.1
  have hown := X.2.2.2.1
  unfold P_X7_compare_2 at hp
  refine x_same (lo' := [(0, .ref a0), (1, va_rf x1), (2, va_rf x2)]) (by simp [lv_args, x_catq, x_cati, x_catr, x_catn]) ?_
  refine x_up (pc' := 1) (fun _ _ _ _ _ L => lv_aload_n hx hb dX7_compare_2_0 rfl (lv_at L 0 rfl)) ?_
  refine x_up (pc' := 2) (fun _ _ _ _ _ L => lv_aloadq_n hx hb dX7_compare_2_1 rfl (lv_at L 1 rfl)) ?_
  obtain ⟨b1, rfl, hp1⟩ := hp
  refine x_castS X (kX3 hG) q1660 hp1.1 dX7_compare_2_2 ?_
  have hp2 := hp1.2
  refine x_pc (pc' := 5) rfl ?_
  refine x_up (pc' := 6) (fun _ _ _ _ _ L => lv_aloadq_n hx hb dX7_compare_2_5 rfl (lv_at L 2 rfl)) ?_
  obtain ⟨b2, rfl, hp3⟩ := hp2
  refine x_castS X (kX3 hG) q1660 hp3.1 dX7_compare_2_6 ?_
  have hp4 := hp3.2
  refine x_pc (pc' := 9) rfl ?_
  refine x_callV (em := emI) (fun r st => .int r :: st) (fun _ _ => rfl) 2 X (kX7 hG) (fun σ' KK h => R_X7_compare l hl G hG a0 (some b1) (some b2) σ' KK h) (lw_V q1661 q1632 q3689 q151 q1633) ⟨rfl, mdX7_compare⟩ ⟨Nat.le_of_ble_eq_true rfl, Nat.le_of_ble_eq_true rfl⟩ rfl rfl (Nat.le_of_ble_eq_true rfl) dX7_compare_2_9 hp4.1 hp4.2 (fun v3 σ4 hp5 => ?_)
  refine x_pc (pc' := 12) rfl ?_
  exact x_iret X hr rfl dX7_compare_2_12 hp5
-- X8_compare_2
def P_X8_compare_2 (κ : Nat → Nat) (a0 : Nat) (x1 : Option Nat) (x2 : Option Nat) (σ : xS) (K : Int32 → xH → Prop) : Prop :=
  xnn x1 fun b1 => xgi σ b1 5 6 fun v2 => xnn x2 fun b3 => xgi σ b3 5 6 fun v4 => K (v2 - v4) σ.1
theorem mdX8_compare_2 : yX8_compare_2.cls ≠ "java/lang/invoke/MethodHandle" ∧ yX8_compare_2.cls ≠ "java/lang/invoke/VarHandle" ∧ (parseMethodDescriptor yX8_compare_2.desc).map (fun d => d.parameters.length) = some 2 := by decide +kernel
set_option maxHeartbeats 4000000 in
set_option maxRecDepth 100000 in
theorem R_X8_compare_2 (l : Launch) (hl : l.stackTraces = false) (G : xG) (hG : G.1.2 = x_cl) (a0 : Nat) (x1 : Option Nat) (x2 : Option Nat) (σ : xS) (K : Int32 → xH → Prop) (hp : P_X8_compare_2 G.2 a0 x1 x2 σ K) : xM l yX8_compare_2 cX8_compare_2 3 (Option.some Jvm.ClassFile.FieldType.int) 0 0 G [(.ref a0), va_rf x1, va_rf x2] σ (xlift emI K) := by
  refine x_entry (by decide) (by simp [lg_sl, x_catq, x_cati, x_catr, x_catn]) ?_
  intro p e s m args below meth c X hr hin
  have X : xX p s m args meth c G cX8_compare_2 3 RX8 := X
  have hx := X.1
  have hb := X.2.1
  have hts := X.2.2.2.2.1
  have hown := X.2.2.2.1
  unfold P_X8_compare_2 at hp
  refine x_same (lo' := [(0, .ref a0), (1, va_rf x1), (2, va_rf x2)]) (by simp [lv_args, x_catq, x_cati, x_catr, x_catn]) ?_
  refine x_up (pc' := 1) (fun _ _ _ _ _ L => lv_aloadq_n hx hb dX8_compare_2_0 rfl (lv_at L 1 rfl)) ?_
  obtain ⟨b1, rfl, hp1⟩ := hp
  refine x_giN X (kX3 hG) 6 (by decide) q311 (fun _ h => h) dX8_compare_2_1 hp1 (fun v2 hp2 => ?_)
  refine x_pc (pc' := 4) rfl ?_
  refine x_up (pc' := 5) (fun _ _ _ _ _ L => lv_aloadq_n hx hb dX8_compare_2_4 rfl (lv_at L 2 rfl)) ?_
  obtain ⟨b3, rfl, hp3⟩ := hp2
  refine x_giN X (kX3 hG) 6 (by decide) q311 (fun _ h => h) dX8_compare_2_5 hp3 (fun v4 hp4 => ?_)
  refine x_pc (pc' := 8) rfl ?_
  refine x_up (pc' := 9) (fun _ _ _ _ _ L => lv_isub hx hb dX8_compare_2_8) ?_
  exact x_iret X hr rfl dX8_compare_2_9 hp4
-- X8_compare
def P_X8_compare (κ : Nat → Nat) (a0 : Nat) (x1 : Option Nat) (x2 : Option Nat) (σ : xS) (K : Int32 → xH → Prop) : Prop :=
  xnn x1 fun b1 => xrc σ b1 5 ∧ xnn x2 fun b2 => xrc σ b2 5 ∧ xrc σ a0 29 ∧ xcall (fun τ L => P_X8_compare_2 κ a0 (some b1) (some b2) τ L) σ fun v3 σ4 => K v3 σ4.1
theorem mdX8_compare : yX8_compare.cls ≠ "java/lang/invoke/MethodHandle" ∧ yX8_compare.cls ≠ "java/lang/invoke/VarHandle" ∧ (parseMethodDescriptor yX8_compare.desc).map (fun d => d.parameters.length) = some 2 := by decide +kernel
set_option maxHeartbeats 4000000 in
set_option maxRecDepth 100000 in
theorem R_X8_compare (l : Launch) (hl : l.stackTraces = false) (G : xG) (hG : G.1.2 = x_cl) (a0 : Nat) (x1 : Option Nat) (x2 : Option Nat) (σ : xS) (K : Int32 → xH → Prop) (hp : P_X8_compare G.2 a0 x1 x2 σ K) : xM l yX8_compare cX8_compare 3 (Option.some Jvm.ClassFile.FieldType.int) 1 22 G [(.ref a0), va_rf x1, va_rf x2] σ (xlift emI K) := by
  refine x_entry (by decide) (by simp [lg_sl, x_catq, x_cati, x_catr, x_catn]) ?_
  intro p e s m args below meth c X hr hin
  have X : xX p s m args meth c G cX8_compare 3 RX8 := X
  have hx := X.1
  have hb := X.2.1
  have hts := X.2.2.2.2.1
  have hown := X.2.2.2.1
  unfold P_X8_compare at hp
  refine x_same (lo' := [(0, .ref a0), (1, va_rf x1), (2, va_rf x2)]) (by simp [lv_args, x_catq, x_cati, x_catr, x_catn]) ?_
  refine x_up (pc' := 1) (fun _ _ _ _ _ L => lv_aload_n hx hb dX8_compare_0 rfl (lv_at L 0 rfl)) ?_
  refine x_up (pc' := 2) (fun _ _ _ _ _ L => lv_aloadq_n hx hb dX8_compare_1 rfl (lv_at L 1 rfl)) ?_
  obtain ⟨b1, rfl, hp1⟩ := hp
  refine x_castS X (kX3 hG) q1614 hp1.1 dX8_compare_2 ?_
  have hp2 := hp1.2
  refine x_pc (pc' := 5) rfl ?_
  refine x_up (pc' := 6) (fun _ _ _ _ _ L => lv_aloadq_n hx hb dX8_compare_5 rfl (lv_at L 2 rfl)) ?_
  obtain ⟨b2, rfl, hp3⟩ := hp2
  refine x_castS X (kX3 hG) q1614 hp3.1 dX8_compare_6 ?_
  have hp4 := hp3.2
  refine x_pc (pc' := 9) rfl ?_
  refine x_callV (em := emI) (fun r st => .int r :: st) (fun _ _ => rfl) 2 X (kX8 hG) (fun σ' KK h => R_X8_compare_2 l hl G hG a0 (some b1) (some b2) σ' KK h) (lw_V q1615 q1616 q1617 q152 q1618) ⟨rfl, mdX8_compare_2⟩ ⟨Nat.le_of_ble_eq_true rfl, Nat.le_of_ble_eq_true rfl⟩ rfl rfl (Nat.le_of_ble_eq_true rfl) dX8_compare_9 hp4.1 hp4.2 (fun v3 σ4 hp5 => ?_)
  refine x_pc (pc' := 12) rfl ?_
  exact x_iret X hr rfl dX8_compare_12 hp5
-- X7_compare_X9
def P_X7_compare_X9 (κ : Nat → Nat) (a0 : Nat) (x1 : Option Nat) (x2 : Option Nat) (σ : xS) (K : Int32 → xH → Prop) : Prop :=
  xnn x1 fun b1 => xgi σ b1 5 5 fun v2 => xnn x2 fun b3 => xgi σ b3 5 5 fun v4 => K (v2 - v4) σ.1
set_option maxHeartbeats 4000000 in
set_option maxRecDepth 100000 in
theorem R_X7_compare_X9 (l : Launch) (hl : l.stackTraces = false) (G : xG) (hG : G.1.2 = x_cl) (a0 : Nat) (x1 : Option Nat) (x2 : Option Nat) (σ : xS) (K : Int32 → xH → Prop) (hp : P_X7_compare_X9 G.2 a0 x1 x2 σ K) : xM l yX7_compare cX7_compare 3 (Option.some Jvm.ClassFile.FieldType.int) 0 0 G [(.ref a0), va_rf x1, va_rf x2] σ (xlift emI K) := by
  refine x_entry (by decide) (by simp [lg_sl, x_catq, x_cati, x_catr, x_catn]) ?_
  intro p e s m args below meth c X hr hin
  have X : xX p s m args meth c G cX7_compare 3 RX7 := X
  have hx := X.1
  have hb := X.2.1
  have hts := X.2.2.2.2.1
  have hown := X.2.2.2.1
  unfold P_X7_compare_X9 at hp
  refine x_same (lo' := [(0, .ref a0), (1, va_rf x1), (2, va_rf x2)]) (by simp [lv_args, x_catq, x_cati, x_catr, x_catn]) ?_
  refine x_up (pc' := 1) (fun _ _ _ _ _ L => lv_aloadq_n hx hb dX7_compare_0 rfl (lv_at L 1 rfl)) ?_
  obtain ⟨b1, rfl, hp1⟩ := hp
  refine x_giN X (kX3 hG) 5 (by decide) q308 (fun _ h => h) dX7_compare_1 hp1 (fun v2 hp2 => ?_)
  refine x_pc (pc' := 4) rfl ?_
  refine x_up (pc' := 5) (fun _ _ _ _ _ L => lv_aloadq_n hx hb dX7_compare_4 rfl (lv_at L 2 rfl)) ?_
  obtain ⟨b3, rfl, hp3⟩ := hp2
  refine x_giN X (kX3 hG) 5 (by decide) q308 (fun _ h => h) dX7_compare_5 hp3 (fun v4 hp4 => ?_)
  refine x_pc (pc' := 8) rfl ?_
  refine x_up (pc' := 9) (fun _ _ _ _ _ L => lv_isub hx hb dX7_compare_8) ?_
  exact x_iret X hr rfl dX7_compare_9 hp4
-- X9_compare_2
def P_X9_compare_2 (κ : Nat → Nat) (a0 : Nat) (x1 : Option Nat) (x2 : Option Nat) (σ : xS) (K : Int32 → xH → Prop) : Prop :=
  xnn x1 fun b1 => xgi σ b1 5 7 fun v2 => xnn x2 fun b3 => xgi σ b3 5 7 fun v4 => ((v2 = v4 → (xrc σ a0 30 ∧ xcall (fun τ L => P_X7_compare_X9 κ a0 (some b1) (some b3) τ L) σ fun v5 σ6 => K v5 σ6.1)) ∧ (¬ v2 = v4 → (xgi σ b1 5 7 fun v7 => xgi σ b3 5 7 fun v8 => K (v7 - v8) σ.1)))
theorem mdX9_compare_2 : yX9_compare_2.cls ≠ "java/lang/invoke/MethodHandle" ∧ yX9_compare_2.cls ≠ "java/lang/invoke/VarHandle" ∧ (parseMethodDescriptor yX9_compare_2.desc).map (fun d => d.parameters.length) = some 2 := by decide +kernel
set_option maxHeartbeats 4000000 in
set_option maxRecDepth 100000 in
theorem R_X9_compare_2 (l : Launch) (hl : l.stackTraces = false) (G : xG) (hG : G.1.2 = x_cl) (a0 : Nat) (x1 : Option Nat) (x2 : Option Nat) (σ : xS) (K : Int32 → xH → Prop) (hp : P_X9_compare_2 G.2 a0 x1 x2 σ K) : xM l yX9_compare_2 cX9_compare_2 3 (Option.some Jvm.ClassFile.FieldType.int) 1 22 G [(.ref a0), va_rf x1, va_rf x2] σ (xlift emI K) := by
  refine x_entry (by decide) (by simp [lg_sl, x_catq, x_cati, x_catr, x_catn]) ?_
  intro p e s m args below meth c X hr hin
  have X : xX p s m args meth c G cX9_compare_2 3 RX9 := X
  have hx := X.1
  have hb := X.2.1
  have hts := X.2.2.2.2.1
  have hown := X.2.2.2.1
  unfold P_X9_compare_2 at hp
  refine x_same (lo' := [(0, .ref a0), (1, va_rf x1), (2, va_rf x2)]) (by simp [lv_args, x_catq, x_cati, x_catr, x_catn]) ?_
  refine x_up (pc' := 1) (fun _ _ _ _ _ L => lv_aloadq_n hx hb dX9_compare_2_0 rfl (lv_at L 1 rfl)) ?_
  obtain ⟨b1, rfl, hp1⟩ := hp
  refine x_giN X (kX3 hG) 7 (by decide) q314 (fun _ h => h) dX9_compare_2_1 hp1 (fun v2 hp2 => ?_)
  refine x_pc (pc' := 4) rfl ?_
  refine x_up (pc' := 5) (fun _ _ _ _ _ L => lv_aloadq_n hx hb dX9_compare_2_4 rfl (lv_at L 2 rfl)) ?_
  obtain ⟨b3, rfl, hp3⟩ := hp2
  refine x_giN X (kX3 hG) 7 (by decide) q314 (fun _ h => h) dX9_compare_2_5 hp3 (fun v4 hp4 => ?_)
  refine x_pc (pc' := 8) rfl ?_
  refine x_if (C := v2 = v4) (pt := 23) (pc' := 11) (fun _ _ _ _ _ => lv_icmp_eq (tgt := 23) hx hb dX9_compare_2_8 (by decide)) (fun c8 => ?_) (fun c8 => ?_)
  · have hp5 := hp4.1 c8
    refine x_up (pc' := 24) (fun _ _ _ _ _ L => lv_aload_n hx hb dX9_compare_2_23 rfl (lv_at L 0 rfl)) ?_
    refine x_up (pc' := 25) (fun _ _ _ _ _ L => lv_aload_n hx hb dX9_compare_2_24 rfl (lv_at L 1 rfl)) ?_
    refine x_up (pc' := 26) (fun _ _ _ _ _ L => lv_aload_n hx hb dX9_compare_2_25 rfl (lv_at L 2 rfl)) ?_
    refine x_callSU (em := emI) (fun r st => .int r :: st) (fun _ _ => rfl) 2 X (kX9 hG) (fun σ' KK h => R_X7_compare_X9 l hl G hG a0 (some b1) (some b3) σ' KK h) q1630 q3686 q1631 q1632 q151 q1633 (by decide +kernel) ⟨Nat.le_of_ble_eq_true rfl, Nat.le_of_ble_eq_true rfl⟩ rfl rfl (Nat.le_of_ble_eq_true rfl) dX9_compare_2_26 hp5.1 hp5.2 (fun v5 σ6 hp6 => ?_)
    refine x_pc (pc' := 29) rfl ?_
    exact x_iret X hr rfl dX9_compare_2_29 hp6
  · have hp7 := hp4.2 c8
    refine x_up (pc' := 12) (fun _ _ _ _ _ L => lv_aload_n hx hb dX9_compare_2_11 rfl (lv_at L 1 rfl)) ?_
    refine x_giN X (kX3 hG) 7 (by decide) q314 (fun _ h => h) dX9_compare_2_12 hp7 (fun v7 hp8 => ?_)
    refine x_pc (pc' := 15) rfl ?_
    refine x_up (pc' := 16) (fun _ _ _ _ _ L => lv_aload_n hx hb dX9_compare_2_15 rfl (lv_at L 2 rfl)) ?_
    refine x_giN X (kX3 hG) 7 (by decide) q314 (fun _ h => h) dX9_compare_2_16 hp8 (fun v8 hp9 => ?_)
    refine x_pc (pc' := 19) rfl ?_
    refine x_up (pc' := 20) (fun _ _ _ _ _ L => lv_isub hx hb dX9_compare_2_19) ?_
    refine x_up (pc' := 29) (fun _ _ _ _ _ L => lv_goto (tgt := 29) hx hb dX9_compare_2_20 (by decide)) ?_
    exact x_iret X hr rfl dX9_compare_2_29 hp9
-- X9_compare
def P_X9_compare (κ : Nat → Nat) (a0 : Nat) (x1 : Option Nat) (x2 : Option Nat) (σ : xS) (K : Int32 → xH → Prop) : Prop :=
  xnn x1 fun b1 => xrc σ b1 5 ∧ xnn x2 fun b2 => xrc σ b2 5 ∧ xrc σ a0 30 ∧ xcall (fun τ L => P_X9_compare_2 κ a0 (some b1) (some b2) τ L) σ fun v3 σ4 => K v3 σ4.1
theorem mdX9_compare : yX9_compare.cls ≠ "java/lang/invoke/MethodHandle" ∧ yX9_compare.cls ≠ "java/lang/invoke/VarHandle" ∧ (parseMethodDescriptor yX9_compare.desc).map (fun d => d.parameters.length) = some 2 := by decide +kernel
set_option maxHeartbeats 4000000 in
set_option maxRecDepth 100000 in
theorem R_X9_compare (l : Launch) (hl : l.stackTraces = false) (G : xG) (hG : G.1.2 = x_cl) (a0 : Nat) (x1 : Option Nat) (x2 : Option Nat) (σ : xS) (K : Int32 → xH → Prop) (hp : P_X9_compare G.2 a0 x1 x2 σ K) : xM l yX9_compare cX9_compare 3 (Option.some Jvm.ClassFile.FieldType.int) 2 44 G [(.ref a0), va_rf x1, va_rf x2] σ (xlift emI K) := by
  refine x_entry (by decide) (by simp [lg_sl, x_catq, x_cati, x_catr, x_catn]) ?_
  intro p e s m args below meth c X hr hin
  have X : xX p s m args meth c G cX9_compare 3 RX9 := X
  have hx := X.1
  have hb := X.2.1
  have hts := X.2.2.2.2.1
  have hown := X.2.2.2.1
  unfold P_X9_compare at hp
  refine x_same (lo' := [(0, .ref a0), (1, va_rf x1), (2, va_rf x2)]) (by simp [lv_args, x_catq, x_cati, x_catr, x_catn]) ?_
  refine x_up (pc' := 1) (fun _ _ _ _ _ L => lv_aload_n hx hb dX9_compare_0 rfl (lv_at L 0 rfl)) ?_
  refine x_up (pc' := 2) (fun _ _ _ _ _ L => lv_aloadq_n hx hb dX9_compare_1 rfl (lv_at L 1 rfl)) ?_
  obtain ⟨b1, rfl, hp1⟩ := hp
  refine x_castS X (kX3 hG) q1625 hp1.1 dX9_compare_2 ?_
  have hp2 := hp1.2
  refine x_pc (pc' := 5) rfl ?_
  refine x_up (pc' := 6) (fun _ _ _ _ _ L => lv_aloadq_n hx hb dX9_compare_5 rfl (lv_at L 2 rfl)) ?_
  obtain ⟨b2, rfl, hp3⟩ := hp2
  refine x_castS X (kX3 hG) q1625 hp3.1 dX9_compare_6 ?_
  have hp4 := hp3.2
  refine x_pc (pc' := 9) rfl ?_
  refine x_callV (em := emI) (fun r st => .int r :: st) (fun _ _ => rfl) 2 X (kX9 hG) (fun σ' KK h => R_X9_compare_2 l hl G hG a0 (some b1) (some b2) σ' KK h) (lw_V q1626 q1627 q1628 q153 q1629) ⟨rfl, mdX9_compare_2⟩ ⟨Nat.le_of_ble_eq_true rfl, Nat.le_of_ble_eq_true rfl⟩ rfl rfl (Nat.le_of_ble_eq_true rfl) dX9_compare_9 hp4.1 hp4.2 (fun v3 σ4 hp5 => ?_)
  refine x_pc (pc' := 12) rfl ?_
  exact x_iret X hr rfl dX9_compare_12 hp5
-- X1_size
def B_X1_size_4 (κ : Nat → Nat) (K : Int32 → xH → Prop) : ((Int32 × Int32) → xS → Prop) → (Int32 × Int32) → xS → Prop := fun self5003 w5001 σ5002 =>
  ((w5001.2 = 0 → (K w5001.1 σ5002.1)) ∧ (¬ w5001.2 = 0 → (self5003 ((w5001.1 + (1 : Int32)), (w5001.2 &&& (w5001.2 - (1 : Int32)))) σ5002)))
def P_X1_size (κ : Nat → Nat) (x0 : Int32) (σ : xS) (K : Int32 → xH → Prop) : Prop :=
  xwhile (B_X1_size_4 κ K) ((0 : Int32), x0) σ
theorem mdX1_size : yX1_size.cls ≠ "java/lang/invoke/MethodHandle" ∧ yX1_size.cls ≠ "java/lang/invoke/VarHandle" ∧ (parseMethodDescriptor yX1_size.desc).map (fun d => d.parameters.length) = some 1 := by decide +kernel
set_option maxHeartbeats 4000000 in
set_option maxRecDepth 100000 in
theorem R_X1_size (l : Launch) (hl : l.stackTraces = false) (G : xG) (hG : G.1.2 = x_cl) (x0 : Int32) (σ : xS) (K : Int32 → xH → Prop) (hp : P_X1_size G.2 x0 σ K) : xM l yX1_size cX1_size 3 (Option.some Jvm.ClassFile.FieldType.int) 0 0 G [.int x0] σ (xlift emI K) := by
  refine x_entry (by decide) (Nat.le_of_ble_eq_true rfl) ?_
  intro p e s m args below meth c X hr hin
  have X : xX p s m args meth c G cX1_size 3 RX1 := X
  have hx := X.1
  have hb := X.2.1
  have hts := X.2.2.2.2.1
  have hown := X.2.2.2.1
  unfold P_X1_size at hp
  refine x_same (lo' := [(0, .int x0)]) rfl ?_
  refine x_up (pc' := 1) (fun _ _ _ _ _ L => lv_iconst (v := (0 : Int32)) hx hb dX1_size_0 (by decide)) ?_
  refine x_upL (pc' := 2) (lo' := [(1, .int (0 : Int32)), (0, .int x0)]) (fun _ _ _ _ _ L => lv_istore_n hx hb dX1_size_1 rfl L (by decide) rfl) ?_
  refine x_up (pc' := 3) (fun _ _ _ _ _ L => lv_iload_n hx hb dX1_size_2 rfl (lv_at L 1 rfl)) ?_
  refine x_upL (pc' := 4) (lo' := [(2, .int x0), (1, .int (0 : Int32)), (0, .int x0)]) (fun _ _ _ _ _ L => lv_istore_n hx hb dX1_size_3 rfl L (by decide) rfl) ?_
  refine x_lo (lo' := [(1, .int (0 : Int32)), (2, .int x0)]) [1, 0] rfl ?_
  refine x_while (v0 := ((0 : Int32), x0)) (fun w1 => [(1, .int w1.1), (2, .int w1.2)]) hp (fun self2 hself3 => ?_)
  rintro ⟨y5, y6⟩ σ4 hp1
  unfold B_X1_size_4 at hp1
  refine x_same (lo' := [(1, .int y5), (2, .int y6)]) rfl ?_
  refine x_up (pc' := 5) (fun _ _ _ _ _ L => lv_iload_n hx hb dX1_size_4 rfl (lv_at L 1 rfl)) ?_
  refine x_if (C := y6 = 0) (pt := 20) (pc' := 8) (fun _ _ _ _ _ => lv_if_eq (tgt := 20) hx hb dX1_size_5 (by decide)) (fun c5 => ?_) (fun c5 => ?_)
  · have hp2 := hp1.1 c5
    refine x_up (pc' := 21) (fun _ _ _ _ _ L => lv_iload_n hx hb dX1_size_20 rfl (lv_at L 0 rfl)) ?_
    exact x_iret X hr rfl dX1_size_21 hp2
  · have hp3 := hp1.2 c5
    refine x_upL (pc' := 11) (lo' := [(1, .int (y5 + (1 : Int32))), (2, .int y6)]) (fun _ _ _ _ _ L => lv_iinc (v := y5 + (1 : Int32)) hx hb dX1_size_8 L (k := 0) rfl rfl (by decide) rfl) ?_
    refine x_up (pc' := 12) (fun _ _ _ _ _ L => lv_iload_n hx hb dX1_size_11 rfl (lv_at L 1 rfl)) ?_
    refine x_up (pc' := 13) (fun _ _ _ _ _ L => lv_iload_n hx hb dX1_size_12 rfl (lv_at L 1 rfl)) ?_
    refine x_up (pc' := 14) (fun _ _ _ _ _ L => lv_iconst (v := (1 : Int32)) hx hb dX1_size_13 (by decide)) ?_
    refine x_up (pc' := 15) (fun _ _ _ _ _ L => lv_isub hx hb dX1_size_14) ?_
    refine x_up (pc' := 16) (fun _ _ _ _ _ L => lv_iand hx hb dX1_size_15) ?_
    refine x_upL (pc' := 17) (lo' := [(2, .int (y6 &&& (y6 - (1 : Int32)))), (1, .int (y5 + (1 : Int32)))]) (fun _ _ _ _ _ L => lv_istore_n hx hb dX1_size_16 rfl L (by decide) rfl) ?_
    refine x_up (pc' := 4) (fun _ _ _ _ _ L => lv_goto (tgt := 4) hx hb dX1_size_17 (by decide)) ?_
    refine x_lo (lo' := [(1, .int (y5 + (1 : Int32))), (2, .int (y6 &&& (y6 - (1 : Int32))))]) [1, 0] rfl ?_
    exact hself3 ((y5 + (1 : Int32)), (y6 &&& (y6 - (1 : Int32)))) σ4 hp3
-- X3_dirtyWords
def P_X3_dirtyWords (κ : Nat → Nat) (a0 : Nat) (σ : xS) (K : Int32 → xH → Prop) : Prop :=
  xgi σ a0 5 3 fun v1 => xcall (fun τ L => P_X1_size κ v1 τ L) σ fun v2 σ3 => K v2 σ3.1
theorem mdX3_dirtyWords : yX3_dirtyWords.cls ≠ "java/lang/invoke/MethodHandle" ∧ yX3_dirtyWords.cls ≠ "java/lang/invoke/VarHandle" ∧ (parseMethodDescriptor yX3_dirtyWords.desc).map (fun d => d.parameters.length) = some 0 := by decide +kernel
set_option maxHeartbeats 4000000 in
set_option maxRecDepth 100000 in
theorem R_X3_dirtyWords (l : Launch) (hl : l.stackTraces = false) (G : xG) (hG : G.1.2 = x_cl) (a0 : Nat) (σ : xS) (K : Int32 → xH → Prop) (hp : P_X3_dirtyWords G.2 a0 σ K) : xM l yX3_dirtyWords cX3_dirtyWords 1 (Option.some Jvm.ClassFile.FieldType.int) 1 22 G [(.ref a0)] σ (xlift emI K) := by
  refine x_entry (by decide) (Nat.le_of_ble_eq_true rfl) ?_
  intro p e s m args below meth c X hr hin
  have X : xX p s m args meth c G cX3_dirtyWords 1 RX3 := X
  have hx := X.1
  have hb := X.2.1
  have hts := X.2.2.2.2.1
  have hown := X.2.2.2.1
  unfold P_X3_dirtyWords at hp
  refine x_same (lo' := [(0, .ref a0)]) rfl ?_
  refine x_up (pc' := 1) (fun _ _ _ _ _ L => lv_aload_n hx hb dX3_dirtyWords_0 rfl (lv_at L 0 rfl)) ?_
  refine x_gi X (kX3 hG) 3 (by decide) q301 (fun _ h => h) dX3_dirtyWords_1 hp (fun v1 hp1 => ?_)
  refine x_pc (pc' := 4) rfl ?_
  refine x_callSN (host := "WordCache") (em := emI) (fun r st => .int r :: st) (fun _ _ => rfl) 1 X (fun σ' KK h => R_X1_size l hl G hG v1 σ' KK h) q1649 q1650 q99 (lw_meth q1651) mdX1_size ⟨Nat.le_of_ble_eq_true rfl, Nat.le_of_ble_eq_true rfl⟩ rfl rfl (Nat.le_of_ble_eq_true rfl) dX3_dirtyWords_4 hp1 (fun v2 σ3 hp2 => ?_)
  refine x_pc (pc' := 7) rfl ?_
  exact x_iret X hr rfl dX3_dirtyWords_7 hp2
-- X7_compare_X10
def P_X7_compare_X10 (κ : Nat → Nat) (a0 : Nat) (x1 : Option Nat) (x2 : Option Nat) (σ : xS) (K : Int32 → xH → Prop) : Prop :=
  xnn x1 fun b1 => xgi σ b1 5 5 fun v2 => xnn x2 fun b3 => xgi σ b3 5 5 fun v4 => K (v2 - v4) σ.1
set_option maxHeartbeats 4000000 in
set_option maxRecDepth 100000 in
theorem R_X7_compare_X10 (l : Launch) (hl : l.stackTraces = false) (G : xG) (hG : G.1.2 = x_cl) (a0 : Nat) (x1 : Option Nat) (x2 : Option Nat) (σ : xS) (K : Int32 → xH → Prop) (hp : P_X7_compare_X10 G.2 a0 x1 x2 σ K) : xM l yX7_compare cX7_compare 3 (Option.some Jvm.ClassFile.FieldType.int) 0 0 G [(.ref a0), va_rf x1, va_rf x2] σ (xlift emI K) := by
  refine x_entry (by decide) (by simp [lg_sl, x_catq, x_cati, x_catr, x_catn]) ?_
  intro p e s m args below meth c X hr hin
  have X : xX p s m args meth c G cX7_compare 3 RX7 := X
  have hx := X.1
  have hb := X.2.1
  have hts := X.2.2.2.2.1
  have hown := X.2.2.2.1
  unfold P_X7_compare_X10 at hp
  refine x_same (lo' := [(0, .ref a0), (1, va_rf x1), (2, va_rf x2)]) (by simp [lv_args, x_catq, x_cati, x_catr, x_catn]) ?_
  refine x_up (pc' := 1) (fun _ _ _ _ _ L => lv_aloadq_n hx hb dX7_compare_0 rfl (lv_at L 1 rfl)) ?_
  obtain ⟨b1, rfl, hp1⟩ := hp
  refine x_giN X (kX3 hG) 5 (by decide) q308 (fun _ h => h) dX7_compare_1 hp1 (fun v2 hp2 => ?_)
  refine x_pc (pc' := 4) rfl ?_
  refine x_up (pc' := 5) (fun _ _ _ _ _ L => lv_aloadq_n hx hb dX7_compare_4 rfl (lv_at L 2 rfl)) ?_
  obtain ⟨b3, rfl, hp3⟩ := hp2
  refine x_giN X (kX3 hG) 5 (by decide) q308 (fun _ h => h) dX7_compare_5 hp3 (fun v4 hp4 => ?_)
  refine x_pc (pc' := 8) rfl ?_
  refine x_up (pc' := 9) (fun _ _ _ _ _ L => lv_isub hx hb dX7_compare_8) ?_
  exact x_iret X hr rfl dX7_compare_9 hp4
-- X10_compare_2
def P_X10_compare_2 (κ : Nat → Nat) (a0 : Nat) (x1 : Option Nat) (x2 : Option Nat) (σ : xS) (K : Int32 → xH → Prop) : Prop :=
  xnn x1 fun b1 => xrc σ b1 5 ∧ xcall (fun τ L => P_X3_dirtyWords κ b1 τ L) σ fun v2 σ3 => xnn x2 fun b4 => xrc σ3 b4 5 ∧ xcall (fun τ L => P_X3_dirtyWords κ b4 τ L) σ3 fun v5 σ6 => (((v2 - v5) = 0 → (xrc σ6 a0 31 ∧ xcall (fun τ L => P_X7_compare_X10 κ a0 (some b1) (some b4) τ L) σ6 fun v7 σ8 => K v7 σ8.1)) ∧ (¬ (v2 - v5) = 0 → (K (v2 - v5) σ6.1)))
theorem mdX10_compare_2 : yX10_compare_2.cls ≠ "java/lang/invoke/MethodHandle" ∧ yX10_compare_2.cls ≠ "java/lang/invoke/VarHandle" ∧ (parseMethodDescriptor yX10_compare_2.desc).map (fun d => d.parameters.length) = some 2 := by decide +kernel
set_option maxHeartbeats 4000000 in
set_option maxRecDepth 100000 in
theorem R_X10_compare_2 (l : Launch) (hl : l.stackTraces = false) (G : xG) (hG : G.1.2 = x_cl) (a0 : Nat) (x1 : Option Nat) (x2 : Option Nat) (σ : xS) (K : Int32 → xH → Prop) (hp : P_X10_compare_2 G.2 a0 x1 x2 σ K) : xM l yX10_compare_2 cX10_compare_2 4 (Option.some Jvm.ClassFile.FieldType.int) 2 42 G [(.ref a0), va_rf x1, va_rf x2] σ (xlift emI K) := by
  refine x_entry (by decide) (by simp [lg_sl, x_catq, x_cati, x_catr, x_catn]) ?_
  intro p e s m args below meth c X hr hin
  have X : xX p s m args meth c G cX10_compare_2 4 RX10 := X
  have hx := X.1
  have hb := X.2.1
  have hts := X.2.2.2.2.1
  have hown := X.2.2.2.1
  unfold P_X10_compare_2 at hp
  refine x_same (lo' := [(0, .ref a0), (1, va_rf x1), (2, va_rf x2)]) (by simp [lv_args, x_catq, x_cati, x_catr, x_catn]) ?_
  refine x_up (pc' := 1) (fun _ _ _ _ _ L => lv_aloadq_n hx hb dX10_compare_2_0 rfl (lv_at L 1 rfl)) ?_
  obtain ⟨b1, rfl, hp1⟩ := hp
  refine x_callV (em := emI) (fun r st => .int r :: st) (fun _ _ => rfl) 0 X (kX3 hG) (fun σ' KK h => R_X3_dirtyWords l hl G hG b1 σ' KK h) (lw_V q1645 q1646 q1647 q108 q1648) ⟨rfl, mdX3_dirtyWords⟩ ⟨Nat.le_of_ble_eq_true rfl, Nat.le_of_ble_eq_true rfl⟩ rfl rfl (Nat.le_of_ble_eq_true rfl) dX10_compare_2_1 hp1.1 hp1.2 (fun v2 σ3 hp2 => ?_)
  refine x_pc (pc' := 4) rfl ?_
  refine x_up (pc' := 5) (fun _ _ _ _ _ L => lv_aloadq_n hx hb dX10_compare_2_4 rfl (lv_at L 2 rfl)) ?_
  obtain ⟨b4, rfl, hp3⟩ := hp2
  refine x_callV (em := emI) (fun r st => .int r :: st) (fun _ _ => rfl) 0 X (kX3 hG) (fun σ' KK h => R_X3_dirtyWords l hl G hG b4 σ' KK h) (lw_V q1645 q1646 q1647 q108 q1648) ⟨rfl, mdX3_dirtyWords⟩ ⟨Nat.le_of_ble_eq_true rfl, Nat.le_of_ble_eq_true rfl⟩ rfl rfl (Nat.le_of_ble_eq_true rfl) dX10_compare_2_5 hp3.1 hp3.2 (fun v5 σ6 hp4 => ?_)
  refine x_pc (pc' := 8) rfl ?_
  refine x_up (pc' := 9) (fun _ _ _ _ _ L => lv_isub hx hb dX10_compare_2_8) ?_
  refine x_upL (pc' := 10) (lo' := [(3, .int (v2 - v5)), (0, .ref a0), (1, .ref b1), (2, .ref b4)]) (fun _ _ _ _ _ L => lv_istore_n hx hb dX10_compare_2_9 rfl L (by decide) rfl) ?_
  refine x_up (pc' := 11) (fun _ _ _ _ _ L => lv_iload_n hx hb dX10_compare_2_10 rfl (lv_at L 0 rfl)) ?_
  refine x_if (C := (v2 - v5) = 0) (pt := 18) (pc' := 14) (fun _ _ _ _ _ => lv_if_eq (tgt := 18) hx hb dX10_compare_2_11 (by decide)) (fun c11 => ?_) (fun c11 => ?_)
  · have hp5 := hp4.1 c11
    refine x_up (pc' := 19) (fun _ _ _ _ _ L => lv_aload_n hx hb dX10_compare_2_18 rfl (lv_at L 1 rfl)) ?_
    refine x_up (pc' := 20) (fun _ _ _ _ _ L => lv_aload_n hx hb dX10_compare_2_19 rfl (lv_at L 2 rfl)) ?_
    refine x_up (pc' := 21) (fun _ _ _ _ _ L => lv_aload_n hx hb dX10_compare_2_20 rfl (lv_at L 3 rfl)) ?_
    refine x_callSU (em := emI) (fun r st => .int r :: st) (fun _ _ => rfl) 2 X (kX10 hG) (fun σ' KK h => R_X7_compare_X10 l hl G hG a0 (some b1) (some b4) σ' KK h) q1652 q3686 q1653 q1632 q151 q1633 (by decide +kernel) ⟨Nat.le_of_ble_eq_true rfl, Nat.le_of_ble_eq_true rfl⟩ rfl rfl (Nat.le_of_ble_eq_true rfl) dX10_compare_2_21 hp5.1 hp5.2 (fun v7 σ8 hp6 => ?_)
    refine x_pc (pc' := 24) rfl ?_
    exact x_iret X hr rfl dX10_compare_2_24 hp6
  · have hp7 := hp4.2 c11
    refine x_up (pc' := 15) (fun _ _ _ _ _ L => lv_iload_n hx hb dX10_compare_2_14 rfl (lv_at L 0 rfl)) ?_
    refine x_up (pc' := 24) (fun _ _ _ _ _ L => lv_goto (tgt := 24) hx hb dX10_compare_2_15 (by decide)) ?_
    exact x_iret X hr rfl dX10_compare_2_24 hp7
-- X10_compare
def P_X10_compare (κ : Nat → Nat) (a0 : Nat) (x1 : Option Nat) (x2 : Option Nat) (σ : xS) (K : Int32 → xH → Prop) : Prop :=
  xnn x1 fun b1 => xrc σ b1 5 ∧ xnn x2 fun b2 => xrc σ b2 5 ∧ xrc σ a0 31 ∧ xcall (fun τ L => P_X10_compare_2 κ a0 (some b1) (some b2) τ L) σ fun v3 σ4 => K v3 σ4.1
theorem mdX10_compare : yX10_compare.cls ≠ "java/lang/invoke/MethodHandle" ∧ yX10_compare.cls ≠ "java/lang/invoke/VarHandle" ∧ (parseMethodDescriptor yX10_compare.desc).map (fun d => d.parameters.length) = some 2 := by decide +kernel
set_option maxHeartbeats 4000000 in
set_option maxRecDepth 100000 in
theorem R_X10_compare (l : Launch) (hl : l.stackTraces = false) (G : xG) (hG : G.1.2 = x_cl) (a0 : Nat) (x1 : Option Nat) (x2 : Option Nat) (σ : xS) (K : Int32 → xH → Prop) (hp : P_X10_compare G.2 a0 x1 x2 σ K) : xM l yX10_compare cX10_compare 3 (Option.some Jvm.ClassFile.FieldType.int) 3 65 G [(.ref a0), va_rf x1, va_rf x2] σ (xlift emI K) := by
  refine x_entry (by decide) (by simp [lg_sl, x_catq, x_cati, x_catr, x_catn]) ?_
  intro p e s m args below meth c X hr hin
  have X : xX p s m args meth c G cX10_compare 3 RX10 := X
  have hx := X.1
  have hb := X.2.1
  have hts := X.2.2.2.2.1
  have hown := X.2.2.2.1
  unfold P_X10_compare at hp
  refine x_same (lo' := [(0, .ref a0), (1, va_rf x1), (2, va_rf x2)]) (by simp [lv_args, x_catq, x_cati, x_catr, x_catn]) ?_
  refine x_up (pc' := 1) (fun _ _ _ _ _ L => lv_aload_n hx hb dX10_compare_0 rfl (lv_at L 0 rfl)) ?_
  refine x_up (pc' := 2) (fun _ _ _ _ _ L => lv_aloadq_n hx hb dX10_compare_1 rfl (lv_at L 1 rfl)) ?_
  obtain ⟨b1, rfl, hp1⟩ := hp
  refine x_castS X (kX3 hG) q1640 hp1.1 dX10_compare_2 ?_
  have hp2 := hp1.2
  refine x_pc (pc' := 5) rfl ?_
  refine x_up (pc' := 6) (fun _ _ _ _ _ L => lv_aloadq_n hx hb dX10_compare_5 rfl (lv_at L 2 rfl)) ?_
  obtain ⟨b2, rfl, hp3⟩ := hp2
  refine x_castS X (kX3 hG) q1640 hp3.1 dX10_compare_6 ?_
  have hp4 := hp3.2
  refine x_pc (pc' := 9) rfl ?_
  refine x_callV (em := emI) (fun r st => .int r :: st) (fun _ _ => rfl) 2 X (kX10 hG) (fun σ' KK h => R_X10_compare_2 l hl G hG a0 (some b1) (some b2) σ' KK h) (lw_V q1641 q1642 q1643 q154 q1644) ⟨rfl, mdX10_compare_2⟩ ⟨Nat.le_of_ble_eq_true rfl, Nat.le_of_ble_eq_true rfl⟩ rfl rfl (Nat.le_of_ble_eq_true rfl) dX10_compare_9 hp4.1 hp4.2 (fun v3 σ4 hp5 => ?_)
  refine x_pc (pc' := 12) rfl ?_
  exact x_iret X hr rfl dX10_compare_12 hp5
-- X11_compare_2
def P_X11_compare_2 (κ : Nat → Nat) (a0 : Nat) (x1 : Option Nat) (x2 : Option Nat) (σ : xS) (K : Int32 → xH → Prop) : Prop :=
  xnn x1 fun b1 => xgi σ b1 35 1 fun v2 => xnn x2 fun b3 => xgi σ b3 35 1 fun v4 => ((v2 = v4 → (xgi σ b1 35 2 fun v5 => xgi σ b3 35 2 fun v6 => ((v5 = v6 → (xgi σ b1 35 0 fun v7 => xgi σ b3 35 0 fun v8 => K (v7 - v8) σ.1)) ∧ (¬ v5 = v6 → (xgi σ b1 35 2 fun v9 => xgi σ b3 35 2 fun v10 => K (v9 - v10) σ.1))))) ∧ (¬ v2 = v4 → (xgi σ b3 35 1 fun v11 => xgi σ b1 35 1 fun v12 => K (v11 - v12) σ.1)))
theorem mdX11_compare_2 : yX11_compare_2.cls ≠ "java/lang/invoke/MethodHandle" ∧ yX11_compare_2.cls ≠ "java/lang/invoke/VarHandle" ∧ (parseMethodDescriptor yX11_compare_2.desc).map (fun d => d.parameters.length) = some 2 := by decide +kernel
set_option maxHeartbeats 4000000 in
set_option maxRecDepth 100000 in
theorem R_X11_compare_2 (l : Launch) (hl : l.stackTraces = false) (G : xG) (hG : G.1.2 = x_cl) (a0 : Nat) (x1 : Option Nat) (x2 : Option Nat) (σ : xS) (K : Int32 → xH → Prop) (hp : P_X11_compare_2 G.2 a0 x1 x2 σ K) : xM l yX11_compare_2 cX11_compare_2 3 (Option.some Jvm.ClassFile.FieldType.int) 0 0 G [(.ref a0), va_rf x1, va_rf x2] σ (xlift emI K) := by
  refine x_entry (by decide) (by simp [lg_sl, x_catq, x_cati, x_catr, x_catn]) ?_
  intro p e s m args below meth c X hr hin
  have X : xX p s m args meth c G cX11_compare_2 3 RX11 := X
  have hx := X.1
  have hb := X.2.1
  have hts := X.2.2.2.2.1
  have hown := X.2.2.2.1
  unfold P_X11_compare_2 at hp
  refine x_same (lo' := [(0, .ref a0), (1, va_rf x1), (2, va_rf x2)]) (by simp [lv_args, x_catq, x_cati, x_catr, x_catn]) ?_
  refine x_up (pc' := 1) (fun _ _ _ _ _ L => lv_aloadq_n hx hb dX11_compare_2_0 rfl (lv_at L 1 rfl)) ?_
  obtain ⟨b1, rfl, hp1⟩ := hp
  refine x_giN X (kX12 hG) 1 (by decide) q2826 (fun _ h => h) dX11_compare_2_1 hp1 (fun v2 hp2 => ?_)
  refine x_pc (pc' := 4) rfl ?_
  refine x_up (pc' := 5) (fun _ _ _ _ _ L => lv_aloadq_n hx hb dX11_compare_2_4 rfl (lv_at L 2 rfl)) ?_
  obtain ⟨b3, rfl, hp3⟩ := hp2
  refine x_giN X (kX12 hG) 1 (by decide) q2826 (fun _ h => h) dX11_compare_2_5 hp3 (fun v4 hp4 => ?_)
  refine x_pc (pc' := 8) rfl ?_
  refine x_if (C := v2 = v4) (pt := 21) (pc' := 11) (fun _ _ _ _ _ => lv_icmp_eq (tgt := 21) hx hb dX11_compare_2_8 (by decide)) (fun c8 => ?_) (fun c8 => ?_)
  · have hp5 := hp4.1 c8
    refine x_up (pc' := 22) (fun _ _ _ _ _ L => lv_aload_n hx hb dX11_compare_2_21 rfl (lv_at L 1 rfl)) ?_
    refine x_giN X (kX12 hG) 2 (by decide) q2828 (fun _ h => h) dX11_compare_2_22 hp5 (fun v5 hp6 => ?_)
    refine x_pc (pc' := 25) rfl ?_
    refine x_up (pc' := 26) (fun _ _ _ _ _ L => lv_aload_n hx hb dX11_compare_2_25 rfl (lv_at L 2 rfl)) ?_
    refine x_giN X (kX12 hG) 2 (by decide) q2828 (fun _ h => h) dX11_compare_2_26 hp6 (fun v6 hp7 => ?_)
    refine x_pc (pc' := 29) rfl ?_
    refine x_if (C := v5 = v6) (pt := 44) (pc' := 32) (fun _ _ _ _ _ => lv_icmp_eq (tgt := 44) hx hb dX11_compare_2_29 (by decide)) (fun c29 => ?_) (fun c29 => ?_)
    · have hp8 := hp7.1 c29
      refine x_up (pc' := 45) (fun _ _ _ _ _ L => lv_aload_n hx hb dX11_compare_2_44 rfl (lv_at L 1 rfl)) ?_
      refine x_giN X (kX12 hG) 0 (by decide) q2823 (fun _ h => h) dX11_compare_2_45 hp8 (fun v7 hp9 => ?_)
      refine x_pc (pc' := 48) rfl ?_
      refine x_up (pc' := 49) (fun _ _ _ _ _ L => lv_aload_n hx hb dX11_compare_2_48 rfl (lv_at L 2 rfl)) ?_
      refine x_giN X (kX12 hG) 0 (by decide) q2823 (fun _ h => h) dX11_compare_2_49 hp9 (fun v8 hp10 => ?_)
      refine x_pc (pc' := 52) rfl ?_
      refine x_up (pc' := 53) (fun _ _ _ _ _ L => lv_isub hx hb dX11_compare_2_52) ?_
      exact x_iret X hr rfl dX11_compare_2_53 hp10
    · have hp11 := hp7.2 c29
      refine x_up (pc' := 33) (fun _ _ _ _ _ L => lv_aload_n hx hb dX11_compare_2_32 rfl (lv_at L 1 rfl)) ?_
      refine x_giN X (kX12 hG) 2 (by decide) q2828 (fun _ h => h) dX11_compare_2_33 hp11 (fun v9 hp12 => ?_)
      refine x_pc (pc' := 36) rfl ?_
      refine x_up (pc' := 37) (fun _ _ _ _ _ L => lv_aload_n hx hb dX11_compare_2_36 rfl (lv_at L 2 rfl)) ?_
      refine x_giN X (kX12 hG) 2 (by decide) q2828 (fun _ h => h) dX11_compare_2_37 hp12 (fun v10 hp13 => ?_)
      refine x_pc (pc' := 40) rfl ?_
      refine x_up (pc' := 41) (fun _ _ _ _ _ L => lv_isub hx hb dX11_compare_2_40) ?_
      refine x_up (pc' := 53) (fun _ _ _ _ _ L => lv_goto (tgt := 53) hx hb dX11_compare_2_41 (by decide)) ?_
      exact x_iret X hr rfl dX11_compare_2_53 hp13
  · have hp14 := hp4.2 c8
    refine x_up (pc' := 12) (fun _ _ _ _ _ L => lv_aload_n hx hb dX11_compare_2_11 rfl (lv_at L 2 rfl)) ?_
    refine x_giN X (kX12 hG) 1 (by decide) q2826 (fun _ h => h) dX11_compare_2_12 hp14 (fun v11 hp15 => ?_)
    refine x_pc (pc' := 15) rfl ?_
    refine x_up (pc' := 16) (fun _ _ _ _ _ L => lv_aload_n hx hb dX11_compare_2_15 rfl (lv_at L 1 rfl)) ?_
    refine x_giN X (kX12 hG) 1 (by decide) q2826 (fun _ h => h) dX11_compare_2_16 hp15 (fun v12 hp16 => ?_)
    refine x_pc (pc' := 19) rfl ?_
    refine x_up (pc' := 20) (fun _ _ _ _ _ L => lv_isub hx hb dX11_compare_2_19) ?_
    exact x_iret X hr rfl dX11_compare_2_20 hp16
-- X11_compare
def P_X11_compare (κ : Nat → Nat) (a0 : Nat) (x1 : Option Nat) (x2 : Option Nat) (σ : xS) (K : Int32 → xH → Prop) : Prop :=
  xnn x1 fun b1 => xrc σ b1 35 ∧ xnn x2 fun b2 => xrc σ b2 35 ∧ xrc σ a0 34 ∧ xcall (fun τ L => P_X11_compare_2 κ a0 (some b1) (some b2) τ L) σ fun v3 σ4 => K v3 σ4.1
theorem mdX11_compare : yX11_compare.cls ≠ "java/lang/invoke/MethodHandle" ∧ yX11_compare.cls ≠ "java/lang/invoke/VarHandle" ∧ (parseMethodDescriptor yX11_compare.desc).map (fun d => d.parameters.length) = some 2 := by decide +kernel
set_option maxHeartbeats 4000000 in
set_option maxRecDepth 100000 in
theorem R_X11_compare (l : Launch) (hl : l.stackTraces = false) (G : xG) (hG : G.1.2 = x_cl) (a0 : Nat) (x1 : Option Nat) (x2 : Option Nat) (σ : xS) (K : Int32 → xH → Prop) (hp : P_X11_compare G.2 a0 x1 x2 σ K) : xM l yX11_compare cX11_compare 3 (Option.some Jvm.ClassFile.FieldType.int) 1 22 G [(.ref a0), va_rf x1, va_rf x2] σ (xlift emI K) := by
  refine x_entry (by decide) (by simp [lg_sl, x_catq, x_cati, x_catr, x_catn]) ?_
  intro p e s m args below meth c X hr hin
  have X : xX p s m args meth c G cX11_compare 3 RX11 := X
  have hx := X.1
  have hb := X.2.1
  have hts := X.2.2.2.2.1
  have hown := X.2.2.2.1
  unfold P_X11_compare at hp
  refine x_same (lo' := [(0, .ref a0), (1, va_rf x1), (2, va_rf x2)]) (by simp [lv_args, x_catq, x_cati, x_catr, x_catn]) ?_
  refine x_up (pc' := 1) (fun _ _ _ _ _ L => lv_aload_n hx hb dX11_compare_0 rfl (lv_at L 0 rfl)) ?_
  refine x_up (pc' := 2) (fun _ _ _ _ _ L => lv_aloadq_n hx hb dX11_compare_1 rfl (lv_at L 1 rfl)) ?_
  obtain ⟨b1, rfl, hp1⟩ := hp
  refine x_castS X (kX12 hG) q1603 hp1.1 dX11_compare_2 ?_
  have hp2 := hp1.2
  refine x_pc (pc' := 5) rfl ?_
  refine x_up (pc' := 6) (fun _ _ _ _ _ L => lv_aloadq_n hx hb dX11_compare_5 rfl (lv_at L 2 rfl)) ?_
  obtain ⟨b2, rfl, hp3⟩ := hp2
  refine x_castS X (kX12 hG) q1603 hp3.1 dX11_compare_6 ?_
  have hp4 := hp3.2
  refine x_pc (pc' := 9) rfl ?_
  refine x_callV (em := emI) (fun r st => .int r :: st) (fun _ _ => rfl) 2 X (kX11 hG) (fun σ' KK h => R_X11_compare_2 l hl G hG a0 (some b1) (some b2) σ' KK h) (lw_V q1604 q1605 q1606 q158 q1607) ⟨rfl, mdX11_compare_2⟩ ⟨Nat.le_of_ble_eq_true rfl, Nat.le_of_ble_eq_true rfl⟩ rfl rfl (Nat.le_of_ble_eq_true rfl) dX11_compare_9 hp4.1 hp4.2 (fun v3 σ4 hp5 => ?_)
  refine x_pc (pc' := 12) rfl ?_
  exact x_iret X hr rfl dX11_compare_12 hp5
-- J1_compare
def P_J1_compare (κ : Nat → Nat) (a0 : Nat) (x1 : Option Nat) (x2 : Option Nat) (σ : xS) (K : Int32 → xH → Prop) : Prop :=
  xgq σ a0 2 2 fun v1 => ((v1 = none → (xnn x1 fun b3 => xrc σ b3 14 ∧ xrc σ b3 14 ∧ xcall (fun τ L => P_J23_compareTo κ b3 x2 τ L) σ fun v4 σ5 => K v4 σ5.1)) ∧ (∀ b2 : Nat, v1 = some b2 → (xgq σ a0 2 2 fun v6 => xnn v6 fun b7 => xcall (fun τ L => ((xrc τ b7 28 ∧ P_X7_compare_2 κ b7 x1 x2 τ L) ∨ ((xrc τ b7 29 ∧ P_X8_compare κ b7 x1 x2 τ L) ∨ ((xrc τ b7 30 ∧ P_X9_compare κ b7 x1 x2 τ L) ∨ ((xrc τ b7 31 ∧ P_X10_compare κ b7 x1 x2 τ L) ∨ (xrc τ b7 34 ∧ P_X11_compare κ b7 x1 x2 τ L)))))) σ fun v8 σ9 => K v8 σ9.1)))
theorem mdJ1_compare : yJ1_compare.cls ≠ "java/lang/invoke/MethodHandle" ∧ yJ1_compare.cls ≠ "java/lang/invoke/VarHandle" ∧ (parseMethodDescriptor yJ1_compare.desc).map (fun d => d.parameters.length) = some 2 := by decide +kernel
set_option maxHeartbeats 4000000 in
set_option maxRecDepth 100000 in
theorem R_J1_compare (l : Launch) (hl : l.stackTraces = false) (G : xG) (hG : G.1.2 = x_cl) (a0 : Nat) (x1 : Option Nat) (x2 : Option Nat) (σ : xS) (K : Int32 → xH → Prop) (hp : P_J1_compare G.2 a0 x1 x2 σ K) : xM l yJ1_compare cJ1_compare 3 (Option.some Jvm.ClassFile.FieldType.int) 4 87 G [(.ref a0), va_rf x1, va_rf x2] σ (xlift emI K) := by
  refine x_entry (by decide) (by simp [lg_sl, x_catq, x_cati, x_catr, x_catn]) ?_
  intro p e s m args below meth c X hr hin
  have X : xX p s m args meth c G cJ1_compare 3 RJ1 := X
  have hx := X.1
  have hb := X.2.1
  have hts := X.2.2.2.2.1
  have hown := X.2.2.2.1
  unfold P_J1_compare at hp
  refine x_same (lo' := [(0, .ref a0), (1, va_rf x1), (2, va_rf x2)]) (by simp [lv_args, x_catq, x_cati, x_catr, x_catn]) ?_
  refine x_up (pc' := 1) (fun _ _ _ _ _ L => lv_aload_n hx hb dJ1_compare_0 rfl (lv_at L 0 rfl)) ?_
  refine x_gq X (kJ1 hG) 2 (by decide) q187 (fun _ h => h) dJ1_compare_1 hp (fun v1 hp1 => ?_)
  refine x_pc (pc' := 4) rfl ?_
  rcases v1 with _ | b2
  · have hp2 := hp1.1 rfl
    refine x_up (pc' := 7) (fun _ _ _ _ _ L => lv_ifnonnullN hx hb dJ1_compare_4) ?_
    refine x_up (pc' := 8) (fun _ _ _ _ _ L => lv_aloadq_n hx hb dJ1_compare_7 rfl (lv_at L 1 rfl)) ?_
    obtain ⟨b3, rfl, hp3⟩ := hp2
    refine x_castY X (kJ23 hG) q1400 q1405 hp3.1 dJ1_compare_8 ?_
    have hp4 := hp3.2
    refine x_pc (pc' := 11) rfl ?_
    refine x_up (pc' := 12) (fun _ _ _ _ _ L => lv_aloadq_n hx hb dJ1_compare_11 rfl (lv_at L 2 rfl)) ?_
    refine x_callF (x := ⟨"java/lang/Comparable", "compareTo", "(Ljava/lang/Object;)I"⟩) (em := emI) (fun r st => .int r :: st) (fun _ _ => rfl) 1 X (kJ23 hG) (fun σ' KK h => R_J23_compareTo l hl G hG b3 x2 σ' KK h) q1402 q1406 q1408 q128 q1410 ⟨⟨q1404, q1403, q1409, q1407, q1405⟩, by decide, by decide⟩ (by decide +kernel) ⟨Nat.le_of_ble_eq_true rfl, Nat.le_of_ble_eq_true rfl⟩ rfl rfl (Nat.le_of_ble_eq_true rfl) dJ1_compare_12 hp4.1 hp4.2 (fun v4 σ5 hp5 => ?_)
    refine x_pc (pc' := 17) rfl ?_
    refine x_up (pc' := 31) (fun _ _ _ _ _ L => lv_goto (tgt := 31) hx hb dJ1_compare_17 (by decide)) ?_
    exact x_iret X hr rfl dJ1_compare_31 hp5
  · have hp6 := hp1.2 _ rfl
    refine x_up (pc' := 20) (fun _ _ _ _ _ L => lv_ifnonnull (tgt := 20) hx hb dJ1_compare_4 (by decide)) ?_
    refine x_up (pc' := 21) (fun _ _ _ _ _ L => lv_aload_n hx hb dJ1_compare_20 rfl (lv_at L 0 rfl)) ?_
    refine x_gq X (kJ1 hG) 2 (by decide) q187 (fun _ h => h) dJ1_compare_21 hp6 (fun v6 hp7 => ?_)
    refine x_pc (pc' := 24) rfl ?_
    refine x_up (pc' := 25) (fun _ _ _ _ _ L => lv_aloadq_n hx hb dJ1_compare_24 rfl (lv_at L 1 rfl)) ?_
    refine x_up (pc' := 26) (fun _ _ _ _ _ L => lv_aloadq_n hx hb dJ1_compare_25 rfl (lv_at L 2 rfl)) ?_
    obtain ⟨b7, rfl, hp8⟩ := hp7
    refine x_kk (A := (fun r σ' => xW p l e ({ frames := 4, cells := σ.2.1, slots := σ.2.2, locals := 87 } : Room) s m args below meth c G 3 (MQ below (xQ G (xlift emI K)) args s σ.2.1 σ.2.2 (xA G)) σ' 31 [(0, .ref a0), (1, va_rf x1), (2, va_rf x2)] [.int r])) hp8 (fun v8 σ9 hpK26 => ?_) (fun hd26 kk26 => ?_)
    rotate_left
    · refine x_or hd26 (fun h1 => ?_) (fun h2_0 => ?_)
      · obtain ⟨hr, h1⟩ := x_and h1
        exact x_callF (x := ⟨"java/util/Comparator", "compare", "(Ljava/lang/Object;Ljava/lang/Object;)I"⟩) (em := emI) (fun r st => .int r :: st) (fun _ _ => rfl) 2 X (kX7 hG) (fun σ' KK h => R_X7_compare_2 l hl G hG b7 x1 x2 σ' KK h) q1594 q1655 q1657 q151 q1659 ⟨⟨q1596, q1595, q1658, q1656, q1654⟩, by decide, by decide⟩ (by decide +kernel) ⟨Nat.le_of_ble_eq_true rfl, Nat.le_of_ble_eq_true rfl⟩ rfl rfl (Nat.le_of_ble_eq_true rfl) dJ1_compare_26 hr h1 kk26
      refine x_or h2_0 (fun h1 => ?_) (fun h2_1 => ?_)
      · obtain ⟨hr, h1⟩ := x_and h1
        exact x_callF (x := ⟨"java/util/Comparator", "compare", "(Ljava/lang/Object;Ljava/lang/Object;)I"⟩) (em := emI) (fun r st => .int r :: st) (fun _ _ => rfl) 2 X (kX8 hG) (fun σ' KK h => R_X8_compare l hl G hG b7 x1 x2 σ' KK h) q1594 q1609 q1611 q152 q1613 ⟨⟨q1596, q1595, q1612, q1610, q1608⟩, by decide, by decide⟩ (by decide +kernel) ⟨Nat.le_of_ble_eq_true rfl, Nat.le_of_ble_eq_true rfl⟩ rfl rfl (Nat.le_of_ble_eq_true rfl) dJ1_compare_26 hr h1 kk26
      refine x_or h2_1 (fun h1 => ?_) (fun h2_2 => ?_)
      · obtain ⟨hr, h1⟩ := x_and h1
        exact x_callF (x := ⟨"java/util/Comparator", "compare", "(Ljava/lang/Object;Ljava/lang/Object;)I"⟩) (em := emI) (fun r st => .int r :: st) (fun _ _ => rfl) 2 X (kX9 hG) (fun σ' KK h => R_X9_compare l hl G hG b7 x1 x2 σ' KK h) q1594 q1620 q1622 q153 q1624 ⟨⟨q1596, q1595, q1623, q1621, q1619⟩, by decide, by decide⟩ (by decide +kernel) ⟨Nat.le_of_ble_eq_true rfl, Nat.le_of_ble_eq_true rfl⟩ rfl rfl (Nat.le_of_ble_eq_true rfl) dJ1_compare_26 hr h1 kk26
      refine x_or h2_2 (fun h1 => ?_) (fun h2_3 => ?_)
      · obtain ⟨hr, h1⟩ := x_and h1
        exact x_callF (x := ⟨"java/util/Comparator", "compare", "(Ljava/lang/Object;Ljava/lang/Object;)I"⟩) (em := emI) (fun r st => .int r :: st) (fun _ _ => rfl) 2 X (kX10 hG) (fun σ' KK h => R_X10_compare l hl G hG b7 x1 x2 σ' KK h) q1594 q1635 q1637 q154 q1639 ⟨⟨q1596, q1595, q1638, q1636, q1634⟩, by decide, by decide⟩ (by decide +kernel) ⟨Nat.le_of_ble_eq_true rfl, Nat.le_of_ble_eq_true rfl⟩ rfl rfl (Nat.le_of_ble_eq_true rfl) dJ1_compare_26 hr h1 kk26
      obtain ⟨hr, h1⟩ := x_and h2_3
      exact x_callF (x := ⟨"java/util/Comparator", "compare", "(Ljava/lang/Object;Ljava/lang/Object;)I"⟩) (em := emI) (fun r st => .int r :: st) (fun _ _ => rfl) 2 X (kX11 hG) (fun σ' KK h => R_X11_compare l hl G hG b7 x1 x2 σ' KK h) q1594 q1598 q1600 q158 q1602 ⟨⟨q1596, q1595, q1601, q1599, q1597⟩, by decide, by decide⟩ (by decide +kernel) ⟨Nat.le_of_ble_eq_true rfl, Nat.le_of_ble_eq_true rfl⟩ rfl rfl (Nat.le_of_ble_eq_true rfl) dJ1_compare_26 hr h1 kk26
    have hp9 := hpK26
    exact x_iret X hr rfl dJ1_compare_31 hp9
-- J31_init
def P_J31_init (κ : Nat → Nat) (a0 : Nat) (x1 : Option Nat) (x2 : Option Nat) (x3 : Option Nat) (σ : xS) (K : Unit → xH → Prop) : Prop :=
  xpi κ σ a0 19 5 (1 : Int32) fun σ1 => xpq κ σ1 a0 19 0 x1 fun σ2 => xpq κ σ2 a0 19 1 x2 fun σ3 => xpq κ σ3 a0 19 4 x3 fun σ4 => K () σ4.1
theorem mdJ31_init : yJ31_init.cls ≠ "java/lang/invoke/MethodHandle" ∧ yJ31_init.cls ≠ "java/lang/invoke/VarHandle" ∧ (parseMethodDescriptor yJ31_init.desc).map (fun d => d.parameters.length) = some 3 := by decide +kernel
set_option maxHeartbeats 4000000 in
set_option maxRecDepth 100000 in
theorem R_J31_init (l : Launch) (hl : l.stackTraces = false) (G : xG) (hG : G.1.2 = x_cl) (a0 : Nat) (x1 : Option Nat) (x2 : Option Nat) (x3 : Option Nat) (σ : xS) (K : Unit → xH → Prop) (hp : P_J31_init G.2 a0 x1 x2 x3 σ K) : xM l yJ31_init cJ31_init 4 (Option.none : Option Jvm.ClassFile.FieldType) 1 20 G [(.ref a0), va_rf x1, va_rf x2, va_rf x3] σ (xlift emV K) := by
  refine x_entry (by decide) (by simp [lg_sl, x_catq, x_cati, x_catr, x_catn]) ?_
  intro p e s m args below meth c X hr hin
  have X : xX p s m args meth c G cJ31_init 4 RJ31 := X
  have hx := X.1
  have hb := X.2.1
  have hts := X.2.2.2.2.1
  have hown := X.2.2.2.1
  unfold P_J31_init at hp
  refine x_same (lo' := [(0, .ref a0), (1, va_rf x1), (2, va_rf x2), (3, va_rf x3)]) (by simp [lv_args, x_catq, x_cati, x_catr, x_catn]) ?_
  refine x_up (pc' := 1) (fun _ _ _ _ _ L => lv_aload_n hx hb dJ31_init_0 rfl (lv_at L 0 rfl)) ?_
  refine x_objInit X q1297 q170 q171 dJ31_init_1 (Nat.le_of_ble_eq_true rfl) ⟨Nat.le_of_ble_eq_true rfl, Nat.le_of_ble_eq_true rfl⟩ ?_
  refine x_pc (pc' := 4) rfl ?_
  refine x_up (pc' := 5) (fun _ _ _ _ _ L => lv_aload_n hx hb dJ31_init_4 rfl (lv_at L 0 rfl)) ?_
  refine x_up (pc' := 6) (fun _ _ _ _ _ L => lv_iconst (v := (1 : Int32)) hx hb dJ31_init_5 (by decide)) ?_
  refine x_pi X (kJ31 hG) 5 (by decide) q1306 (fun _ h => h) rfl rfl rfl dJ31_init_6 hp (fun σ1 hp1 => ?_)
  refine x_pc (pc' := 9) rfl ?_
  refine x_up (pc' := 10) (fun _ _ _ _ _ L => lv_aload_n hx hb dJ31_init_9 rfl (lv_at L 0 rfl)) ?_
  refine x_up (pc' := 11) (fun _ _ _ _ _ L => lv_aloadq_n hx hb dJ31_init_10 rfl (lv_at L 1 rfl)) ?_
  refine x_pq X (kJ31 hG) 0 (by decide) q1298 (fun _ h => h) rfl x1 (x_nar _ (by decide)) (x_fit _ (by decide)) dJ31_init_11 hp1 (fun σ2 hp2 => ?_)
  refine x_pc (pc' := 14) rfl ?_
  refine x_up (pc' := 15) (fun _ _ _ _ _ L => lv_aload_n hx hb dJ31_init_14 rfl (lv_at L 0 rfl)) ?_
  refine x_up (pc' := 16) (fun _ _ _ _ _ L => lv_aloadq_n hx hb dJ31_init_15 rfl (lv_at L 2 rfl)) ?_
  refine x_pq X (kJ31 hG) 1 (by decide) q1300 (fun _ h => h) rfl x2 (x_nar _ (by decide)) (x_fit _ (by decide)) dJ31_init_16 hp2 (fun σ3 hp3 => ?_)
  refine x_pc (pc' := 19) rfl ?_
  refine x_up (pc' := 20) (fun _ _ _ _ _ L => lv_aload_n hx hb dJ31_init_19 rfl (lv_at L 0 rfl)) ?_
  refine x_up (pc' := 21) (fun _ _ _ _ _ L => lv_aloadq_n hx hb dJ31_init_20 rfl (lv_at L 3 rfl)) ?_
  refine x_pq X (kJ31 hG) 4 (by decide) q1304 (fun _ h => h) rfl x3 (x_nar _ (by decide)) (x_fit _ (by decide)) dJ31_init_21 hp3 (fun σ4 hp4 => ?_)
  refine x_pc (pc' := 24) rfl ?_
  exact x_vret X hr dJ31_init_24 hp4
-- J1_addEntryToEmptyMap
def P_J1_addEntryToEmptyMap (κ : Nat → Nat) (a0 : Nat) (x1 : Option Nat) (x2 : Option Nat) (σ : xS) (K : Unit → xH → Prop) : Prop :=
  xrc σ a0 2 ∧ xcall (fun τ L => P_J1_compare κ a0 x1 x1 τ L) σ fun v1 σ2 => xnew κ σ2 19 6 [va_rf none, va_rf none, va_rf none, va_rf none, va_rf none, .int 0] fun q3 σ4 => xcall (fun τ L => P_J31_init κ q3 x1 x2 none τ L) σ4 fun _ σ5 => xpq κ σ5 a0 2 3 (some q3) fun σ6 => xpi κ σ6 a0 2 4 (1 : Int32) fun σ7 => xgi σ7 a0 2 5 fun v8 => xpi κ σ7 a0 2 5 (v8 + (1 : Int32)) fun σ9 => K () σ9.1
theorem mdJ1_addEntryToEmptyMap : yJ1_addEntryToEmptyMap.cls ≠ "java/lang/invoke/MethodHandle" ∧ yJ1_addEntryToEmptyMap.cls ≠ "java/lang/invoke/VarHandle" ∧ (parseMethodDescriptor yJ1_addEntryToEmptyMap.desc).map (fun d => d.parameters.length) = some 2 := by decide +kernel
set_option maxHeartbeats 4000000 in
set_option maxRecDepth 100000 in
theorem R_J1_addEntryToEmptyMap (l : Launch) (hl : l.stackTraces = false) (G : xG) (hG : G.1.2 = x_cl) (a0 : Nat) (x1 : Option Nat) (x2 : Option Nat) (σ : xS) (K : Unit → xH → Prop) (hp : P_J1_addEntryToEmptyMap G.2 a0 x1 x2 σ K) : xM l yJ1_addEntryToEmptyMap cJ1_addEntryToEmptyMap 3 (Option.none : Option Jvm.ClassFile.FieldType) 5 109 G [(.ref a0), va_rf x1, va_rf x2] σ (xlift emV K) := by
  refine x_entry (by decide) (by simp [lg_sl, x_catq, x_cati, x_catr, x_catn]) ?_
  intro p e s m args below meth c X hr hin
  have X : xX p s m args meth c G cJ1_addEntryToEmptyMap 3 RJ1 := X
  have hx := X.1
  have hb := X.2.1
  have hts := X.2.2.2.2.1
  have hown := X.2.2.2.1
  unfold P_J1_addEntryToEmptyMap at hp
  refine x_same (lo' := [(0, .ref a0), (1, va_rf x1), (2, va_rf x2)]) (by simp [lv_args, x_catq, x_cati, x_catr, x_catn]) ?_
  refine x_up (pc' := 1) (fun _ _ _ _ _ L => lv_aload_n hx hb dJ1_addEntryToEmptyMap_0 rfl (lv_at L 0 rfl)) ?_
  refine x_up (pc' := 2) (fun _ _ _ _ _ L => lv_aloadq_n hx hb dJ1_addEntryToEmptyMap_1 rfl (lv_at L 1 rfl)) ?_
  refine x_up (pc' := 3) (fun _ _ _ _ _ L => lv_aloadq_n hx hb dJ1_addEntryToEmptyMap_2 rfl (lv_at L 1 rfl)) ?_
  refine x_callV (em := emI) (fun r st => .int r :: st) (fun _ _ => rfl) 2 X (kJ1 hG) (fun σ' KK h => R_J1_compare l hl G hG a0 x1 x1 σ' KK h) (lw_V q1396 q1397 q1398 q102 q1399) ⟨rfl, mdJ1_compare⟩ ⟨Nat.le_of_ble_eq_true rfl, Nat.le_of_ble_eq_true rfl⟩ rfl rfl (Nat.le_of_ble_eq_true rfl) dJ1_addEntryToEmptyMap_3 hp.1 hp.2 (fun v1 σ2 hp1 => ?_)
  refine x_pc (pc' := 6) rfl ?_
  refine x_up (pc' := 7) (fun _ _ _ _ _ L => lv_pop hx hb dJ1_addEntryToEmptyMap_6 rfl) ?_
  refine x_up (pc' := 8) (fun _ _ _ _ _ L => lv_aload_n hx hb dJ1_addEntryToEmptyMap_7 rfl (lv_at L 0 rfl)) ?_
  refine x_new X (kJ31 hG) q1292 q1293 q136 (fs := [va_rf none, va_rf none, va_rf none, va_rf none, va_rf none, .int 0]) x_dflt_J31 dJ1_addEntryToEmptyMap_8 hp1 (fun q3 σ4 hp2 => ?_)
  refine x_pc (pc' := 11) rfl ?_
  refine x_up (pc' := 12) (fun _ _ _ _ _ L => lv_dup hx hb dJ1_addEntryToEmptyMap_11 rfl) ?_
  refine x_up (pc' := 13) (fun _ _ _ _ _ L => lv_aloadq_n hx hb dJ1_addEntryToEmptyMap_12 rfl (lv_at L 1 rfl)) ?_
  refine x_up (pc' := 14) (fun _ _ _ _ _ L => lv_aloadq_n hx hb dJ1_addEntryToEmptyMap_13 rfl (lv_at L 2 rfl)) ?_
  refine x_up (pc' := 15) (fun _ _ _ _ _ L => lv_null hx hb dJ1_addEntryToEmptyMap_14) ?_
  refine x_callI 3 X (fun σ' KK h => R_J31_init l hl G hG q3 x1 x2 none σ' KK h) (lw_meth q1296) q136 q1294 q1295 rfl mdJ31_init ⟨Nat.le_of_ble_eq_true rfl, Nat.le_of_ble_eq_true rfl⟩ rfl rfl (Nat.le_of_ble_eq_true rfl) dJ1_addEntryToEmptyMap_15 hp2 (fun σ5 hp3 => ?_)
  refine x_pc (pc' := 18) rfl ?_
  refine x_pq X (kJ1 hG) 3 (by decide) q188 (fun _ h => h) rfl (some q3) (x_nar _ (by decide)) (x_fit _ (by decide)) dJ1_addEntryToEmptyMap_18 hp3 (fun σ6 hp4 => ?_)
  refine x_pc (pc' := 21) rfl ?_
  refine x_up (pc' := 22) (fun _ _ _ _ _ L => lv_aload_n hx hb dJ1_addEntryToEmptyMap_21 rfl (lv_at L 0 rfl)) ?_
  refine x_up (pc' := 23) (fun _ _ _ _ _ L => lv_iconst (v := (1 : Int32)) hx hb dJ1_addEntryToEmptyMap_22 (by decide)) ?_
  refine x_pi X (kJ1 hG) 4 (by decide) q189 (fun _ h => h) rfl rfl rfl dJ1_addEntryToEmptyMap_23 hp4 (fun σ7 hp5 => ?_)
  refine x_pc (pc' := 26) rfl ?_
  refine x_up (pc' := 27) (fun _ _ _ _ _ L => lv_aload_n hx hb dJ1_addEntryToEmptyMap_26 rfl (lv_at L 0 rfl)) ?_
  refine x_up (pc' := 28) (fun _ _ _ _ _ L => lv_dup hx hb dJ1_addEntryToEmptyMap_27 rfl) ?_
  refine x_gi X (kJ1 hG) 5 (by decide) q190 (fun _ h => h) dJ1_addEntryToEmptyMap_28 hp5 (fun v8 hp6 => ?_)
  refine x_pc (pc' := 31) rfl ?_
  refine x_up (pc' := 32) (fun _ _ _ _ _ L => lv_iconst (v := (1 : Int32)) hx hb dJ1_addEntryToEmptyMap_31 (by decide)) ?_
  refine x_up (pc' := 33) (fun _ _ _ _ _ L => lv_iadd hx hb dJ1_addEntryToEmptyMap_32) ?_
  refine x_pi X (kJ1 hG) 5 (by decide) q190 (fun _ h => h) rfl rfl rfl dJ1_addEntryToEmptyMap_33 hp6 (fun σ9 hp7 => ?_)
  refine x_pc (pc' := 36) rfl ?_
  exact x_vret X hr dJ1_addEntryToEmptyMap_36 hp7
-- J16_requireNonNull
def P_J16_requireNonNull (κ : Nat → Nat) (x0 : Option Nat) (σ : xS) (K : Option Nat → xH → Prop) : Prop :=
  ((x0 = none → (False)) ∧ (∀ b1 : Nat, x0 = some b1 → (K (some b1) σ.1)))
theorem mdJ16_requireNonNull : yJ16_requireNonNull.cls ≠ "java/lang/invoke/MethodHandle" ∧ yJ16_requireNonNull.cls ≠ "java/lang/invoke/VarHandle" ∧ (parseMethodDescriptor yJ16_requireNonNull.desc).map (fun d => d.parameters.length) = some 1 := by decide +kernel
set_option maxHeartbeats 4000000 in
set_option maxRecDepth 100000 in
theorem R_J16_requireNonNull (l : Launch) (hl : l.stackTraces = false) (G : xG) (hG : G.1.2 = x_cl) (x0 : Option Nat) (σ : xS) (K : Option Nat → xH → Prop) (hp : P_J16_requireNonNull G.2 x0 σ K) : xM l yJ16_requireNonNull cJ16_requireNonNull 1 (Option.some (Jvm.ClassFile.FieldType.object "java/lang/Object")) 0 0 G [va_rf x0] σ (xlift emQ K) := by
  refine x_entry (by decide) (by simp [lg_sl, x_catq, x_cati, x_catr, x_catn]) ?_
  intro p e s m args below meth c X hr hin
  have X : xX p s m args meth c G cJ16_requireNonNull 1 RJ16 := X
  have hx := X.1
  have hb := X.2.1
  have hts := X.2.2.2.2.1
  have hown := X.2.2.2.1
  unfold P_J16_requireNonNull at hp
  refine x_same (lo' := [(0, va_rf x0)]) (by simp [lv_args, x_catq, x_cati, x_catr, x_catn]) ?_
  refine x_up (pc' := 1) (fun _ _ _ _ _ L => lv_aloadq_n hx hb dJ16_requireNonNull_0 rfl (lv_at L 0 rfl)) ?_
  rcases x0 with _ | b1
  · have hp1 := hp.1 rfl
    refine x_up (pc' := 4) (fun _ _ _ _ _ L => lv_ifnonnullN hx hb dJ16_requireNonNull_1) ?_
    exact hp1.elim
  · have hp2 := hp.2 _ rfl
    refine x_up (pc' := 12) (fun _ _ _ _ _ L => lv_ifnonnull (tgt := 12) hx hb dJ16_requireNonNull_1 (by decide)) ?_
    refine x_up (pc' := 13) (fun _ _ _ _ _ L => lv_aload_n hx hb dJ16_requireNonNull_12 rfl (lv_at L 0 rfl)) ?_
    exact x_aret X hr (Or.inl ⟨_, rfl⟩) dJ16_requireNonNull_13 (some b1) hp2
-- J1_parentOf
def P_J1_parentOf (κ : Nat → Nat) (x0 : Option Nat) (σ : xS) (K : Option Nat → xH → Prop) : Prop :=
  ((x0 = none → (K none σ.1)) ∧ (∀ b1 : Nat, x0 = some b1 → (xgq σ b1 19 4 fun v2 => K v2 σ.1)))
theorem mdJ1_parentOf : yJ1_parentOf.cls ≠ "java/lang/invoke/MethodHandle" ∧ yJ1_parentOf.cls ≠ "java/lang/invoke/VarHandle" ∧ (parseMethodDescriptor yJ1_parentOf.desc).map (fun d => d.parameters.length) = some 1 := by decide +kernel
set_option maxHeartbeats 4000000 in
set_option maxRecDepth 100000 in
theorem R_J1_parentOf (l : Launch) (hl : l.stackTraces = false) (G : xG) (hG : G.1.2 = x_cl) (x0 : Option Nat) (σ : xS) (K : Option Nat → xH → Prop) (hp : P_J1_parentOf G.2 x0 σ K) : xM l yJ1_parentOf cJ1_parentOf 1 (Option.some (Jvm.ClassFile.FieldType.object "java/util/TreeMap$Entry")) 0 0 G [va_rf x0] σ (xlift emQ K) := by
  refine x_entry (by decide) (by simp [lg_sl, x_catq, x_cati, x_catr, x_catn]) ?_
  intro p e s m args below meth c X hr hin
  have X : xX p s m args meth c G cJ1_parentOf 1 RJ1 := X
  have hx := X.1
  have hb := X.2.1
  have hts := X.2.2.2.2.1
  have hown := X.2.2.2.1
  unfold P_J1_parentOf at hp
  refine x_same (lo' := [(0, va_rf x0)]) (by simp [lv_args, x_catq, x_cati, x_catr, x_catn]) ?_
  refine x_up (pc' := 1) (fun _ _ _ _ _ L => lv_aloadq_n hx hb dJ1_parentOf_0 rfl (lv_at L 0 rfl)) ?_
  rcases x0 with _ | b1
  · have hp1 := hp.1 rfl
    refine x_up (pc' := 4) (fun _ _ _ _ _ L => lv_ifnonnullN hx hb dJ1_parentOf_1) ?_
    refine x_up (pc' := 5) (fun _ _ _ _ _ L => lv_null hx hb dJ1_parentOf_4) ?_
    refine x_up (pc' := 12) (fun _ _ _ _ _ L => lv_goto (tgt := 12) hx hb dJ1_parentOf_5 (by decide)) ?_
    exact x_aret X hr (Or.inl ⟨_, rfl⟩) dJ1_parentOf_12 none hp1
  · have hp2 := hp.2 _ rfl
    refine x_up (pc' := 8) (fun _ _ _ _ _ L => lv_ifnonnull (tgt := 8) hx hb dJ1_parentOf_1 (by decide)) ?_
    refine x_up (pc' := 9) (fun _ _ _ _ _ L => lv_aload_n hx hb dJ1_parentOf_8 rfl (lv_at L 0 rfl)) ?_
    refine x_gq X (kJ31 hG) 4 (by decide) q1305 (fun _ h => h) dJ1_parentOf_9 hp2 (fun v2 hp3 => ?_)
    refine x_pc (pc' := 12) rfl ?_
    exact x_aret X hr (Or.inl ⟨_, rfl⟩) dJ1_parentOf_12 v2 hp3
-- J1_leftOf
def P_J1_leftOf (κ : Nat → Nat) (x0 : Option Nat) (σ : xS) (K : Option Nat → xH → Prop) : Prop :=
  ((x0 = none → (K none σ.1)) ∧ (∀ b1 : Nat, x0 = some b1 → (xgq σ b1 19 2 fun v2 => K v2 σ.1)))
theorem mdJ1_leftOf : yJ1_leftOf.cls ≠ "java/lang/invoke/MethodHandle" ∧ yJ1_leftOf.cls ≠ "java/lang/invoke/VarHandle" ∧ (parseMethodDescriptor yJ1_leftOf.desc).map (fun d => d.parameters.length) = some 1 := by decide +kernel
set_option maxHeartbeats 4000000 in
set_option maxRecDepth 100000 in
theorem R_J1_leftOf (l : Launch) (hl : l.stackTraces = false) (G : xG) (hG : G.1.2 = x_cl) (x0 : Option Nat) (σ : xS) (K : Option Nat → xH → Prop) (hp : P_J1_leftOf G.2 x0 σ K) : xM l yJ1_leftOf cJ1_leftOf 1 (Option.some (Jvm.ClassFile.FieldType.object "java/util/TreeMap$Entry")) 0 0 G [va_rf x0] σ (xlift emQ K) := by
  refine x_entry (by decide) (by simp [lg_sl, x_catq, x_cati, x_catr, x_catn]) ?_
  intro p e s m args below meth c X hr hin
  have X : xX p s m args meth c G cJ1_leftOf 1 RJ1 := X
  have hx := X.1
  have hb := X.2.1
  have hts := X.2.2.2.2.1
  have hown := X.2.2.2.1
  unfold P_J1_leftOf at hp
  refine x_same (lo' := [(0, va_rf x0)]) (by simp [lv_args, x_catq, x_cati, x_catr, x_catn]) ?_
  refine x_up (pc' := 1) (fun _ _ _ _ _ L => lv_aloadq_n hx hb dJ1_leftOf_0 rfl (lv_at L 0 rfl)) ?_
  rcases x0 with _ | b1
  · have hp1 := hp.1 rfl
    refine x_up (pc' := 4) (fun _ _ _ _ _ L => lv_ifnonnullN hx hb dJ1_leftOf_1) ?_
    refine x_up (pc' := 5) (fun _ _ _ _ _ L => lv_null hx hb dJ1_leftOf_4) ?_
    refine x_up (pc' := 12) (fun _ _ _ _ _ L => lv_goto (tgt := 12) hx hb dJ1_leftOf_5 (by decide)) ?_
    exact x_aret X hr (Or.inl ⟨_, rfl⟩) dJ1_leftOf_12 none hp1
  · have hp2 := hp.2 _ rfl
    refine x_up (pc' := 8) (fun _ _ _ _ _ L => lv_ifnonnull (tgt := 8) hx hb dJ1_leftOf_1 (by decide)) ?_
    refine x_up (pc' := 9) (fun _ _ _ _ _ L => lv_aload_n hx hb dJ1_leftOf_8 rfl (lv_at L 0 rfl)) ?_
    refine x_gq X (kJ31 hG) 2 (by decide) q1302 (fun _ h => h) dJ1_leftOf_9 hp2 (fun v2 hp3 => ?_)
    refine x_pc (pc' := 12) rfl ?_
    exact x_aret X hr (Or.inl ⟨_, rfl⟩) dJ1_leftOf_12 v2 hp3
-- J1_rightOf
def P_J1_rightOf (κ : Nat → Nat) (x0 : Option Nat) (σ : xS) (K : Option Nat → xH → Prop) : Prop :=
  ((x0 = none → (K none σ.1)) ∧ (∀ b1 : Nat, x0 = some b1 → (xgq σ b1 19 3 fun v2 => K v2 σ.1)))
theorem mdJ1_rightOf : yJ1_rightOf.cls ≠ "java/lang/invoke/MethodHandle" ∧ yJ1_rightOf.cls ≠ "java/lang/invoke/VarHandle" ∧ (parseMethodDescriptor yJ1_rightOf.desc).map (fun d => d.parameters.length) = some 1 := by decide +kernel
set_option maxHeartbeats 4000000 in
set_option maxRecDepth 100000 in
theorem R_J1_rightOf (l : Launch) (hl : l.stackTraces = false) (G : xG) (hG : G.1.2 = x_cl) (x0 : Option Nat) (σ : xS) (K : Option Nat → xH → Prop) (hp : P_J1_rightOf G.2 x0 σ K) : xM l yJ1_rightOf cJ1_rightOf 1 (Option.some (Jvm.ClassFile.FieldType.object "java/util/TreeMap$Entry")) 0 0 G [va_rf x0] σ (xlift emQ K) := by
  refine x_entry (by decide) (by simp [lg_sl, x_catq, x_cati, x_catr, x_catn]) ?_
  intro p e s m args below meth c X hr hin
  have X : xX p s m args meth c G cJ1_rightOf 1 RJ1 := X
  have hx := X.1
  have hb := X.2.1
  have hts := X.2.2.2.2.1
  have hown := X.2.2.2.1
  unfold P_J1_rightOf at hp
  refine x_same (lo' := [(0, va_rf x0)]) (by simp [lv_args, x_catq, x_cati, x_catr, x_catn]) ?_
  refine x_up (pc' := 1) (fun _ _ _ _ _ L => lv_aloadq_n hx hb dJ1_rightOf_0 rfl (lv_at L 0 rfl)) ?_
  rcases x0 with _ | b1
  · have hp1 := hp.1 rfl
    refine x_up (pc' := 4) (fun _ _ _ _ _ L => lv_ifnonnullN hx hb dJ1_rightOf_1) ?_
    refine x_up (pc' := 5) (fun _ _ _ _ _ L => lv_null hx hb dJ1_rightOf_4) ?_
    refine x_up (pc' := 12) (fun _ _ _ _ _ L => lv_goto (tgt := 12) hx hb dJ1_rightOf_5 (by decide)) ?_
    exact x_aret X hr (Or.inl ⟨_, rfl⟩) dJ1_rightOf_12 none hp1
  · have hp2 := hp.2 _ rfl
    refine x_up (pc' := 8) (fun _ _ _ _ _ L => lv_ifnonnull (tgt := 8) hx hb dJ1_rightOf_1 (by decide)) ?_
    refine x_up (pc' := 9) (fun _ _ _ _ _ L => lv_aload_n hx hb dJ1_rightOf_8 rfl (lv_at L 0 rfl)) ?_
    refine x_gq X (kJ31 hG) 3 (by decide) q1303 (fun _ h => h) dJ1_rightOf_9 hp2 (fun v2 hp3 => ?_)
    refine x_pc (pc' := 12) rfl ?_
    exact x_aret X hr (Or.inl ⟨_, rfl⟩) dJ1_rightOf_12 v2 hp3
-- J1_colorOf
def P_J1_colorOf (κ : Nat → Nat) (x0 : Option Nat) (σ : xS) (K : Int32 → xH → Prop) : Prop :=
  ((x0 = none → (K (1 : Int32) σ.1)) ∧ (∀ b1 : Nat, x0 = some b1 → (xgi σ b1 19 5 fun v2 => (narrow .boolean (.int v2) = .int v2 ∧ K v2 σ.1))))
theorem mdJ1_colorOf : yJ1_colorOf.cls ≠ "java/lang/invoke/MethodHandle" ∧ yJ1_colorOf.cls ≠ "java/lang/invoke/VarHandle" ∧ (parseMethodDescriptor yJ1_colorOf.desc).map (fun d => d.parameters.length) = some 1 := by decide +kernel
set_option maxHeartbeats 4000000 in
set_option maxRecDepth 100000 in
theorem R_J1_colorOf (l : Launch) (hl : l.stackTraces = false) (G : xG) (hG : G.1.2 = x_cl) (x0 : Option Nat) (σ : xS) (K : Int32 → xH → Prop) (hp : P_J1_colorOf G.2 x0 σ K) : xM l yJ1_colorOf cJ1_colorOf 1 (Option.some Jvm.ClassFile.FieldType.boolean) 0 0 G [va_rf x0] σ (xlift emI K) := by
  refine x_entry (by decide) (by simp [lg_sl, x_catq, x_cati, x_catr, x_catn]) ?_
  intro p e s m args below meth c X hr hin
  have X : xX p s m args meth c G cJ1_colorOf 1 RJ1 := X
  have hx := X.1
  have hb := X.2.1
  have hts := X.2.2.2.2.1
  have hown := X.2.2.2.1
  unfold P_J1_colorOf at hp
  refine x_same (lo' := [(0, va_rf x0)]) (by simp [lv_args, x_catq, x_cati, x_catr, x_catn]) ?_
  refine x_up (pc' := 1) (fun _ _ _ _ _ L => lv_aloadq_n hx hb dJ1_colorOf_0 rfl (lv_at L 0 rfl)) ?_
  rcases x0 with _ | b1
  · have hp1 := hp.1 rfl
    refine x_up (pc' := 4) (fun _ _ _ _ _ L => lv_ifnonnullN hx hb dJ1_colorOf_1) ?_
    refine x_up (pc' := 5) (fun _ _ _ _ _ L => lv_iconst (v := (1 : Int32)) hx hb dJ1_colorOf_4 (by decide)) ?_
    refine x_up (pc' := 12) (fun _ _ _ _ _ L => lv_goto (tgt := 12) hx hb dJ1_colorOf_5 (by decide)) ?_
    exact x_iret X hr rfl dJ1_colorOf_12 hp1
  · have hp2 := hp.2 _ rfl
    refine x_up (pc' := 8) (fun _ _ _ _ _ L => lv_ifnonnull (tgt := 8) hx hb dJ1_colorOf_1 (by decide)) ?_
    refine x_up (pc' := 9) (fun _ _ _ _ _ L => lv_aload_n hx hb dJ1_colorOf_8 rfl (lv_at L 0 rfl)) ?_
    refine x_gi X (kJ31 hG) 5 (by decide) q1307 (fun _ h => h) dJ1_colorOf_9 hp2 (fun v2 hp3 => ?_)
    refine x_pc (pc' := 12) rfl ?_
    exact x_iret X hr hp3.1 dJ1_colorOf_12 hp3.2
-- J1_setColor
def P_J1_setColor (κ : Nat → Nat) (x0 : Option Nat) (x1 : Int32) (σ : xS) (K : Unit → xH → Prop) : Prop :=
  ((x0 = none → (K () σ.1)) ∧ (∀ b1 : Nat, x0 = some b1 → (narrow .boolean (.int x1) = .int x1 ∧ fits .boolean (.int x1) = true ∧ xpi κ σ b1 19 5 x1 fun σ2 => K () σ2.1)))
theorem mdJ1_setColor : yJ1_setColor.cls ≠ "java/lang/invoke/MethodHandle" ∧ yJ1_setColor.cls ≠ "java/lang/invoke/VarHandle" ∧ (parseMethodDescriptor yJ1_setColor.desc).map (fun d => d.parameters.length) = some 2 := by decide +kernel
set_option maxHeartbeats 4000000 in
set_option maxRecDepth 100000 in
theorem R_J1_setColor (l : Launch) (hl : l.stackTraces = false) (G : xG) (hG : G.1.2 = x_cl) (x0 : Option Nat) (x1 : Int32) (σ : xS) (K : Unit → xH → Prop) (hp : P_J1_setColor G.2 x0 x1 σ K) : xM l yJ1_setColor cJ1_setColor 2 (Option.none : Option Jvm.ClassFile.FieldType) 0 0 G [va_rf x0, .int x1] σ (xlift emV K) := by
  refine x_entry (by decide) (by simp [lg_sl, x_catq, x_cati, x_catr, x_catn]) ?_
  intro p e s m args below meth c X hr hin
  have X : xX p s m args meth c G cJ1_setColor 2 RJ1 := X
  have hx := X.1
  have hb := X.2.1
  have hts := X.2.2.2.2.1
  have hown := X.2.2.2.1
  unfold P_J1_setColor at hp
  refine x_same (lo' := [(0, va_rf x0), (1, .int x1)]) (by simp [lv_args, x_catq, x_cati, x_catr, x_catn]) ?_
  refine x_up (pc' := 1) (fun _ _ _ _ _ L => lv_aloadq_n hx hb dJ1_setColor_0 rfl (lv_at L 0 rfl)) ?_
  rcases x0 with _ | b1
  · have hp1 := hp.1 rfl
    refine x_up (pc' := 9) (fun _ _ _ _ _ L => lv_ifnullN (tgt := 9) hx hb dJ1_setColor_1 (by decide)) ?_
    exact x_vret X hr dJ1_setColor_9 hp1
  · have hp2 := hp.2 _ rfl
    refine x_up (pc' := 4) (fun _ _ _ _ _ L => lv_ifnull hx hb dJ1_setColor_1) ?_
    refine x_up (pc' := 5) (fun _ _ _ _ _ L => lv_aload_n hx hb dJ1_setColor_4 rfl (lv_at L 0 rfl)) ?_
    refine x_up (pc' := 6) (fun _ _ _ _ _ L => lv_iload_n hx hb dJ1_setColor_5 rfl (lv_at L 1 rfl)) ?_
    obtain ⟨hn6, hf6, hp3⟩ := hp2
    refine x_pi X (kJ31 hG) 5 (by decide) q1307 (fun _ h => h) rfl hn6 hf6 dJ1_setColor_6 hp3 (fun σ2 hp4 => ?_)
    refine x_pc (pc' := 9) rfl ?_
    exact x_vret X hr dJ1_setColor_9 hp4
-- J1_rotateLeft
def P_J1_rotateLeft (κ : Nat → Nat) (a0 : Nat) (x1 : Option Nat) (σ : xS) (K : Unit → xH → Prop) : Prop :=
  ((x1 = none → (K () σ.1)) ∧ (∀ b1 : Nat, x1 = some b1 → (xgq σ b1 19 3 fun v2 => xnn v2 fun b3 => xgq σ b3 19 2 fun v4 => xpq κ σ b1 19 3 v4 fun σ5 => xgq σ5 b3 19 2 fun v6 => ((v6 = none → (xgq σ5 b1 19 4 fun v8 => xpq κ σ5 b3 19 4 v8 fun σ9 => xgq σ9 b1 19 4 fun v10 => ((v10 = none → (xpq κ σ9 a0 2 3 (some b3) fun σ12 => xpq κ σ12 b3 19 2 (some b1) fun σ13 => xpq κ σ13 b1 19 4 (some b3) fun σ14 => K () σ14.1)) ∧ (∀ b11 : Nat, v10 = some b11 → (xgq σ9 b1 19 4 fun v15 => xnn v15 fun b16 => xgq σ9 b16 19 2 fun v17 => ((v17 = (some b1) → (xgq σ9 b1 19 4 fun v18 => xnn v18 fun b19 => xpq κ σ9 b19 19 2 (some b3) fun σ20 => xpq κ σ20 b3 19 2 (some b1) fun σ21 => xpq κ σ21 b1 19 4 (some b3) fun σ22 => K () σ22.1)) ∧ (¬ v17 = (some b1) → (xgq σ9 b1 19 4 fun v23 => xnn v23 fun b24 => xpq κ σ9 b24 19 3 (some b3) fun σ25 => xpq κ σ25 b3 19 2 (some b1) fun σ26 => xpq κ σ26 b1 19 4 (some b3) fun σ27 => K () σ27.1)))))))) ∧ (∀ b7 : Nat, v6 = some b7 → (xgq σ5 b3 19 2 fun v28 => xnn v28 fun b29 => xpq κ σ5 b29 19 4 (some b1) fun σ30 => xgq σ30 b1 19 4 fun v31 => xpq κ σ30 b3 19 4 v31 fun σ32 => xgq σ32 b1 19 4 fun v33 => ((v33 = none → (xpq κ σ32 a0 2 3 (some b3) fun σ35 => xpq κ σ35 b3 19 2 (some b1) fun σ36 => xpq κ σ36 b1 19 4 (some b3) fun σ37 => K () σ37.1)) ∧ (∀ b34 : Nat, v33 = some b34 → (xgq σ32 b1 19 4 fun v38 => xnn v38 fun b39 => xgq σ32 b39 19 2 fun v40 => ((v40 = (some b1) → (xgq σ32 b1 19 4 fun v41 => xnn v41 fun b42 => xpq κ σ32 b42 19 2 (some b3) fun σ43 => xpq κ σ43 b3 19 2 (some b1) fun σ44 => xpq κ σ44 b1 19 4 (some b3) fun σ45 => K () σ45.1)) ∧ (¬ v40 = (some b1) → (xgq σ32 b1 19 4 fun v46 => xnn v46 fun b47 => xpq κ σ32 b47 19 3 (some b3) fun σ48 => xpq κ σ48 b3 19 2 (some b1) fun σ49 => xpq κ σ49 b1 19 4 (some b3) fun σ50 => K () σ50.1))))))))))))
theorem mdJ1_rotateLeft : yJ1_rotateLeft.cls ≠ "java/lang/invoke/MethodHandle" ∧ yJ1_rotateLeft.cls ≠ "java/lang/invoke/VarHandle" ∧ (parseMethodDescriptor yJ1_rotateLeft.desc).map (fun d => d.parameters.length) = some 1 := by decide +kernel
set_option maxHeartbeats 4000000 in
set_option maxRecDepth 100000 in
theorem R_J1_rotateLeft (l : Launch) (hl : l.stackTraces = false) (G : xG) (hG : G.1.2 = x_cl) (a0 : Nat) (x1 : Option Nat) (σ : xS) (K : Unit → xH → Prop) (hp : P_J1_rotateLeft G.2 a0 x1 σ K) : xM l yJ1_rotateLeft cJ1_rotateLeft 3 (Option.none : Option Jvm.ClassFile.FieldType) 0 0 G [(.ref a0), va_rf x1] σ (xlift emV K) := by
  refine x_entry (by decide) (by simp [lg_sl, x_catq, x_cati, x_catr, x_catn]) ?_
  intro p e s m args below meth c X hr hin
  have X : xX p s m args meth c G cJ1_rotateLeft 3 RJ1 := X
  have hx := X.1
  have hb := X.2.1
  have hts := X.2.2.2.2.1
  have hown := X.2.2.2.1
  unfold P_J1_rotateLeft at hp
  refine x_same (lo' := [(0, .ref a0), (1, va_rf x1)]) (by simp [lv_args, x_catq, x_cati, x_catr, x_catn]) ?_
  refine x_up (pc' := 1) (fun _ _ _ _ _ L => lv_aloadq_n hx hb dJ1_rotateLeft_0 rfl (lv_at L 1 rfl)) ?_
  rcases x1 with _ | b1
  · have hp1 := hp.1 rfl
    refine x_up (pc' := 95) (fun _ _ _ _ _ L => lv_ifnullN (tgt := 95) hx hb dJ1_rotateLeft_1 (by decide)) ?_
    exact x_vret X hr dJ1_rotateLeft_95 hp1
  · have hp2 := hp.2 _ rfl
    refine x_up (pc' := 4) (fun _ _ _ _ _ L => lv_ifnull hx hb dJ1_rotateLeft_1) ?_
    refine x_up (pc' := 5) (fun _ _ _ _ _ L => lv_aload_n hx hb dJ1_rotateLeft_4 rfl (lv_at L 1 rfl)) ?_
    refine x_gq X (kJ31 hG) 3 (by decide) q1303 (fun _ h => h) dJ1_rotateLeft_5 hp2 (fun v2 hp3 => ?_)
    refine x_pc (pc' := 8) rfl ?_
    refine x_upL (pc' := 9) (lo' := [(2, va_rf v2), (0, .ref a0), (1, .ref b1)]) (fun _ _ _ _ _ L => lv_astoreq_n hx hb dJ1_rotateLeft_8 rfl L (by decide) rfl) ?_
    refine x_up (pc' := 10) (fun _ _ _ _ _ L => lv_aload_n hx hb dJ1_rotateLeft_9 rfl (lv_at L 2 rfl)) ?_
    refine x_up (pc' := 11) (fun _ _ _ _ _ L => lv_aloadq_n hx hb dJ1_rotateLeft_10 rfl (lv_at L 0 rfl)) ?_
    obtain ⟨b3, rfl, hp4⟩ := hp3
    refine x_gq X (kJ31 hG) 2 (by decide) q1302 (fun _ h => h) dJ1_rotateLeft_11 hp4 (fun v4 hp5 => ?_)
    refine x_pc (pc' := 14) rfl ?_
    refine x_pq X (kJ31 hG) 3 (by decide) q1303 (fun _ h => h) rfl v4 (x_nar _ (by decide)) (x_fit _ (by decide)) dJ1_rotateLeft_14 hp5 (fun σ5 hp6 => ?_)
    refine x_pc (pc' := 17) rfl ?_
    refine x_up (pc' := 18) (fun _ _ _ _ _ L => lv_aload_n hx hb dJ1_rotateLeft_17 rfl (lv_at L 0 rfl)) ?_
    refine x_gq X (kJ31 hG) 2 (by decide) q1302 (fun _ h => h) dJ1_rotateLeft_18 hp6 (fun v6 hp7 => ?_)
    refine x_pc (pc' := 21) rfl ?_
    rcases v6 with _ | b7
    · have hp8 := hp7.1 rfl
      refine x_up (pc' := 32) (fun _ _ _ _ _ L => lv_ifnullN (tgt := 32) hx hb dJ1_rotateLeft_21 (by decide)) ?_
      refine x_up (pc' := 33) (fun _ _ _ _ _ L => lv_aload_n hx hb dJ1_rotateLeft_32 rfl (lv_at L 0 rfl)) ?_
      refine x_up (pc' := 34) (fun _ _ _ _ _ L => lv_aload_n hx hb dJ1_rotateLeft_33 rfl (lv_at L 2 rfl)) ?_
      refine x_gq X (kJ31 hG) 4 (by decide) q1305 (fun _ h => h) dJ1_rotateLeft_34 hp8 (fun v8 hp9 => ?_)
      refine x_pc (pc' := 37) rfl ?_
      refine x_pq X (kJ31 hG) 4 (by decide) q1305 (fun _ h => h) rfl v8 (x_nar _ (by decide)) (x_fit _ (by decide)) dJ1_rotateLeft_37 hp9 (fun σ9 hp10 => ?_)
      refine x_pc (pc' := 40) rfl ?_
      refine x_up (pc' := 41) (fun _ _ _ _ _ L => lv_aload_n hx hb dJ1_rotateLeft_40 rfl (lv_at L 2 rfl)) ?_
      refine x_gq X (kJ31 hG) 4 (by decide) q1305 (fun _ h => h) dJ1_rotateLeft_41 hp10 (fun v10 hp11 => ?_)
      refine x_pc (pc' := 44) rfl ?_
      rcases v10 with _ | b11
      · have hp12 := hp11.1 rfl
        refine x_up (pc' := 47) (fun _ _ _ _ _ L => lv_ifnonnullN hx hb dJ1_rotateLeft_44) ?_
        refine x_up (pc' := 48) (fun _ _ _ _ _ L => lv_aload_n hx hb dJ1_rotateLeft_47 rfl (lv_at L 1 rfl)) ?_
        refine x_up (pc' := 49) (fun _ _ _ _ _ L => lv_aload_n hx hb dJ1_rotateLeft_48 rfl (lv_at L 0 rfl)) ?_
        refine x_pq X (kJ1 hG) 3 (by decide) q188 (fun _ h => h) rfl (some b3) (x_nar _ (by decide)) (x_fit _ (by decide)) dJ1_rotateLeft_49 hp12 (fun σ12 hp13 => ?_)
        refine x_pc (pc' := 52) rfl ?_
        refine x_up (pc' := 85) (fun _ _ _ _ _ L => lv_goto (tgt := 85) hx hb dJ1_rotateLeft_52 (by decide)) ?_
        refine x_up (pc' := 86) (fun _ _ _ _ _ L => lv_aload_n hx hb dJ1_rotateLeft_85 rfl (lv_at L 0 rfl)) ?_
        refine x_up (pc' := 87) (fun _ _ _ _ _ L => lv_aload_n hx hb dJ1_rotateLeft_86 rfl (lv_at L 2 rfl)) ?_
        refine x_pq X (kJ31 hG) 2 (by decide) q1302 (fun _ h => h) rfl (some b1) (x_nar _ (by decide)) (x_fit _ (by decide)) dJ1_rotateLeft_87 hp13 (fun σ13 hp14 => ?_)
        refine x_pc (pc' := 90) rfl ?_
        refine x_up (pc' := 91) (fun _ _ _ _ _ L => lv_aload_n hx hb dJ1_rotateLeft_90 rfl (lv_at L 2 rfl)) ?_
        refine x_up (pc' := 92) (fun _ _ _ _ _ L => lv_aload_n hx hb dJ1_rotateLeft_91 rfl (lv_at L 0 rfl)) ?_
        refine x_pq X (kJ31 hG) 4 (by decide) q1305 (fun _ h => h) rfl (some b3) (x_nar _ (by decide)) (x_fit _ (by decide)) dJ1_rotateLeft_92 hp14 (fun σ14 hp15 => ?_)
        refine x_pc (pc' := 95) rfl ?_
        exact x_vret X hr dJ1_rotateLeft_95 hp15
      · have hp16 := hp11.2 _ rfl
        refine x_up (pc' := 55) (fun _ _ _ _ _ L => lv_ifnonnull (tgt := 55) hx hb dJ1_rotateLeft_44 (by decide)) ?_
        refine x_up (pc' := 56) (fun _ _ _ _ _ L => lv_aload_n hx hb dJ1_rotateLeft_55 rfl (lv_at L 2 rfl)) ?_
        refine x_gq X (kJ31 hG) 4 (by decide) q1305 (fun _ h => h) dJ1_rotateLeft_56 hp16 (fun v15 hp17 => ?_)
        refine x_pc (pc' := 59) rfl ?_
        obtain ⟨b16, rfl, hp18⟩ := hp17
        refine x_gq X (kJ31 hG) 2 (by decide) q1302 (fun _ h => h) dJ1_rotateLeft_59 hp18 (fun v17 hp19 => ?_)
        refine x_pc (pc' := 62) rfl ?_
        refine x_up (pc' := 63) (fun _ _ _ _ _ L => lv_aload_n hx hb dJ1_rotateLeft_62 rfl (lv_at L 2 rfl)) ?_
        refine x_ifn (C := v17 = (some b1)) (pt := 77) (pc' := 66) (fun _ _ _ _ _ => lv_acmp_ne (rx := v17) (ry := (some b1)) (tgt := 77) hx hb dJ1_rotateLeft_63 (by decide)) (fun c63 => ?_) (fun c63 => ?_)
        · have hp20 := hp19.1 c63
          refine x_up (pc' := 67) (fun _ _ _ _ _ L => lv_aload_n hx hb dJ1_rotateLeft_66 rfl (lv_at L 2 rfl)) ?_
          refine x_gq X (kJ31 hG) 4 (by decide) q1305 (fun _ h => h) dJ1_rotateLeft_67 hp20 (fun v18 hp21 => ?_)
          refine x_pc (pc' := 70) rfl ?_
          refine x_up (pc' := 71) (fun _ _ _ _ _ L => lv_aload_n hx hb dJ1_rotateLeft_70 rfl (lv_at L 0 rfl)) ?_
          obtain ⟨b19, rfl, hp22⟩ := hp21
          refine x_pq X (kJ31 hG) 2 (by decide) q1302 (fun _ h => h) rfl (some b3) (x_nar _ (by decide)) (x_fit _ (by decide)) dJ1_rotateLeft_71 hp22 (fun σ20 hp23 => ?_)
          refine x_pc (pc' := 74) rfl ?_
          refine x_up (pc' := 85) (fun _ _ _ _ _ L => lv_goto (tgt := 85) hx hb dJ1_rotateLeft_74 (by decide)) ?_
          refine x_up (pc' := 86) (fun _ _ _ _ _ L => lv_aload_n hx hb dJ1_rotateLeft_85 rfl (lv_at L 0 rfl)) ?_
          refine x_up (pc' := 87) (fun _ _ _ _ _ L => lv_aload_n hx hb dJ1_rotateLeft_86 rfl (lv_at L 2 rfl)) ?_
          refine x_pq X (kJ31 hG) 2 (by decide) q1302 (fun _ h => h) rfl (some b1) (x_nar _ (by decide)) (x_fit _ (by decide)) dJ1_rotateLeft_87 hp23 (fun σ21 hp24 => ?_)
          refine x_pc (pc' := 90) rfl ?_
          refine x_up (pc' := 91) (fun _ _ _ _ _ L => lv_aload_n hx hb dJ1_rotateLeft_90 rfl (lv_at L 2 rfl)) ?_
          refine x_up (pc' := 92) (fun _ _ _ _ _ L => lv_aload_n hx hb dJ1_rotateLeft_91 rfl (lv_at L 0 rfl)) ?_
          refine x_pq X (kJ31 hG) 4 (by decide) q1305 (fun _ h => h) rfl (some b3) (x_nar _ (by decide)) (x_fit _ (by decide)) dJ1_rotateLeft_92 hp24 (fun σ22 hp25 => ?_)
          refine x_pc (pc' := 95) rfl ?_
          exact x_vret X hr dJ1_rotateLeft_95 hp25
        · have hp26 := hp19.2 c63
          refine x_up (pc' := 78) (fun _ _ _ _ _ L => lv_aload_n hx hb dJ1_rotateLeft_77 rfl (lv_at L 2 rfl)) ?_
          refine x_gq X (kJ31 hG) 4 (by decide) q1305 (fun _ h => h) dJ1_rotateLeft_78 hp26 (fun v23 hp27 => ?_)
          refine x_pc (pc' := 81) rfl ?_
          refine x_up (pc' := 82) (fun _ _ _ _ _ L => lv_aload_n hx hb dJ1_rotateLeft_81 rfl (lv_at L 0 rfl)) ?_
          obtain ⟨b24, rfl, hp28⟩ := hp27
          refine x_pq X (kJ31 hG) 3 (by decide) q1303 (fun _ h => h) rfl (some b3) (x_nar _ (by decide)) (x_fit _ (by decide)) dJ1_rotateLeft_82 hp28 (fun σ25 hp29 => ?_)
          refine x_pc (pc' := 85) rfl ?_
          refine x_up (pc' := 86) (fun _ _ _ _ _ L => lv_aload_n hx hb dJ1_rotateLeft_85 rfl (lv_at L 0 rfl)) ?_
          refine x_up (pc' := 87) (fun _ _ _ _ _ L => lv_aload_n hx hb dJ1_rotateLeft_86 rfl (lv_at L 2 rfl)) ?_
          refine x_pq X (kJ31 hG) 2 (by decide) q1302 (fun _ h => h) rfl (some b1) (x_nar _ (by decide)) (x_fit _ (by decide)) dJ1_rotateLeft_87 hp29 (fun σ26 hp30 => ?_)
          refine x_pc (pc' := 90) rfl ?_
          refine x_up (pc' := 91) (fun _ _ _ _ _ L => lv_aload_n hx hb dJ1_rotateLeft_90 rfl (lv_at L 2 rfl)) ?_
          refine x_up (pc' := 92) (fun _ _ _ _ _ L => lv_aload_n hx hb dJ1_rotateLeft_91 rfl (lv_at L 0 rfl)) ?_
          refine x_pq X (kJ31 hG) 4 (by decide) q1305 (fun _ h => h) rfl (some b3) (x_nar _ (by decide)) (x_fit _ (by decide)) dJ1_rotateLeft_92 hp30 (fun σ27 hp31 => ?_)
          refine x_pc (pc' := 95) rfl ?_
          exact x_vret X hr dJ1_rotateLeft_95 hp31
    · have hp32 := hp7.2 _ rfl
      refine x_up (pc' := 24) (fun _ _ _ _ _ L => lv_ifnull hx hb dJ1_rotateLeft_21) ?_
      refine x_up (pc' := 25) (fun _ _ _ _ _ L => lv_aload_n hx hb dJ1_rotateLeft_24 rfl (lv_at L 0 rfl)) ?_
      refine x_gq X (kJ31 hG) 2 (by decide) q1302 (fun _ h => h) dJ1_rotateLeft_25 hp32 (fun v28 hp33 => ?_)
      refine x_pc (pc' := 28) rfl ?_
      refine x_up (pc' := 29) (fun _ _ _ _ _ L => lv_aload_n hx hb dJ1_rotateLeft_28 rfl (lv_at L 2 rfl)) ?_
      obtain ⟨b29, rfl, hp34⟩ := hp33
      refine x_pq X (kJ31 hG) 4 (by decide) q1305 (fun _ h => h) rfl (some b1) (x_nar _ (by decide)) (x_fit _ (by decide)) dJ1_rotateLeft_29 hp34 (fun σ30 hp35 => ?_)
      refine x_pc (pc' := 32) rfl ?_
      refine x_up (pc' := 33) (fun _ _ _ _ _ L => lv_aload_n hx hb dJ1_rotateLeft_32 rfl (lv_at L 0 rfl)) ?_
      refine x_up (pc' := 34) (fun _ _ _ _ _ L => lv_aload_n hx hb dJ1_rotateLeft_33 rfl (lv_at L 2 rfl)) ?_
      refine x_gq X (kJ31 hG) 4 (by decide) q1305 (fun _ h => h) dJ1_rotateLeft_34 hp35 (fun v31 hp36 => ?_)
      refine x_pc (pc' := 37) rfl ?_
      refine x_pq X (kJ31 hG) 4 (by decide) q1305 (fun _ h => h) rfl v31 (x_nar _ (by decide)) (x_fit _ (by decide)) dJ1_rotateLeft_37 hp36 (fun σ32 hp37 => ?_)
      refine x_pc (pc' := 40) rfl ?_
      refine x_up (pc' := 41) (fun _ _ _ _ _ L => lv_aload_n hx hb dJ1_rotateLeft_40 rfl (lv_at L 2 rfl)) ?_
      refine x_gq X (kJ31 hG) 4 (by decide) q1305 (fun _ h => h) dJ1_rotateLeft_41 hp37 (fun v33 hp38 => ?_)
      refine x_pc (pc' := 44) rfl ?_
      rcases v33 with _ | b34
      · have hp39 := hp38.1 rfl
        refine x_up (pc' := 47) (fun _ _ _ _ _ L => lv_ifnonnullN hx hb dJ1_rotateLeft_44) ?_
        refine x_up (pc' := 48) (fun _ _ _ _ _ L => lv_aload_n hx hb dJ1_rotateLeft_47 rfl (lv_at L 1 rfl)) ?_
        refine x_up (pc' := 49) (fun _ _ _ _ _ L => lv_aload_n hx hb dJ1_rotateLeft_48 rfl (lv_at L 0 rfl)) ?_
        refine x_pq X (kJ1 hG) 3 (by decide) q188 (fun _ h => h) rfl (some b3) (x_nar _ (by decide)) (x_fit _ (by decide)) dJ1_rotateLeft_49 hp39 (fun σ35 hp40 => ?_)
        refine x_pc (pc' := 52) rfl ?_
        refine x_up (pc' := 85) (fun _ _ _ _ _ L => lv_goto (tgt := 85) hx hb dJ1_rotateLeft_52 (by decide)) ?_
        refine x_up (pc' := 86) (fun _ _ _ _ _ L => lv_aload_n hx hb dJ1_rotateLeft_85 rfl (lv_at L 0 rfl)) ?_
        refine x_up (pc' := 87) (fun _ _ _ _ _ L => lv_aload_n hx hb dJ1_rotateLeft_86 rfl (lv_at L 2 rfl)) ?_
        refine x_pq X (kJ31 hG) 2 (by decide) q1302 (fun _ h => h) rfl (some b1) (x_nar _ (by decide)) (x_fit _ (by decide)) dJ1_rotateLeft_87 hp40 (fun σ36 hp41 => ?_)
        refine x_pc (pc' := 90) rfl ?_
        refine x_up (pc' := 91) (fun _ _ _ _ _ L => lv_aload_n hx hb dJ1_rotateLeft_90 rfl (lv_at L 2 rfl)) ?_
        refine x_up (pc' := 92) (fun _ _ _ _ _ L => lv_aload_n hx hb dJ1_rotateLeft_91 rfl (lv_at L 0 rfl)) ?_
        refine x_pq X (kJ31 hG) 4 (by decide) q1305 (fun _ h => h) rfl (some b3) (x_nar _ (by decide)) (x_fit _ (by decide)) dJ1_rotateLeft_92 hp41 (fun σ37 hp42 => ?_)
        refine x_pc (pc' := 95) rfl ?_
        exact x_vret X hr dJ1_rotateLeft_95 hp42
      · have hp43 := hp38.2 _ rfl
        refine x_up (pc' := 55) (fun _ _ _ _ _ L => lv_ifnonnull (tgt := 55) hx hb dJ1_rotateLeft_44 (by decide)) ?_
        refine x_up (pc' := 56) (fun _ _ _ _ _ L => lv_aload_n hx hb dJ1_rotateLeft_55 rfl (lv_at L 2 rfl)) ?_
        refine x_gq X (kJ31 hG) 4 (by decide) q1305 (fun _ h => h) dJ1_rotateLeft_56 hp43 (fun v38 hp44 => ?_)
        refine x_pc (pc' := 59) rfl ?_
        obtain ⟨b39, rfl, hp45⟩ := hp44
        refine x_gq X (kJ31 hG) 2 (by decide) q1302 (fun _ h => h) dJ1_rotateLeft_59 hp45 (fun v40 hp46 => ?_)
        refine x_pc (pc' := 62) rfl ?_
        refine x_up (pc' := 63) (fun _ _ _ _ _ L => lv_aload_n hx hb dJ1_rotateLeft_62 rfl (lv_at L 2 rfl)) ?_
        refine x_ifn (C := v40 = (some b1)) (pt := 77) (pc' := 66) (fun _ _ _ _ _ => lv_acmp_ne (rx := v40) (ry := (some b1)) (tgt := 77) hx hb dJ1_rotateLeft_63 (by decide)) (fun c63 => ?_) (fun c63 => ?_)
        · have hp47 := hp46.1 c63
          refine x_up (pc' := 67) (fun _ _ _ _ _ L => lv_aload_n hx hb dJ1_rotateLeft_66 rfl (lv_at L 2 rfl)) ?_
          refine x_gq X (kJ31 hG) 4 (by decide) q1305 (fun _ h => h) dJ1_rotateLeft_67 hp47 (fun v41 hp48 => ?_)
          refine x_pc (pc' := 70) rfl ?_
          refine x_up (pc' := 71) (fun _ _ _ _ _ L => lv_aload_n hx hb dJ1_rotateLeft_70 rfl (lv_at L 0 rfl)) ?_
          obtain ⟨b42, rfl, hp49⟩ := hp48
          refine x_pq X (kJ31 hG) 2 (by decide) q1302 (fun _ h => h) rfl (some b3) (x_nar _ (by decide)) (x_fit _ (by decide)) dJ1_rotateLeft_71 hp49 (fun σ43 hp50 => ?_)
          refine x_pc (pc' := 74) rfl ?_
          refine x_up (pc' := 85) (fun _ _ _ _ _ L => lv_goto (tgt := 85) hx hb dJ1_rotateLeft_74 (by decide)) ?_
          refine x_up (pc' := 86) (fun _ _ _ _ _ L => lv_aload_n hx hb dJ1_rotateLeft_85 rfl (lv_at L 0 rfl)) ?_
          refine x_up (pc' := 87) (fun _ _ _ _ _ L => lv_aload_n hx hb dJ1_rotateLeft_86 rfl (lv_at L 2 rfl)) ?_
          refine x_pq X (kJ31 hG) 2 (by decide) q1302 (fun _ h => h) rfl (some b1) (x_nar _ (by decide)) (x_fit _ (by decide)) dJ1_rotateLeft_87 hp50 (fun σ44 hp51 => ?_)
          refine x_pc (pc' := 90) rfl ?_
          refine x_up (pc' := 91) (fun _ _ _ _ _ L => lv_aload_n hx hb dJ1_rotateLeft_90 rfl (lv_at L 2 rfl)) ?_
          refine x_up (pc' := 92) (fun _ _ _ _ _ L => lv_aload_n hx hb dJ1_rotateLeft_91 rfl (lv_at L 0 rfl)) ?_
          refine x_pq X (kJ31 hG) 4 (by decide) q1305 (fun _ h => h) rfl (some b3) (x_nar _ (by decide)) (x_fit _ (by decide)) dJ1_rotateLeft_92 hp51 (fun σ45 hp52 => ?_)
          refine x_pc (pc' := 95) rfl ?_
          exact x_vret X hr dJ1_rotateLeft_95 hp52
        · have hp53 := hp46.2 c63
          refine x_up (pc' := 78) (fun _ _ _ _ _ L => lv_aload_n hx hb dJ1_rotateLeft_77 rfl (lv_at L 2 rfl)) ?_
          refine x_gq X (kJ31 hG) 4 (by decide) q1305 (fun _ h => h) dJ1_rotateLeft_78 hp53 (fun v46 hp54 => ?_)
          refine x_pc (pc' := 81) rfl ?_
          refine x_up (pc' := 82) (fun _ _ _ _ _ L => lv_aload_n hx hb dJ1_rotateLeft_81 rfl (lv_at L 0 rfl)) ?_
          obtain ⟨b47, rfl, hp55⟩ := hp54
          refine x_pq X (kJ31 hG) 3 (by decide) q1303 (fun _ h => h) rfl (some b3) (x_nar _ (by decide)) (x_fit _ (by decide)) dJ1_rotateLeft_82 hp55 (fun σ48 hp56 => ?_)
          refine x_pc (pc' := 85) rfl ?_
          refine x_up (pc' := 86) (fun _ _ _ _ _ L => lv_aload_n hx hb dJ1_rotateLeft_85 rfl (lv_at L 0 rfl)) ?_
          refine x_up (pc' := 87) (fun _ _ _ _ _ L => lv_aload_n hx hb dJ1_rotateLeft_86 rfl (lv_at L 2 rfl)) ?_
          refine x_pq X (kJ31 hG) 2 (by decide) q1302 (fun _ h => h) rfl (some b1) (x_nar _ (by decide)) (x_fit _ (by decide)) dJ1_rotateLeft_87 hp56 (fun σ49 hp57 => ?_)
          refine x_pc (pc' := 90) rfl ?_
          refine x_up (pc' := 91) (fun _ _ _ _ _ L => lv_aload_n hx hb dJ1_rotateLeft_90 rfl (lv_at L 2 rfl)) ?_
          refine x_up (pc' := 92) (fun _ _ _ _ _ L => lv_aload_n hx hb dJ1_rotateLeft_91 rfl (lv_at L 0 rfl)) ?_
          refine x_pq X (kJ31 hG) 4 (by decide) q1305 (fun _ h => h) rfl (some b3) (x_nar _ (by decide)) (x_fit _ (by decide)) dJ1_rotateLeft_92 hp57 (fun σ50 hp58 => ?_)
          refine x_pc (pc' := 95) rfl ?_
          exact x_vret X hr dJ1_rotateLeft_95 hp58
-- J1_rotateRight
def P_J1_rotateRight (κ : Nat → Nat) (a0 : Nat) (x1 : Option Nat) (σ : xS) (K : Unit → xH → Prop) : Prop :=
  ((x1 = none → (K () σ.1)) ∧ (∀ b1 : Nat, x1 = some b1 → (xgq σ b1 19 2 fun v2 => xnn v2 fun b3 => xgq σ b3 19 3 fun v4 => xpq κ σ b1 19 2 v4 fun σ5 => xgq σ5 b3 19 3 fun v6 => ((v6 = none → (xgq σ5 b1 19 4 fun v8 => xpq κ σ5 b3 19 4 v8 fun σ9 => xgq σ9 b1 19 4 fun v10 => ((v10 = none → (xpq κ σ9 a0 2 3 (some b3) fun σ12 => xpq κ σ12 b3 19 3 (some b1) fun σ13 => xpq κ σ13 b1 19 4 (some b3) fun σ14 => K () σ14.1)) ∧ (∀ b11 : Nat, v10 = some b11 → (xgq σ9 b1 19 4 fun v15 => xnn v15 fun b16 => xgq σ9 b16 19 3 fun v17 => ((v17 = (some b1) → (xgq σ9 b1 19 4 fun v18 => xnn v18 fun b19 => xpq κ σ9 b19 19 3 (some b3) fun σ20 => xpq κ σ20 b3 19 3 (some b1) fun σ21 => xpq κ σ21 b1 19 4 (some b3) fun σ22 => K () σ22.1)) ∧ (¬ v17 = (some b1) → (xgq σ9 b1 19 4 fun v23 => xnn v23 fun b24 => xpq κ σ9 b24 19 2 (some b3) fun σ25 => xpq κ σ25 b3 19 3 (some b1) fun σ26 => xpq κ σ26 b1 19 4 (some b3) fun σ27 => K () σ27.1)))))))) ∧ (∀ b7 : Nat, v6 = some b7 → (xgq σ5 b3 19 3 fun v28 => xnn v28 fun b29 => xpq κ σ5 b29 19 4 (some b1) fun σ30 => xgq σ30 b1 19 4 fun v31 => xpq κ σ30 b3 19 4 v31 fun σ32 => xgq σ32 b1 19 4 fun v33 => ((v33 = none → (xpq κ σ32 a0 2 3 (some b3) fun σ35 => xpq κ σ35 b3 19 3 (some b1) fun σ36 => xpq κ σ36 b1 19 4 (some b3) fun σ37 => K () σ37.1)) ∧ (∀ b34 : Nat, v33 = some b34 → (xgq σ32 b1 19 4 fun v38 => xnn v38 fun b39 => xgq σ32 b39 19 3 fun v40 => ((v40 = (some b1) → (xgq σ32 b1 19 4 fun v41 => xnn v41 fun b42 => xpq κ σ32 b42 19 3 (some b3) fun σ43 => xpq κ σ43 b3 19 3 (some b1) fun σ44 => xpq κ σ44 b1 19 4 (some b3) fun σ45 => K () σ45.1)) ∧ (¬ v40 = (some b1) → (xgq σ32 b1 19 4 fun v46 => xnn v46 fun b47 => xpq κ σ32 b47 19 2 (some b3) fun σ48 => xpq κ σ48 b3 19 3 (some b1) fun σ49 => xpq κ σ49 b1 19 4 (some b3) fun σ50 => K () σ50.1))))))))))))
theorem mdJ1_rotateRight : yJ1_rotateRight.cls ≠ "java/lang/invoke/MethodHandle" ∧ yJ1_rotateRight.cls ≠ "java/lang/invoke/VarHandle" ∧ (parseMethodDescriptor yJ1_rotateRight.desc).map (fun d => d.parameters.length) = some 1 := by decide +kernel
set_option maxHeartbeats 4000000 in
set_option maxRecDepth 100000 in
theorem R_J1_rotateRight (l : Launch) (hl : l.stackTraces = false) (G : xG) (hG : G.1.2 = x_cl) (a0 : Nat) (x1 : Option Nat) (σ : xS) (K : Unit → xH → Prop) (hp : P_J1_rotateRight G.2 a0 x1 σ K) : xM l yJ1_rotateRight cJ1_rotateRight 3 (Option.none : Option Jvm.ClassFile.FieldType) 0 0 G [(.ref a0), va_rf x1] σ (xlift emV K) := by
  refine x_entry (by decide) (by simp [lg_sl, x_catq, x_cati, x_catr, x_catn]) ?_
  intro p e s m args below meth c X hr hin
  have X : xX p s m args meth c G cJ1_rotateRight 3 RJ1 := X
  have hx := X.1
  have hb := X.2.1
  have hts := X.2.2.2.2.1
  have hown := X.2.2.2.1
  unfold P_J1_rotateRight at hp
  refine x_same (lo' := [(0, .ref a0), (1, va_rf x1)]) (by simp [lv_args, x_catq, x_cati, x_catr, x_catn]) ?_
  refine x_up (pc' := 1) (fun _ _ _ _ _ L => lv_aloadq_n hx hb dJ1_rotateRight_0 rfl (lv_at L 1 rfl)) ?_
  rcases x1 with _ | b1
  · have hp1 := hp.1 rfl
    refine x_up (pc' := 95) (fun _ _ _ _ _ L => lv_ifnullN (tgt := 95) hx hb dJ1_rotateRight_1 (by decide)) ?_
    exact x_vret X hr dJ1_rotateRight_95 hp1
  · have hp2 := hp.2 _ rfl
    refine x_up (pc' := 4) (fun _ _ _ _ _ L => lv_ifnull hx hb dJ1_rotateRight_1) ?_
    refine x_up (pc' := 5) (fun _ _ _ _ _ L => lv_aload_n hx hb dJ1_rotateRight_4 rfl (lv_at L 1 rfl)) ?_
    refine x_gq X (kJ31 hG) 2 (by decide) q1302 (fun _ h => h) dJ1_rotateRight_5 hp2 (fun v2 hp3 => ?_)
    refine x_pc (pc' := 8) rfl ?_
    refine x_upL (pc' := 9) (lo' := [(2, va_rf v2), (0, .ref a0), (1, .ref b1)]) (fun _ _ _ _ _ L => lv_astoreq_n hx hb dJ1_rotateRight_8 rfl L (by decide) rfl) ?_
    refine x_up (pc' := 10) (fun _ _ _ _ _ L => lv_aload_n hx hb dJ1_rotateRight_9 rfl (lv_at L 2 rfl)) ?_
    refine x_up (pc' := 11) (fun _ _ _ _ _ L => lv_aloadq_n hx hb dJ1_rotateRight_10 rfl (lv_at L 0 rfl)) ?_
    obtain ⟨b3, rfl, hp4⟩ := hp3
    refine x_gq X (kJ31 hG) 3 (by decide) q1303 (fun _ h => h) dJ1_rotateRight_11 hp4 (fun v4 hp5 => ?_)
    refine x_pc (pc' := 14) rfl ?_
    refine x_pq X (kJ31 hG) 2 (by decide) q1302 (fun _ h => h) rfl v4 (x_nar _ (by decide)) (x_fit _ (by decide)) dJ1_rotateRight_14 hp5 (fun σ5 hp6 => ?_)
    refine x_pc (pc' := 17) rfl ?_
    refine x_up (pc' := 18) (fun _ _ _ _ _ L => lv_aload_n hx hb dJ1_rotateRight_17 rfl (lv_at L 0 rfl)) ?_
    refine x_gq X (kJ31 hG) 3 (by decide) q1303 (fun _ h => h) dJ1_rotateRight_18 hp6 (fun v6 hp7 => ?_)
    refine x_pc (pc' := 21) rfl ?_
    rcases v6 with _ | b7
    · have hp8 := hp7.1 rfl
      refine x_up (pc' := 32) (fun _ _ _ _ _ L => lv_ifnullN (tgt := 32) hx hb dJ1_rotateRight_21 (by decide)) ?_
      refine x_up (pc' := 33) (fun _ _ _ _ _ L => lv_aload_n hx hb dJ1_rotateRight_32 rfl (lv_at L 0 rfl)) ?_
      refine x_up (pc' := 34) (fun _ _ _ _ _ L => lv_aload_n hx hb dJ1_rotateRight_33 rfl (lv_at L 2 rfl)) ?_
      refine x_gq X (kJ31 hG) 4 (by decide) q1305 (fun _ h => h) dJ1_rotateRight_34 hp8 (fun v8 hp9 => ?_)
      refine x_pc (pc' := 37) rfl ?_
      refine x_pq X (kJ31 hG) 4 (by decide) q1305 (fun _ h => h) rfl v8 (x_nar _ (by decide)) (x_fit _ (by decide)) dJ1_rotateRight_37 hp9 (fun σ9 hp10 => ?_)
      refine x_pc (pc' := 40) rfl ?_
      refine x_up (pc' := 41) (fun _ _ _ _ _ L => lv_aload_n hx hb dJ1_rotateRight_40 rfl (lv_at L 2 rfl)) ?_
      refine x_gq X (kJ31 hG) 4 (by decide) q1305 (fun _ h => h) dJ1_rotateRight_41 hp10 (fun v10 hp11 => ?_)
      refine x_pc (pc' := 44) rfl ?_
      rcases v10 with _ | b11
      · have hp12 := hp11.1 rfl
        refine x_up (pc' := 47) (fun _ _ _ _ _ L => lv_ifnonnullN hx hb dJ1_rotateRight_44) ?_
        refine x_up (pc' := 48) (fun _ _ _ _ _ L => lv_aload_n hx hb dJ1_rotateRight_47 rfl (lv_at L 1 rfl)) ?_
        refine x_up (pc' := 49) (fun _ _ _ _ _ L => lv_aload_n hx hb dJ1_rotateRight_48 rfl (lv_at L 0 rfl)) ?_
        refine x_pq X (kJ1 hG) 3 (by decide) q188 (fun _ h => h) rfl (some b3) (x_nar _ (by decide)) (x_fit _ (by decide)) dJ1_rotateRight_49 hp12 (fun σ12 hp13 => ?_)
        refine x_pc (pc' := 52) rfl ?_
        refine x_up (pc' := 85) (fun _ _ _ _ _ L => lv_goto (tgt := 85) hx hb dJ1_rotateRight_52 (by decide)) ?_
        refine x_up (pc' := 86) (fun _ _ _ _ _ L => lv_aload_n hx hb dJ1_rotateRight_85 rfl (lv_at L 0 rfl)) ?_
        refine x_up (pc' := 87) (fun _ _ _ _ _ L => lv_aload_n hx hb dJ1_rotateRight_86 rfl (lv_at L 2 rfl)) ?_
        refine x_pq X (kJ31 hG) 3 (by decide) q1303 (fun _ h => h) rfl (some b1) (x_nar _ (by decide)) (x_fit _ (by decide)) dJ1_rotateRight_87 hp13 (fun σ13 hp14 => ?_)
        refine x_pc (pc' := 90) rfl ?_
        refine x_up (pc' := 91) (fun _ _ _ _ _ L => lv_aload_n hx hb dJ1_rotateRight_90 rfl (lv_at L 2 rfl)) ?_
        refine x_up (pc' := 92) (fun _ _ _ _ _ L => lv_aload_n hx hb dJ1_rotateRight_91 rfl (lv_at L 0 rfl)) ?_
        refine x_pq X (kJ31 hG) 4 (by decide) q1305 (fun _ h => h) rfl (some b3) (x_nar _ (by decide)) (x_fit _ (by decide)) dJ1_rotateRight_92 hp14 (fun σ14 hp15 => ?_)
        refine x_pc (pc' := 95) rfl ?_
        exact x_vret X hr dJ1_rotateRight_95 hp15
      · have hp16 := hp11.2 _ rfl
        refine x_up (pc' := 55) (fun _ _ _ _ _ L => lv_ifnonnull (tgt := 55) hx hb dJ1_rotateRight_44 (by decide)) ?_
        refine x_up (pc' := 56) (fun _ _ _ _ _ L => lv_aload_n hx hb dJ1_rotateRight_55 rfl (lv_at L 2 rfl)) ?_
        refine x_gq X (kJ31 hG) 4 (by decide) q1305 (fun _ h => h) dJ1_rotateRight_56 hp16 (fun v15 hp17 => ?_)
        refine x_pc (pc' := 59) rfl ?_
        obtain ⟨b16, rfl, hp18⟩ := hp17
        refine x_gq X (kJ31 hG) 3 (by decide) q1303 (fun _ h => h) dJ1_rotateRight_59 hp18 (fun v17 hp19 => ?_)
        refine x_pc (pc' := 62) rfl ?_
        refine x_up (pc' := 63) (fun _ _ _ _ _ L => lv_aload_n hx hb dJ1_rotateRight_62 rfl (lv_at L 2 rfl)) ?_
        refine x_ifn (C := v17 = (some b1)) (pt := 77) (pc' := 66) (fun _ _ _ _ _ => lv_acmp_ne (rx := v17) (ry := (some b1)) (tgt := 77) hx hb dJ1_rotateRight_63 (by decide)) (fun c63 => ?_) (fun c63 => ?_)
        · have hp20 := hp19.1 c63
          refine x_up (pc' := 67) (fun _ _ _ _ _ L => lv_aload_n hx hb dJ1_rotateRight_66 rfl (lv_at L 2 rfl)) ?_
          refine x_gq X (kJ31 hG) 4 (by decide) q1305 (fun _ h => h) dJ1_rotateRight_67 hp20 (fun v18 hp21 => ?_)
          refine x_pc (pc' := 70) rfl ?_
          refine x_up (pc' := 71) (fun _ _ _ _ _ L => lv_aload_n hx hb dJ1_rotateRight_70 rfl (lv_at L 0 rfl)) ?_
          obtain ⟨b19, rfl, hp22⟩ := hp21
          refine x_pq X (kJ31 hG) 3 (by decide) q1303 (fun _ h => h) rfl (some b3) (x_nar _ (by decide)) (x_fit _ (by decide)) dJ1_rotateRight_71 hp22 (fun σ20 hp23 => ?_)
          refine x_pc (pc' := 74) rfl ?_
          refine x_up (pc' := 85) (fun _ _ _ _ _ L => lv_goto (tgt := 85) hx hb dJ1_rotateRight_74 (by decide)) ?_
          refine x_up (pc' := 86) (fun _ _ _ _ _ L => lv_aload_n hx hb dJ1_rotateRight_85 rfl (lv_at L 0 rfl)) ?_
          refine x_up (pc' := 87) (fun _ _ _ _ _ L => lv_aload_n hx hb dJ1_rotateRight_86 rfl (lv_at L 2 rfl)) ?_
          refine x_pq X (kJ31 hG) 3 (by decide) q1303 (fun _ h => h) rfl (some b1) (x_nar _ (by decide)) (x_fit _ (by decide)) dJ1_rotateRight_87 hp23 (fun σ21 hp24 => ?_)
          refine x_pc (pc' := 90) rfl ?_
          refine x_up (pc' := 91) (fun _ _ _ _ _ L => lv_aload_n hx hb dJ1_rotateRight_90 rfl (lv_at L 2 rfl)) ?_
          refine x_up (pc' := 92) (fun _ _ _ _ _ L => lv_aload_n hx hb dJ1_rotateRight_91 rfl (lv_at L 0 rfl)) ?_
          refine x_pq X (kJ31 hG) 4 (by decide) q1305 (fun _ h => h) rfl (some b3) (x_nar _ (by decide)) (x_fit _ (by decide)) dJ1_rotateRight_92 hp24 (fun σ22 hp25 => ?_)
          refine x_pc (pc' := 95) rfl ?_
          exact x_vret X hr dJ1_rotateRight_95 hp25
        · have hp26 := hp19.2 c63
          refine x_up (pc' := 78) (fun _ _ _ _ _ L => lv_aload_n hx hb dJ1_rotateRight_77 rfl (lv_at L 2 rfl)) ?_
          refine x_gq X (kJ31 hG) 4 (by decide) q1305 (fun _ h => h) dJ1_rotateRight_78 hp26 (fun v23 hp27 => ?_)
          refine x_pc (pc' := 81) rfl ?_
          refine x_up (pc' := 82) (fun _ _ _ _ _ L => lv_aload_n hx hb dJ1_rotateRight_81 rfl (lv_at L 0 rfl)) ?_
          obtain ⟨b24, rfl, hp28⟩ := hp27
          refine x_pq X (kJ31 hG) 2 (by decide) q1302 (fun _ h => h) rfl (some b3) (x_nar _ (by decide)) (x_fit _ (by decide)) dJ1_rotateRight_82 hp28 (fun σ25 hp29 => ?_)
          refine x_pc (pc' := 85) rfl ?_
          refine x_up (pc' := 86) (fun _ _ _ _ _ L => lv_aload_n hx hb dJ1_rotateRight_85 rfl (lv_at L 0 rfl)) ?_
          refine x_up (pc' := 87) (fun _ _ _ _ _ L => lv_aload_n hx hb dJ1_rotateRight_86 rfl (lv_at L 2 rfl)) ?_
          refine x_pq X (kJ31 hG) 3 (by decide) q1303 (fun _ h => h) rfl (some b1) (x_nar _ (by decide)) (x_fit _ (by decide)) dJ1_rotateRight_87 hp29 (fun σ26 hp30 => ?_)
          refine x_pc (pc' := 90) rfl ?_
          refine x_up (pc' := 91) (fun _ _ _ _ _ L => lv_aload_n hx hb dJ1_rotateRight_90 rfl (lv_at L 2 rfl)) ?_
          refine x_up (pc' := 92) (fun _ _ _ _ _ L => lv_aload_n hx hb dJ1_rotateRight_91 rfl (lv_at L 0 rfl)) ?_
          refine x_pq X (kJ31 hG) 4 (by decide) q1305 (fun _ h => h) rfl (some b3) (x_nar _ (by decide)) (x_fit _ (by decide)) dJ1_rotateRight_92 hp30 (fun σ27 hp31 => ?_)
          refine x_pc (pc' := 95) rfl ?_
          exact x_vret X hr dJ1_rotateRight_95 hp31
    · have hp32 := hp7.2 _ rfl
      refine x_up (pc' := 24) (fun _ _ _ _ _ L => lv_ifnull hx hb dJ1_rotateRight_21) ?_
      refine x_up (pc' := 25) (fun _ _ _ _ _ L => lv_aload_n hx hb dJ1_rotateRight_24 rfl (lv_at L 0 rfl)) ?_
      refine x_gq X (kJ31 hG) 3 (by decide) q1303 (fun _ h => h) dJ1_rotateRight_25 hp32 (fun v28 hp33 => ?_)
      refine x_pc (pc' := 28) rfl ?_
      refine x_up (pc' := 29) (fun _ _ _ _ _ L => lv_aload_n hx hb dJ1_rotateRight_28 rfl (lv_at L 2 rfl)) ?_
      obtain ⟨b29, rfl, hp34⟩ := hp33
      refine x_pq X (kJ31 hG) 4 (by decide) q1305 (fun _ h => h) rfl (some b1) (x_nar _ (by decide)) (x_fit _ (by decide)) dJ1_rotateRight_29 hp34 (fun σ30 hp35 => ?_)
      refine x_pc (pc' := 32) rfl ?_
      refine x_up (pc' := 33) (fun _ _ _ _ _ L => lv_aload_n hx hb dJ1_rotateRight_32 rfl (lv_at L 0 rfl)) ?_
      refine x_up (pc' := 34) (fun _ _ _ _ _ L => lv_aload_n hx hb dJ1_rotateRight_33 rfl (lv_at L 2 rfl)) ?_
      refine x_gq X (kJ31 hG) 4 (by decide) q1305 (fun _ h => h) dJ1_rotateRight_34 hp35 (fun v31 hp36 => ?_)
      refine x_pc (pc' := 37) rfl ?_
      refine x_pq X (kJ31 hG) 4 (by decide) q1305 (fun _ h => h) rfl v31 (x_nar _ (by decide)) (x_fit _ (by decide)) dJ1_rotateRight_37 hp36 (fun σ32 hp37 => ?_)
      refine x_pc (pc' := 40) rfl ?_
      refine x_up (pc' := 41) (fun _ _ _ _ _ L => lv_aload_n hx hb dJ1_rotateRight_40 rfl (lv_at L 2 rfl)) ?_
      refine x_gq X (kJ31 hG) 4 (by decide) q1305 (fun _ h => h) dJ1_rotateRight_41 hp37 (fun v33 hp38 => ?_)
      refine x_pc (pc' := 44) rfl ?_
      rcases v33 with _ | b34
      · have hp39 := hp38.1 rfl
        refine x_up (pc' := 47) (fun _ _ _ _ _ L => lv_ifnonnullN hx hb dJ1_rotateRight_44) ?_
        refine x_up (pc' := 48) (fun _ _ _ _ _ L => lv_aload_n hx hb dJ1_rotateRight_47 rfl (lv_at L 1 rfl)) ?_
        refine x_up (pc' := 49) (fun _ _ _ _ _ L => lv_aload_n hx hb dJ1_rotateRight_48 rfl (lv_at L 0 rfl)) ?_
        refine x_pq X (kJ1 hG) 3 (by decide) q188 (fun _ h => h) rfl (some b3) (x_nar _ (by decide)) (x_fit _ (by decide)) dJ1_rotateRight_49 hp39 (fun σ35 hp40 => ?_)
        refine x_pc (pc' := 52) rfl ?_
        refine x_up (pc' := 85) (fun _ _ _ _ _ L => lv_goto (tgt := 85) hx hb dJ1_rotateRight_52 (by decide)) ?_
        refine x_up (pc' := 86) (fun _ _ _ _ _ L => lv_aload_n hx hb dJ1_rotateRight_85 rfl (lv_at L 0 rfl)) ?_
        refine x_up (pc' := 87) (fun _ _ _ _ _ L => lv_aload_n hx hb dJ1_rotateRight_86 rfl (lv_at L 2 rfl)) ?_
        refine x_pq X (kJ31 hG) 3 (by decide) q1303 (fun _ h => h) rfl (some b1) (x_nar _ (by decide)) (x_fit _ (by decide)) dJ1_rotateRight_87 hp40 (fun σ36 hp41 => ?_)
        refine x_pc (pc' := 90) rfl ?_
        refine x_up (pc' := 91) (fun _ _ _ _ _ L => lv_aload_n hx hb dJ1_rotateRight_90 rfl (lv_at L 2 rfl)) ?_
        refine x_up (pc' := 92) (fun _ _ _ _ _ L => lv_aload_n hx hb dJ1_rotateRight_91 rfl (lv_at L 0 rfl)) ?_
        refine x_pq X (kJ31 hG) 4 (by decide) q1305 (fun _ h => h) rfl (some b3) (x_nar _ (by decide)) (x_fit _ (by decide)) dJ1_rotateRight_92 hp41 (fun σ37 hp42 => ?_)
        refine x_pc (pc' := 95) rfl ?_
        exact x_vret X hr dJ1_rotateRight_95 hp42
      · have hp43 := hp38.2 _ rfl
        refine x_up (pc' := 55) (fun _ _ _ _ _ L => lv_ifnonnull (tgt := 55) hx hb dJ1_rotateRight_44 (by decide)) ?_
        refine x_up (pc' := 56) (fun _ _ _ _ _ L => lv_aload_n hx hb dJ1_rotateRight_55 rfl (lv_at L 2 rfl)) ?_
        refine x_gq X (kJ31 hG) 4 (by decide) q1305 (fun _ h => h) dJ1_rotateRight_56 hp43 (fun v38 hp44 => ?_)
        refine x_pc (pc' := 59) rfl ?_
        obtain ⟨b39, rfl, hp45⟩ := hp44
        refine x_gq X (kJ31 hG) 3 (by decide) q1303 (fun _ h => h) dJ1_rotateRight_59 hp45 (fun v40 hp46 => ?_)
        refine x_pc (pc' := 62) rfl ?_
        refine x_up (pc' := 63) (fun _ _ _ _ _ L => lv_aload_n hx hb dJ1_rotateRight_62 rfl (lv_at L 2 rfl)) ?_
        refine x_ifn (C := v40 = (some b1)) (pt := 77) (pc' := 66) (fun _ _ _ _ _ => lv_acmp_ne (rx := v40) (ry := (some b1)) (tgt := 77) hx hb dJ1_rotateRight_63 (by decide)) (fun c63 => ?_) (fun c63 => ?_)
        · have hp47 := hp46.1 c63
          refine x_up (pc' := 67) (fun _ _ _ _ _ L => lv_aload_n hx hb dJ1_rotateRight_66 rfl (lv_at L 2 rfl)) ?_
          refine x_gq X (kJ31 hG) 4 (by decide) q1305 (fun _ h => h) dJ1_rotateRight_67 hp47 (fun v41 hp48 => ?_)
          refine x_pc (pc' := 70) rfl ?_
          refine x_up (pc' := 71) (fun _ _ _ _ _ L => lv_aload_n hx hb dJ1_rotateRight_70 rfl (lv_at L 0 rfl)) ?_
          obtain ⟨b42, rfl, hp49⟩ := hp48
          refine x_pq X (kJ31 hG) 3 (by decide) q1303 (fun _ h => h) rfl (some b3) (x_nar _ (by decide)) (x_fit _ (by decide)) dJ1_rotateRight_71 hp49 (fun σ43 hp50 => ?_)
          refine x_pc (pc' := 74) rfl ?_
          refine x_up (pc' := 85) (fun _ _ _ _ _ L => lv_goto (tgt := 85) hx hb dJ1_rotateRight_74 (by decide)) ?_
          refine x_up (pc' := 86) (fun _ _ _ _ _ L => lv_aload_n hx hb dJ1_rotateRight_85 rfl (lv_at L 0 rfl)) ?_
          refine x_up (pc' := 87) (fun _ _ _ _ _ L => lv_aload_n hx hb dJ1_rotateRight_86 rfl (lv_at L 2 rfl)) ?_
          refine x_pq X (kJ31 hG) 3 (by decide) q1303 (fun _ h => h) rfl (some b1) (x_nar _ (by decide)) (x_fit _ (by decide)) dJ1_rotateRight_87 hp50 (fun σ44 hp51 => ?_)
          refine x_pc (pc' := 90) rfl ?_
          refine x_up (pc' := 91) (fun _ _ _ _ _ L => lv_aload_n hx hb dJ1_rotateRight_90 rfl (lv_at L 2 rfl)) ?_
          refine x_up (pc' := 92) (fun _ _ _ _ _ L => lv_aload_n hx hb dJ1_rotateRight_91 rfl (lv_at L 0 rfl)) ?_
          refine x_pq X (kJ31 hG) 4 (by decide) q1305 (fun _ h => h) rfl (some b3) (x_nar _ (by decide)) (x_fit _ (by decide)) dJ1_rotateRight_92 hp51 (fun σ45 hp52 => ?_)
          refine x_pc (pc' := 95) rfl ?_
          exact x_vret X hr dJ1_rotateRight_95 hp52
        · have hp53 := hp46.2 c63
          refine x_up (pc' := 78) (fun _ _ _ _ _ L => lv_aload_n hx hb dJ1_rotateRight_77 rfl (lv_at L 2 rfl)) ?_
          refine x_gq X (kJ31 hG) 4 (by decide) q1305 (fun _ h => h) dJ1_rotateRight_78 hp53 (fun v46 hp54 => ?_)
          refine x_pc (pc' := 81) rfl ?_
          refine x_up (pc' := 82) (fun _ _ _ _ _ L => lv_aload_n hx hb dJ1_rotateRight_81 rfl (lv_at L 0 rfl)) ?_
          obtain ⟨b47, rfl, hp55⟩ := hp54
          refine x_pq X (kJ31 hG) 2 (by decide) q1302 (fun _ h => h) rfl (some b3) (x_nar _ (by decide)) (x_fit _ (by decide)) dJ1_rotateRight_82 hp55 (fun σ48 hp56 => ?_)
          refine x_pc (pc' := 85) rfl ?_
          refine x_up (pc' := 86) (fun _ _ _ _ _ L => lv_aload_n hx hb dJ1_rotateRight_85 rfl (lv_at L 0 rfl)) ?_
          refine x_up (pc' := 87) (fun _ _ _ _ _ L => lv_aload_n hx hb dJ1_rotateRight_86 rfl (lv_at L 2 rfl)) ?_
          refine x_pq X (kJ31 hG) 3 (by decide) q1303 (fun _ h => h) rfl (some b1) (x_nar _ (by decide)) (x_fit _ (by decide)) dJ1_rotateRight_87 hp56 (fun σ49 hp57 => ?_)
          refine x_pc (pc' := 90) rfl ?_
          refine x_up (pc' := 91) (fun _ _ _ _ _ L => lv_aload_n hx hb dJ1_rotateRight_90 rfl (lv_at L 2 rfl)) ?_
          refine x_up (pc' := 92) (fun _ _ _ _ _ L => lv_aload_n hx hb dJ1_rotateRight_91 rfl (lv_at L 0 rfl)) ?_
          refine x_pq X (kJ31 hG) 4 (by decide) q1305 (fun _ h => h) rfl (some b3) (x_nar _ (by decide)) (x_fit _ (by decide)) dJ1_rotateRight_92 hp57 (fun σ50 hp58 => ?_)
          refine x_pc (pc' := 95) rfl ?_
          exact x_vret X hr dJ1_rotateRight_95 hp58
-- J1_fixAfterInsertion
def B_J1_fixAfterInsertion_5 (κ : Nat → Nat) (K : Unit → xH → Prop) (f0 : Nat) : ((Option Nat) → xS → Prop) → (Option Nat) → xS → Prop := fun self6003 w6001 σ6002 =>
  ((w6001 = none → (xgq σ6002 f0 2 3 fun v6005 => xnn v6005 fun b6006 => xpi κ σ6002 b6006 19 5 (1 : Int32) fun σ6007 => K () σ6007.1)) ∧ (∀ b6004 : Nat, w6001 = some b6004 → (xgq σ6002 f0 2 3 fun v6008 => (((some b6004) = v6008 → (xgq σ6002 f0 2 3 fun v6009 => xnn v6009 fun b6010 => xpi κ σ6002 b6010 19 5 (1 : Int32) fun σ6011 => K () σ6011.1)) ∧ (¬ (some b6004) = v6008 → (xgq σ6002 b6004 19 4 fun v6012 => xnn v6012 fun b6013 => xgi σ6002 b6013 19 5 fun v6014 => ((v6014 = 0 → (xcall (fun τ L => P_J1_parentOf κ (some b6004) τ L) σ6002 fun v6015 σ6016 => xcall (fun τ L => P_J1_parentOf κ (some b6004) τ L) σ6016 fun v6017 σ6018 => xcall (fun τ L => P_J1_parentOf κ v6017 τ L) σ6018 fun v6019 σ6020 => xcall (fun τ L => P_J1_leftOf κ v6019 τ L) σ6020 fun v6021 σ6022 => ((v6015 = v6021 → (xcall (fun τ L => P_J1_parentOf κ (some b6004) τ L) σ6022 fun v6023 σ6024 => xcall (fun τ L => P_J1_parentOf κ v6023 τ L) σ6024 fun v6025 σ6026 => xcall (fun τ L => P_J1_rightOf κ v6025 τ L) σ6026 fun v6027 σ6028 => xcall (fun τ L => P_J1_colorOf κ v6027 τ L) σ6028 fun v6029 σ6030 => ((v6029 = 0 → (xcall (fun τ L => P_J1_parentOf κ (some b6004) τ L) σ6030 fun v6031 σ6032 => xcall (fun τ L => P_J1_setColor κ v6031 (1 : Int32) τ L) σ6032 fun _ σ6033 => xcall (fun τ L => P_J1_setColor κ v6027 (1 : Int32) τ L) σ6033 fun _ σ6034 => xcall (fun τ L => P_J1_parentOf κ (some b6004) τ L) σ6034 fun v6035 σ6036 => xcall (fun τ L => P_J1_parentOf κ v6035 τ L) σ6036 fun v6037 σ6038 => xcall (fun τ L => P_J1_setColor κ v6037 (0 : Int32) τ L) σ6038 fun _ σ6039 => xcall (fun τ L => P_J1_parentOf κ (some b6004) τ L) σ6039 fun v6040 σ6041 => xcall (fun τ L => P_J1_parentOf κ v6040 τ L) σ6041 fun v6042 σ6043 => self6003 v6042 σ6043)) ∧ (¬ v6029 = 0 → (xcall (fun τ L => P_J1_parentOf κ (some b6004) τ L) σ6030 fun v6044 σ6045 => xcall (fun τ L => P_J1_rightOf κ v6044 τ L) σ6045 fun v6046 σ6047 => (((some b6004) = v6046 → (xcall (fun τ L => P_J1_parentOf κ (some b6004) τ L) σ6047 fun v6048 σ6049 => xrc σ6049 f0 2 ∧ xcall (fun τ L => P_J1_rotateLeft κ f0 v6048 τ L) σ6049 fun _ σ6050 => xcall (fun τ L => P_J1_parentOf κ v6048 τ L) σ6050 fun v6051 σ6052 => xcall (fun τ L => P_J1_setColor κ v6051 (1 : Int32) τ L) σ6052 fun _ σ6053 => xcall (fun τ L => P_J1_parentOf κ v6048 τ L) σ6053 fun v6054 σ6055 => xcall (fun τ L => P_J1_parentOf κ v6054 τ L) σ6055 fun v6056 σ6057 => xcall (fun τ L => P_J1_setColor κ v6056 (0 : Int32) τ L) σ6057 fun _ σ6058 => xcall (fun τ L => P_J1_parentOf κ v6048 τ L) σ6058 fun v6059 σ6060 => xcall (fun τ L => P_J1_parentOf κ v6059 τ L) σ6060 fun v6061 σ6062 => xrc σ6062 f0 2 ∧ xcall (fun τ L => P_J1_rotateRight κ f0 v6061 τ L) σ6062 fun _ σ6063 => self6003 v6048 σ6063)) ∧ (¬ (some b6004) = v6046 → (xcall (fun τ L => P_J1_parentOf κ (some b6004) τ L) σ6047 fun v6064 σ6065 => xcall (fun τ L => P_J1_setColor κ v6064 (1 : Int32) τ L) σ6065 fun _ σ6066 => xcall (fun τ L => P_J1_parentOf κ (some b6004) τ L) σ6066 fun v6067 σ6068 => xcall (fun τ L => P_J1_parentOf κ v6067 τ L) σ6068 fun v6069 σ6070 => xcall (fun τ L => P_J1_setColor κ v6069 (0 : Int32) τ L) σ6070 fun _ σ6071 => xcall (fun τ L => P_J1_parentOf κ (some b6004) τ L) σ6071 fun v6072 σ6073 => xcall (fun τ L => P_J1_parentOf κ v6072 τ L) σ6073 fun v6074 σ6075 => xrc σ6075 f0 2 ∧ xcall (fun τ L => P_J1_rotateRight κ f0 v6074 τ L) σ6075 fun _ σ6076 => self6003 (some b6004) σ6076)))))))) ∧ (¬ v6015 = v6021 → (xcall (fun τ L => P_J1_parentOf κ (some b6004) τ L) σ6022 fun v6077 σ6078 => xcall (fun τ L => P_J1_parentOf κ v6077 τ L) σ6078 fun v6079 σ6080 => xcall (fun τ L => P_J1_leftOf κ v6079 τ L) σ6080 fun v6081 σ6082 => xcall (fun τ L => P_J1_colorOf κ v6081 τ L) σ6082 fun v6083 σ6084 => ((v6083 = 0 → (xcall (fun τ L => P_J1_parentOf κ (some b6004) τ L) σ6084 fun v6085 σ6086 => xcall (fun τ L => P_J1_setColor κ v6085 (1 : Int32) τ L) σ6086 fun _ σ6087 => xcall (fun τ L => P_J1_setColor κ v6081 (1 : Int32) τ L) σ6087 fun _ σ6088 => xcall (fun τ L => P_J1_parentOf κ (some b6004) τ L) σ6088 fun v6089 σ6090 => xcall (fun τ L => P_J1_parentOf κ v6089 τ L) σ6090 fun v6091 σ6092 => xcall (fun τ L => P_J1_setColor κ v6091 (0 : Int32) τ L) σ6092 fun _ σ6093 => xcall (fun τ L => P_J1_parentOf κ (some b6004) τ L) σ6093 fun v6094 σ6095 => xcall (fun τ L => P_J1_parentOf κ v6094 τ L) σ6095 fun v6096 σ6097 => self6003 v6096 σ6097)) ∧ (¬ v6083 = 0 → (xcall (fun τ L => P_J1_parentOf κ (some b6004) τ L) σ6084 fun v6098 σ6099 => xcall (fun τ L => P_J1_leftOf κ v6098 τ L) σ6099 fun v6100 σ6101 => (((some b6004) = v6100 → (xcall (fun τ L => P_J1_parentOf κ (some b6004) τ L) σ6101 fun v6102 σ6103 => xrc σ6103 f0 2 ∧ xcall (fun τ L => P_J1_rotateRight κ f0 v6102 τ L) σ6103 fun _ σ6104 => xcall (fun τ L => P_J1_parentOf κ v6102 τ L) σ6104 fun v6105 σ6106 => xcall (fun τ L => P_J1_setColor κ v6105 (1 : Int32) τ L) σ6106 fun _ σ6107 => xcall (fun τ L => P_J1_parentOf κ v6102 τ L) σ6107 fun v6108 σ6109 => xcall (fun τ L => P_J1_parentOf κ v6108 τ L) σ6109 fun v6110 σ6111 => xcall (fun τ L => P_J1_setColor κ v6110 (0 : Int32) τ L) σ6111 fun _ σ6112 => xcall (fun τ L => P_J1_parentOf κ v6102 τ L) σ6112 fun v6113 σ6114 => xcall (fun τ L => P_J1_parentOf κ v6113 τ L) σ6114 fun v6115 σ6116 => xrc σ6116 f0 2 ∧ xcall (fun τ L => P_J1_rotateLeft κ f0 v6115 τ L) σ6116 fun _ σ6117 => self6003 v6102 σ6117)) ∧ (¬ (some b6004) = v6100 → (xcall (fun τ L => P_J1_parentOf κ (some b6004) τ L) σ6101 fun v6118 σ6119 => xcall (fun τ L => P_J1_setColor κ v6118 (1 : Int32) τ L) σ6119 fun _ σ6120 => xcall (fun τ L => P_J1_parentOf κ (some b6004) τ L) σ6120 fun v6121 σ6122 => xcall (fun τ L => P_J1_parentOf κ v6121 τ L) σ6122 fun v6123 σ6124 => xcall (fun τ L => P_J1_setColor κ v6123 (0 : Int32) τ L) σ6124 fun _ σ6125 => xcall (fun τ L => P_J1_parentOf κ (some b6004) τ L) σ6125 fun v6126 σ6127 => xcall (fun τ L => P_J1_parentOf κ v6126 τ L) σ6127 fun v6128 σ6129 => xrc σ6129 f0 2 ∧ xcall (fun τ L => P_J1_rotateLeft κ f0 v6128 τ L) σ6129 fun _ σ6130 => self6003 (some b6004) σ6130))))))))))) ∧ (¬ v6014 = 0 → (xgq σ6002 f0 2 3 fun v6131 => xnn v6131 fun b6132 => xpi κ σ6002 b6132 19 5 (1 : Int32) fun σ6133 => K () σ6133.1)))))))))
def P_J1_fixAfterInsertion (κ : Nat → Nat) (a0 : Nat) (x1 : Option Nat) (σ : xS) (K : Unit → xH → Prop) : Prop :=
  xnn x1 fun b1 => xpi κ σ b1 19 5 (0 : Int32) fun σ2 => xwhile (B_J1_fixAfterInsertion_5 κ K a0) (some b1) σ2
theorem mdJ1_fixAfterInsertion : yJ1_fixAfterInsertion.cls ≠ "java/lang/invoke/MethodHandle" ∧ yJ1_fixAfterInsertion.cls ≠ "java/lang/invoke/VarHandle" ∧ (parseMethodDescriptor yJ1_fixAfterInsertion.desc).map (fun d => d.parameters.length) = some 1 := by decide +kernel
set_option maxHeartbeats 4000000 in
set_option maxRecDepth 100000 in
theorem R_J1_fixAfterInsertion (l : Launch) (hl : l.stackTraces = false) (G : xG) (hG : G.1.2 = x_cl) (a0 : Nat) (x1 : Option Nat) (σ : xS) (K : Unit → xH → Prop) (hp : P_J1_fixAfterInsertion G.2 a0 x1 σ K) : xM l yJ1_fixAfterInsertion cJ1_fixAfterInsertion 3 (Option.none : Option Jvm.ClassFile.FieldType) 1 22 G [(.ref a0), va_rf x1] σ (xlift emV K) := by
  refine x_entry (by decide) (by simp [lg_sl, x_catq, x_cati, x_catr, x_catn]) ?_
  intro p e s m args below meth c X hr hin
  have X : xX p s m args meth c G cJ1_fixAfterInsertion 3 RJ1 := X
  have hx := X.1
  have hb := X.2.1
  have hts := X.2.2.2.2.1
  have hown := X.2.2.2.1
  unfold P_J1_fixAfterInsertion at hp
  refine x_same (lo' := [(0, .ref a0), (1, va_rf x1)]) (by simp [lv_args, x_catq, x_cati, x_catr, x_catn]) ?_
  refine x_up (pc' := 1) (fun _ _ _ _ _ L => lv_aloadq_n hx hb dJ1_fixAfterInsertion_0 rfl (lv_at L 1 rfl)) ?_
  refine x_up (pc' := 2) (fun _ _ _ _ _ L => lv_iconst (v := (0 : Int32)) hx hb dJ1_fixAfterInsertion_1 (by decide)) ?_
  obtain ⟨b1, rfl, hp1⟩ := hp
  refine x_pi X (kJ31 hG) 5 (by decide) q1307 (fun _ h => h) rfl rfl rfl dJ1_fixAfterInsertion_2 hp1 (fun σ2 hp2 => ?_)
  refine x_pc (pc' := 5) rfl ?_
  refine x_lo (lo' := [(1, .ref b1), (0, .ref a0)]) [1, 0] rfl ?_
  refine x_while (v0 := (some b1)) (fun w3 => [(1, va_rf w3), (0, .ref a0)]) hp2 (fun self4 hself5 => ?_)
  rintro y7 σ6 hp3
  unfold B_J1_fixAfterInsertion_5 at hp3
  refine x_same (lo' := [(1, va_rf y7), (0, .ref a0)]) rfl ?_
  refine x_up (pc' := 6) (fun _ _ _ _ _ L => lv_aloadq_n hx hb dJ1_fixAfterInsertion_5 rfl (lv_at L 0 rfl)) ?_
  rcases y7 with _ | b8
  · have hp4 := hp3.1 rfl
    refine x_up (pc' := 258) (fun _ _ _ _ _ L => lv_ifnullN (tgt := 258) hx hb dJ1_fixAfterInsertion_6 (by decide)) ?_
    refine x_up (pc' := 259) (fun _ _ _ _ _ L => lv_aload_n hx hb dJ1_fixAfterInsertion_258 rfl (lv_at L 1 rfl)) ?_
    refine x_gq X (kJ1 hG) 3 (by decide) q188 (fun _ h => h) dJ1_fixAfterInsertion_259 hp4 (fun v9 hp5 => ?_)
    refine x_pc (pc' := 262) rfl ?_
    refine x_up (pc' := 263) (fun _ _ _ _ _ L => lv_iconst (v := (1 : Int32)) hx hb dJ1_fixAfterInsertion_262 (by decide)) ?_
    obtain ⟨b10, rfl, hp6⟩ := hp5
    refine x_pi X (kJ31 hG) 5 (by decide) q1307 (fun _ h => h) rfl rfl rfl dJ1_fixAfterInsertion_263 hp6 (fun σ11 hp7 => ?_)
    refine x_pc (pc' := 266) rfl ?_
    exact x_vret X hr dJ1_fixAfterInsertion_266 hp7
  · have hp8 := hp3.2 _ rfl
    refine x_up (pc' := 9) (fun _ _ _ _ _ L => lv_ifnull hx hb dJ1_fixAfterInsertion_6) ?_
    refine x_up (pc' := 10) (fun _ _ _ _ _ L => lv_aload_n hx hb dJ1_fixAfterInsertion_9 rfl (lv_at L 0 rfl)) ?_
    refine x_up (pc' := 11) (fun _ _ _ _ _ L => lv_aload_n hx hb dJ1_fixAfterInsertion_10 rfl (lv_at L 1 rfl)) ?_
    refine x_gq X (kJ1 hG) 3 (by decide) q188 (fun _ h => h) dJ1_fixAfterInsertion_11 hp8 (fun v12 hp9 => ?_)
    refine x_pc (pc' := 14) rfl ?_
    refine x_if (C := (some b8) = v12) (pt := 258) (pc' := 17) (fun _ _ _ _ _ => lv_acmp_eq (rx := (some b8)) (ry := v12) (tgt := 258) hx hb dJ1_fixAfterInsertion_14 (by decide)) (fun c14 => ?_) (fun c14 => ?_)
    · have hp10 := hp9.1 c14
      refine x_up (pc' := 259) (fun _ _ _ _ _ L => lv_aload_n hx hb dJ1_fixAfterInsertion_258 rfl (lv_at L 1 rfl)) ?_
      refine x_gq X (kJ1 hG) 3 (by decide) q188 (fun _ h => h) dJ1_fixAfterInsertion_259 hp10 (fun v13 hp11 => ?_)
      refine x_pc (pc' := 262) rfl ?_
      refine x_up (pc' := 263) (fun _ _ _ _ _ L => lv_iconst (v := (1 : Int32)) hx hb dJ1_fixAfterInsertion_262 (by decide)) ?_
      obtain ⟨b14, rfl, hp12⟩ := hp11
      refine x_pi X (kJ31 hG) 5 (by decide) q1307 (fun _ h => h) rfl rfl rfl dJ1_fixAfterInsertion_263 hp12 (fun σ15 hp13 => ?_)
      refine x_pc (pc' := 266) rfl ?_
      exact x_vret X hr dJ1_fixAfterInsertion_266 hp13
    · have hp14 := hp9.2 c14
      refine x_up (pc' := 18) (fun _ _ _ _ _ L => lv_aload_n hx hb dJ1_fixAfterInsertion_17 rfl (lv_at L 0 rfl)) ?_
      refine x_gq X (kJ31 hG) 4 (by decide) q1305 (fun _ h => h) dJ1_fixAfterInsertion_18 hp14 (fun v16 hp15 => ?_)
      refine x_pc (pc' := 21) rfl ?_
      obtain ⟨b17, rfl, hp16⟩ := hp15
      refine x_gi X (kJ31 hG) 5 (by decide) q1307 (fun _ h => h) dJ1_fixAfterInsertion_21 hp16 (fun v18 hp17 => ?_)
      refine x_pc (pc' := 24) rfl ?_
      refine x_ifn (C := v18 = 0) (pt := 258) (pc' := 27) (fun _ _ _ _ _ => lv_if_ne (tgt := 258) hx hb dJ1_fixAfterInsertion_24 (by decide)) (fun c24 => ?_) (fun c24 => ?_)
      · have hp18 := hp17.1 c24
        refine x_up (pc' := 28) (fun _ _ _ _ _ L => lv_aload_n hx hb dJ1_fixAfterInsertion_27 rfl (lv_at L 0 rfl)) ?_
        refine x_callS (em := emQ) (fun r st => va_rf r :: st) (fun _ _ => rfl) 1 X (fun σ' KK h => R_J1_parentOf l hl G hG (some b8) σ' KK h) (lw_S q1673 q1674 q102 q1675) mdJ1_parentOf ⟨Nat.le_of_ble_eq_true rfl, Nat.le_of_ble_eq_true rfl⟩ rfl rfl (Nat.le_of_ble_eq_true rfl) dJ1_fixAfterInsertion_28 hp18 (fun v19 σ20 hp19 => ?_)
        refine x_pc (pc' := 31) rfl ?_
        refine x_up (pc' := 32) (fun _ _ _ _ _ L => lv_aload_n hx hb dJ1_fixAfterInsertion_31 rfl (lv_at L 0 rfl)) ?_
        refine x_callS (em := emQ) (fun r st => va_rf r :: st) (fun _ _ => rfl) 1 X (fun σ' KK h => R_J1_parentOf l hl G hG (some b8) σ' KK h) (lw_S q1673 q1674 q102 q1675) mdJ1_parentOf ⟨Nat.le_of_ble_eq_true rfl, Nat.le_of_ble_eq_true rfl⟩ rfl rfl (by simp only [List.map_cons, List.map_nil, List.sum_cons, List.sum_nil, x_catq, x_cati, x_catr, x_catn] <;> decide) dJ1_fixAfterInsertion_32 hp19 (fun v21 σ22 hp20 => ?_)
        refine x_pc (pc' := 35) rfl ?_
        refine x_callS (em := emQ) (fun r st => va_rf r :: st) (fun _ _ => rfl) 1 X (fun σ' KK h => R_J1_parentOf l hl G hG v21 σ' KK h) (lw_S q1673 q1674 q102 q1675) mdJ1_parentOf ⟨Nat.le_of_ble_eq_true rfl, Nat.le_of_ble_eq_true rfl⟩ rfl rfl (by simp only [List.map_cons, List.map_nil, List.sum_cons, List.sum_nil, x_catq, x_cati, x_catr, x_catn] <;> decide) dJ1_fixAfterInsertion_35 hp20 (fun v23 σ24 hp21 => ?_)
        refine x_pc (pc' := 38) rfl ?_
        refine x_callS (em := emQ) (fun r st => va_rf r :: st) (fun _ _ => rfl) 1 X (fun σ' KK h => R_J1_leftOf l hl G hG v23 σ' KK h) (lw_S q1676 q1677 q102 q1678) mdJ1_leftOf ⟨Nat.le_of_ble_eq_true rfl, Nat.le_of_ble_eq_true rfl⟩ rfl rfl (by simp only [List.map_cons, List.map_nil, List.sum_cons, List.sum_nil, x_catq, x_cati, x_catr, x_catn] <;> decide) dJ1_fixAfterInsertion_38 hp21 (fun v25 σ26 hp22 => ?_)
        refine x_pc (pc' := 41) rfl ?_
        refine x_ifn (C := v19 = v25) (pt := 151) (pc' := 44) (fun _ _ _ _ _ => lv_acmp_ne (rx := v19) (ry := v25) (tgt := 151) hx hb dJ1_fixAfterInsertion_41 (by decide)) (fun c41 => ?_) (fun c41 => ?_)
        · have hp23 := hp22.1 c41
          refine x_up (pc' := 45) (fun _ _ _ _ _ L => lv_aload_n hx hb dJ1_fixAfterInsertion_44 rfl (lv_at L 0 rfl)) ?_
          refine x_callS (em := emQ) (fun r st => va_rf r :: st) (fun _ _ => rfl) 1 X (fun σ' KK h => R_J1_parentOf l hl G hG (some b8) σ' KK h) (lw_S q1673 q1674 q102 q1675) mdJ1_parentOf ⟨Nat.le_of_ble_eq_true rfl, Nat.le_of_ble_eq_true rfl⟩ rfl rfl (Nat.le_of_ble_eq_true rfl) dJ1_fixAfterInsertion_45 hp23 (fun v27 σ28 hp24 => ?_)
          refine x_pc (pc' := 48) rfl ?_
          refine x_callS (em := emQ) (fun r st => va_rf r :: st) (fun _ _ => rfl) 1 X (fun σ' KK h => R_J1_parentOf l hl G hG v27 σ' KK h) (lw_S q1673 q1674 q102 q1675) mdJ1_parentOf ⟨Nat.le_of_ble_eq_true rfl, Nat.le_of_ble_eq_true rfl⟩ rfl rfl (Nat.le_of_ble_eq_true rfl) dJ1_fixAfterInsertion_48 hp24 (fun v29 σ30 hp25 => ?_)
          refine x_pc (pc' := 51) rfl ?_
          refine x_callS (em := emQ) (fun r st => va_rf r :: st) (fun _ _ => rfl) 1 X (fun σ' KK h => R_J1_rightOf l hl G hG v29 σ' KK h) (lw_S q1679 q1680 q102 q1681) mdJ1_rightOf ⟨Nat.le_of_ble_eq_true rfl, Nat.le_of_ble_eq_true rfl⟩ rfl rfl (Nat.le_of_ble_eq_true rfl) dJ1_fixAfterInsertion_51 hp25 (fun v31 σ32 hp26 => ?_)
          refine x_pc (pc' := 54) rfl ?_
          refine x_upL (pc' := 55) (lo' := [(2, va_rf v31), (1, .ref b8), (0, .ref a0)]) (fun _ _ _ _ _ L => lv_astoreq_n hx hb dJ1_fixAfterInsertion_54 rfl L (by decide) rfl) ?_
          refine x_up (pc' := 56) (fun _ _ _ _ _ L => lv_aloadq_n hx hb dJ1_fixAfterInsertion_55 rfl (lv_at L 0 rfl)) ?_
          refine x_callS (em := emI) (fun r st => .int r :: st) (fun _ _ => rfl) 1 X (fun σ' KK h => R_J1_colorOf l hl G hG v31 σ' KK h) (lw_S q1682 q1683 q102 q1684) mdJ1_colorOf ⟨Nat.le_of_ble_eq_true rfl, Nat.le_of_ble_eq_true rfl⟩ rfl rfl (Nat.le_of_ble_eq_true rfl) dJ1_fixAfterInsertion_56 hp26 (fun v33 σ34 hp27 => ?_)
          refine x_pc (pc' := 59) rfl ?_
          refine x_ifn (C := v33 = 0) (pt := 97) (pc' := 62) (fun _ _ _ _ _ => lv_if_ne (tgt := 97) hx hb dJ1_fixAfterInsertion_59 (by decide)) (fun c59 => ?_) (fun c59 => ?_)
          · have hp28 := hp27.1 c59
            refine x_up (pc' := 63) (fun _ _ _ _ _ L => lv_aload_n hx hb dJ1_fixAfterInsertion_62 rfl (lv_at L 1 rfl)) ?_
            refine x_callS (em := emQ) (fun r st => va_rf r :: st) (fun _ _ => rfl) 1 X (fun σ' KK h => R_J1_parentOf l hl G hG (some b8) σ' KK h) (lw_S q1673 q1674 q102 q1675) mdJ1_parentOf ⟨Nat.le_of_ble_eq_true rfl, Nat.le_of_ble_eq_true rfl⟩ rfl rfl (Nat.le_of_ble_eq_true rfl) dJ1_fixAfterInsertion_63 hp28 (fun v35 σ36 hp29 => ?_)
            refine x_pc (pc' := 66) rfl ?_
            refine x_up (pc' := 67) (fun _ _ _ _ _ L => lv_iconst (v := (1 : Int32)) hx hb dJ1_fixAfterInsertion_66 (by decide)) ?_
            refine x_callS (em := emV) (fun r st => st) (fun _ _ => rfl) 2 X (fun σ' KK h => R_J1_setColor l hl G hG v35 (1 : Int32) σ' KK h) (lw_S q1685 q1686 q102 q1687) mdJ1_setColor ⟨Nat.le_of_ble_eq_true rfl, Nat.le_of_ble_eq_true rfl⟩ rfl rfl (Nat.le_of_ble_eq_true rfl) dJ1_fixAfterInsertion_67 hp29 (fun _ σ37 hp30 => ?_)
            refine x_pc (pc' := 70) rfl ?_
            refine x_up (pc' := 71) (fun _ _ _ _ _ L => lv_aloadq_n hx hb dJ1_fixAfterInsertion_70 rfl (lv_at L 0 rfl)) ?_
            refine x_up (pc' := 72) (fun _ _ _ _ _ L => lv_iconst (v := (1 : Int32)) hx hb dJ1_fixAfterInsertion_71 (by decide)) ?_
            refine x_callS (em := emV) (fun r st => st) (fun _ _ => rfl) 2 X (fun σ' KK h => R_J1_setColor l hl G hG v31 (1 : Int32) σ' KK h) (lw_S q1685 q1686 q102 q1687) mdJ1_setColor ⟨Nat.le_of_ble_eq_true rfl, Nat.le_of_ble_eq_true rfl⟩ rfl rfl (Nat.le_of_ble_eq_true rfl) dJ1_fixAfterInsertion_72 hp30 (fun _ σ38 hp31 => ?_)
            refine x_pc (pc' := 75) rfl ?_
            refine x_up (pc' := 76) (fun _ _ _ _ _ L => lv_aload_n hx hb dJ1_fixAfterInsertion_75 rfl (lv_at L 1 rfl)) ?_
            refine x_callS (em := emQ) (fun r st => va_rf r :: st) (fun _ _ => rfl) 1 X (fun σ' KK h => R_J1_parentOf l hl G hG (some b8) σ' KK h) (lw_S q1673 q1674 q102 q1675) mdJ1_parentOf ⟨Nat.le_of_ble_eq_true rfl, Nat.le_of_ble_eq_true rfl⟩ rfl rfl (Nat.le_of_ble_eq_true rfl) dJ1_fixAfterInsertion_76 hp31 (fun v39 σ40 hp32 => ?_)
            refine x_pc (pc' := 79) rfl ?_
            refine x_callS (em := emQ) (fun r st => va_rf r :: st) (fun _ _ => rfl) 1 X (fun σ' KK h => R_J1_parentOf l hl G hG v39 σ' KK h) (lw_S q1673 q1674 q102 q1675) mdJ1_parentOf ⟨Nat.le_of_ble_eq_true rfl, Nat.le_of_ble_eq_true rfl⟩ rfl rfl (Nat.le_of_ble_eq_true rfl) dJ1_fixAfterInsertion_79 hp32 (fun v41 σ42 hp33 => ?_)
            refine x_pc (pc' := 82) rfl ?_
            refine x_up (pc' := 83) (fun _ _ _ _ _ L => lv_iconst (v := (0 : Int32)) hx hb dJ1_fixAfterInsertion_82 (by decide)) ?_
            refine x_callS (em := emV) (fun r st => st) (fun _ _ => rfl) 2 X (fun σ' KK h => R_J1_setColor l hl G hG v41 (0 : Int32) σ' KK h) (lw_S q1685 q1686 q102 q1687) mdJ1_setColor ⟨Nat.le_of_ble_eq_true rfl, Nat.le_of_ble_eq_true rfl⟩ rfl rfl (Nat.le_of_ble_eq_true rfl) dJ1_fixAfterInsertion_83 hp33 (fun _ σ43 hp34 => ?_)
            refine x_pc (pc' := 86) rfl ?_
            refine x_up (pc' := 87) (fun _ _ _ _ _ L => lv_aload_n hx hb dJ1_fixAfterInsertion_86 rfl (lv_at L 1 rfl)) ?_
            refine x_callS (em := emQ) (fun r st => va_rf r :: st) (fun _ _ => rfl) 1 X (fun σ' KK h => R_J1_parentOf l hl G hG (some b8) σ' KK h) (lw_S q1673 q1674 q102 q1675) mdJ1_parentOf ⟨Nat.le_of_ble_eq_true rfl, Nat.le_of_ble_eq_true rfl⟩ rfl rfl (Nat.le_of_ble_eq_true rfl) dJ1_fixAfterInsertion_87 hp34 (fun v44 σ45 hp35 => ?_)
            refine x_pc (pc' := 90) rfl ?_
            refine x_callS (em := emQ) (fun r st => va_rf r :: st) (fun _ _ => rfl) 1 X (fun σ' KK h => R_J1_parentOf l hl G hG v44 σ' KK h) (lw_S q1673 q1674 q102 q1675) mdJ1_parentOf ⟨Nat.le_of_ble_eq_true rfl, Nat.le_of_ble_eq_true rfl⟩ rfl rfl (Nat.le_of_ble_eq_true rfl) dJ1_fixAfterInsertion_90 hp35 (fun v46 σ47 hp36 => ?_)
            refine x_pc (pc' := 93) rfl ?_
            refine x_upL (pc' := 94) (lo' := [(1, va_rf v46), (2, va_rf v31), (0, .ref a0)]) (fun _ _ _ _ _ L => lv_astoreq_n hx hb dJ1_fixAfterInsertion_93 rfl L (by decide) rfl) ?_
            refine x_up (pc' := 148) (fun _ _ _ _ _ L => lv_goto (tgt := 148) hx hb dJ1_fixAfterInsertion_94 (by decide)) ?_
            refine x_up (pc' := 5) (fun _ _ _ _ _ L => lv_goto (tgt := 5) hx hb dJ1_fixAfterInsertion_148 (by decide)) ?_
            refine x_lo (lo' := [(1, va_rf v46), (0, .ref a0)]) [0, 2] rfl ?_
            exact hself5 v46 σ47 hp36
          · have hp37 := hp27.2 c59
            refine x_up (pc' := 98) (fun _ _ _ _ _ L => lv_aload_n hx hb dJ1_fixAfterInsertion_97 rfl (lv_at L 1 rfl)) ?_
            refine x_up (pc' := 99) (fun _ _ _ _ _ L => lv_aload_n hx hb dJ1_fixAfterInsertion_98 rfl (lv_at L 1 rfl)) ?_
            refine x_callS (em := emQ) (fun r st => va_rf r :: st) (fun _ _ => rfl) 1 X (fun σ' KK h => R_J1_parentOf l hl G hG (some b8) σ' KK h) (lw_S q1673 q1674 q102 q1675) mdJ1_parentOf ⟨Nat.le_of_ble_eq_true rfl, Nat.le_of_ble_eq_true rfl⟩ rfl rfl (Nat.le_of_ble_eq_true rfl) dJ1_fixAfterInsertion_99 hp37 (fun v48 σ49 hp38 => ?_)
            refine x_pc (pc' := 102) rfl ?_
            refine x_callS (em := emQ) (fun r st => va_rf r :: st) (fun _ _ => rfl) 1 X (fun σ' KK h => R_J1_rightOf l hl G hG v48 σ' KK h) (lw_S q1679 q1680 q102 q1681) mdJ1_rightOf ⟨Nat.le_of_ble_eq_true rfl, Nat.le_of_ble_eq_true rfl⟩ rfl rfl (Nat.le_of_ble_eq_true rfl) dJ1_fixAfterInsertion_102 hp38 (fun v50 σ51 hp39 => ?_)
            refine x_pc (pc' := 105) rfl ?_
            refine x_ifn (C := (some b8) = v50) (pt := 118) (pc' := 108) (fun _ _ _ _ _ => lv_acmp_ne (rx := (some b8)) (ry := v50) (tgt := 118) hx hb dJ1_fixAfterInsertion_105 (by decide)) (fun c105 => ?_) (fun c105 => ?_)
            · have hp40 := hp39.1 c105
              refine x_up (pc' := 109) (fun _ _ _ _ _ L => lv_aload_n hx hb dJ1_fixAfterInsertion_108 rfl (lv_at L 1 rfl)) ?_
              refine x_callS (em := emQ) (fun r st => va_rf r :: st) (fun _ _ => rfl) 1 X (fun σ' KK h => R_J1_parentOf l hl G hG (some b8) σ' KK h) (lw_S q1673 q1674 q102 q1675) mdJ1_parentOf ⟨Nat.le_of_ble_eq_true rfl, Nat.le_of_ble_eq_true rfl⟩ rfl rfl (Nat.le_of_ble_eq_true rfl) dJ1_fixAfterInsertion_109 hp40 (fun v52 σ53 hp41 => ?_)
              refine x_pc (pc' := 112) rfl ?_
              refine x_upL (pc' := 113) (lo' := [(1, va_rf v52), (2, va_rf v31), (0, .ref a0)]) (fun _ _ _ _ _ L => lv_astoreq_n hx hb dJ1_fixAfterInsertion_112 rfl L (by decide) rfl) ?_
              refine x_up (pc' := 114) (fun _ _ _ _ _ L => lv_aload_n hx hb dJ1_fixAfterInsertion_113 rfl (lv_at L 2 rfl)) ?_
              refine x_up (pc' := 115) (fun _ _ _ _ _ L => lv_aloadq_n hx hb dJ1_fixAfterInsertion_114 rfl (lv_at L 0 rfl)) ?_
              refine x_callV (em := emV) (fun r st => st) (fun _ _ => rfl) 1 X (kJ1 hG) (fun σ' KK h => R_J1_rotateLeft l hl G hG a0 v52 σ' KK h) (lw_V q1688 q1690 qs14 q102 q1691) ⟨rfl, mdJ1_rotateLeft⟩ ⟨Nat.le_of_ble_eq_true rfl, Nat.le_of_ble_eq_true rfl⟩ rfl rfl (Nat.le_of_ble_eq_true rfl) dJ1_fixAfterInsertion_115 hp41.1 hp41.2 (fun _ σ54 hp42 => ?_)
              refine x_pc (pc' := 118) rfl ?_
              refine x_up (pc' := 119) (fun _ _ _ _ _ L => lv_aloadq_n hx hb dJ1_fixAfterInsertion_118 rfl (lv_at L 0 rfl)) ?_
              refine x_callS (em := emQ) (fun r st => va_rf r :: st) (fun _ _ => rfl) 1 X (fun σ' KK h => R_J1_parentOf l hl G hG v52 σ' KK h) (lw_S q1673 q1674 q102 q1675) mdJ1_parentOf ⟨Nat.le_of_ble_eq_true rfl, Nat.le_of_ble_eq_true rfl⟩ rfl rfl (Nat.le_of_ble_eq_true rfl) dJ1_fixAfterInsertion_119 hp42 (fun v55 σ56 hp43 => ?_)
              refine x_pc (pc' := 122) rfl ?_
              refine x_up (pc' := 123) (fun _ _ _ _ _ L => lv_iconst (v := (1 : Int32)) hx hb dJ1_fixAfterInsertion_122 (by decide)) ?_
              refine x_callS (em := emV) (fun r st => st) (fun _ _ => rfl) 2 X (fun σ' KK h => R_J1_setColor l hl G hG v55 (1 : Int32) σ' KK h) (lw_S q1685 q1686 q102 q1687) mdJ1_setColor ⟨Nat.le_of_ble_eq_true rfl, Nat.le_of_ble_eq_true rfl⟩ rfl rfl (Nat.le_of_ble_eq_true rfl) dJ1_fixAfterInsertion_123 hp43 (fun _ σ57 hp44 => ?_)
              refine x_pc (pc' := 126) rfl ?_
              refine x_up (pc' := 127) (fun _ _ _ _ _ L => lv_aloadq_n hx hb dJ1_fixAfterInsertion_126 rfl (lv_at L 0 rfl)) ?_
              refine x_callS (em := emQ) (fun r st => va_rf r :: st) (fun _ _ => rfl) 1 X (fun σ' KK h => R_J1_parentOf l hl G hG v52 σ' KK h) (lw_S q1673 q1674 q102 q1675) mdJ1_parentOf ⟨Nat.le_of_ble_eq_true rfl, Nat.le_of_ble_eq_true rfl⟩ rfl rfl (Nat.le_of_ble_eq_true rfl) dJ1_fixAfterInsertion_127 hp44 (fun v58 σ59 hp45 => ?_)
              refine x_pc (pc' := 130) rfl ?_
              refine x_callS (em := emQ) (fun r st => va_rf r :: st) (fun _ _ => rfl) 1 X (fun σ' KK h => R_J1_parentOf l hl G hG v58 σ' KK h) (lw_S q1673 q1674 q102 q1675) mdJ1_parentOf ⟨Nat.le_of_ble_eq_true rfl, Nat.le_of_ble_eq_true rfl⟩ rfl rfl (Nat.le_of_ble_eq_true rfl) dJ1_fixAfterInsertion_130 hp45 (fun v60 σ61 hp46 => ?_)
              refine x_pc (pc' := 133) rfl ?_
              refine x_up (pc' := 134) (fun _ _ _ _ _ L => lv_iconst (v := (0 : Int32)) hx hb dJ1_fixAfterInsertion_133 (by decide)) ?_
              refine x_callS (em := emV) (fun r st => st) (fun _ _ => rfl) 2 X (fun σ' KK h => R_J1_setColor l hl G hG v60 (0 : Int32) σ' KK h) (lw_S q1685 q1686 q102 q1687) mdJ1_setColor ⟨Nat.le_of_ble_eq_true rfl, Nat.le_of_ble_eq_true rfl⟩ rfl rfl (Nat.le_of_ble_eq_true rfl) dJ1_fixAfterInsertion_134 hp46 (fun _ σ62 hp47 => ?_)
              refine x_pc (pc' := 137) rfl ?_
              refine x_up (pc' := 138) (fun _ _ _ _ _ L => lv_aload_n hx hb dJ1_fixAfterInsertion_137 rfl (lv_at L 2 rfl)) ?_
              refine x_up (pc' := 139) (fun _ _ _ _ _ L => lv_aloadq_n hx hb dJ1_fixAfterInsertion_138 rfl (lv_at L 0 rfl)) ?_
              refine x_callS (em := emQ) (fun r st => va_rf r :: st) (fun _ _ => rfl) 1 X (fun σ' KK h => R_J1_parentOf l hl G hG v52 σ' KK h) (lw_S q1673 q1674 q102 q1675) mdJ1_parentOf ⟨Nat.le_of_ble_eq_true rfl, Nat.le_of_ble_eq_true rfl⟩ rfl rfl (Nat.le_of_ble_eq_true rfl) dJ1_fixAfterInsertion_139 hp47 (fun v63 σ64 hp48 => ?_)
              refine x_pc (pc' := 142) rfl ?_
              refine x_callS (em := emQ) (fun r st => va_rf r :: st) (fun _ _ => rfl) 1 X (fun σ' KK h => R_J1_parentOf l hl G hG v63 σ' KK h) (lw_S q1673 q1674 q102 q1675) mdJ1_parentOf ⟨Nat.le_of_ble_eq_true rfl, Nat.le_of_ble_eq_true rfl⟩ rfl rfl (Nat.le_of_ble_eq_true rfl) dJ1_fixAfterInsertion_142 hp48 (fun v65 σ66 hp49 => ?_)
              refine x_pc (pc' := 145) rfl ?_
              refine x_callV (em := emV) (fun r st => st) (fun _ _ => rfl) 1 X (kJ1 hG) (fun σ' KK h => R_J1_rotateRight l hl G hG a0 v65 σ' KK h) (lw_V q1692 q1694 qs15 q102 q1695) ⟨rfl, mdJ1_rotateRight⟩ ⟨Nat.le_of_ble_eq_true rfl, Nat.le_of_ble_eq_true rfl⟩ rfl rfl (Nat.le_of_ble_eq_true rfl) dJ1_fixAfterInsertion_145 hp49.1 hp49.2 (fun _ σ67 hp50 => ?_)
              refine x_pc (pc' := 148) rfl ?_
              refine x_up (pc' := 5) (fun _ _ _ _ _ L => lv_goto (tgt := 5) hx hb dJ1_fixAfterInsertion_148 (by decide)) ?_
              refine x_lo (lo' := [(1, va_rf v52), (0, .ref a0)]) [0, 2] rfl ?_
              exact hself5 v52 σ67 hp50
            · have hp51 := hp39.2 c105
              refine x_up (pc' := 119) (fun _ _ _ _ _ L => lv_aload_n hx hb dJ1_fixAfterInsertion_118 rfl (lv_at L 1 rfl)) ?_
              refine x_callS (em := emQ) (fun r st => va_rf r :: st) (fun _ _ => rfl) 1 X (fun σ' KK h => R_J1_parentOf l hl G hG (some b8) σ' KK h) (lw_S q1673 q1674 q102 q1675) mdJ1_parentOf ⟨Nat.le_of_ble_eq_true rfl, Nat.le_of_ble_eq_true rfl⟩ rfl rfl (Nat.le_of_ble_eq_true rfl) dJ1_fixAfterInsertion_119 hp51 (fun v68 σ69 hp52 => ?_)
              refine x_pc (pc' := 122) rfl ?_
              refine x_up (pc' := 123) (fun _ _ _ _ _ L => lv_iconst (v := (1 : Int32)) hx hb dJ1_fixAfterInsertion_122 (by decide)) ?_
              refine x_callS (em := emV) (fun r st => st) (fun _ _ => rfl) 2 X (fun σ' KK h => R_J1_setColor l hl G hG v68 (1 : Int32) σ' KK h) (lw_S q1685 q1686 q102 q1687) mdJ1_setColor ⟨Nat.le_of_ble_eq_true rfl, Nat.le_of_ble_eq_true rfl⟩ rfl rfl (Nat.le_of_ble_eq_true rfl) dJ1_fixAfterInsertion_123 hp52 (fun _ σ70 hp53 => ?_)
              refine x_pc (pc' := 126) rfl ?_
              refine x_up (pc' := 127) (fun _ _ _ _ _ L => lv_aload_n hx hb dJ1_fixAfterInsertion_126 rfl (lv_at L 1 rfl)) ?_
              refine x_callS (em := emQ) (fun r st => va_rf r :: st) (fun _ _ => rfl) 1 X (fun σ' KK h => R_J1_parentOf l hl G hG (some b8) σ' KK h) (lw_S q1673 q1674 q102 q1675) mdJ1_parentOf ⟨Nat.le_of_ble_eq_true rfl, Nat.le_of_ble_eq_true rfl⟩ rfl rfl (Nat.le_of_ble_eq_true rfl) dJ1_fixAfterInsertion_127 hp53 (fun v71 σ72 hp54 => ?_)
              refine x_pc (pc' := 130) rfl ?_
              refine x_callS (em := emQ) (fun r st => va_rf r :: st) (fun _ _ => rfl) 1 X (fun σ' KK h => R_J1_parentOf l hl G hG v71 σ' KK h) (lw_S q1673 q1674 q102 q1675) mdJ1_parentOf ⟨Nat.le_of_ble_eq_true rfl, Nat.le_of_ble_eq_true rfl⟩ rfl rfl (Nat.le_of_ble_eq_true rfl) dJ1_fixAfterInsertion_130 hp54 (fun v73 σ74 hp55 => ?_)
              refine x_pc (pc' := 133) rfl ?_
              refine x_up (pc' := 134) (fun _ _ _ _ _ L => lv_iconst (v := (0 : Int32)) hx hb dJ1_fixAfterInsertion_133 (by decide)) ?_
              refine x_callS (em := emV) (fun r st => st) (fun _ _ => rfl) 2 X (fun σ' KK h => R_J1_setColor l hl G hG v73 (0 : Int32) σ' KK h) (lw_S q1685 q1686 q102 q1687) mdJ1_setColor ⟨Nat.le_of_ble_eq_true rfl, Nat.le_of_ble_eq_true rfl⟩ rfl rfl (Nat.le_of_ble_eq_true rfl) dJ1_fixAfterInsertion_134 hp55 (fun _ σ75 hp56 => ?_)
              refine x_pc (pc' := 137) rfl ?_
              refine x_up (pc' := 138) (fun _ _ _ _ _ L => lv_aload_n hx hb dJ1_fixAfterInsertion_137 rfl (lv_at L 2 rfl)) ?_
              refine x_up (pc' := 139) (fun _ _ _ _ _ L => lv_aload_n hx hb dJ1_fixAfterInsertion_138 rfl (lv_at L 1 rfl)) ?_
              refine x_callS (em := emQ) (fun r st => va_rf r :: st) (fun _ _ => rfl) 1 X (fun σ' KK h => R_J1_parentOf l hl G hG (some b8) σ' KK h) (lw_S q1673 q1674 q102 q1675) mdJ1_parentOf ⟨Nat.le_of_ble_eq_true rfl, Nat.le_of_ble_eq_true rfl⟩ rfl rfl (Nat.le_of_ble_eq_true rfl) dJ1_fixAfterInsertion_139 hp56 (fun v76 σ77 hp57 => ?_)
              refine x_pc (pc' := 142) rfl ?_
              refine x_callS (em := emQ) (fun r st => va_rf r :: st) (fun _ _ => rfl) 1 X (fun σ' KK h => R_J1_parentOf l hl G hG v76 σ' KK h) (lw_S q1673 q1674 q102 q1675) mdJ1_parentOf ⟨Nat.le_of_ble_eq_true rfl, Nat.le_of_ble_eq_true rfl⟩ rfl rfl (Nat.le_of_ble_eq_true rfl) dJ1_fixAfterInsertion_142 hp57 (fun v78 σ79 hp58 => ?_)
              refine x_pc (pc' := 145) rfl ?_
              refine x_callV (em := emV) (fun r st => st) (fun _ _ => rfl) 1 X (kJ1 hG) (fun σ' KK h => R_J1_rotateRight l hl G hG a0 v78 σ' KK h) (lw_V q1692 q1694 qs15 q102 q1695) ⟨rfl, mdJ1_rotateRight⟩ ⟨Nat.le_of_ble_eq_true rfl, Nat.le_of_ble_eq_true rfl⟩ rfl rfl (Nat.le_of_ble_eq_true rfl) dJ1_fixAfterInsertion_145 hp58.1 hp58.2 (fun _ σ80 hp59 => ?_)
              refine x_pc (pc' := 148) rfl ?_
              refine x_up (pc' := 5) (fun _ _ _ _ _ L => lv_goto (tgt := 5) hx hb dJ1_fixAfterInsertion_148 (by decide)) ?_
              refine x_lo (lo' := [(1, .ref b8), (0, .ref a0)]) [1, 2] rfl ?_
              exact hself5 (some b8) σ80 hp59
        · have hp60 := hp22.2 c41
          refine x_up (pc' := 152) (fun _ _ _ _ _ L => lv_aload_n hx hb dJ1_fixAfterInsertion_151 rfl (lv_at L 0 rfl)) ?_
          refine x_callS (em := emQ) (fun r st => va_rf r :: st) (fun _ _ => rfl) 1 X (fun σ' KK h => R_J1_parentOf l hl G hG (some b8) σ' KK h) (lw_S q1673 q1674 q102 q1675) mdJ1_parentOf ⟨Nat.le_of_ble_eq_true rfl, Nat.le_of_ble_eq_true rfl⟩ rfl rfl (Nat.le_of_ble_eq_true rfl) dJ1_fixAfterInsertion_152 hp60 (fun v81 σ82 hp61 => ?_)
          refine x_pc (pc' := 155) rfl ?_
          refine x_callS (em := emQ) (fun r st => va_rf r :: st) (fun _ _ => rfl) 1 X (fun σ' KK h => R_J1_parentOf l hl G hG v81 σ' KK h) (lw_S q1673 q1674 q102 q1675) mdJ1_parentOf ⟨Nat.le_of_ble_eq_true rfl, Nat.le_of_ble_eq_true rfl⟩ rfl rfl (Nat.le_of_ble_eq_true rfl) dJ1_fixAfterInsertion_155 hp61 (fun v83 σ84 hp62 => ?_)
          refine x_pc (pc' := 158) rfl ?_
          refine x_callS (em := emQ) (fun r st => va_rf r :: st) (fun _ _ => rfl) 1 X (fun σ' KK h => R_J1_leftOf l hl G hG v83 σ' KK h) (lw_S q1676 q1677 q102 q1678) mdJ1_leftOf ⟨Nat.le_of_ble_eq_true rfl, Nat.le_of_ble_eq_true rfl⟩ rfl rfl (Nat.le_of_ble_eq_true rfl) dJ1_fixAfterInsertion_158 hp62 (fun v85 σ86 hp63 => ?_)
          refine x_pc (pc' := 161) rfl ?_
          refine x_upL (pc' := 162) (lo' := [(2, va_rf v85), (1, .ref b8), (0, .ref a0)]) (fun _ _ _ _ _ L => lv_astoreq_n hx hb dJ1_fixAfterInsertion_161 rfl L (by decide) rfl) ?_
          refine x_up (pc' := 163) (fun _ _ _ _ _ L => lv_aloadq_n hx hb dJ1_fixAfterInsertion_162 rfl (lv_at L 0 rfl)) ?_
          refine x_callS (em := emI) (fun r st => .int r :: st) (fun _ _ => rfl) 1 X (fun σ' KK h => R_J1_colorOf l hl G hG v85 σ' KK h) (lw_S q1682 q1683 q102 q1684) mdJ1_colorOf ⟨Nat.le_of_ble_eq_true rfl, Nat.le_of_ble_eq_true rfl⟩ rfl rfl (Nat.le_of_ble_eq_true rfl) dJ1_fixAfterInsertion_163 hp63 (fun v87 σ88 hp64 => ?_)
          refine x_pc (pc' := 166) rfl ?_
          refine x_ifn (C := v87 = 0) (pt := 204) (pc' := 169) (fun _ _ _ _ _ => lv_if_ne (tgt := 204) hx hb dJ1_fixAfterInsertion_166 (by decide)) (fun c166 => ?_) (fun c166 => ?_)
          · have hp65 := hp64.1 c166
            refine x_up (pc' := 170) (fun _ _ _ _ _ L => lv_aload_n hx hb dJ1_fixAfterInsertion_169 rfl (lv_at L 1 rfl)) ?_
            refine x_callS (em := emQ) (fun r st => va_rf r :: st) (fun _ _ => rfl) 1 X (fun σ' KK h => R_J1_parentOf l hl G hG (some b8) σ' KK h) (lw_S q1673 q1674 q102 q1675) mdJ1_parentOf ⟨Nat.le_of_ble_eq_true rfl, Nat.le_of_ble_eq_true rfl⟩ rfl rfl (Nat.le_of_ble_eq_true rfl) dJ1_fixAfterInsertion_170 hp65 (fun v89 σ90 hp66 => ?_)
            refine x_pc (pc' := 173) rfl ?_
            refine x_up (pc' := 174) (fun _ _ _ _ _ L => lv_iconst (v := (1 : Int32)) hx hb dJ1_fixAfterInsertion_173 (by decide)) ?_
            refine x_callS (em := emV) (fun r st => st) (fun _ _ => rfl) 2 X (fun σ' KK h => R_J1_setColor l hl G hG v89 (1 : Int32) σ' KK h) (lw_S q1685 q1686 q102 q1687) mdJ1_setColor ⟨Nat.le_of_ble_eq_true rfl, Nat.le_of_ble_eq_true rfl⟩ rfl rfl (Nat.le_of_ble_eq_true rfl) dJ1_fixAfterInsertion_174 hp66 (fun _ σ91 hp67 => ?_)
            refine x_pc (pc' := 177) rfl ?_
            refine x_up (pc' := 178) (fun _ _ _ _ _ L => lv_aloadq_n hx hb dJ1_fixAfterInsertion_177 rfl (lv_at L 0 rfl)) ?_
            refine x_up (pc' := 179) (fun _ _ _ _ _ L => lv_iconst (v := (1 : Int32)) hx hb dJ1_fixAfterInsertion_178 (by decide)) ?_
            refine x_callS (em := emV) (fun r st => st) (fun _ _ => rfl) 2 X (fun σ' KK h => R_J1_setColor l hl G hG v85 (1 : Int32) σ' KK h) (lw_S q1685 q1686 q102 q1687) mdJ1_setColor ⟨Nat.le_of_ble_eq_true rfl, Nat.le_of_ble_eq_true rfl⟩ rfl rfl (Nat.le_of_ble_eq_true rfl) dJ1_fixAfterInsertion_179 hp67 (fun _ σ92 hp68 => ?_)
            refine x_pc (pc' := 182) rfl ?_
            refine x_up (pc' := 183) (fun _ _ _ _ _ L => lv_aload_n hx hb dJ1_fixAfterInsertion_182 rfl (lv_at L 1 rfl)) ?_
            refine x_callS (em := emQ) (fun r st => va_rf r :: st) (fun _ _ => rfl) 1 X (fun σ' KK h => R_J1_parentOf l hl G hG (some b8) σ' KK h) (lw_S q1673 q1674 q102 q1675) mdJ1_parentOf ⟨Nat.le_of_ble_eq_true rfl, Nat.le_of_ble_eq_true rfl⟩ rfl rfl (Nat.le_of_ble_eq_true rfl) dJ1_fixAfterInsertion_183 hp68 (fun v93 σ94 hp69 => ?_)
            refine x_pc (pc' := 186) rfl ?_
            refine x_callS (em := emQ) (fun r st => va_rf r :: st) (fun _ _ => rfl) 1 X (fun σ' KK h => R_J1_parentOf l hl G hG v93 σ' KK h) (lw_S q1673 q1674 q102 q1675) mdJ1_parentOf ⟨Nat.le_of_ble_eq_true rfl, Nat.le_of_ble_eq_true rfl⟩ rfl rfl (Nat.le_of_ble_eq_true rfl) dJ1_fixAfterInsertion_186 hp69 (fun v95 σ96 hp70 => ?_)
            refine x_pc (pc' := 189) rfl ?_
            refine x_up (pc' := 190) (fun _ _ _ _ _ L => lv_iconst (v := (0 : Int32)) hx hb dJ1_fixAfterInsertion_189 (by decide)) ?_
            refine x_callS (em := emV) (fun r st => st) (fun _ _ => rfl) 2 X (fun σ' KK h => R_J1_setColor l hl G hG v95 (0 : Int32) σ' KK h) (lw_S q1685 q1686 q102 q1687) mdJ1_setColor ⟨Nat.le_of_ble_eq_true rfl, Nat.le_of_ble_eq_true rfl⟩ rfl rfl (Nat.le_of_ble_eq_true rfl) dJ1_fixAfterInsertion_190 hp70 (fun _ σ97 hp71 => ?_)
            refine x_pc (pc' := 193) rfl ?_
            refine x_up (pc' := 194) (fun _ _ _ _ _ L => lv_aload_n hx hb dJ1_fixAfterInsertion_193 rfl (lv_at L 1 rfl)) ?_
            refine x_callS (em := emQ) (fun r st => va_rf r :: st) (fun _ _ => rfl) 1 X (fun σ' KK h => R_J1_parentOf l hl G hG (some b8) σ' KK h) (lw_S q1673 q1674 q102 q1675) mdJ1_parentOf ⟨Nat.le_of_ble_eq_true rfl, Nat.le_of_ble_eq_true rfl⟩ rfl rfl (Nat.le_of_ble_eq_true rfl) dJ1_fixAfterInsertion_194 hp71 (fun v98 σ99 hp72 => ?_)
            refine x_pc (pc' := 197) rfl ?_
            refine x_callS (em := emQ) (fun r st => va_rf r :: st) (fun _ _ => rfl) 1 X (fun σ' KK h => R_J1_parentOf l hl G hG v98 σ' KK h) (lw_S q1673 q1674 q102 q1675) mdJ1_parentOf ⟨Nat.le_of_ble_eq_true rfl, Nat.le_of_ble_eq_true rfl⟩ rfl rfl (Nat.le_of_ble_eq_true rfl) dJ1_fixAfterInsertion_197 hp72 (fun v100 σ101 hp73 => ?_)
            refine x_pc (pc' := 200) rfl ?_
            refine x_upL (pc' := 201) (lo' := [(1, va_rf v100), (2, va_rf v85), (0, .ref a0)]) (fun _ _ _ _ _ L => lv_astoreq_n hx hb dJ1_fixAfterInsertion_200 rfl L (by decide) rfl) ?_
            refine x_up (pc' := 255) (fun _ _ _ _ _ L => lv_goto (tgt := 255) hx hb dJ1_fixAfterInsertion_201 (by decide)) ?_
            refine x_up (pc' := 5) (fun _ _ _ _ _ L => lv_goto (tgt := 5) hx hb dJ1_fixAfterInsertion_255 (by decide)) ?_
            refine x_lo (lo' := [(1, va_rf v100), (0, .ref a0)]) [0, 2] rfl ?_
            exact hself5 v100 σ101 hp73
          · have hp74 := hp64.2 c166
            refine x_up (pc' := 205) (fun _ _ _ _ _ L => lv_aload_n hx hb dJ1_fixAfterInsertion_204 rfl (lv_at L 1 rfl)) ?_
            refine x_up (pc' := 206) (fun _ _ _ _ _ L => lv_aload_n hx hb dJ1_fixAfterInsertion_205 rfl (lv_at L 1 rfl)) ?_
            refine x_callS (em := emQ) (fun r st => va_rf r :: st) (fun _ _ => rfl) 1 X (fun σ' KK h => R_J1_parentOf l hl G hG (some b8) σ' KK h) (lw_S q1673 q1674 q102 q1675) mdJ1_parentOf ⟨Nat.le_of_ble_eq_true rfl, Nat.le_of_ble_eq_true rfl⟩ rfl rfl (Nat.le_of_ble_eq_true rfl) dJ1_fixAfterInsertion_206 hp74 (fun v102 σ103 hp75 => ?_)
            refine x_pc (pc' := 209) rfl ?_
            refine x_callS (em := emQ) (fun r st => va_rf r :: st) (fun _ _ => rfl) 1 X (fun σ' KK h => R_J1_leftOf l hl G hG v102 σ' KK h) (lw_S q1676 q1677 q102 q1678) mdJ1_leftOf ⟨Nat.le_of_ble_eq_true rfl, Nat.le_of_ble_eq_true rfl⟩ rfl rfl (Nat.le_of_ble_eq_true rfl) dJ1_fixAfterInsertion_209 hp75 (fun v104 σ105 hp76 => ?_)
            refine x_pc (pc' := 212) rfl ?_
            refine x_ifn (C := (some b8) = v104) (pt := 225) (pc' := 215) (fun _ _ _ _ _ => lv_acmp_ne (rx := (some b8)) (ry := v104) (tgt := 225) hx hb dJ1_fixAfterInsertion_212 (by decide)) (fun c212 => ?_) (fun c212 => ?_)
            · have hp77 := hp76.1 c212
              refine x_up (pc' := 216) (fun _ _ _ _ _ L => lv_aload_n hx hb dJ1_fixAfterInsertion_215 rfl (lv_at L 1 rfl)) ?_
              refine x_callS (em := emQ) (fun r st => va_rf r :: st) (fun _ _ => rfl) 1 X (fun σ' KK h => R_J1_parentOf l hl G hG (some b8) σ' KK h) (lw_S q1673 q1674 q102 q1675) mdJ1_parentOf ⟨Nat.le_of_ble_eq_true rfl, Nat.le_of_ble_eq_true rfl⟩ rfl rfl (Nat.le_of_ble_eq_true rfl) dJ1_fixAfterInsertion_216 hp77 (fun v106 σ107 hp78 => ?_)
              refine x_pc (pc' := 219) rfl ?_
              refine x_upL (pc' := 220) (lo' := [(1, va_rf v106), (2, va_rf v85), (0, .ref a0)]) (fun _ _ _ _ _ L => lv_astoreq_n hx hb dJ1_fixAfterInsertion_219 rfl L (by decide) rfl) ?_
              refine x_up (pc' := 221) (fun _ _ _ _ _ L => lv_aload_n hx hb dJ1_fixAfterInsertion_220 rfl (lv_at L 2 rfl)) ?_
              refine x_up (pc' := 222) (fun _ _ _ _ _ L => lv_aloadq_n hx hb dJ1_fixAfterInsertion_221 rfl (lv_at L 0 rfl)) ?_
              refine x_callV (em := emV) (fun r st => st) (fun _ _ => rfl) 1 X (kJ1 hG) (fun σ' KK h => R_J1_rotateRight l hl G hG a0 v106 σ' KK h) (lw_V q1692 q1694 qs15 q102 q1695) ⟨rfl, mdJ1_rotateRight⟩ ⟨Nat.le_of_ble_eq_true rfl, Nat.le_of_ble_eq_true rfl⟩ rfl rfl (Nat.le_of_ble_eq_true rfl) dJ1_fixAfterInsertion_222 hp78.1 hp78.2 (fun _ σ108 hp79 => ?_)
              refine x_pc (pc' := 225) rfl ?_
              refine x_up (pc' := 226) (fun _ _ _ _ _ L => lv_aloadq_n hx hb dJ1_fixAfterInsertion_225 rfl (lv_at L 0 rfl)) ?_
              refine x_callS (em := emQ) (fun r st => va_rf r :: st) (fun _ _ => rfl) 1 X (fun σ' KK h => R_J1_parentOf l hl G hG v106 σ' KK h) (lw_S q1673 q1674 q102 q1675) mdJ1_parentOf ⟨Nat.le_of_ble_eq_true rfl, Nat.le_of_ble_eq_true rfl⟩ rfl rfl (Nat.le_of_ble_eq_true rfl) dJ1_fixAfterInsertion_226 hp79 (fun v109 σ110 hp80 => ?_)
              refine x_pc (pc' := 229) rfl ?_
              refine x_up (pc' := 230) (fun _ _ _ _ _ L => lv_iconst (v := (1 : Int32)) hx hb dJ1_fixAfterInsertion_229 (by decide)) ?_
              refine x_callS (em := emV) (fun r st => st) (fun _ _ => rfl) 2 X (fun σ' KK h => R_J1_setColor l hl G hG v109 (1 : Int32) σ' KK h) (lw_S q1685 q1686 q102 q1687) mdJ1_setColor ⟨Nat.le_of_ble_eq_true rfl, Nat.le_of_ble_eq_true rfl⟩ rfl rfl (Nat.le_of_ble_eq_true rfl) dJ1_fixAfterInsertion_230 hp80 (fun _ σ111 hp81 => ?_)
              refine x_pc (pc' := 233) rfl ?_
              refine x_up (pc' := 234) (fun _ _ _ _ _ L => lv_aloadq_n hx hb dJ1_fixAfterInsertion_233 rfl (lv_at L 0 rfl)) ?_
              refine x_callS (em := emQ) (fun r st => va_rf r :: st) (fun _ _ => rfl) 1 X (fun σ' KK h => R_J1_parentOf l hl G hG v106 σ' KK h) (lw_S q1673 q1674 q102 q1675) mdJ1_parentOf ⟨Nat.le_of_ble_eq_true rfl, Nat.le_of_ble_eq_true rfl⟩ rfl rfl (Nat.le_of_ble_eq_true rfl) dJ1_fixAfterInsertion_234 hp81 (fun v112 σ113 hp82 => ?_)
              refine x_pc (pc' := 237) rfl ?_
              refine x_callS (em := emQ) (fun r st => va_rf r :: st) (fun _ _ => rfl) 1 X (fun σ' KK h => R_J1_parentOf l hl G hG v112 σ' KK h) (lw_S q1673 q1674 q102 q1675) mdJ1_parentOf ⟨Nat.le_of_ble_eq_true rfl, Nat.le_of_ble_eq_true rfl⟩ rfl rfl (Nat.le_of_ble_eq_true rfl) dJ1_fixAfterInsertion_237 hp82 (fun v114 σ115 hp83 => ?_)
              refine x_pc (pc' := 240) rfl ?_
              refine x_up (pc' := 241) (fun _ _ _ _ _ L => lv_iconst (v := (0 : Int32)) hx hb dJ1_fixAfterInsertion_240 (by decide)) ?_
              refine x_callS (em := emV) (fun r st => st) (fun _ _ => rfl) 2 X (fun σ' KK h => R_J1_setColor l hl G hG v114 (0 : Int32) σ' KK h) (lw_S q1685 q1686 q102 q1687) mdJ1_setColor ⟨Nat.le_of_ble_eq_true rfl, Nat.le_of_ble_eq_true rfl⟩ rfl rfl (Nat.le_of_ble_eq_true rfl) dJ1_fixAfterInsertion_241 hp83 (fun _ σ116 hp84 => ?_)
              refine x_pc (pc' := 244) rfl ?_
              refine x_up (pc' := 245) (fun _ _ _ _ _ L => lv_aload_n hx hb dJ1_fixAfterInsertion_244 rfl (lv_at L 2 rfl)) ?_
              refine x_up (pc' := 246) (fun _ _ _ _ _ L => lv_aloadq_n hx hb dJ1_fixAfterInsertion_245 rfl (lv_at L 0 rfl)) ?_
              refine x_callS (em := emQ) (fun r st => va_rf r :: st) (fun _ _ => rfl) 1 X (fun σ' KK h => R_J1_parentOf l hl G hG v106 σ' KK h) (lw_S q1673 q1674 q102 q1675) mdJ1_parentOf ⟨Nat.le_of_ble_eq_true rfl, Nat.le_of_ble_eq_true rfl⟩ rfl rfl (Nat.le_of_ble_eq_true rfl) dJ1_fixAfterInsertion_246 hp84 (fun v117 σ118 hp85 => ?_)
              refine x_pc (pc' := 249) rfl ?_
              refine x_callS (em := emQ) (fun r st => va_rf r :: st) (fun _ _ => rfl) 1 X (fun σ' KK h => R_J1_parentOf l hl G hG v117 σ' KK h) (lw_S q1673 q1674 q102 q1675) mdJ1_parentOf ⟨Nat.le_of_ble_eq_true rfl, Nat.le_of_ble_eq_true rfl⟩ rfl rfl (Nat.le_of_ble_eq_true rfl) dJ1_fixAfterInsertion_249 hp85 (fun v119 σ120 hp86 => ?_)
              refine x_pc (pc' := 252) rfl ?_
              refine x_callV (em := emV) (fun r st => st) (fun _ _ => rfl) 1 X (kJ1 hG) (fun σ' KK h => R_J1_rotateLeft l hl G hG a0 v119 σ' KK h) (lw_V q1688 q1690 qs14 q102 q1691) ⟨rfl, mdJ1_rotateLeft⟩ ⟨Nat.le_of_ble_eq_true rfl, Nat.le_of_ble_eq_true rfl⟩ rfl rfl (Nat.le_of_ble_eq_true rfl) dJ1_fixAfterInsertion_252 hp86.1 hp86.2 (fun _ σ121 hp87 => ?_)
              refine x_pc (pc' := 255) rfl ?_
              refine x_up (pc' := 5) (fun _ _ _ _ _ L => lv_goto (tgt := 5) hx hb dJ1_fixAfterInsertion_255 (by decide)) ?_
              refine x_lo (lo' := [(1, va_rf v106), (0, .ref a0)]) [0, 2] rfl ?_
              exact hself5 v106 σ121 hp87
            · have hp88 := hp76.2 c212
              refine x_up (pc' := 226) (fun _ _ _ _ _ L => lv_aload_n hx hb dJ1_fixAfterInsertion_225 rfl (lv_at L 1 rfl)) ?_
              refine x_callS (em := emQ) (fun r st => va_rf r :: st) (fun _ _ => rfl) 1 X (fun σ' KK h => R_J1_parentOf l hl G hG (some b8) σ' KK h) (lw_S q1673 q1674 q102 q1675) mdJ1_parentOf ⟨Nat.le_of_ble_eq_true rfl, Nat.le_of_ble_eq_true rfl⟩ rfl rfl (Nat.le_of_ble_eq_true rfl) dJ1_fixAfterInsertion_226 hp88 (fun v122 σ123 hp89 => ?_)
              refine x_pc (pc' := 229) rfl ?_
              refine x_up (pc' := 230) (fun _ _ _ _ _ L => lv_iconst (v := (1 : Int32)) hx hb dJ1_fixAfterInsertion_229 (by decide)) ?_
              refine x_callS (em := emV) (fun r st => st) (fun _ _ => rfl) 2 X (fun σ' KK h => R_J1_setColor l hl G hG v122 (1 : Int32) σ' KK h) (lw_S q1685 q1686 q102 q1687) mdJ1_setColor ⟨Nat.le_of_ble_eq_true rfl, Nat.le_of_ble_eq_true rfl⟩ rfl rfl (Nat.le_of_ble_eq_true rfl) dJ1_fixAfterInsertion_230 hp89 (fun _ σ124 hp90 => ?_)
              refine x_pc (pc' := 233) rfl ?_
              refine x_up (pc' := 234) (fun _ _ _ _ _ L => lv_aload_n hx hb dJ1_fixAfterInsertion_233 rfl (lv_at L 1 rfl)) ?_
              refine x_callS (em := emQ) (fun r st => va_rf r :: st) (fun _ _ => rfl) 1 X (fun σ' KK h => R_J1_parentOf l hl G hG (some b8) σ' KK h) (lw_S q1673 q1674 q102 q1675) mdJ1_parentOf ⟨Nat.le_of_ble_eq_true rfl, Nat.le_of_ble_eq_true rfl⟩ rfl rfl (Nat.le_of_ble_eq_true rfl) dJ1_fixAfterInsertion_234 hp90 (fun v125 σ126 hp91 => ?_)
              refine x_pc (pc' := 237) rfl ?_
              refine x_callS (em := emQ) (fun r st => va_rf r :: st) (fun _ _ => rfl) 1 X (fun σ' KK h => R_J1_parentOf l hl G hG v125 σ' KK h) (lw_S q1673 q1674 q102 q1675) mdJ1_parentOf ⟨Nat.le_of_ble_eq_true rfl, Nat.le_of_ble_eq_true rfl⟩ rfl rfl (Nat.le_of_ble_eq_true rfl) dJ1_fixAfterInsertion_237 hp91 (fun v127 σ128 hp92 => ?_)
              refine x_pc (pc' := 240) rfl ?_
              refine x_up (pc' := 241) (fun _ _ _ _ _ L => lv_iconst (v := (0 : Int32)) hx hb dJ1_fixAfterInsertion_240 (by decide)) ?_
              refine x_callS (em := emV) (fun r st => st) (fun _ _ => rfl) 2 X (fun σ' KK h => R_J1_setColor l hl G hG v127 (0 : Int32) σ' KK h) (lw_S q1685 q1686 q102 q1687) mdJ1_setColor ⟨Nat.le_of_ble_eq_true rfl, Nat.le_of_ble_eq_true rfl⟩ rfl rfl (Nat.le_of_ble_eq_true rfl) dJ1_fixAfterInsertion_241 hp92 (fun _ σ129 hp93 => ?_)
              refine x_pc (pc' := 244) rfl ?_
              refine x_up (pc' := 245) (fun _ _ _ _ _ L => lv_aload_n hx hb dJ1_fixAfterInsertion_244 rfl (lv_at L 2 rfl)) ?_
              refine x_up (pc' := 246) (fun _ _ _ _ _ L => lv_aload_n hx hb dJ1_fixAfterInsertion_245 rfl (lv_at L 1 rfl)) ?_
              refine x_callS (em := emQ) (fun r st => va_rf r :: st) (fun _ _ => rfl) 1 X (fun σ' KK h => R_J1_parentOf l hl G hG (some b8) σ' KK h) (lw_S q1673 q1674 q102 q1675) mdJ1_parentOf ⟨Nat.le_of_ble_eq_true rfl, Nat.le_of_ble_eq_true rfl⟩ rfl rfl (Nat.le_of_ble_eq_true rfl) dJ1_fixAfterInsertion_246 hp93 (fun v130 σ131 hp94 => ?_)
              refine x_pc (pc' := 249) rfl ?_
              refine x_callS (em := emQ) (fun r st => va_rf r :: st) (fun _ _ => rfl) 1 X (fun σ' KK h => R_J1_parentOf l hl G hG v130 σ' KK h) (lw_S q1673 q1674 q102 q1675) mdJ1_parentOf ⟨Nat.le_of_ble_eq_true rfl, Nat.le_of_ble_eq_true rfl⟩ rfl rfl (Nat.le_of_ble_eq_true rfl) dJ1_fixAfterInsertion_249 hp94 (fun v132 σ133 hp95 => ?_)
              refine x_pc (pc' := 252) rfl ?_
              refine x_callV (em := emV) (fun r st => st) (fun _ _ => rfl) 1 X (kJ1 hG) (fun σ' KK h => R_J1_rotateLeft l hl G hG a0 v132 σ' KK h) (lw_V q1688 q1690 qs14 q102 q1691) ⟨rfl, mdJ1_rotateLeft⟩ ⟨Nat.le_of_ble_eq_true rfl, Nat.le_of_ble_eq_true rfl⟩ rfl rfl (Nat.le_of_ble_eq_true rfl) dJ1_fixAfterInsertion_252 hp95.1 hp95.2 (fun _ σ134 hp96 => ?_)
              refine x_pc (pc' := 255) rfl ?_
              refine x_up (pc' := 5) (fun _ _ _ _ _ L => lv_goto (tgt := 5) hx hb dJ1_fixAfterInsertion_255 (by decide)) ?_
              refine x_lo (lo' := [(1, .ref b8), (0, .ref a0)]) [1, 2] rfl ?_
              exact hself5 (some b8) σ134 hp96
      · have hp97 := hp17.2 c24
        refine x_up (pc' := 259) (fun _ _ _ _ _ L => lv_aload_n hx hb dJ1_fixAfterInsertion_258 rfl (lv_at L 1 rfl)) ?_
        refine x_gq X (kJ1 hG) 3 (by decide) q188 (fun _ h => h) dJ1_fixAfterInsertion_259 hp97 (fun v135 hp98 => ?_)
        refine x_pc (pc' := 262) rfl ?_
        refine x_up (pc' := 263) (fun _ _ _ _ _ L => lv_iconst (v := (1 : Int32)) hx hb dJ1_fixAfterInsertion_262 (by decide)) ?_
        obtain ⟨b136, rfl, hp99⟩ := hp98
        refine x_pi X (kJ31 hG) 5 (by decide) q1307 (fun _ h => h) rfl rfl rfl dJ1_fixAfterInsertion_263 hp99 (fun σ137 hp100 => ?_)
        refine x_pc (pc' := 266) rfl ?_
        exact x_vret X hr dJ1_fixAfterInsertion_266 hp100
-- J1_addEntry
def P_J1_addEntry (κ : Nat → Nat) (a0 : Nat) (x1 : Option Nat) (x2 : Option Nat) (x3 : Option Nat) (x4 : Int32) (σ : xS) (K : Unit → xH → Prop) : Prop :=
  xnew κ σ 19 6 [va_rf none, va_rf none, va_rf none, va_rf none, va_rf none, .int 0] fun q1 σ2 => xcall (fun τ L => P_J31_init κ q1 x1 x2 x3 τ L) σ2 fun _ σ3 => ((x4 = 0 → (xnn x3 fun b4 => xpq κ σ3 b4 19 3 (some q1) fun σ5 => xrc σ5 a0 2 ∧ xcall (fun τ L => P_J1_fixAfterInsertion κ a0 (some q1) τ L) σ5 fun _ σ6 => xgi σ6 a0 2 4 fun v7 => xpi κ σ6 a0 2 4 (v7 + (1 : Int32)) fun σ8 => xgi σ8 a0 2 5 fun v9 => xpi κ σ8 a0 2 5 (v9 + (1 : Int32)) fun σ10 => K () σ10.1)) ∧ (¬ x4 = 0 → (xnn x3 fun b11 => xpq κ σ3 b11 19 2 (some q1) fun σ12 => xrc σ12 a0 2 ∧ xcall (fun τ L => P_J1_fixAfterInsertion κ a0 (some q1) τ L) σ12 fun _ σ13 => xgi σ13 a0 2 4 fun v14 => xpi κ σ13 a0 2 4 (v14 + (1 : Int32)) fun σ15 => xgi σ15 a0 2 5 fun v16 => xpi κ σ15 a0 2 5 (v16 + (1 : Int32)) fun σ17 => K () σ17.1)))
theorem mdJ1_addEntry : yJ1_addEntry.cls ≠ "java/lang/invoke/MethodHandle" ∧ yJ1_addEntry.cls ≠ "java/lang/invoke/VarHandle" ∧ (parseMethodDescriptor yJ1_addEntry.desc).map (fun d => d.parameters.length) = some 4 := by decide +kernel
set_option maxHeartbeats 4000000 in
set_option maxRecDepth 100000 in
theorem R_J1_addEntry (l : Launch) (hl : l.stackTraces = false) (G : xG) (hG : G.1.2 = x_cl) (a0 : Nat) (x1 : Option Nat) (x2 : Option Nat) (x3 : Option Nat) (x4 : Int32) (σ : xS) (K : Unit → xH → Prop) (hp : P_J1_addEntry G.2 a0 x1 x2 x3 x4 σ K) : xM l yJ1_addEntry cJ1_addEntry 6 (Option.none : Option Jvm.ClassFile.FieldType) 2 44 G [(.ref a0), va_rf x1, va_rf x2, va_rf x3, .int x4] σ (xlift emV K) := by
  refine x_entry (by decide) (by simp [lg_sl, x_catq, x_cati, x_catr, x_catn]) ?_
  intro p e s m args below meth c X hr hin
  have X : xX p s m args meth c G cJ1_addEntry 6 RJ1 := X
  have hx := X.1
  have hb := X.2.1
  have hts := X.2.2.2.2.1
  have hown := X.2.2.2.1
  unfold P_J1_addEntry at hp
  refine x_same (lo' := [(0, .ref a0), (1, va_rf x1), (2, va_rf x2), (3, va_rf x3), (4, .int x4)]) (by simp [lv_args, x_catq, x_cati, x_catr, x_catn]) ?_
  refine x_new X (kJ31 hG) q1292 q1293 q136 (fs := [va_rf none, va_rf none, va_rf none, va_rf none, va_rf none, .int 0]) x_dflt_J31 dJ1_addEntry_0 hp (fun q1 σ2 hp1 => ?_)
  refine x_pc (pc' := 3) rfl ?_
  refine x_up (pc' := 4) (fun _ _ _ _ _ L => lv_dup hx hb dJ1_addEntry_3 rfl) ?_
  refine x_up (pc' := 5) (fun _ _ _ _ _ L => lv_aloadq_n hx hb dJ1_addEntry_4 rfl (lv_at L 1 rfl)) ?_
  refine x_up (pc' := 6) (fun _ _ _ _ _ L => lv_aloadq_n hx hb dJ1_addEntry_5 rfl (lv_at L 2 rfl)) ?_
  refine x_up (pc' := 7) (fun _ _ _ _ _ L => lv_aloadq_n hx hb dJ1_addEntry_6 rfl (lv_at L 3 rfl)) ?_
  refine x_callI 3 X (fun σ' KK h => R_J31_init l hl G hG q1 x1 x2 x3 σ' KK h) (lw_meth q1296) q136 q1294 q1295 rfl mdJ31_init ⟨Nat.le_of_ble_eq_true rfl, Nat.le_of_ble_eq_true rfl⟩ rfl rfl (Nat.le_of_ble_eq_true rfl) dJ1_addEntry_7 hp1 (fun σ3 hp2 => ?_)
  refine x_pc (pc' := 10) rfl ?_
  refine x_upL (pc' := 12) (lo' := [(5, .ref q1), (0, .ref a0), (1, va_rf x1), (2, va_rf x2), (3, va_rf x3), (4, .int x4)]) (fun _ _ _ _ _ L => lv_astore hx hb dJ1_addEntry_10 L (by decide) rfl) ?_
  refine x_up (pc' := 14) (fun _ _ _ _ _ L => lv_iload hx hb dJ1_addEntry_12 (lv_at L 5 rfl)) ?_
  refine x_if (C := x4 = 0) (pt := 26) (pc' := 17) (fun _ _ _ _ _ => lv_if_eq (tgt := 26) hx hb dJ1_addEntry_14 (by decide)) (fun c14 => ?_) (fun c14 => ?_)
  · have hp3 := hp2.1 c14
    refine x_up (pc' := 27) (fun _ _ _ _ _ L => lv_aloadq_n hx hb dJ1_addEntry_26 rfl (lv_at L 4 rfl)) ?_
    refine x_up (pc' := 29) (fun _ _ _ _ _ L => lv_aload hx hb dJ1_addEntry_27 (lv_at L 0 rfl)) ?_
    obtain ⟨b4, rfl, hp4⟩ := hp3
    refine x_pq X (kJ31 hG) 3 (by decide) q1303 (fun _ h => h) rfl (some q1) (x_nar _ (by decide)) (x_fit _ (by decide)) dJ1_addEntry_29 hp4 (fun σ5 hp5 => ?_)
    refine x_pc (pc' := 32) rfl ?_
    refine x_up (pc' := 33) (fun _ _ _ _ _ L => lv_aload_n hx hb dJ1_addEntry_32 rfl (lv_at L 1 rfl)) ?_
    refine x_up (pc' := 35) (fun _ _ _ _ _ L => lv_aload hx hb dJ1_addEntry_33 (lv_at L 0 rfl)) ?_
    refine x_callV (em := emV) (fun r st => st) (fun _ _ => rfl) 1 X (kJ1 hG) (fun σ' KK h => R_J1_fixAfterInsertion l hl G hG a0 (some q1) σ' KK h) (lw_V q1669 q1671 qs13 q102 q1672) ⟨rfl, mdJ1_fixAfterInsertion⟩ ⟨Nat.le_of_ble_eq_true rfl, Nat.le_of_ble_eq_true rfl⟩ rfl rfl (Nat.le_of_ble_eq_true rfl) dJ1_addEntry_35 hp5.1 hp5.2 (fun _ σ6 hp6 => ?_)
    refine x_pc (pc' := 38) rfl ?_
    refine x_up (pc' := 39) (fun _ _ _ _ _ L => lv_aload_n hx hb dJ1_addEntry_38 rfl (lv_at L 1 rfl)) ?_
    refine x_up (pc' := 40) (fun _ _ _ _ _ L => lv_dup hx hb dJ1_addEntry_39 rfl) ?_
    refine x_gi X (kJ1 hG) 4 (by decide) q189 (fun _ h => h) dJ1_addEntry_40 hp6 (fun v7 hp7 => ?_)
    refine x_pc (pc' := 43) rfl ?_
    refine x_up (pc' := 44) (fun _ _ _ _ _ L => lv_iconst (v := (1 : Int32)) hx hb dJ1_addEntry_43 (by decide)) ?_
    refine x_up (pc' := 45) (fun _ _ _ _ _ L => lv_iadd hx hb dJ1_addEntry_44) ?_
    refine x_pi X (kJ1 hG) 4 (by decide) q189 (fun _ h => h) rfl rfl rfl dJ1_addEntry_45 hp7 (fun σ8 hp8 => ?_)
    refine x_pc (pc' := 48) rfl ?_
    refine x_up (pc' := 49) (fun _ _ _ _ _ L => lv_aload_n hx hb dJ1_addEntry_48 rfl (lv_at L 1 rfl)) ?_
    refine x_up (pc' := 50) (fun _ _ _ _ _ L => lv_dup hx hb dJ1_addEntry_49 rfl) ?_
    refine x_gi X (kJ1 hG) 5 (by decide) q190 (fun _ h => h) dJ1_addEntry_50 hp8 (fun v9 hp9 => ?_)
    refine x_pc (pc' := 53) rfl ?_
    refine x_up (pc' := 54) (fun _ _ _ _ _ L => lv_iconst (v := (1 : Int32)) hx hb dJ1_addEntry_53 (by decide)) ?_
    refine x_up (pc' := 55) (fun _ _ _ _ _ L => lv_iadd hx hb dJ1_addEntry_54) ?_
    refine x_pi X (kJ1 hG) 5 (by decide) q190 (fun _ h => h) rfl rfl rfl dJ1_addEntry_55 hp9 (fun σ10 hp10 => ?_)
    refine x_pc (pc' := 58) rfl ?_
    exact x_vret X hr dJ1_addEntry_58 hp10
  · have hp11 := hp2.2 c14
    refine x_up (pc' := 18) (fun _ _ _ _ _ L => lv_aloadq_n hx hb dJ1_addEntry_17 rfl (lv_at L 4 rfl)) ?_
    refine x_up (pc' := 20) (fun _ _ _ _ _ L => lv_aload hx hb dJ1_addEntry_18 (lv_at L 0 rfl)) ?_
    obtain ⟨b11, rfl, hp12⟩ := hp11
    refine x_pq X (kJ31 hG) 2 (by decide) q1302 (fun _ h => h) rfl (some q1) (x_nar _ (by decide)) (x_fit _ (by decide)) dJ1_addEntry_20 hp12 (fun σ12 hp13 => ?_)
    refine x_pc (pc' := 23) rfl ?_
    refine x_up (pc' := 32) (fun _ _ _ _ _ L => lv_goto (tgt := 32) hx hb dJ1_addEntry_23 (by decide)) ?_
    refine x_up (pc' := 33) (fun _ _ _ _ _ L => lv_aload_n hx hb dJ1_addEntry_32 rfl (lv_at L 1 rfl)) ?_
    refine x_up (pc' := 35) (fun _ _ _ _ _ L => lv_aload hx hb dJ1_addEntry_33 (lv_at L 0 rfl)) ?_
    refine x_callV (em := emV) (fun r st => st) (fun _ _ => rfl) 1 X (kJ1 hG) (fun σ' KK h => R_J1_fixAfterInsertion l hl G hG a0 (some q1) σ' KK h) (lw_V q1669 q1671 qs13 q102 q1672) ⟨rfl, mdJ1_fixAfterInsertion⟩ ⟨Nat.le_of_ble_eq_true rfl, Nat.le_of_ble_eq_true rfl⟩ rfl rfl (Nat.le_of_ble_eq_true rfl) dJ1_addEntry_35 hp13.1 hp13.2 (fun _ σ13 hp14 => ?_)
    refine x_pc (pc' := 38) rfl ?_
    refine x_up (pc' := 39) (fun _ _ _ _ _ L => lv_aload_n hx hb dJ1_addEntry_38 rfl (lv_at L 1 rfl)) ?_
    refine x_up (pc' := 40) (fun _ _ _ _ _ L => lv_dup hx hb dJ1_addEntry_39 rfl) ?_
    refine x_gi X (kJ1 hG) 4 (by decide) q189 (fun _ h => h) dJ1_addEntry_40 hp14 (fun v14 hp15 => ?_)
    refine x_pc (pc' := 43) rfl ?_
    refine x_up (pc' := 44) (fun _ _ _ _ _ L => lv_iconst (v := (1 : Int32)) hx hb dJ1_addEntry_43 (by decide)) ?_
    refine x_up (pc' := 45) (fun _ _ _ _ _ L => lv_iadd hx hb dJ1_addEntry_44) ?_
    refine x_pi X (kJ1 hG) 4 (by decide) q189 (fun _ h => h) rfl rfl rfl dJ1_addEntry_45 hp15 (fun σ15 hp16 => ?_)
    refine x_pc (pc' := 48) rfl ?_
    refine x_up (pc' := 49) (fun _ _ _ _ _ L => lv_aload_n hx hb dJ1_addEntry_48 rfl (lv_at L 1 rfl)) ?_
    refine x_up (pc' := 50) (fun _ _ _ _ _ L => lv_dup hx hb dJ1_addEntry_49 rfl) ?_
    refine x_gi X (kJ1 hG) 5 (by decide) q190 (fun _ h => h) dJ1_addEntry_50 hp16 (fun v16 hp17 => ?_)
    refine x_pc (pc' := 53) rfl ?_
    refine x_up (pc' := 54) (fun _ _ _ _ _ L => lv_iconst (v := (1 : Int32)) hx hb dJ1_addEntry_53 (by decide)) ?_
    refine x_up (pc' := 55) (fun _ _ _ _ _ L => lv_iadd hx hb dJ1_addEntry_54) ?_
    refine x_pi X (kJ1 hG) 5 (by decide) q190 (fun _ h => h) rfl rfl rfl dJ1_addEntry_55 hp17 (fun σ17 hp18 => ?_)
    refine x_pc (pc' := 58) rfl ?_
    exact x_vret X hr dJ1_addEntry_58 hp18
-- J1_put_2
def B_J1_put_2_123 (κ : Nat → Nat) (kx124004 : (Option Nat) → xS → Prop) (kx124005 : (Int32 × Option Nat) → xS → Prop) (f0 : Nat) (f1 : Nat) (f2 : Option Nat) (f3 : Int32) (f8 : Nat) : ((Option Nat) → xS → Prop) → (Option Nat) → xS → Prop := fun self124003 w124001 σ124002 =>
  xnn w124001 fun b124006 => xgq σ124002 b124006 19 0 fun v124007 => xrc σ124002 f8 14 ∧ xcall (fun τ L => P_J23_compareTo κ f8 v124007 τ L) σ124002 fun v124008 σ124009 => ((0 ≤ v124008 → (((v124008 ≤ 0 → (kx124004 (some b124006) σ124009)) ∧ (¬ v124008 ≤ 0 → (xgq σ124009 b124006 19 3 fun v124010 => ((v124010 = none → (kx124005 (v124008, (some b124006)) σ124009)) ∧ (∀ b124011 : Nat, v124010 = some b124011 → (self124003 (some b124011) σ124009)))))))) ∧ (¬ 0 ≤ v124008 → (xgq σ124009 b124006 19 2 fun v124012 => ((v124012 = none → (kx124005 (v124008, (some b124006)) σ124009)) ∧ (∀ b124013 : Nat, v124012 = some b124013 → (self124003 (some b124013) σ124009))))))
def B_J1_put_2_30 (κ : Nat → Nat) (kx31004 : (Option Nat) → xS → Prop) (kx31005 : (Int32 × Option Nat) → xS → Prop) (f0 : Nat) (f1 : Option Nat) (f2 : Option Nat) (f3 : Int32) (f7 : Nat) : ((Option Nat) → xS → Prop) → (Option Nat) → xS → Prop := fun self31003 w31001 σ31002 =>
  xnn w31001 fun b31006 => xgq σ31002 b31006 19 0 fun v31007 => xcall (fun τ L => ((xrc τ f7 28 ∧ P_X7_compare_2 κ f7 f1 v31007 τ L) ∨ ((xrc τ f7 29 ∧ P_X8_compare κ f7 f1 v31007 τ L) ∨ ((xrc τ f7 30 ∧ P_X9_compare κ f7 f1 v31007 τ L) ∨ ((xrc τ f7 31 ∧ P_X10_compare κ f7 f1 v31007 τ L) ∨ (xrc τ f7 34 ∧ P_X11_compare κ f7 f1 v31007 τ L)))))) σ31002 fun v31008 σ31009 => ((0 ≤ v31008 → (((v31008 ≤ 0 → (kx31004 (some b31006) σ31009)) ∧ (¬ v31008 ≤ 0 → (xgq σ31009 b31006 19 3 fun v31010 => ((v31010 = none → (kx31005 (v31008, (some b31006)) σ31009)) ∧ (∀ b31011 : Nat, v31010 = some b31011 → (self31003 (some b31011) σ31009)))))))) ∧ (¬ 0 ≤ v31008 → (xgq σ31009 b31006 19 2 fun v31012 => ((v31012 = none → (kx31005 (v31008, (some b31006)) σ31009)) ∧ (∀ b31013 : Nat, v31012 = some b31013 → (self31003 (some b31013) σ31009))))))
def P_J1_put_2 (κ : Nat → Nat) (a0 : Nat) (x1 : Option Nat) (x2 : Option Nat) (x3 : Int32) (σ : xS) (K : Option Nat → xH → Prop) : Prop :=
  xgq σ a0 2 3 fun v1 => ((v1 = none → (xrc σ a0 2 ∧ xcall (fun τ L => P_J1_addEntryToEmptyMap κ a0 x1 x2 τ L) σ fun _ σ3 => K none σ3.1)) ∧ (∀ b2 : Nat, v1 = some b2 → (xgq σ a0 2 2 fun v4 => ((v4 = none → (xcall (fun τ L => P_J16_requireNonNull κ x1 τ L) σ fun v6 σ7 => xnn x1 fun b8 => xrc σ7 b8 14 ∧ xwhile (B_J1_put_2_123 κ (fun e9 σ10 => xnn e9 fun b11 => xgq σ10 b11 19 1 fun v12 => ((x3 = 0 → (((v12 = none → (xpq κ σ10 b11 19 1 x2 fun σ14 => K none σ14.1)) ∧ (∀ b13 : Nat, v12 = some b13 → (K (some b13) σ10.1))))) ∧ (¬ x3 = 0 → (xpq κ σ10 b11 19 1 x2 fun σ15 => K v12 σ15.1)))) (fun e16 σ17 => ((0 ≤ e16.1 → (xrc σ17 a0 2 ∧ xcall (fun τ L => P_J1_addEntry κ a0 (some b8) x2 e16.2 (0 : Int32) τ L) σ17 fun _ σ18 => K none σ18.1)) ∧ (¬ 0 ≤ e16.1 → (xrc σ17 a0 2 ∧ xcall (fun τ L => P_J1_addEntry κ a0 (some b8) x2 e16.2 (1 : Int32) τ L) σ17 fun _ σ19 => K none σ19.1)))) a0 b8 x2 x3 b8) (some b2) σ7)) ∧ (∀ b5 : Nat, v4 = some b5 → (xwhile (B_J1_put_2_30 κ (fun e20 σ21 => xnn e20 fun b22 => xgq σ21 b22 19 1 fun v23 => ((x3 = 0 → (((v23 = none → (xpq κ σ21 b22 19 1 x2 fun σ25 => K none σ25.1)) ∧ (∀ b24 : Nat, v23 = some b24 → (K (some b24) σ21.1))))) ∧ (¬ x3 = 0 → (xpq κ σ21 b22 19 1 x2 fun σ26 => K v23 σ26.1)))) (fun e27 σ28 => ((0 ≤ e27.1 → (xrc σ28 a0 2 ∧ xcall (fun τ L => P_J1_addEntry κ a0 x1 x2 e27.2 (0 : Int32) τ L) σ28 fun _ σ29 => K none σ29.1)) ∧ (¬ 0 ≤ e27.1 → (xrc σ28 a0 2 ∧ xcall (fun τ L => P_J1_addEntry κ a0 x1 x2 e27.2 (1 : Int32) τ L) σ28 fun _ σ30 => K none σ30.1)))) a0 x1 x2 x3 b5) (some b2) σ))))))
theorem mdJ1_put_2 : yJ1_put_2.cls ≠ "java/lang/invoke/MethodHandle" ∧ yJ1_put_2.cls ≠ "java/lang/invoke/VarHandle" ∧ (parseMethodDescriptor yJ1_put_2.desc).map (fun d => d.parameters.length) = some 3 := by decide +kernel
set_option maxHeartbeats 4000000 in
set_option maxRecDepth 100000 in
theorem R_J1_put_2 (l : Launch) (hl : l.stackTraces = false) (G : xG) (hG : G.1.2 = x_cl) (a0 : Nat) (x1 : Option Nat) (x2 : Option Nat) (x3 : Int32) (σ : xS) (K : Option Nat → xH → Prop) (hp : P_J1_put_2 G.2 a0 x1 x2 x3 σ K) : xM l yJ1_put_2 cJ1_put_2 10 (Option.some (Jvm.ClassFile.FieldType.object "java/lang/Object")) 6 131 G [(.ref a0), va_rf x1, va_rf x2, .int x3] σ (xlift emQ K) := by
  refine x_entry (by decide) (by simp [lg_sl, x_catq, x_cati, x_catr, x_catn]) ?_
  intro p e s m args below meth c X hr hin
  have X : xX p s m args meth c G cJ1_put_2 10 RJ1 := X
  have hx := X.1
  have hb := X.2.1
  have hts := X.2.2.2.2.1
  have hown := X.2.2.2.1
  unfold P_J1_put_2 at hp
  refine x_same (lo' := [(0, .ref a0), (1, va_rf x1), (2, va_rf x2), (3, .int x3)]) (by simp [lv_args, x_catq, x_cati, x_catr, x_catn]) ?_
  refine x_up (pc' := 1) (fun _ _ _ _ _ L => lv_aload_n hx hb dJ1_put_2_0 rfl (lv_at L 0 rfl)) ?_
  refine x_gq X (kJ1 hG) 3 (by decide) q188 (fun _ h => h) dJ1_put_2_1 hp (fun v1 hp1 => ?_)
  refine x_pc (pc' := 4) rfl ?_
  refine x_upL (pc' := 6) (lo' := [(4, va_rf v1), (0, .ref a0), (1, va_rf x1), (2, va_rf x2), (3, .int x3)]) (fun _ _ _ _ _ L => lv_astoreq hx hb dJ1_put_2_4 L (by decide) rfl) ?_
  refine x_up (pc' := 8) (fun _ _ _ _ _ L => lv_aloadq hx hb dJ1_put_2_6 (lv_at L 0 rfl)) ?_
  rcases v1 with _ | b2
  · have hp2 := hp1.1 rfl
    refine x_up (pc' := 11) (fun _ _ _ _ _ L => lv_ifnonnullN hx hb dJ1_put_2_8) ?_
    refine x_up (pc' := 12) (fun _ _ _ _ _ L => lv_aload_n hx hb dJ1_put_2_11 rfl (lv_at L 1 rfl)) ?_
    refine x_up (pc' := 13) (fun _ _ _ _ _ L => lv_aloadq_n hx hb dJ1_put_2_12 rfl (lv_at L 2 rfl)) ?_
    refine x_up (pc' := 14) (fun _ _ _ _ _ L => lv_aloadq_n hx hb dJ1_put_2_13 rfl (lv_at L 3 rfl)) ?_
    refine x_callV (em := emV) (fun r st => st) (fun _ _ => rfl) 2 X (kJ1 hG) (fun σ' KK h => R_J1_addEntryToEmptyMap l hl G hG a0 x1 x2 σ' KK h) (lw_V q1392 q1394 qs11 q102 q1395) ⟨rfl, mdJ1_addEntryToEmptyMap⟩ ⟨Nat.le_of_ble_eq_true rfl, Nat.le_of_ble_eq_true rfl⟩ rfl rfl (Nat.le_of_ble_eq_true rfl) dJ1_put_2_14 hp2.1 hp2.2 (fun _ σ3 hp3 => ?_)
    refine x_pc (pc' := 17) rfl ?_
    refine x_up (pc' := 18) (fun _ _ _ _ _ L => lv_null hx hb dJ1_put_2_17) ?_
    exact x_aret X hr (Or.inl ⟨_, rfl⟩) dJ1_put_2_18 none hp3
  · have hp4 := hp1.2 _ rfl
    refine x_up (pc' := 19) (fun _ _ _ _ _ L => lv_ifnonnull (tgt := 19) hx hb dJ1_put_2_8 (by decide)) ?_
    refine x_up (pc' := 20) (fun _ _ _ _ _ L => lv_aload_n hx hb dJ1_put_2_19 rfl (lv_at L 1 rfl)) ?_
    refine x_gq X (kJ1 hG) 2 (by decide) q187 (fun _ h => h) dJ1_put_2_20 hp4 (fun v4 hp5 => ?_)
    refine x_pc (pc' := 23) rfl ?_
    refine x_upL (pc' := 25) (lo' := [(7, va_rf v4), (4, .ref b2), (0, .ref a0), (1, va_rf x1), (2, va_rf x2), (3, .int x3)]) (fun _ _ _ _ _ L => lv_astoreq hx hb dJ1_put_2_23 L (by decide) rfl) ?_
    refine x_up (pc' := 27) (fun _ _ _ _ _ L => lv_aloadq hx hb dJ1_put_2_25 (lv_at L 0 rfl)) ?_
    rcases v4 with _ | b5
    · have hp6 := hp5.1 rfl
      refine x_up (pc' := 112) (fun _ _ _ _ _ L => lv_ifnullN (tgt := 112) hx hb dJ1_put_2_27 (by decide)) ?_
      refine x_up (pc' := 113) (fun _ _ _ _ _ L => lv_aloadq_n hx hb dJ1_put_2_112 rfl (lv_at L 3 rfl)) ?_
      refine x_callS (em := emQ) (fun r st => va_rf r :: st) (fun _ _ => rfl) 1 X (fun σ' KK h => R_J16_requireNonNull l hl G hG x1 σ' KK h) (lw_S q1662 q1663 q121 q1664) mdJ16_requireNonNull ⟨Nat.le_of_ble_eq_true rfl, Nat.le_of_ble_eq_true rfl⟩ rfl rfl (Nat.le_of_ble_eq_true rfl) dJ1_put_2_113 hp6 (fun v6 σ7 hp7 => ?_)
      refine x_pc (pc' := 116) rfl ?_
      refine x_up (pc' := 117) (fun _ _ _ _ _ L => lv_pop hx hb dJ1_put_2_116 (x_catq _)) ?_
      refine x_up (pc' := 118) (fun _ _ _ _ _ L => lv_aloadq_n hx hb dJ1_put_2_117 rfl (lv_at L 3 rfl)) ?_
      obtain ⟨b8, rfl, hp8⟩ := hp7
      refine x_castY X (kJ23 hG) q1400 q1405 hp8.1 dJ1_put_2_118 ?_
      have hp9 := hp8.2
      refine x_pc (pc' := 121) rfl ?_
      refine x_upL (pc' := 123) (lo' := [(8, .ref b8), (7, .null), (4, .ref b2), (0, .ref a0), (1, .ref b8), (2, va_rf x2), (3, .int x3)]) (fun _ _ _ _ _ L => lv_astore hx hb dJ1_put_2_121 L (by decide) rfl) ?_
      refine x_lo (lo' := [(4, .ref b2), (0, .ref a0), (1, .ref b8), (2, va_rf x2), (3, .int x3), (8, .ref b8)]) [2, 3, 4, 5, 6, 0] rfl ?_
      refine x_while (v0 := (some b2)) (fun w9 => [(4, va_rf w9), (0, .ref a0), (1, .ref b8), (2, va_rf x2), (3, .int x3), (8, .ref b8)]) hp9 (fun self10 hself11 => ?_)
      rintro y13 σ12 hp10
      unfold B_J1_put_2_123 at hp10
      refine x_same (lo' := [(4, va_rf y13), (0, .ref a0), (1, .ref b8), (2, va_rf x2), (3, .int x3), (8, .ref b8)]) rfl ?_
      refine x_up (pc' := 125) (fun _ _ _ _ _ L => lv_aloadq hx hb dJ1_put_2_123 (lv_at L 0 rfl)) ?_
      refine x_upL (pc' := 127) (lo' := [(6, va_rf y13), (4, va_rf y13), (0, .ref a0), (1, .ref b8), (2, va_rf x2), (3, .int x3), (8, .ref b8)]) (fun _ _ _ _ _ L => lv_astoreq hx hb dJ1_put_2_125 L (by decide) rfl) ?_
      refine x_up (pc' := 129) (fun _ _ _ _ _ L => lv_aload hx hb dJ1_put_2_127 (lv_at L 6 rfl)) ?_
      refine x_up (pc' := 131) (fun _ _ _ _ _ L => lv_aloadq hx hb dJ1_put_2_129 (lv_at L 1 rfl)) ?_
      obtain ⟨b14, rfl, hp11⟩ := hp10
      refine x_gq X (kJ31 hG) 0 (by decide) q1299 (fun _ h => h) dJ1_put_2_131 hp11 (fun v15 hp12 => ?_)
      refine x_pc (pc' := 134) rfl ?_
      refine x_callF (x := ⟨"java/lang/Comparable", "compareTo", "(Ljava/lang/Object;)I"⟩) (em := emI) (fun r st => .int r :: st) (fun _ _ => rfl) 1 X (kJ23 hG) (fun σ' KK h => R_J23_compareTo l hl G hG b8 v15 σ' KK h) q1402 q1406 q1408 q128 q1410 ⟨⟨q1404, q1403, q1409, q1407, q1405⟩, by decide, by decide⟩ (by decide +kernel) ⟨Nat.le_of_ble_eq_true rfl, Nat.le_of_ble_eq_true rfl⟩ rfl rfl (Nat.le_of_ble_eq_true rfl) dJ1_put_2_134 hp12.1 hp12.2 (fun v16 σ17 hp13 => ?_)
      refine x_pc (pc' := 139) rfl ?_
      refine x_upL (pc' := 141) (lo' := [(5, .int v16), (6, .ref b14), (4, .ref b14), (0, .ref a0), (1, .ref b8), (2, va_rf x2), (3, .int x3), (8, .ref b8)]) (fun _ _ _ _ _ L => lv_istore hx hb dJ1_put_2_139 L (by decide) rfl) ?_
      refine x_up (pc' := 143) (fun _ _ _ _ _ L => lv_iload hx hb dJ1_put_2_141 (lv_at L 0 rfl)) ?_
      refine x_if (C := 0 ≤ v16) (pt := 156) (pc' := 146) (fun _ _ _ _ _ => lv_if_ge (tgt := 156) hx hb dJ1_put_2_143 (by decide)) (fun c143 => ?_) (fun c143 => ?_)
      · have hp14 := hp13.1 c143
        refine x_up (pc' := 158) (fun _ _ _ _ _ L => lv_iload hx hb dJ1_put_2_156 (lv_at L 0 rfl)) ?_
        refine x_if (C := v16 ≤ 0) (pt := 171) (pc' := 161) (fun _ _ _ _ _ => lv_if_le (tgt := 171) hx hb dJ1_put_2_158 (by decide)) (fun c158 => ?_) (fun c158 => ?_)
        · have hp15 := hp14.1 c158
          refine x_same (lo' := [(5, .int v16), (6, .ref b14), (4, va_rf (some b14)), (0, .ref a0), (1, .ref b8), (2, va_rf x2), (3, .int x3), (8, .ref b8)]) rfl ?_
          refine x_up (pc' := 173) (fun _ _ _ _ _ L => lv_aloadq hx hb dJ1_put_2_171 (lv_at L 2 rfl)) ?_
          have hp16 := x_nnS hp15
          refine x_gq X (kJ31 hG) 1 (by decide) q1301 (fun _ h => h) dJ1_put_2_173 hp16 (fun v18 hp17 => ?_)
          refine x_pc (pc' := 176) rfl ?_
          refine x_upL (pc' := 178) (lo' := [(9, va_rf v18), (5, .int v16), (6, .ref b14), (4, .ref b14), (0, .ref a0), (1, .ref b8), (2, va_rf x2), (3, .int x3), (8, .ref b8)]) (fun _ _ _ _ _ L => lv_astoreq hx hb dJ1_put_2_176 L (by decide) rfl) ?_
          refine x_up (pc' := 179) (fun _ _ _ _ _ L => lv_iload_n hx hb dJ1_put_2_178 rfl (lv_at L 7 rfl)) ?_
          refine x_ifn (C := x3 = 0) (pt := 187) (pc' := 182) (fun _ _ _ _ _ => lv_if_ne (tgt := 187) hx hb dJ1_put_2_179 (by decide)) (fun c179 => ?_) (fun c179 => ?_)
          · have hp18 := hp17.1 c179
            refine x_up (pc' := 184) (fun _ _ _ _ _ L => lv_aloadq hx hb dJ1_put_2_182 (lv_at L 0 rfl)) ?_
            rcases v18 with _ | b19
            · have hp19 := hp18.1 rfl
              refine x_up (pc' := 187) (fun _ _ _ _ _ L => lv_ifnonnullN hx hb dJ1_put_2_184) ?_
              refine x_up (pc' := 189) (fun _ _ _ _ _ L => lv_aload hx hb dJ1_put_2_187 (lv_at L 3 rfl)) ?_
              refine x_up (pc' := 190) (fun _ _ _ _ _ L => lv_aloadq_n hx hb dJ1_put_2_189 rfl (lv_at L 6 rfl)) ?_
              refine x_pq X (kJ31 hG) 1 (by decide) q1301 (fun _ h => h) rfl x2 (x_nar _ (by decide)) (x_fit _ (by decide)) dJ1_put_2_190 hp19 (fun σ20 hp20 => ?_)
              refine x_pc (pc' := 193) rfl ?_
              refine x_up (pc' := 195) (fun _ _ _ _ _ L => lv_aloadN hx hb dJ1_put_2_193 (lv_at L 0 rfl)) ?_
              exact x_aret X hr (Or.inl ⟨_, rfl⟩) dJ1_put_2_195 none hp20
            · have hp21 := hp18.2 _ rfl
              refine x_up (pc' := 193) (fun _ _ _ _ _ L => lv_ifnonnull (tgt := 193) hx hb dJ1_put_2_184 (by decide)) ?_
              refine x_up (pc' := 195) (fun _ _ _ _ _ L => lv_aload hx hb dJ1_put_2_193 (lv_at L 0 rfl)) ?_
              exact x_aret X hr (Or.inl ⟨_, rfl⟩) dJ1_put_2_195 (some b19) hp21
          · have hp22 := hp17.2 c179
            refine x_up (pc' := 189) (fun _ _ _ _ _ L => lv_aload hx hb dJ1_put_2_187 (lv_at L 3 rfl)) ?_
            refine x_up (pc' := 190) (fun _ _ _ _ _ L => lv_aloadq_n hx hb dJ1_put_2_189 rfl (lv_at L 6 rfl)) ?_
            refine x_pq X (kJ31 hG) 1 (by decide) q1301 (fun _ h => h) rfl x2 (x_nar _ (by decide)) (x_fit _ (by decide)) dJ1_put_2_190 hp22 (fun σ21 hp23 => ?_)
            refine x_pc (pc' := 193) rfl ?_
            refine x_up (pc' := 195) (fun _ _ _ _ _ L => lv_aloadq hx hb dJ1_put_2_193 (lv_at L 0 rfl)) ?_
            exact x_aret X hr (Or.inl ⟨_, rfl⟩) dJ1_put_2_195 v18 hp23
        · have hp24 := hp14.2 c158
          refine x_up (pc' := 163) (fun _ _ _ _ _ L => lv_aload hx hb dJ1_put_2_161 (lv_at L 2 rfl)) ?_
          refine x_gq X (kJ31 hG) 3 (by decide) q1303 (fun _ h => h) dJ1_put_2_163 hp24 (fun v22 hp25 => ?_)
          refine x_pc (pc' := 166) rfl ?_
          refine x_upL (pc' := 168) (lo' := [(4, va_rf v22), (5, .int v16), (6, .ref b14), (0, .ref a0), (1, .ref b8), (2, va_rf x2), (3, .int x3), (8, .ref b8)]) (fun _ _ _ _ _ L => lv_astoreq hx hb dJ1_put_2_166 L (by decide) rfl) ?_
          refine x_up (pc' := 196) (fun _ _ _ _ _ L => lv_goto (tgt := 196) hx hb dJ1_put_2_168 (by decide)) ?_
          refine x_up (pc' := 198) (fun _ _ _ _ _ L => lv_aloadq hx hb dJ1_put_2_196 (lv_at L 0 rfl)) ?_
          rcases v22 with _ | b23
          · have hp26 := hp25.1 rfl
            refine x_up (pc' := 201) (fun _ _ _ _ _ L => lv_ifnonnullN hx hb dJ1_put_2_198) ?_
            refine x_same (lo' := [(4, .null), (5, .int v16), (6, va_rf (some b14)), (0, .ref a0), (1, .ref b8), (2, va_rf x2), (3, .int x3), (8, .ref b8)]) rfl ?_
            refine x_up (pc' := 202) (fun _ _ _ _ _ L => lv_aload_n hx hb dJ1_put_2_201 rfl (lv_at L 3 rfl)) ?_
            refine x_up (pc' := 203) (fun _ _ _ _ _ L => lv_aload_n hx hb dJ1_put_2_202 rfl (lv_at L 4 rfl)) ?_
            refine x_up (pc' := 204) (fun _ _ _ _ _ L => lv_aloadq_n hx hb dJ1_put_2_203 rfl (lv_at L 5 rfl)) ?_
            refine x_up (pc' := 206) (fun _ _ _ _ _ L => lv_aloadq hx hb dJ1_put_2_204 (lv_at L 2 rfl)) ?_
            refine x_up (pc' := 208) (fun _ _ _ _ _ L => lv_iload hx hb dJ1_put_2_206 (lv_at L 1 rfl)) ?_
            refine x_if (C := 0 ≤ v16) (pt := 215) (pc' := 211) (fun _ _ _ _ _ => lv_if_ge (tgt := 215) hx hb dJ1_put_2_208 (by decide)) (fun c208 => ?_) (fun c208 => ?_)
            · have hp27 := hp26.1 c208
              refine x_up (pc' := 216) (fun _ _ _ _ _ L => lv_iconst (v := (0 : Int32)) hx hb dJ1_put_2_215 (by decide)) ?_
              refine x_callV (em := emV) (fun r st => st) (fun _ _ => rfl) 4 X (kJ1 hG) (fun σ' KK h => R_J1_addEntry l hl G hG a0 (some b8) x2 (some b14) (0 : Int32) σ' KK h) (lw_V q1665 q1667 qs12 q102 q1668) ⟨rfl, mdJ1_addEntry⟩ ⟨Nat.le_of_ble_eq_true rfl, Nat.le_of_ble_eq_true rfl⟩ rfl rfl (Nat.le_of_ble_eq_true rfl) dJ1_put_2_216 hp27.1 hp27.2 (fun _ σ24 hp28 => ?_)
              refine x_pc (pc' := 219) rfl ?_
              refine x_up (pc' := 220) (fun _ _ _ _ _ L => lv_null hx hb dJ1_put_2_219) ?_
              exact x_aret X hr (Or.inl ⟨_, rfl⟩) dJ1_put_2_220 none hp28
            · have hp29 := hp26.2 c208
              refine x_up (pc' := 212) (fun _ _ _ _ _ L => lv_iconst (v := (1 : Int32)) hx hb dJ1_put_2_211 (by decide)) ?_
              refine x_up (pc' := 216) (fun _ _ _ _ _ L => lv_goto (tgt := 216) hx hb dJ1_put_2_212 (by decide)) ?_
              refine x_callV (em := emV) (fun r st => st) (fun _ _ => rfl) 4 X (kJ1 hG) (fun σ' KK h => R_J1_addEntry l hl G hG a0 (some b8) x2 (some b14) (1 : Int32) σ' KK h) (lw_V q1665 q1667 qs12 q102 q1668) ⟨rfl, mdJ1_addEntry⟩ ⟨Nat.le_of_ble_eq_true rfl, Nat.le_of_ble_eq_true rfl⟩ rfl rfl (Nat.le_of_ble_eq_true rfl) dJ1_put_2_216 hp29.1 hp29.2 (fun _ σ25 hp30 => ?_)
              refine x_pc (pc' := 219) rfl ?_
              refine x_up (pc' := 220) (fun _ _ _ _ _ L => lv_null hx hb dJ1_put_2_219) ?_
              exact x_aret X hr (Or.inl ⟨_, rfl⟩) dJ1_put_2_220 none hp30
          · have hp31 := hp25.2 _ rfl
            refine x_up (pc' := 123) (fun _ _ _ _ _ L => lv_ifnonnull (tgt := 123) hx hb dJ1_put_2_198 (by decide)) ?_
            refine x_lo (lo' := [(4, .ref b23), (0, .ref a0), (1, .ref b8), (2, va_rf x2), (3, .int x3), (8, .ref b8)]) [0, 3, 4, 5, 6, 7] rfl ?_
            exact hself11 (some b23) σ17 hp31
      · have hp32 := hp13.2 c143
        refine x_up (pc' := 148) (fun _ _ _ _ _ L => lv_aload hx hb dJ1_put_2_146 (lv_at L 2 rfl)) ?_
        refine x_gq X (kJ31 hG) 2 (by decide) q1302 (fun _ h => h) dJ1_put_2_148 hp32 (fun v26 hp33 => ?_)
        refine x_pc (pc' := 151) rfl ?_
        refine x_upL (pc' := 153) (lo' := [(4, va_rf v26), (5, .int v16), (6, .ref b14), (0, .ref a0), (1, .ref b8), (2, va_rf x2), (3, .int x3), (8, .ref b8)]) (fun _ _ _ _ _ L => lv_astoreq hx hb dJ1_put_2_151 L (by decide) rfl) ?_
        refine x_up (pc' := 196) (fun _ _ _ _ _ L => lv_goto (tgt := 196) hx hb dJ1_put_2_153 (by decide)) ?_
        refine x_up (pc' := 198) (fun _ _ _ _ _ L => lv_aloadq hx hb dJ1_put_2_196 (lv_at L 0 rfl)) ?_
        rcases v26 with _ | b27
        · have hp34 := hp33.1 rfl
          refine x_up (pc' := 201) (fun _ _ _ _ _ L => lv_ifnonnullN hx hb dJ1_put_2_198) ?_
          refine x_same (lo' := [(4, .null), (5, .int v16), (6, va_rf (some b14)), (0, .ref a0), (1, .ref b8), (2, va_rf x2), (3, .int x3), (8, .ref b8)]) rfl ?_
          refine x_up (pc' := 202) (fun _ _ _ _ _ L => lv_aload_n hx hb dJ1_put_2_201 rfl (lv_at L 3 rfl)) ?_
          refine x_up (pc' := 203) (fun _ _ _ _ _ L => lv_aload_n hx hb dJ1_put_2_202 rfl (lv_at L 4 rfl)) ?_
          refine x_up (pc' := 204) (fun _ _ _ _ _ L => lv_aloadq_n hx hb dJ1_put_2_203 rfl (lv_at L 5 rfl)) ?_
          refine x_up (pc' := 206) (fun _ _ _ _ _ L => lv_aloadq hx hb dJ1_put_2_204 (lv_at L 2 rfl)) ?_
          refine x_up (pc' := 208) (fun _ _ _ _ _ L => lv_iload hx hb dJ1_put_2_206 (lv_at L 1 rfl)) ?_
          refine x_if (C := 0 ≤ v16) (pt := 215) (pc' := 211) (fun _ _ _ _ _ => lv_if_ge (tgt := 215) hx hb dJ1_put_2_208 (by decide)) (fun c208 => ?_) (fun c208 => ?_)
          · have hp35 := hp34.1 c208
            refine x_up (pc' := 216) (fun _ _ _ _ _ L => lv_iconst (v := (0 : Int32)) hx hb dJ1_put_2_215 (by decide)) ?_
            refine x_callV (em := emV) (fun r st => st) (fun _ _ => rfl) 4 X (kJ1 hG) (fun σ' KK h => R_J1_addEntry l hl G hG a0 (some b8) x2 (some b14) (0 : Int32) σ' KK h) (lw_V q1665 q1667 qs12 q102 q1668) ⟨rfl, mdJ1_addEntry⟩ ⟨Nat.le_of_ble_eq_true rfl, Nat.le_of_ble_eq_true rfl⟩ rfl rfl (Nat.le_of_ble_eq_true rfl) dJ1_put_2_216 hp35.1 hp35.2 (fun _ σ28 hp36 => ?_)
            refine x_pc (pc' := 219) rfl ?_
            refine x_up (pc' := 220) (fun _ _ _ _ _ L => lv_null hx hb dJ1_put_2_219) ?_
            exact x_aret X hr (Or.inl ⟨_, rfl⟩) dJ1_put_2_220 none hp36
          · have hp37 := hp34.2 c208
            refine x_up (pc' := 212) (fun _ _ _ _ _ L => lv_iconst (v := (1 : Int32)) hx hb dJ1_put_2_211 (by decide)) ?_
            refine x_up (pc' := 216) (fun _ _ _ _ _ L => lv_goto (tgt := 216) hx hb dJ1_put_2_212 (by decide)) ?_
            refine x_callV (em := emV) (fun r st => st) (fun _ _ => rfl) 4 X (kJ1 hG) (fun σ' KK h => R_J1_addEntry l hl G hG a0 (some b8) x2 (some b14) (1 : Int32) σ' KK h) (lw_V q1665 q1667 qs12 q102 q1668) ⟨rfl, mdJ1_addEntry⟩ ⟨Nat.le_of_ble_eq_true rfl, Nat.le_of_ble_eq_true rfl⟩ rfl rfl (Nat.le_of_ble_eq_true rfl) dJ1_put_2_216 hp37.1 hp37.2 (fun _ σ29 hp38 => ?_)
            refine x_pc (pc' := 219) rfl ?_
            refine x_up (pc' := 220) (fun _ _ _ _ _ L => lv_null hx hb dJ1_put_2_219) ?_
            exact x_aret X hr (Or.inl ⟨_, rfl⟩) dJ1_put_2_220 none hp38
        · have hp39 := hp33.2 _ rfl
          refine x_up (pc' := 123) (fun _ _ _ _ _ L => lv_ifnonnull (tgt := 123) hx hb dJ1_put_2_198 (by decide)) ?_
          refine x_lo (lo' := [(4, .ref b27), (0, .ref a0), (1, .ref b8), (2, va_rf x2), (3, .int x3), (8, .ref b8)]) [0, 3, 4, 5, 6, 7] rfl ?_
          exact hself11 (some b27) σ17 hp39
    · have hp40 := hp5.2 _ rfl
      refine x_up (pc' := 30) (fun _ _ _ _ _ L => lv_ifnull hx hb dJ1_put_2_27) ?_
      refine x_lo (lo' := [(4, .ref b2), (0, .ref a0), (1, va_rf x1), (2, va_rf x2), (3, .int x3), (7, .ref b5)]) [1, 2, 3, 4, 5, 0] rfl ?_
      refine x_while (v0 := (some b2)) (fun w30 => [(4, va_rf w30), (0, .ref a0), (1, va_rf x1), (2, va_rf x2), (3, .int x3), (7, .ref b5)]) hp40 (fun self31 hself32 => ?_)
      rintro y34 σ33 hp41
      unfold B_J1_put_2_30 at hp41
      refine x_same (lo' := [(4, va_rf y34), (0, .ref a0), (1, va_rf x1), (2, va_rf x2), (3, .int x3), (7, .ref b5)]) rfl ?_
      refine x_up (pc' := 32) (fun _ _ _ _ _ L => lv_aloadq hx hb dJ1_put_2_30 (lv_at L 0 rfl)) ?_
      refine x_upL (pc' := 34) (lo' := [(6, va_rf y34), (4, va_rf y34), (0, .ref a0), (1, va_rf x1), (2, va_rf x2), (3, .int x3), (7, .ref b5)]) (fun _ _ _ _ _ L => lv_astoreq hx hb dJ1_put_2_32 L (by decide) rfl) ?_
      refine x_up (pc' := 36) (fun _ _ _ _ _ L => lv_aload hx hb dJ1_put_2_34 (lv_at L 6 rfl)) ?_
      refine x_up (pc' := 37) (fun _ _ _ _ _ L => lv_aloadq_n hx hb dJ1_put_2_36 rfl (lv_at L 3 rfl)) ?_
      refine x_up (pc' := 39) (fun _ _ _ _ _ L => lv_aloadq hx hb dJ1_put_2_37 (lv_at L 1 rfl)) ?_
      obtain ⟨b35, rfl, hp42⟩ := hp41
      refine x_gq X (kJ31 hG) 0 (by decide) q1299 (fun _ h => h) dJ1_put_2_39 hp42 (fun v36 hp43 => ?_)
      refine x_pc (pc' := 42) rfl ?_
      refine x_kk (A := (fun r σ' => xW p l e ({ frames := 6, cells := σ.2.1, slots := σ.2.2, locals := 131 } : Room) s m args below meth c G 10 (MQ below (xQ G (xlift emQ K)) args s σ.2.1 σ.2.2 (xA G)) σ' 47 [(6, .ref b35), (4, .ref b35), (0, .ref a0), (1, va_rf x1), (2, va_rf x2), (3, .int x3), (7, .ref b5)] [.int r])) hp43 (fun v37 σ38 hpK42 => ?_) (fun hd42 kk42 => ?_)
      rotate_left
      · refine x_or hd42 (fun h1 => ?_) (fun h2_0 => ?_)
        · obtain ⟨hr, h1⟩ := x_and h1
          exact x_callF (x := ⟨"java/util/Comparator", "compare", "(Ljava/lang/Object;Ljava/lang/Object;)I"⟩) (em := emI) (fun r st => .int r :: st) (fun _ _ => rfl) 2 X (kX7 hG) (fun σ' KK h => R_X7_compare_2 l hl G hG b5 x1 v36 σ' KK h) q1594 q1655 q1657 q151 q1659 ⟨⟨q1596, q1595, q1658, q1656, q1654⟩, by decide, by decide⟩ (by decide +kernel) ⟨Nat.le_of_ble_eq_true rfl, Nat.le_of_ble_eq_true rfl⟩ rfl rfl (Nat.le_of_ble_eq_true rfl) dJ1_put_2_42 hr h1 kk42
        refine x_or h2_0 (fun h1 => ?_) (fun h2_1 => ?_)
        · obtain ⟨hr, h1⟩ := x_and h1
          exact x_callF (x := ⟨"java/util/Comparator", "compare", "(Ljava/lang/Object;Ljava/lang/Object;)I"⟩) (em := emI) (fun r st => .int r :: st) (fun _ _ => rfl) 2 X (kX8 hG) (fun σ' KK h => R_X8_compare l hl G hG b5 x1 v36 σ' KK h) q1594 q1609 q1611 q152 q1613 ⟨⟨q1596, q1595, q1612, q1610, q1608⟩, by decide, by decide⟩ (by decide +kernel) ⟨Nat.le_of_ble_eq_true rfl, Nat.le_of_ble_eq_true rfl⟩ rfl rfl (Nat.le_of_ble_eq_true rfl) dJ1_put_2_42 hr h1 kk42
        refine x_or h2_1 (fun h1 => ?_) (fun h2_2 => ?_)
        · obtain ⟨hr, h1⟩ := x_and h1
          exact x_callF (x := ⟨"java/util/Comparator", "compare", "(Ljava/lang/Object;Ljava/lang/Object;)I"⟩) (em := emI) (fun r st => .int r :: st) (fun _ _ => rfl) 2 X (kX9 hG) (fun σ' KK h => R_X9_compare l hl G hG b5 x1 v36 σ' KK h) q1594 q1620 q1622 q153 q1624 ⟨⟨q1596, q1595, q1623, q1621, q1619⟩, by decide, by decide⟩ (by decide +kernel) ⟨Nat.le_of_ble_eq_true rfl, Nat.le_of_ble_eq_true rfl⟩ rfl rfl (Nat.le_of_ble_eq_true rfl) dJ1_put_2_42 hr h1 kk42
        refine x_or h2_2 (fun h1 => ?_) (fun h2_3 => ?_)
        · obtain ⟨hr, h1⟩ := x_and h1
          exact x_callF (x := ⟨"java/util/Comparator", "compare", "(Ljava/lang/Object;Ljava/lang/Object;)I"⟩) (em := emI) (fun r st => .int r :: st) (fun _ _ => rfl) 2 X (kX10 hG) (fun σ' KK h => R_X10_compare l hl G hG b5 x1 v36 σ' KK h) q1594 q1635 q1637 q154 q1639 ⟨⟨q1596, q1595, q1638, q1636, q1634⟩, by decide, by decide⟩ (by decide +kernel) ⟨Nat.le_of_ble_eq_true rfl, Nat.le_of_ble_eq_true rfl⟩ rfl rfl (Nat.le_of_ble_eq_true rfl) dJ1_put_2_42 hr h1 kk42
        obtain ⟨hr, h1⟩ := x_and h2_3
        exact x_callF (x := ⟨"java/util/Comparator", "compare", "(Ljava/lang/Object;Ljava/lang/Object;)I"⟩) (em := emI) (fun r st => .int r :: st) (fun _ _ => rfl) 2 X (kX11 hG) (fun σ' KK h => R_X11_compare l hl G hG b5 x1 v36 σ' KK h) q1594 q1598 q1600 q158 q1602 ⟨⟨q1596, q1595, q1601, q1599, q1597⟩, by decide, by decide⟩ (by decide +kernel) ⟨Nat.le_of_ble_eq_true rfl, Nat.le_of_ble_eq_true rfl⟩ rfl rfl (Nat.le_of_ble_eq_true rfl) dJ1_put_2_42 hr h1 kk42
      have hp44 := hpK42
      refine x_upL (pc' := 49) (lo' := [(5, .int v37), (6, .ref b35), (4, .ref b35), (0, .ref a0), (1, va_rf x1), (2, va_rf x2), (3, .int x3), (7, .ref b5)]) (fun _ _ _ _ _ L => lv_istore hx hb dJ1_put_2_47 L (by decide) rfl) ?_
      refine x_up (pc' := 51) (fun _ _ _ _ _ L => lv_iload hx hb dJ1_put_2_49 (lv_at L 0 rfl)) ?_
      refine x_if (C := 0 ≤ v37) (pt := 64) (pc' := 54) (fun _ _ _ _ _ => lv_if_ge (tgt := 64) hx hb dJ1_put_2_51 (by decide)) (fun c51 => ?_) (fun c51 => ?_)
      · have hp45 := hp44.1 c51
        refine x_up (pc' := 66) (fun _ _ _ _ _ L => lv_iload hx hb dJ1_put_2_64 (lv_at L 0 rfl)) ?_
        refine x_if (C := v37 ≤ 0) (pt := 79) (pc' := 69) (fun _ _ _ _ _ => lv_if_le (tgt := 79) hx hb dJ1_put_2_66 (by decide)) (fun c66 => ?_) (fun c66 => ?_)
        · have hp46 := hp45.1 c66
          refine x_same (lo' := [(5, .int v37), (6, .ref b35), (4, va_rf (some b35)), (0, .ref a0), (1, va_rf x1), (2, va_rf x2), (3, .int x3), (7, .ref b5)]) rfl ?_
          refine x_up (pc' := 81) (fun _ _ _ _ _ L => lv_aloadq hx hb dJ1_put_2_79 (lv_at L 2 rfl)) ?_
          have hp47 := x_nnS hp46
          refine x_gq X (kJ31 hG) 1 (by decide) q1301 (fun _ h => h) dJ1_put_2_81 hp47 (fun v39 hp48 => ?_)
          refine x_pc (pc' := 84) rfl ?_
          refine x_upL (pc' := 86) (lo' := [(8, va_rf v39), (5, .int v37), (6, .ref b35), (4, .ref b35), (0, .ref a0), (1, va_rf x1), (2, va_rf x2), (3, .int x3), (7, .ref b5)]) (fun _ _ _ _ _ L => lv_astoreq hx hb dJ1_put_2_84 L (by decide) rfl) ?_
          refine x_up (pc' := 87) (fun _ _ _ _ _ L => lv_iload_n hx hb dJ1_put_2_86 rfl (lv_at L 7 rfl)) ?_
          refine x_ifn (C := x3 = 0) (pt := 95) (pc' := 90) (fun _ _ _ _ _ => lv_if_ne (tgt := 95) hx hb dJ1_put_2_87 (by decide)) (fun c87 => ?_) (fun c87 => ?_)
          · have hp49 := hp48.1 c87
            refine x_up (pc' := 92) (fun _ _ _ _ _ L => lv_aloadq hx hb dJ1_put_2_90 (lv_at L 0 rfl)) ?_
            rcases v39 with _ | b40
            · have hp50 := hp49.1 rfl
              refine x_up (pc' := 95) (fun _ _ _ _ _ L => lv_ifnonnullN hx hb dJ1_put_2_92) ?_
              refine x_up (pc' := 97) (fun _ _ _ _ _ L => lv_aload hx hb dJ1_put_2_95 (lv_at L 3 rfl)) ?_
              refine x_up (pc' := 98) (fun _ _ _ _ _ L => lv_aloadq_n hx hb dJ1_put_2_97 rfl (lv_at L 6 rfl)) ?_
              refine x_pq X (kJ31 hG) 1 (by decide) q1301 (fun _ h => h) rfl x2 (x_nar _ (by decide)) (x_fit _ (by decide)) dJ1_put_2_98 hp50 (fun σ41 hp51 => ?_)
              refine x_pc (pc' := 101) rfl ?_
              refine x_up (pc' := 103) (fun _ _ _ _ _ L => lv_aloadN hx hb dJ1_put_2_101 (lv_at L 0 rfl)) ?_
              exact x_aret X hr (Or.inl ⟨_, rfl⟩) dJ1_put_2_103 none hp51
            · have hp52 := hp49.2 _ rfl
              refine x_up (pc' := 101) (fun _ _ _ _ _ L => lv_ifnonnull (tgt := 101) hx hb dJ1_put_2_92 (by decide)) ?_
              refine x_up (pc' := 103) (fun _ _ _ _ _ L => lv_aload hx hb dJ1_put_2_101 (lv_at L 0 rfl)) ?_
              exact x_aret X hr (Or.inl ⟨_, rfl⟩) dJ1_put_2_103 (some b40) hp52
          · have hp53 := hp48.2 c87
            refine x_up (pc' := 97) (fun _ _ _ _ _ L => lv_aload hx hb dJ1_put_2_95 (lv_at L 3 rfl)) ?_
            refine x_up (pc' := 98) (fun _ _ _ _ _ L => lv_aloadq_n hx hb dJ1_put_2_97 rfl (lv_at L 6 rfl)) ?_
            refine x_pq X (kJ31 hG) 1 (by decide) q1301 (fun _ h => h) rfl x2 (x_nar _ (by decide)) (x_fit _ (by decide)) dJ1_put_2_98 hp53 (fun σ42 hp54 => ?_)
            refine x_pc (pc' := 101) rfl ?_
            refine x_up (pc' := 103) (fun _ _ _ _ _ L => lv_aloadq hx hb dJ1_put_2_101 (lv_at L 0 rfl)) ?_
            exact x_aret X hr (Or.inl ⟨_, rfl⟩) dJ1_put_2_103 v39 hp54
        · have hp55 := hp45.2 c66
          refine x_up (pc' := 71) (fun _ _ _ _ _ L => lv_aload hx hb dJ1_put_2_69 (lv_at L 2 rfl)) ?_
          refine x_gq X (kJ31 hG) 3 (by decide) q1303 (fun _ h => h) dJ1_put_2_71 hp55 (fun v43 hp56 => ?_)
          refine x_pc (pc' := 74) rfl ?_
          refine x_upL (pc' := 76) (lo' := [(4, va_rf v43), (5, .int v37), (6, .ref b35), (0, .ref a0), (1, va_rf x1), (2, va_rf x2), (3, .int x3), (7, .ref b5)]) (fun _ _ _ _ _ L => lv_astoreq hx hb dJ1_put_2_74 L (by decide) rfl) ?_
          refine x_up (pc' := 104) (fun _ _ _ _ _ L => lv_goto (tgt := 104) hx hb dJ1_put_2_76 (by decide)) ?_
          refine x_up (pc' := 106) (fun _ _ _ _ _ L => lv_aloadq hx hb dJ1_put_2_104 (lv_at L 0 rfl)) ?_
          rcases v43 with _ | b44
          · have hp57 := hp56.1 rfl
            refine x_up (pc' := 109) (fun _ _ _ _ _ L => lv_ifnonnullN hx hb dJ1_put_2_106) ?_
            refine x_same (lo' := [(4, .null), (5, .int v37), (6, va_rf (some b35)), (0, .ref a0), (1, va_rf x1), (2, va_rf x2), (3, .int x3), (7, .ref b5)]) rfl ?_
            refine x_up (pc' := 201) (fun _ _ _ _ _ L => lv_goto (tgt := 201) hx hb dJ1_put_2_109 (by decide)) ?_
            refine x_up (pc' := 202) (fun _ _ _ _ _ L => lv_aload_n hx hb dJ1_put_2_201 rfl (lv_at L 3 rfl)) ?_
            refine x_up (pc' := 203) (fun _ _ _ _ _ L => lv_aloadq_n hx hb dJ1_put_2_202 rfl (lv_at L 4 rfl)) ?_
            refine x_up (pc' := 204) (fun _ _ _ _ _ L => lv_aloadq_n hx hb dJ1_put_2_203 rfl (lv_at L 5 rfl)) ?_
            refine x_up (pc' := 206) (fun _ _ _ _ _ L => lv_aloadq hx hb dJ1_put_2_204 (lv_at L 2 rfl)) ?_
            refine x_up (pc' := 208) (fun _ _ _ _ _ L => lv_iload hx hb dJ1_put_2_206 (lv_at L 1 rfl)) ?_
            refine x_if (C := 0 ≤ v37) (pt := 215) (pc' := 211) (fun _ _ _ _ _ => lv_if_ge (tgt := 215) hx hb dJ1_put_2_208 (by decide)) (fun c208 => ?_) (fun c208 => ?_)
            · have hp58 := hp57.1 c208
              refine x_up (pc' := 216) (fun _ _ _ _ _ L => lv_iconst (v := (0 : Int32)) hx hb dJ1_put_2_215 (by decide)) ?_
              refine x_callV (em := emV) (fun r st => st) (fun _ _ => rfl) 4 X (kJ1 hG) (fun σ' KK h => R_J1_addEntry l hl G hG a0 x1 x2 (some b35) (0 : Int32) σ' KK h) (lw_V q1665 q1667 qs12 q102 q1668) ⟨rfl, mdJ1_addEntry⟩ ⟨Nat.le_of_ble_eq_true rfl, Nat.le_of_ble_eq_true rfl⟩ rfl rfl (Nat.le_of_ble_eq_true rfl) dJ1_put_2_216 hp58.1 hp58.2 (fun _ σ45 hp59 => ?_)
              refine x_pc (pc' := 219) rfl ?_
              refine x_up (pc' := 220) (fun _ _ _ _ _ L => lv_null hx hb dJ1_put_2_219) ?_
              exact x_aret X hr (Or.inl ⟨_, rfl⟩) dJ1_put_2_220 none hp59
            · have hp60 := hp57.2 c208
              refine x_up (pc' := 212) (fun _ _ _ _ _ L => lv_iconst (v := (1 : Int32)) hx hb dJ1_put_2_211 (by decide)) ?_
              refine x_up (pc' := 216) (fun _ _ _ _ _ L => lv_goto (tgt := 216) hx hb dJ1_put_2_212 (by decide)) ?_
              refine x_callV (em := emV) (fun r st => st) (fun _ _ => rfl) 4 X (kJ1 hG) (fun σ' KK h => R_J1_addEntry l hl G hG a0 x1 x2 (some b35) (1 : Int32) σ' KK h) (lw_V q1665 q1667 qs12 q102 q1668) ⟨rfl, mdJ1_addEntry⟩ ⟨Nat.le_of_ble_eq_true rfl, Nat.le_of_ble_eq_true rfl⟩ rfl rfl (Nat.le_of_ble_eq_true rfl) dJ1_put_2_216 hp60.1 hp60.2 (fun _ σ46 hp61 => ?_)
              refine x_pc (pc' := 219) rfl ?_
              refine x_up (pc' := 220) (fun _ _ _ _ _ L => lv_null hx hb dJ1_put_2_219) ?_
              exact x_aret X hr (Or.inl ⟨_, rfl⟩) dJ1_put_2_220 none hp61
          · have hp62 := hp56.2 _ rfl
            refine x_up (pc' := 30) (fun _ _ _ _ _ L => lv_ifnonnull (tgt := 30) hx hb dJ1_put_2_106 (by decide)) ?_
            refine x_lo (lo' := [(4, .ref b44), (0, .ref a0), (1, va_rf x1), (2, va_rf x2), (3, .int x3), (7, .ref b5)]) [0, 3, 4, 5, 6, 7] rfl ?_
            exact hself32 (some b44) σ38 hp62
      · have hp63 := hp44.2 c51
        refine x_up (pc' := 56) (fun _ _ _ _ _ L => lv_aload hx hb dJ1_put_2_54 (lv_at L 2 rfl)) ?_
        refine x_gq X (kJ31 hG) 2 (by decide) q1302 (fun _ h => h) dJ1_put_2_56 hp63 (fun v47 hp64 => ?_)
        refine x_pc (pc' := 59) rfl ?_
        refine x_upL (pc' := 61) (lo' := [(4, va_rf v47), (5, .int v37), (6, .ref b35), (0, .ref a0), (1, va_rf x1), (2, va_rf x2), (3, .int x3), (7, .ref b5)]) (fun _ _ _ _ _ L => lv_astoreq hx hb dJ1_put_2_59 L (by decide) rfl) ?_
        refine x_up (pc' := 104) (fun _ _ _ _ _ L => lv_goto (tgt := 104) hx hb dJ1_put_2_61 (by decide)) ?_
        refine x_up (pc' := 106) (fun _ _ _ _ _ L => lv_aloadq hx hb dJ1_put_2_104 (lv_at L 0 rfl)) ?_
        rcases v47 with _ | b48
        · have hp65 := hp64.1 rfl
          refine x_up (pc' := 109) (fun _ _ _ _ _ L => lv_ifnonnullN hx hb dJ1_put_2_106) ?_
          refine x_same (lo' := [(4, .null), (5, .int v37), (6, va_rf (some b35)), (0, .ref a0), (1, va_rf x1), (2, va_rf x2), (3, .int x3), (7, .ref b5)]) rfl ?_
          refine x_up (pc' := 201) (fun _ _ _ _ _ L => lv_goto (tgt := 201) hx hb dJ1_put_2_109 (by decide)) ?_
          refine x_up (pc' := 202) (fun _ _ _ _ _ L => lv_aload_n hx hb dJ1_put_2_201 rfl (lv_at L 3 rfl)) ?_
          refine x_up (pc' := 203) (fun _ _ _ _ _ L => lv_aloadq_n hx hb dJ1_put_2_202 rfl (lv_at L 4 rfl)) ?_
          refine x_up (pc' := 204) (fun _ _ _ _ _ L => lv_aloadq_n hx hb dJ1_put_2_203 rfl (lv_at L 5 rfl)) ?_
          refine x_up (pc' := 206) (fun _ _ _ _ _ L => lv_aloadq hx hb dJ1_put_2_204 (lv_at L 2 rfl)) ?_
          refine x_up (pc' := 208) (fun _ _ _ _ _ L => lv_iload hx hb dJ1_put_2_206 (lv_at L 1 rfl)) ?_
          refine x_if (C := 0 ≤ v37) (pt := 215) (pc' := 211) (fun _ _ _ _ _ => lv_if_ge (tgt := 215) hx hb dJ1_put_2_208 (by decide)) (fun c208 => ?_) (fun c208 => ?_)
          · have hp66 := hp65.1 c208
            refine x_up (pc' := 216) (fun _ _ _ _ _ L => lv_iconst (v := (0 : Int32)) hx hb dJ1_put_2_215 (by decide)) ?_
            refine x_callV (em := emV) (fun r st => st) (fun _ _ => rfl) 4 X (kJ1 hG) (fun σ' KK h => R_J1_addEntry l hl G hG a0 x1 x2 (some b35) (0 : Int32) σ' KK h) (lw_V q1665 q1667 qs12 q102 q1668) ⟨rfl, mdJ1_addEntry⟩ ⟨Nat.le_of_ble_eq_true rfl, Nat.le_of_ble_eq_true rfl⟩ rfl rfl (Nat.le_of_ble_eq_true rfl) dJ1_put_2_216 hp66.1 hp66.2 (fun _ σ49 hp67 => ?_)
            refine x_pc (pc' := 219) rfl ?_
            refine x_up (pc' := 220) (fun _ _ _ _ _ L => lv_null hx hb dJ1_put_2_219) ?_
            exact x_aret X hr (Or.inl ⟨_, rfl⟩) dJ1_put_2_220 none hp67
          · have hp68 := hp65.2 c208
            refine x_up (pc' := 212) (fun _ _ _ _ _ L => lv_iconst (v := (1 : Int32)) hx hb dJ1_put_2_211 (by decide)) ?_
            refine x_up (pc' := 216) (fun _ _ _ _ _ L => lv_goto (tgt := 216) hx hb dJ1_put_2_212 (by decide)) ?_
            refine x_callV (em := emV) (fun r st => st) (fun _ _ => rfl) 4 X (kJ1 hG) (fun σ' KK h => R_J1_addEntry l hl G hG a0 x1 x2 (some b35) (1 : Int32) σ' KK h) (lw_V q1665 q1667 qs12 q102 q1668) ⟨rfl, mdJ1_addEntry⟩ ⟨Nat.le_of_ble_eq_true rfl, Nat.le_of_ble_eq_true rfl⟩ rfl rfl (Nat.le_of_ble_eq_true rfl) dJ1_put_2_216 hp68.1 hp68.2 (fun _ σ50 hp69 => ?_)
            refine x_pc (pc' := 219) rfl ?_
            refine x_up (pc' := 220) (fun _ _ _ _ _ L => lv_null hx hb dJ1_put_2_219) ?_
            exact x_aret X hr (Or.inl ⟨_, rfl⟩) dJ1_put_2_220 none hp69
        · have hp70 := hp64.2 _ rfl
          refine x_up (pc' := 30) (fun _ _ _ _ _ L => lv_ifnonnull (tgt := 30) hx hb dJ1_put_2_106 (by decide)) ?_
          refine x_lo (lo' := [(4, .ref b48), (0, .ref a0), (1, va_rf x1), (2, va_rf x2), (3, .int x3), (7, .ref b5)]) [0, 3, 4, 5, 6, 7] rfl ?_
          exact hself32 (some b48) σ38 hp70
-- J1_put
def P_J1_put (κ : Nat → Nat) (a0 : Nat) (x1 : Option Nat) (x2 : Option Nat) (σ : xS) (K : Option Nat → xH → Prop) : Prop :=
  xrc σ a0 2 ∧ xcall (fun τ L => P_J1_put_2 κ a0 x1 x2 (1 : Int32) τ L) σ fun v1 σ2 => K v1 σ2.1
theorem mdJ1_put : yJ1_put.cls ≠ "java/lang/invoke/MethodHandle" ∧ yJ1_put.cls ≠ "java/lang/invoke/VarHandle" ∧ (parseMethodDescriptor yJ1_put.desc).map (fun d => d.parameters.length) = some 2 := by decide +kernel
set_option maxHeartbeats 4000000 in
set_option maxRecDepth 100000 in
theorem R_J1_put (l : Launch) (hl : l.stackTraces = false) (G : xG) (hG : G.1.2 = x_cl) (a0 : Nat) (x1 : Option Nat) (x2 : Option Nat) (σ : xS) (K : Option Nat → xH → Prop) (hp : P_J1_put G.2 a0 x1 x2 σ K) : xM l yJ1_put cJ1_put 3 (Option.some (Jvm.ClassFile.FieldType.object "java/lang/Object")) 7 160 G [(.ref a0), va_rf x1, va_rf x2] σ (xlift emQ K) := by
  refine x_entry (by decide) (by simp [lg_sl, x_catq, x_cati, x_catr, x_catn]) ?_
  intro p e s m args below meth c X hr hin
  have X : xX p s m args meth c G cJ1_put 3 RJ1 := X
  have hx := X.1
  have hb := X.2.1
  have hts := X.2.2.2.2.1
  have hown := X.2.2.2.1
  unfold P_J1_put at hp
  refine x_same (lo' := [(0, .ref a0), (1, va_rf x1), (2, va_rf x2)]) (by simp [lv_args, x_catq, x_cati, x_catr, x_catn]) ?_
  refine x_up (pc' := 1) (fun _ _ _ _ _ L => lv_aload_n hx hb dJ1_put_0 rfl (lv_at L 0 rfl)) ?_
  refine x_up (pc' := 2) (fun _ _ _ _ _ L => lv_aloadq_n hx hb dJ1_put_1 rfl (lv_at L 1 rfl)) ?_
  refine x_up (pc' := 3) (fun _ _ _ _ _ L => lv_aloadq_n hx hb dJ1_put_2 rfl (lv_at L 2 rfl)) ?_
  refine x_up (pc' := 4) (fun _ _ _ _ _ L => lv_iconst (v := (1 : Int32)) hx hb dJ1_put_3 (by decide)) ?_
  refine x_callV (em := emQ) (fun r st => va_rf r :: st) (fun _ _ => rfl) 3 X (kJ1 hG) (fun σ' KK h => R_J1_put_2 l hl G hG a0 x1 x2 (1 : Int32) σ' KK h) (lw_V q1388 q1390 qs10 q102 q1391) ⟨rfl, mdJ1_put_2⟩ ⟨Nat.le_of_ble_eq_true rfl, Nat.le_of_ble_eq_true rfl⟩ rfl rfl (Nat.le_of_ble_eq_true rfl) dJ1_put_4 hp.1 hp.2 (fun v1 σ2 hp1 => ?_)
  refine x_pc (pc' := 7) rfl ?_
  exact x_aret X hr (Or.inl ⟨_, rfl⟩) dJ1_put_7 v1 hp1
-- J0_putAll
def B_J0_putAll_12 (κ : Nat → Nat) (K : Unit → xH → Prop) (f0 : Nat) (f2 : Option Nat) : (Unit → xS → Prop) → Unit → xS → Prop := fun self13003 w13001 σ13002 =>
  xnn f2 fun b13004 => xrc σ13002 b13004 13 ∧ xcall (fun τ L => P_J20_hasNext κ b13004 τ L) σ13002 fun v13005 σ13006 => ((v13005 = 0 → (K () σ13006.1)) ∧ (¬ v13005 = 0 → (xrc σ13006 b13004 13 ∧ xcall (fun τ L => P_J21_next κ b13004 τ L) σ13006 fun v13007 σ13008 => xnn v13007 fun b13009 => xrc σ13008 b13009 19 ∧ xrc σ13008 b13009 19 ∧ xcall (fun τ L => P_J31_getKey κ b13009 τ L) σ13008 fun v13010 σ13011 => xrc σ13011 b13009 19 ∧ xcall (fun τ L => P_J31_getValue κ b13009 τ L) σ13011 fun v13012 σ13013 => xrc σ13013 f0 2 ∧ xcall (fun τ L => P_J1_put κ f0 v13010 v13012 τ L) σ13013 fun v13014 σ13015 => self13003 () σ13015)))
def P_J0_putAll (κ : Nat → Nat) (a0 : Nat) (x1 : Option Nat) (σ : xS) (K : Unit → xH → Prop) : Prop :=
  xnn x1 fun b1 => xrc σ b1 2 ∧ xcall (fun τ L => P_J1_entrySet κ b1 τ L) σ fun v2 σ3 => xnn v2 fun b4 => xrc σ3 b4 12 ∧ xcall (fun τ L => P_J19_iterator κ b4 τ L) σ3 fun v5 σ6 => xwhile (B_J0_putAll_12 κ K a0 v5) () σ6
theorem mdJ0_putAll : yJ0_putAll.cls ≠ "java/lang/invoke/MethodHandle" ∧ yJ0_putAll.cls ≠ "java/lang/invoke/VarHandle" ∧ (parseMethodDescriptor yJ0_putAll.desc).map (fun d => d.parameters.length) = some 1 := by decide +kernel
set_option maxHeartbeats 4000000 in
set_option maxRecDepth 100000 in
theorem R_J0_putAll (l : Launch) (hl : l.stackTraces = false) (G : xG) (hG : G.1.2 = x_cl) (a0 : Nat) (x1 : Option Nat) (σ : xS) (K : Unit → xH → Prop) (hp : P_J0_putAll G.2 a0 x1 σ K) : xM l yJ0_putAll cJ0_putAll 4 (Option.none : Option Jvm.ClassFile.FieldType) 8 182 G [(.ref a0), va_rf x1] σ (xlift emV K) := by
  refine x_entry (by decide) (by simp [lg_sl, x_catq, x_cati, x_catr, x_catn]) ?_
  intro p e s m args below meth c X hr hin
  have X : xX p s m args meth c G cJ0_putAll 4 RJ0 := X
  have hx := X.1
  have hb := X.2.1
  have hts := X.2.2.2.2.1
  have hown := X.2.2.2.1
  unfold P_J0_putAll at hp
  refine x_same (lo' := [(0, .ref a0), (1, va_rf x1)]) (by simp [lv_args, x_catq, x_cati, x_catr, x_catn]) ?_
  refine x_up (pc' := 1) (fun _ _ _ _ _ L => lv_aloadq_n hx hb dJ0_putAll_0 rfl (lv_at L 1 rfl)) ?_
  obtain ⟨b1, rfl, hp1⟩ := hp
  refine x_callF (x := ⟨"java/util/Map", "entrySet", "()Ljava/util/Set;"⟩) (em := emQ) (fun r st => va_rf r :: st) (fun _ _ => rfl) 0 X (kJ1 hG) (fun σ' KK h => R_J1_entrySet l hl G hG b1 σ' KK h) q1325 q696 q698 q102 q700 ⟨⟨q695, q694, q699, q697, q627⟩, by decide, by decide⟩ (by decide +kernel) ⟨Nat.le_of_ble_eq_true rfl, Nat.le_of_ble_eq_true rfl⟩ rfl rfl (Nat.le_of_ble_eq_true rfl) dJ0_putAll_1 hp1.1 hp1.2 (fun v2 σ3 hp2 => ?_)
  refine x_pc (pc' := 6) rfl ?_
  obtain ⟨b4, rfl, hp3⟩ := hp2
  refine x_callF (x := ⟨"java/util/Set", "iterator", "()Ljava/util/Iterator;"⟩) (em := emQ) (fun r st => va_rf r :: st) (fun _ _ => rfl) 0 X (kJ19 hG) (fun σ' KK h => R_J19_iterator l hl G hG b4 σ' KK h) q1327 q719 q721 q124 q723 ⟨⟨q717, q716, q722, q720, q718⟩, by decide, by decide⟩ (by decide +kernel) ⟨Nat.le_of_ble_eq_true rfl, Nat.le_of_ble_eq_true rfl⟩ rfl rfl (Nat.le_of_ble_eq_true rfl) dJ0_putAll_6 hp3.1 hp3.2 (fun v5 σ6 hp4 => ?_)
  refine x_pc (pc' := 11) rfl ?_
  refine x_upL (pc' := 12) (lo' := [(2, va_rf v5), (0, .ref a0), (1, .ref b1)]) (fun _ _ _ _ _ L => lv_astoreq_n hx hb dJ0_putAll_11 rfl L (by decide) rfl) ?_
  refine x_lo (lo' := [(0, .ref a0), (2, va_rf v5)]) [1, 0] rfl ?_
  refine x_while (v0 := ()) (fun _ => [(0, .ref a0), (2, va_rf v5)]) hp4 (fun self8 hself9 => ?_)
  rintro ⟨⟩ σ10 hp5
  unfold B_J0_putAll_12 at hp5
  refine x_same (lo' := [(0, .ref a0), (2, va_rf v5)]) rfl ?_
  refine x_up (pc' := 13) (fun _ _ _ _ _ L => lv_aloadq_n hx hb dJ0_putAll_12 rfl (lv_at L 1 rfl)) ?_
  obtain ⟨b11, rfl, hp6⟩ := hp5
  refine x_callF (x := ⟨"java/util/Iterator", "hasNext", "()Z"⟩) (em := emI) (fun r st => .int r :: st) (fun _ _ => rfl) 0 X (kJ21 hG) (fun σ' KK h => R_J20_hasNext l hl G hG b11 σ' KK h) q1329 q1370 q1372 q125 q1374 ⟨⟨q1331, q1330, q1373, q1371, q1251⟩, by decide, by decide⟩ (by decide +kernel) ⟨Nat.le_of_ble_eq_true rfl, Nat.le_of_ble_eq_true rfl⟩ rfl rfl (Nat.le_of_ble_eq_true rfl) dJ0_putAll_13 hp6.1 hp6.2 (fun v12 σ13 hp7 => ?_)
  refine x_pc (pc' := 18) rfl ?_
  refine x_if (C := v12 = 0) (pt := 51) (pc' := 21) (fun _ _ _ _ _ => lv_if_eq (tgt := 51) hx hb dJ0_putAll_18 (by decide)) (fun c18 => ?_) (fun c18 => ?_)
  · have hp8 := hp7.1 c18
    exact x_vret X hr dJ0_putAll_51 hp8
  · have hp9 := hp7.2 c18
    refine x_up (pc' := 22) (fun _ _ _ _ _ L => lv_aload_n hx hb dJ0_putAll_21 rfl (lv_at L 1 rfl)) ?_
    refine x_callF (x := ⟨"java/util/Iterator", "next", "()Ljava/lang/Object;"⟩) (em := emQ) (fun r st => va_rf r :: st) (fun _ _ => rfl) 0 X (kJ21 hG) (fun σ' KK h => R_J21_next l hl G hG b11 σ' KK h) q1376 q1252 q1254 q126 q1256 ⟨⟨q768, q767, q1255, q1253, q1251⟩, by decide, by decide⟩ (by decide +kernel) ⟨Nat.le_of_ble_eq_true rfl, Nat.le_of_ble_eq_true rfl⟩ rfl rfl (Nat.le_of_ble_eq_true rfl) dJ0_putAll_22 hp9.1 hp9.2 (fun v14 σ15 hp10 => ?_)
    refine x_pc (pc' := 27) rfl ?_
    obtain ⟨b16, rfl, hp11⟩ := hp10
    refine x_castY X (kJ31 hG) q1377 q1277 hp11.1 dJ0_putAll_27 ?_
    have hp12 := hp11.2
    refine x_pc (pc' := 30) rfl ?_
    refine x_upL (pc' := 31) (lo' := [(3, .ref b16), (0, .ref a0), (2, .ref b11)]) (fun _ _ _ _ _ L => lv_astore_n hx hb dJ0_putAll_30 rfl L (by decide) rfl) ?_
    refine x_up (pc' := 32) (fun _ _ _ _ _ L => lv_aload_n hx hb dJ0_putAll_31 rfl (lv_at L 1 rfl)) ?_
    refine x_up (pc' := 33) (fun _ _ _ _ _ L => lv_aload_n hx hb dJ0_putAll_32 rfl (lv_at L 0 rfl)) ?_
    refine x_callF (x := ⟨"java/util/Map$Entry", "getKey", "()Ljava/lang/Object;"⟩) (em := emQ) (fun r st => va_rf r :: st) (fun _ _ => rfl) 0 X (kJ31 hG) (fun σ' KK h => R_J31_getKey l hl G hG b16 σ' KK h) q1379 q1278 q1280 q136 q1282 ⟨⟨q1276, q1275, q1281, q1279, q1277⟩, by decide, by decide⟩ (by decide +kernel) ⟨Nat.le_of_ble_eq_true rfl, Nat.le_of_ble_eq_true rfl⟩ rfl rfl (Nat.le_of_ble_eq_true rfl) dJ0_putAll_33 hp12.1 hp12.2 (fun v17 σ18 hp13 => ?_)
    refine x_pc (pc' := 38) rfl ?_
    refine x_up (pc' := 39) (fun _ _ _ _ _ L => lv_aload_n hx hb dJ0_putAll_38 rfl (lv_at L 0 rfl)) ?_
    refine x_callF (x := ⟨"java/util/Map$Entry", "getValue", "()Ljava/lang/Object;"⟩) (em := emQ) (fun r st => va_rf r :: st) (fun _ _ => rfl) 0 X (kJ31 hG) (fun σ' KK h => R_J31_getValue l hl G hG b16 σ' KK h) q1381 q1287 q1289 q136 q1291 ⟨⟨q1286, q1285, q1290, q1288, q1277⟩, by decide, by decide⟩ (by decide +kernel) ⟨Nat.le_of_ble_eq_true rfl, Nat.le_of_ble_eq_true rfl⟩ rfl rfl (by simp only [List.map_cons, List.map_nil, List.sum_cons, List.sum_nil, x_catq, x_cati, x_catr, x_catn] <;> decide) dJ0_putAll_39 hp13.1 hp13.2 (fun v19 σ20 hp14 => ?_)
    refine x_pc (pc' := 44) rfl ?_
    refine x_callO (x := ⟨"java/util/AbstractMap", "put", "(Ljava/lang/Object;Ljava/lang/Object;)Ljava/lang/Object;"⟩) (owner := "java/util/AbstractMap") (em := emQ) (fun r st => va_rf r :: st) (fun _ _ => rfl) 2 X (kJ1 hG) (fun σ' KK h => R_J1_put l hl G hG a0 v17 v19 σ' KK h) (hts _ q1382) (hts _ q1384) (x_dcl X q1696) (hts _ q1385) q1386 q102 q1387 (by decide +kernel) ⟨Nat.le_of_ble_eq_true rfl, Nat.le_of_ble_eq_true rfl⟩ rfl rfl (Nat.le_of_ble_eq_true rfl) dJ0_putAll_44 hp14.1 hp14.2 (fun v21 σ22 hp15 => ?_)
    refine x_pc (pc' := 47) rfl ?_
    refine x_up (pc' := 48) (fun _ _ _ _ _ L => lv_pop hx hb dJ0_putAll_47 (x_catq _)) ?_
    refine x_up (pc' := 12) (fun _ _ _ _ _ L => lv_goto (tgt := 12) hx hb dJ0_putAll_48 (by decide)) ?_
    refine x_lo (lo' := [(0, .ref a0), (2, .ref b11)]) [1, 2] rfl ?_
    exact hself9 () σ22 hp15
-- J1_comparator
def P_J1_comparator (κ : Nat → Nat) (a0 : Nat) (σ : xS) (K : Option Nat → xH → Prop) : Prop :=
  xgq σ a0 2 2 fun v1 => K v1 σ.1
theorem mdJ1_comparator : yJ1_comparator.cls ≠ "java/lang/invoke/MethodHandle" ∧ yJ1_comparator.cls ≠ "java/lang/invoke/VarHandle" ∧ (parseMethodDescriptor yJ1_comparator.desc).map (fun d => d.parameters.length) = some 0 := by decide +kernel
set_option maxHeartbeats 4000000 in
set_option maxRecDepth 100000 in
theorem R_J1_comparator (l : Launch) (hl : l.stackTraces = false) (G : xG) (hG : G.1.2 = x_cl) (a0 : Nat) (σ : xS) (K : Option Nat → xH → Prop) (hp : P_J1_comparator G.2 a0 σ K) : xM l yJ1_comparator cJ1_comparator 1 (Option.some (Jvm.ClassFile.FieldType.object "java/util/Comparator")) 0 0 G [(.ref a0)] σ (xlift emQ K) := by
  refine x_entry (by decide) (Nat.le_of_ble_eq_true rfl) ?_
  intro p e s m args below meth c X hr hin
  have X : xX p s m args meth c G cJ1_comparator 1 RJ1 := X
  have hx := X.1
  have hb := X.2.1
  have hts := X.2.2.2.2.1
  have hown := X.2.2.2.1
  unfold P_J1_comparator at hp
  refine x_same (lo' := [(0, .ref a0)]) rfl ?_
  refine x_up (pc' := 1) (fun _ _ _ _ _ L => lv_aload_n hx hb dJ1_comparator_0 rfl (lv_at L 0 rfl)) ?_
  refine x_gq X (kJ1 hG) 2 (by decide) q187 (fun _ h => h) dJ1_comparator_1 hp (fun v1 hp1 => ?_)
  refine x_pc (pc' := 4) rfl ?_
  exact x_aret X hr (Or.inl ⟨_, rfl⟩) dJ1_comparator_4 v1 hp1
-- J23_intValue
def P_J23_intValue (κ : Nat → Nat) (a0 : Nat) (σ : xS) (K : Int32 → xH → Prop) : Prop :=
  xgi σ a0 14 0 fun v1 => K v1 σ.1
theorem mdJ23_intValue : yJ23_intValue.cls ≠ "java/lang/invoke/MethodHandle" ∧ yJ23_intValue.cls ≠ "java/lang/invoke/VarHandle" ∧ (parseMethodDescriptor yJ23_intValue.desc).map (fun d => d.parameters.length) = some 0 := by decide +kernel
set_option maxHeartbeats 4000000 in
set_option maxRecDepth 100000 in
theorem R_J23_intValue (l : Launch) (hl : l.stackTraces = false) (G : xG) (hG : G.1.2 = x_cl) (a0 : Nat) (σ : xS) (K : Int32 → xH → Prop) (hp : P_J23_intValue G.2 a0 σ K) : xM l yJ23_intValue cJ23_intValue 1 (Option.some Jvm.ClassFile.FieldType.int) 0 0 G [(.ref a0)] σ (xlift emI K) := by
  refine x_entry (by decide) (Nat.le_of_ble_eq_true rfl) ?_
  intro p e s m args below meth c X hr hin
  have X : xX p s m args meth c G cJ23_intValue 1 RJ23 := X
  have hx := X.1
  have hb := X.2.1
  have hts := X.2.2.2.2.1
  have hown := X.2.2.2.1
  unfold P_J23_intValue at hp
  refine x_same (lo' := [(0, .ref a0)]) rfl ?_
  refine x_up (pc' := 1) (fun _ _ _ _ _ L => lv_aload_n hx hb dJ23_intValue_0 rfl (lv_at L 0 rfl)) ?_
  refine x_gi X (kJ23 hG) 0 (by decide) q2439 (fun _ h => h) dJ23_intValue_1 hp (fun v1 hp1 => ?_)
  refine x_pc (pc' := 4) rfl ?_
  exact x_iret X hr rfl dJ23_intValue_4 hp1
-- J23_equals
def P_J23_equals (κ : Nat → Nat) (a0 : Nat) (x1 : Option Nat) (σ : xS) (K : Int32 → xH → Prop) : Prop :=
  xnn x1 fun b1 => xrc σ b1 14 ∧ (((1 : Int32) = 0 → (K (0 : Int32) σ.1)) ∧ (¬ (1 : Int32) = 0 → (xgi σ a0 14 0 fun v2 => xrc σ b1 14 ∧ xrc σ b1 14 ∧ xcall (fun τ L => P_J23_intValue κ b1 τ L) σ fun v3 σ4 => ((v2 = v3 → (K (1 : Int32) σ4.1)) ∧ (¬ v2 = v3 → (K (0 : Int32) σ4.1))))))
theorem mdJ23_equals : yJ23_equals.cls ≠ "java/lang/invoke/MethodHandle" ∧ yJ23_equals.cls ≠ "java/lang/invoke/VarHandle" ∧ (parseMethodDescriptor yJ23_equals.desc).map (fun d => d.parameters.length) = some 1 := by decide +kernel
set_option maxHeartbeats 4000000 in
set_option maxRecDepth 100000 in
theorem R_J23_equals (l : Launch) (hl : l.stackTraces = false) (G : xG) (hG : G.1.2 = x_cl) (a0 : Nat) (x1 : Option Nat) (σ : xS) (K : Int32 → xH → Prop) (hp : P_J23_equals G.2 a0 x1 σ K) : xM l yJ23_equals cJ23_equals 2 (Option.some Jvm.ClassFile.FieldType.boolean) 1 20 G [(.ref a0), va_rf x1] σ (xlift emI K) := by
  refine x_entry (by decide) (by simp [lg_sl, x_catq, x_cati, x_catr, x_catn]) ?_
  intro p e s m args below meth c X hr hin
  have X : xX p s m args meth c G cJ23_equals 2 RJ23 := X
  have hx := X.1
  have hb := X.2.1
  have hts := X.2.2.2.2.1
  have hown := X.2.2.2.1
  unfold P_J23_equals at hp
  refine x_same (lo' := [(0, .ref a0), (1, va_rf x1)]) (by simp [lv_args, x_catq, x_cati, x_catr, x_catn]) ?_
  refine x_up (pc' := 1) (fun _ _ _ _ _ L => lv_aloadq_n hx hb dJ23_equals_0 rfl (lv_at L 1 rfl)) ?_
  obtain ⟨b1, rfl, hp1⟩ := hp
  refine x_instS X (kJ23 hG) q673 hp1.1 dJ23_equals_1 ?_
  have hp2 := hp1.2
  refine x_pc (pc' := 4) rfl ?_
  refine x_if (C := (1 : Int32) = 0) (pt := 27) (pc' := 7) (fun _ _ _ _ _ => lv_if_eq (tgt := 27) hx hb dJ23_equals_4 (by decide)) (fun c4 => ?_) (fun c4 => ?_)
  · have hp3 := hp2.1 c4
    refine x_up (pc' := 28) (fun _ _ _ _ _ L => lv_iconst (v := (0 : Int32)) hx hb dJ23_equals_27 (by decide)) ?_
    exact x_iret X hr rfl dJ23_equals_28 hp3
  · have hp4 := hp2.2 c4
    refine x_up (pc' := 8) (fun _ _ _ _ _ L => lv_aload_n hx hb dJ23_equals_7 rfl (lv_at L 0 rfl)) ?_
    refine x_gi X (kJ23 hG) 0 (by decide) q2439 (fun _ h => h) dJ23_equals_8 hp4 (fun v2 hp5 => ?_)
    refine x_pc (pc' := 11) rfl ?_
    refine x_up (pc' := 12) (fun _ _ _ _ _ L => lv_aload_n hx hb dJ23_equals_11 rfl (lv_at L 1 rfl)) ?_
    refine x_castS X (kJ23 hG) q673 hp5.1 dJ23_equals_12 ?_
    have hp6 := hp5.2
    refine x_pc (pc' := 15) rfl ?_
    refine x_callV (em := emI) (fun r st => .int r :: st) (fun _ _ => rfl) 0 X (kJ23 hG) (fun σ' KK h => R_J23_intValue l hl G hG b1 σ' KK h) (lw_V q674 q675 q676 q128 q677) ⟨rfl, mdJ23_intValue⟩ ⟨Nat.le_of_ble_eq_true rfl, Nat.le_of_ble_eq_true rfl⟩ rfl rfl (Nat.le_of_ble_eq_true rfl) dJ23_equals_15 hp6.1 hp6.2 (fun v3 σ4 hp7 => ?_)
    refine x_pc (pc' := 18) rfl ?_
    refine x_ifn (C := v2 = v3) (pt := 25) (pc' := 21) (fun _ _ _ _ _ => lv_icmp_ne (tgt := 25) hx hb dJ23_equals_18 (by decide)) (fun c18 => ?_) (fun c18 => ?_)
    · have hp8 := hp7.1 c18
      refine x_up (pc' := 22) (fun _ _ _ _ _ L => lv_iconst (v := (1 : Int32)) hx hb dJ23_equals_21 (by decide)) ?_
      refine x_up (pc' := 26) (fun _ _ _ _ _ L => lv_goto (tgt := 26) hx hb dJ23_equals_22 (by decide)) ?_
      exact x_iret X hr rfl dJ23_equals_26 hp8
    · have hp9 := hp7.2 c18
      refine x_up (pc' := 26) (fun _ _ _ _ _ L => lv_iconst (v := (0 : Int32)) hx hb dJ23_equals_25 (by decide)) ?_
      exact x_iret X hr rfl dJ23_equals_26 hp9
-- J16_equals
def P_J16_equals (κ : Nat → Nat) (x0 : Option Nat) (x1 : Option Nat) (σ : xS) (K : Int32 → xH → Prop) : Prop :=
  ((x0 = x1 → (K (1 : Int32) σ.1)) ∧ (¬ x0 = x1 → (((x0 = none → (K (0 : Int32) σ.1)) ∧ (∀ b1 : Nat, x0 = some b1 → (xrc σ b1 14 ∧ xcall (fun τ L => P_J23_equals κ b1 x1 τ L) σ fun v2 σ3 => ((v2 = 0 → (K (0 : Int32) σ3.1)) ∧ (¬ v2 = 0 → (K (1 : Int32) σ3.1)))))))))
theorem mdJ16_equals : yJ16_equals.cls ≠ "java/lang/invoke/MethodHandle" ∧ yJ16_equals.cls ≠ "java/lang/invoke/VarHandle" ∧ (parseMethodDescriptor yJ16_equals.desc).map (fun d => d.parameters.length) = some 2 := by decide +kernel
set_option maxHeartbeats 4000000 in
set_option maxRecDepth 100000 in
theorem R_J16_equals (l : Launch) (hl : l.stackTraces = false) (G : xG) (hG : G.1.2 = x_cl) (x0 : Option Nat) (x1 : Option Nat) (σ : xS) (K : Int32 → xH → Prop) (hp : P_J16_equals G.2 x0 x1 σ K) : xM l yJ16_equals cJ16_equals 2 (Option.some Jvm.ClassFile.FieldType.boolean) 2 41 G [va_rf x0, va_rf x1] σ (xlift emI K) := by
  refine x_entry (by decide) (by simp [lg_sl, x_catq, x_cati, x_catr, x_catn]) ?_
  intro p e s m args below meth c X hr hin
  have X : xX p s m args meth c G cJ16_equals 2 RJ16 := X
  have hx := X.1
  have hb := X.2.1
  have hts := X.2.2.2.2.1
  have hown := X.2.2.2.1
  unfold P_J16_equals at hp
  refine x_same (lo' := [(0, va_rf x0), (1, va_rf x1)]) (by simp [lv_args, x_catq, x_cati, x_catr, x_catn]) ?_
  refine x_up (pc' := 1) (fun _ _ _ _ _ L => lv_aloadq_n hx hb dJ16_equals_0 rfl (lv_at L 0 rfl)) ?_
  refine x_up (pc' := 2) (fun _ _ _ _ _ L => lv_aloadq_n hx hb dJ16_equals_1 rfl (lv_at L 1 rfl)) ?_
  refine x_if (C := x0 = x1) (pt := 17) (pc' := 5) (fun _ _ _ _ _ => lv_acmp_eq (rx := x0) (ry := x1) (tgt := 17) hx hb dJ16_equals_2 (by decide)) (fun c2 => ?_) (fun c2 => ?_)
  · have hp1 := hp.1 c2
    refine x_up (pc' := 18) (fun _ _ _ _ _ L => lv_iconst (v := (1 : Int32)) hx hb dJ16_equals_17 (by decide)) ?_
    refine x_up (pc' := 22) (fun _ _ _ _ _ L => lv_goto (tgt := 22) hx hb dJ16_equals_18 (by decide)) ?_
    exact x_iret X hr rfl dJ16_equals_22 hp1
  · have hp2 := hp.2 c2
    refine x_up (pc' := 6) (fun _ _ _ _ _ L => lv_aloadq_n hx hb dJ16_equals_5 rfl (lv_at L 0 rfl)) ?_
    rcases x0 with _ | b1
    · have hp3 := hp2.1 rfl
      refine x_up (pc' := 21) (fun _ _ _ _ _ L => lv_ifnullN (tgt := 21) hx hb dJ16_equals_6 (by decide)) ?_
      refine x_up (pc' := 22) (fun _ _ _ _ _ L => lv_iconst (v := (0 : Int32)) hx hb dJ16_equals_21 (by decide)) ?_
      exact x_iret X hr rfl dJ16_equals_22 hp3
    · have hp4 := hp2.2 _ rfl
      refine x_up (pc' := 9) (fun _ _ _ _ _ L => lv_ifnull hx hb dJ16_equals_6) ?_
      refine x_up (pc' := 10) (fun _ _ _ _ _ L => lv_aload_n hx hb dJ16_equals_9 rfl (lv_at L 0 rfl)) ?_
      refine x_up (pc' := 11) (fun _ _ _ _ _ L => lv_aloadq_n hx hb dJ16_equals_10 rfl (lv_at L 1 rfl)) ?_
      refine x_callO (x := ⟨"java/lang/Object", "equals", "(Ljava/lang/Object;)Z"⟩) (owner := "java/lang/Object") (em := emI) (fun r st => .int r :: st) (fun _ _ => rfl) 1 X (kJ23 hG) (fun σ' KK h => R_J23_equals l hl G hG b1 x1 σ' KK h) (hts _ q648) (hts _ q650) (x_dcl X q647) (hts _ q670) q671 q128 q672 (by decide +kernel) ⟨Nat.le_of_ble_eq_true rfl, Nat.le_of_ble_eq_true rfl⟩ rfl rfl (Nat.le_of_ble_eq_true rfl) dJ16_equals_11 hp4.1 hp4.2 (fun v2 σ3 hp5 => ?_)
      refine x_pc (pc' := 14) rfl ?_
      refine x_if (C := v2 = 0) (pt := 21) (pc' := 17) (fun _ _ _ _ _ => lv_if_eq (tgt := 21) hx hb dJ16_equals_14 (by decide)) (fun c14 => ?_) (fun c14 => ?_)
      · have hp6 := hp5.1 c14
        refine x_up (pc' := 22) (fun _ _ _ _ _ L => lv_iconst (v := (0 : Int32)) hx hb dJ16_equals_21 (by decide)) ?_
        exact x_iret X hr rfl dJ16_equals_22 hp6
      · have hp7 := hp5.2 c14
        refine x_up (pc' := 18) (fun _ _ _ _ _ L => lv_iconst (v := (1 : Int32)) hx hb dJ16_equals_17 (by decide)) ?_
        refine x_up (pc' := 22) (fun _ _ _ _ _ L => lv_goto (tgt := 22) hx hb dJ16_equals_18 (by decide)) ?_
        exact x_iret X hr rfl dJ16_equals_22 hp7
-- J23_numberOfLeadingZeros
def P_J23_numberOfLeadingZeros (κ : Nat → Nat) (x0 : Int32) (σ : xS) (K : Int32 → xH → Prop) : Prop :=
  ((0 < x0 → (((x0 < (65536 : Int32) → (((x0 < (256 : Int32) → (((x0 < (16 : Int32) → (((x0 < (4 : Int32) → (K ((31 : Int32) - ((x0.toUInt32 >>> ((1 : Int32).toUInt32 &&& Int32.toUInt32 31)).toInt32)) σ.1)) ∧ (¬ x0 < (4 : Int32) → (K (((31 : Int32) + (-2 : Int32)) - ((((x0.toUInt32 >>> ((2 : Int32).toUInt32 &&& Int32.toUInt32 31)).toInt32).toUInt32 >>> ((1 : Int32).toUInt32 &&& Int32.toUInt32 31)).toInt32)) σ.1))))) ∧ (¬ x0 < (16 : Int32) → (((((x0.toUInt32 >>> ((4 : Int32).toUInt32 &&& Int32.toUInt32 31)).toInt32) < (4 : Int32) → (K (((31 : Int32) + (-4 : Int32)) - ((((x0.toUInt32 >>> ((4 : Int32).toUInt32 &&& Int32.toUInt32 31)).toInt32).toUInt32 >>> ((1 : Int32).toUInt32 &&& Int32.toUInt32 31)).toInt32)) σ.1)) ∧ (¬ ((x0.toUInt32 >>> ((4 : Int32).toUInt32 &&& Int32.toUInt32 31)).toInt32) < (4 : Int32) → (K (((31 : Int32) + (-4 : Int32) + (-2 : Int32)) - ((((((x0.toUInt32 >>> ((4 : Int32).toUInt32 &&& Int32.toUInt32 31)).toInt32).toUInt32 >>> ((2 : Int32).toUInt32 &&& Int32.toUInt32 31)).toInt32).toUInt32 >>> ((1 : Int32).toUInt32 &&& Int32.toUInt32 31)).toInt32)) σ.1)))))))) ∧ (¬ x0 < (256 : Int32) → (((((x0.toUInt32 >>> ((8 : Int32).toUInt32 &&& Int32.toUInt32 31)).toInt32) < (16 : Int32) → (((((x0.toUInt32 >>> ((8 : Int32).toUInt32 &&& Int32.toUInt32 31)).toInt32) < (4 : Int32) → (K (((31 : Int32) + (-8 : Int32)) - ((((x0.toUInt32 >>> ((8 : Int32).toUInt32 &&& Int32.toUInt32 31)).toInt32).toUInt32 >>> ((1 : Int32).toUInt32 &&& Int32.toUInt32 31)).toInt32)) σ.1)) ∧ (¬ ((x0.toUInt32 >>> ((8 : Int32).toUInt32 &&& Int32.toUInt32 31)).toInt32) < (4 : Int32) → (K (((31 : Int32) + (-8 : Int32) + (-2 : Int32)) - ((((((x0.toUInt32 >>> ((8 : Int32).toUInt32 &&& Int32.toUInt32 31)).toInt32).toUInt32 >>> ((2 : Int32).toUInt32 &&& Int32.toUInt32 31)).toInt32).toUInt32 >>> ((1 : Int32).toUInt32 &&& Int32.toUInt32 31)).toInt32)) σ.1))))) ∧ (¬ ((x0.toUInt32 >>> ((8 : Int32).toUInt32 &&& Int32.toUInt32 31)).toInt32) < (16 : Int32) → (((((((x0.toUInt32 >>> ((8 : Int32).toUInt32 &&& Int32.toUInt32 31)).toInt32).toUInt32 >>> ((4 : Int32).toUInt32 &&& Int32.toUInt32 31)).toInt32) < (4 : Int32) → (K (((31 : Int32) + (-8 : Int32) + (-4 : Int32)) - ((((((x0.toUInt32 >>> ((8 : Int32).toUInt32 &&& Int32.toUInt32 31)).toInt32).toUInt32 >>> ((4 : Int32).toUInt32 &&& Int32.toUInt32 31)).toInt32).toUInt32 >>> ((1 : Int32).toUInt32 &&& Int32.toUInt32 31)).toInt32)) σ.1)) ∧ (¬ ((((x0.toUInt32 >>> ((8 : Int32).toUInt32 &&& Int32.toUInt32 31)).toInt32).toUInt32 >>> ((4 : Int32).toUInt32 &&& Int32.toUInt32 31)).toInt32) < (4 : Int32) → (K (((31 : Int32) + (-8 : Int32) + (-4 : Int32) + (-2 : Int32)) - ((((((((x0.toUInt32 >>> ((8 : Int32).toUInt32 &&& Int32.toUInt32 31)).toInt32).toUInt32 >>> ((4 : Int32).toUInt32 &&& Int32.toUInt32 31)).toInt32).toUInt32 >>> ((2 : Int32).toUInt32 &&& Int32.toUInt32 31)).toInt32).toUInt32 >>> ((1 : Int32).toUInt32 &&& Int32.toUInt32 31)).toInt32)) σ.1))))))))))) ∧ (¬ x0 < (65536 : Int32) → (((((x0.toUInt32 >>> ((16 : Int32).toUInt32 &&& Int32.toUInt32 31)).toInt32) < (256 : Int32) → (((((x0.toUInt32 >>> ((16 : Int32).toUInt32 &&& Int32.toUInt32 31)).toInt32) < (16 : Int32) → (((((x0.toUInt32 >>> ((16 : Int32).toUInt32 &&& Int32.toUInt32 31)).toInt32) < (4 : Int32) → (K (((31 : Int32) + (-16 : Int32)) - ((((x0.toUInt32 >>> ((16 : Int32).toUInt32 &&& Int32.toUInt32 31)).toInt32).toUInt32 >>> ((1 : Int32).toUInt32 &&& Int32.toUInt32 31)).toInt32)) σ.1)) ∧ (¬ ((x0.toUInt32 >>> ((16 : Int32).toUInt32 &&& Int32.toUInt32 31)).toInt32) < (4 : Int32) → (K (((31 : Int32) + (-16 : Int32) + (-2 : Int32)) - ((((((x0.toUInt32 >>> ((16 : Int32).toUInt32 &&& Int32.toUInt32 31)).toInt32).toUInt32 >>> ((2 : Int32).toUInt32 &&& Int32.toUInt32 31)).toInt32).toUInt32 >>> ((1 : Int32).toUInt32 &&& Int32.toUInt32 31)).toInt32)) σ.1))))) ∧ (¬ ((x0.toUInt32 >>> ((16 : Int32).toUInt32 &&& Int32.toUInt32 31)).toInt32) < (16 : Int32) → (((((((x0.toUInt32 >>> ((16 : Int32).toUInt32 &&& Int32.toUInt32 31)).toInt32).toUInt32 >>> ((4 : Int32).toUInt32 &&& Int32.toUInt32 31)).toInt32) < (4 : Int32) → (K (((31 : Int32) + (-16 : Int32) + (-4 : Int32)) - ((((((x0.toUInt32 >>> ((16 : Int32).toUInt32 &&& Int32.toUInt32 31)).toInt32).toUInt32 >>> ((4 : Int32).toUInt32 &&& Int32.toUInt32 31)).toInt32).toUInt32 >>> ((1 : Int32).toUInt32 &&& Int32.toUInt32 31)).toInt32)) σ.1)) ∧ (¬ ((((x0.toUInt32 >>> ((16 : Int32).toUInt32 &&& Int32.toUInt32 31)).toInt32).toUInt32 >>> ((4 : Int32).toUInt32 &&& Int32.toUInt32 31)).toInt32) < (4 : Int32) → (K (((31 : Int32) + (-16 : Int32) + (-4 : Int32) + (-2 : Int32)) - ((((((((x0.toUInt32 >>> ((16 : Int32).toUInt32 &&& Int32.toUInt32 31)).toInt32).toUInt32 >>> ((4 : Int32).toUInt32 &&& Int32.toUInt32 31)).toInt32).toUInt32 >>> ((2 : Int32).toUInt32 &&& Int32.toUInt32 31)).toInt32).toUInt32 >>> ((1 : Int32).toUInt32 &&& Int32.toUInt32 31)).toInt32)) σ.1)))))))) ∧ (¬ ((x0.toUInt32 >>> ((16 : Int32).toUInt32 &&& Int32.toUInt32 31)).toInt32) < (256 : Int32) → (((((((x0.toUInt32 >>> ((16 : Int32).toUInt32 &&& Int32.toUInt32 31)).toInt32).toUInt32 >>> ((8 : Int32).toUInt32 &&& Int32.toUInt32 31)).toInt32) < (16 : Int32) → (((((((x0.toUInt32 >>> ((16 : Int32).toUInt32 &&& Int32.toUInt32 31)).toInt32).toUInt32 >>> ((8 : Int32).toUInt32 &&& Int32.toUInt32 31)).toInt32) < (4 : Int32) → (K (((31 : Int32) + (-16 : Int32) + (-8 : Int32)) - ((((((x0.toUInt32 >>> ((16 : Int32).toUInt32 &&& Int32.toUInt32 31)).toInt32).toUInt32 >>> ((8 : Int32).toUInt32 &&& Int32.toUInt32 31)).toInt32).toUInt32 >>> ((1 : Int32).toUInt32 &&& Int32.toUInt32 31)).toInt32)) σ.1)) ∧ (¬ ((((x0.toUInt32 >>> ((16 : Int32).toUInt32 &&& Int32.toUInt32 31)).toInt32).toUInt32 >>> ((8 : Int32).toUInt32 &&& Int32.toUInt32 31)).toInt32) < (4 : Int32) → (K (((31 : Int32) + (-16 : Int32) + (-8 : Int32) + (-2 : Int32)) - ((((((((x0.toUInt32 >>> ((16 : Int32).toUInt32 &&& Int32.toUInt32 31)).toInt32).toUInt32 >>> ((8 : Int32).toUInt32 &&& Int32.toUInt32 31)).toInt32).toUInt32 >>> ((2 : Int32).toUInt32 &&& Int32.toUInt32 31)).toInt32).toUInt32 >>> ((1 : Int32).toUInt32 &&& Int32.toUInt32 31)).toInt32)) σ.1))))) ∧ (¬ ((((x0.toUInt32 >>> ((16 : Int32).toUInt32 &&& Int32.toUInt32 31)).toInt32).toUInt32 >>> ((8 : Int32).toUInt32 &&& Int32.toUInt32 31)).toInt32) < (16 : Int32) → (((((((((x0.toUInt32 >>> ((16 : Int32).toUInt32 &&& Int32.toUInt32 31)).toInt32).toUInt32 >>> ((8 : Int32).toUInt32 &&& Int32.toUInt32 31)).toInt32).toUInt32 >>> ((4 : Int32).toUInt32 &&& Int32.toUInt32 31)).toInt32) < (4 : Int32) → (K (((31 : Int32) + (-16 : Int32) + (-8 : Int32) + (-4 : Int32)) - ((((((((x0.toUInt32 >>> ((16 : Int32).toUInt32 &&& Int32.toUInt32 31)).toInt32).toUInt32 >>> ((8 : Int32).toUInt32 &&& Int32.toUInt32 31)).toInt32).toUInt32 >>> ((4 : Int32).toUInt32 &&& Int32.toUInt32 31)).toInt32).toUInt32 >>> ((1 : Int32).toUInt32 &&& Int32.toUInt32 31)).toInt32)) σ.1)) ∧ (¬ ((((((x0.toUInt32 >>> ((16 : Int32).toUInt32 &&& Int32.toUInt32 31)).toInt32).toUInt32 >>> ((8 : Int32).toUInt32 &&& Int32.toUInt32 31)).toInt32).toUInt32 >>> ((4 : Int32).toUInt32 &&& Int32.toUInt32 31)).toInt32) < (4 : Int32) → (K (((31 : Int32) + (-16 : Int32) + (-8 : Int32) + (-4 : Int32) + (-2 : Int32)) - ((((((((((x0.toUInt32 >>> ((16 : Int32).toUInt32 &&& Int32.toUInt32 31)).toInt32).toUInt32 >>> ((8 : Int32).toUInt32 &&& Int32.toUInt32 31)).toInt32).toUInt32 >>> ((4 : Int32).toUInt32 &&& Int32.toUInt32 31)).toInt32).toUInt32 >>> ((2 : Int32).toUInt32 &&& Int32.toUInt32 31)).toInt32).toUInt32 >>> ((1 : Int32).toUInt32 &&& Int32.toUInt32 31)).toInt32)) σ.1)))))))))))))) ∧ (¬ 0 < x0 → (((x0 = 0 → (K (32 : Int32) σ.1)) ∧ (¬ x0 = 0 → (K (0 : Int32) σ.1))))))
theorem mdJ23_numberOfLeadingZeros : yJ23_numberOfLeadingZeros.cls ≠ "java/lang/invoke/MethodHandle" ∧ yJ23_numberOfLeadingZeros.cls ≠ "java/lang/invoke/VarHandle" ∧ (parseMethodDescriptor yJ23_numberOfLeadingZeros.desc).map (fun d => d.parameters.length) = some 1 := by decide +kernel
set_option maxHeartbeats 4000000 in
set_option maxRecDepth 100000 in
theorem R_J23_numberOfLeadingZeros (l : Launch) (hl : l.stackTraces = false) (G : xG) (hG : G.1.2 = x_cl) (x0 : Int32) (σ : xS) (K : Int32 → xH → Prop) (hp : P_J23_numberOfLeadingZeros G.2 x0 σ K) : xM l yJ23_numberOfLeadingZeros cJ23_numberOfLeadingZeros 2 (Option.some Jvm.ClassFile.FieldType.int) 0 0 G [.int x0] σ (xlift emI K) := by
  refine x_entry (by decide) (Nat.le_of_ble_eq_true rfl) ?_
  intro p e s m args below meth c X hr hin
  have X : xX p s m args meth c G cJ23_numberOfLeadingZeros 2 RJ23 := X
  have hx := X.1
  have hb := X.2.1
  have hts := X.2.2.2.2.1
  have hown := X.2.2.2.1
  unfold P_J23_numberOfLeadingZeros at hp
  refine x_same (lo' := [(0, .int x0)]) rfl ?_
  refine x_up (pc' := 1) (fun _ _ _ _ _ L => lv_iload_n hx hb dJ23_numberOfLeadingZeros_0 rfl (lv_at L 0 rfl)) ?_
  refine x_if (C := 0 < x0) (pt := 15) (pc' := 4) (fun _ _ _ _ _ => lv_if_gt (tgt := 15) hx hb dJ23_numberOfLeadingZeros_1 (by decide)) (fun c1 => ?_) (fun c1 => ?_)
  · have hp1 := hp.1 c1
    refine x_up (pc' := 17) (fun _ _ _ _ _ L => lv_bipush (v := (31 : Int32)) hx hb dJ23_numberOfLeadingZeros_15 (by decide)) ?_
    refine x_upL (pc' := 18) (lo' := [(1, .int (31 : Int32)), (0, .int x0)]) (fun _ _ _ _ _ L => lv_istore_n hx hb dJ23_numberOfLeadingZeros_17 rfl L (by decide) rfl) ?_
    refine x_up (pc' := 19) (fun _ _ _ _ _ L => lv_iload_n hx hb dJ23_numberOfLeadingZeros_18 rfl (lv_at L 1 rfl)) ?_
    refine x_up (pc' := 22) (fun _ _ _ _ _ L => lv_ldcw (v := 65536) hx hb hown (hts _ q760) dJ23_numberOfLeadingZeros_19) ?_
    refine x_if (C := x0 < (65536 : Int32)) (pt := 33) (pc' := 25) (fun _ _ _ _ _ => lv_icmp_lt (tgt := 33) hx hb dJ23_numberOfLeadingZeros_22 (by decide)) (fun c22 => ?_) (fun c22 => ?_)
    · have hp2 := hp1.1 c22
      refine x_up (pc' := 34) (fun _ _ _ _ _ L => lv_iload_n hx hb dJ23_numberOfLeadingZeros_33 rfl (lv_at L 1 rfl)) ?_
      refine x_up (pc' := 37) (fun _ _ _ _ _ L => lv_sipush (v := (256 : Int32)) hx hb dJ23_numberOfLeadingZeros_34 (by decide)) ?_
      refine x_if (C := x0 < (256 : Int32)) (pt := 48) (pc' := 40) (fun _ _ _ _ _ => lv_icmp_lt (tgt := 48) hx hb dJ23_numberOfLeadingZeros_37 (by decide)) (fun c37 => ?_) (fun c37 => ?_)
      · have hp3 := hp2.1 c37
        refine x_up (pc' := 49) (fun _ _ _ _ _ L => lv_iload_n hx hb dJ23_numberOfLeadingZeros_48 rfl (lv_at L 1 rfl)) ?_
        refine x_up (pc' := 51) (fun _ _ _ _ _ L => lv_bipush (v := (16 : Int32)) hx hb dJ23_numberOfLeadingZeros_49 (by decide)) ?_
        refine x_if (C := x0 < (16 : Int32)) (pt := 61) (pc' := 54) (fun _ _ _ _ _ => lv_icmp_lt (tgt := 61) hx hb dJ23_numberOfLeadingZeros_51 (by decide)) (fun c51 => ?_) (fun c51 => ?_)
        · have hp4 := hp3.1 c51
          refine x_up (pc' := 62) (fun _ _ _ _ _ L => lv_iload_n hx hb dJ23_numberOfLeadingZeros_61 rfl (lv_at L 1 rfl)) ?_
          refine x_up (pc' := 63) (fun _ _ _ _ _ L => lv_iconst (v := (4 : Int32)) hx hb dJ23_numberOfLeadingZeros_62 (by decide)) ?_
          refine x_if (C := x0 < (4 : Int32)) (pt := 73) (pc' := 66) (fun _ _ _ _ _ => lv_icmp_lt (tgt := 73) hx hb dJ23_numberOfLeadingZeros_63 (by decide)) (fun c63 => ?_) (fun c63 => ?_)
          · have hp5 := hp4.1 c63
            refine x_up (pc' := 74) (fun _ _ _ _ _ L => lv_iload_n hx hb dJ23_numberOfLeadingZeros_73 rfl (lv_at L 0 rfl)) ?_
            refine x_up (pc' := 75) (fun _ _ _ _ _ L => lv_iload_n hx hb dJ23_numberOfLeadingZeros_74 rfl (lv_at L 1 rfl)) ?_
            refine x_up (pc' := 76) (fun _ _ _ _ _ L => lv_iconst (v := (1 : Int32)) hx hb dJ23_numberOfLeadingZeros_75 (by decide)) ?_
            refine x_up (pc' := 77) (fun _ _ _ _ _ L => lv_iushr hx hb dJ23_numberOfLeadingZeros_76 rfl) ?_
            refine x_up (pc' := 78) (fun _ _ _ _ _ L => lv_isub hx hb dJ23_numberOfLeadingZeros_77) ?_
            exact x_iret X hr rfl dJ23_numberOfLeadingZeros_78 hp5
          · have hp6 := hp4.2 c63
            refine x_upL (pc' := 69) (lo' := [(1, .int ((31 : Int32) + (-2 : Int32))), (0, .int x0)]) (fun _ _ _ _ _ L => lv_iinc (v := (31 : Int32) + (-2 : Int32)) hx hb dJ23_numberOfLeadingZeros_66 L (k := 0) rfl rfl (by decide) rfl) ?_
            refine x_up (pc' := 70) (fun _ _ _ _ _ L => lv_iload_n hx hb dJ23_numberOfLeadingZeros_69 rfl (lv_at L 1 rfl)) ?_
            refine x_up (pc' := 71) (fun _ _ _ _ _ L => lv_iconst (v := (2 : Int32)) hx hb dJ23_numberOfLeadingZeros_70 (by decide)) ?_
            refine x_up (pc' := 72) (fun _ _ _ _ _ L => lv_iushr hx hb dJ23_numberOfLeadingZeros_71 rfl) ?_
            refine x_upL (pc' := 73) (lo' := [(0, .int ((x0.toUInt32 >>> ((2 : Int32).toUInt32 &&& Int32.toUInt32 31)).toInt32)), (1, .int ((31 : Int32) + (-2 : Int32)))]) (fun _ _ _ _ _ L => lv_istore_n hx hb dJ23_numberOfLeadingZeros_72 rfl L (by decide) rfl) ?_
            refine x_up (pc' := 74) (fun _ _ _ _ _ L => lv_iload_n hx hb dJ23_numberOfLeadingZeros_73 rfl (lv_at L 1 rfl)) ?_
            refine x_up (pc' := 75) (fun _ _ _ _ _ L => lv_iload_n hx hb dJ23_numberOfLeadingZeros_74 rfl (lv_at L 0 rfl)) ?_
            refine x_up (pc' := 76) (fun _ _ _ _ _ L => lv_iconst (v := (1 : Int32)) hx hb dJ23_numberOfLeadingZeros_75 (by decide)) ?_
            refine x_up (pc' := 77) (fun _ _ _ _ _ L => lv_iushr hx hb dJ23_numberOfLeadingZeros_76 rfl) ?_
            refine x_up (pc' := 78) (fun _ _ _ _ _ L => lv_isub hx hb dJ23_numberOfLeadingZeros_77) ?_
            exact x_iret X hr rfl dJ23_numberOfLeadingZeros_78 hp6
        · have hp7 := hp3.2 c51
          refine x_upL (pc' := 57) (lo' := [(1, .int ((31 : Int32) + (-4 : Int32))), (0, .int x0)]) (fun _ _ _ _ _ L => lv_iinc (v := (31 : Int32) + (-4 : Int32)) hx hb dJ23_numberOfLeadingZeros_54 L (k := 0) rfl rfl (by decide) rfl) ?_
          refine x_up (pc' := 58) (fun _ _ _ _ _ L => lv_iload_n hx hb dJ23_numberOfLeadingZeros_57 rfl (lv_at L 1 rfl)) ?_
          refine x_up (pc' := 59) (fun _ _ _ _ _ L => lv_iconst (v := (4 : Int32)) hx hb dJ23_numberOfLeadingZeros_58 (by decide)) ?_
          refine x_up (pc' := 60) (fun _ _ _ _ _ L => lv_iushr hx hb dJ23_numberOfLeadingZeros_59 rfl) ?_
          refine x_upL (pc' := 61) (lo' := [(0, .int ((x0.toUInt32 >>> ((4 : Int32).toUInt32 &&& Int32.toUInt32 31)).toInt32)), (1, .int ((31 : Int32) + (-4 : Int32)))]) (fun _ _ _ _ _ L => lv_istore_n hx hb dJ23_numberOfLeadingZeros_60 rfl L (by decide) rfl) ?_
          refine x_up (pc' := 62) (fun _ _ _ _ _ L => lv_iload_n hx hb dJ23_numberOfLeadingZeros_61 rfl (lv_at L 0 rfl)) ?_
          refine x_up (pc' := 63) (fun _ _ _ _ _ L => lv_iconst (v := (4 : Int32)) hx hb dJ23_numberOfLeadingZeros_62 (by decide)) ?_
          refine x_if (C := ((x0.toUInt32 >>> ((4 : Int32).toUInt32 &&& Int32.toUInt32 31)).toInt32) < (4 : Int32)) (pt := 73) (pc' := 66) (fun _ _ _ _ _ => lv_icmp_lt (tgt := 73) hx hb dJ23_numberOfLeadingZeros_63 (by decide)) (fun c63 => ?_) (fun c63 => ?_)
          · have hp8 := hp7.1 c63
            refine x_up (pc' := 74) (fun _ _ _ _ _ L => lv_iload_n hx hb dJ23_numberOfLeadingZeros_73 rfl (lv_at L 1 rfl)) ?_
            refine x_up (pc' := 75) (fun _ _ _ _ _ L => lv_iload_n hx hb dJ23_numberOfLeadingZeros_74 rfl (lv_at L 0 rfl)) ?_
            refine x_up (pc' := 76) (fun _ _ _ _ _ L => lv_iconst (v := (1 : Int32)) hx hb dJ23_numberOfLeadingZeros_75 (by decide)) ?_
            refine x_up (pc' := 77) (fun _ _ _ _ _ L => lv_iushr hx hb dJ23_numberOfLeadingZeros_76 rfl) ?_
            refine x_up (pc' := 78) (fun _ _ _ _ _ L => lv_isub hx hb dJ23_numberOfLeadingZeros_77) ?_
            exact x_iret X hr rfl dJ23_numberOfLeadingZeros_78 hp8
          · have hp9 := hp7.2 c63
            refine x_upL (pc' := 69) (lo' := [(1, .int ((31 : Int32) + (-4 : Int32) + (-2 : Int32))), (0, .int ((x0.toUInt32 >>> ((4 : Int32).toUInt32 &&& Int32.toUInt32 31)).toInt32))]) (fun _ _ _ _ _ L => lv_iinc (v := (31 : Int32) + (-4 : Int32) + (-2 : Int32)) hx hb dJ23_numberOfLeadingZeros_66 L (k := 1) rfl rfl (by decide) rfl) ?_
            refine x_up (pc' := 70) (fun _ _ _ _ _ L => lv_iload_n hx hb dJ23_numberOfLeadingZeros_69 rfl (lv_at L 1 rfl)) ?_
            refine x_up (pc' := 71) (fun _ _ _ _ _ L => lv_iconst (v := (2 : Int32)) hx hb dJ23_numberOfLeadingZeros_70 (by decide)) ?_
            refine x_up (pc' := 72) (fun _ _ _ _ _ L => lv_iushr hx hb dJ23_numberOfLeadingZeros_71 rfl) ?_
            refine x_upL (pc' := 73) (lo' := [(0, .int ((((x0.toUInt32 >>> ((4 : Int32).toUInt32 &&& Int32.toUInt32 31)).toInt32).toUInt32 >>> ((2 : Int32).toUInt32 &&& Int32.toUInt32 31)).toInt32)), (1, .int ((31 : Int32) + (-4 : Int32) + (-2 : Int32)))]) (fun _ _ _ _ _ L => lv_istore_n hx hb dJ23_numberOfLeadingZeros_72 rfl L (by decide) rfl) ?_
            refine x_up (pc' := 74) (fun _ _ _ _ _ L => lv_iload_n hx hb dJ23_numberOfLeadingZeros_73 rfl (lv_at L 1 rfl)) ?_
            refine x_up (pc' := 75) (fun _ _ _ _ _ L => lv_iload_n hx hb dJ23_numberOfLeadingZeros_74 rfl (lv_at L 0 rfl)) ?_
            refine x_up (pc' := 76) (fun _ _ _ _ _ L => lv_iconst (v := (1 : Int32)) hx hb dJ23_numberOfLeadingZeros_75 (by decide)) ?_
            refine x_up (pc' := 77) (fun _ _ _ _ _ L => lv_iushr hx hb dJ23_numberOfLeadingZeros_76 rfl) ?_
            refine x_up (pc' := 78) (fun _ _ _ _ _ L => lv_isub hx hb dJ23_numberOfLeadingZeros_77) ?_
            exact x_iret X hr rfl dJ23_numberOfLeadingZeros_78 hp9
      · have hp10 := hp2.2 c37
        refine x_upL (pc' := 43) (lo' := [(1, .int ((31 : Int32) + (-8 : Int32))), (0, .int x0)]) (fun _ _ _ _ _ L => lv_iinc (v := (31 : Int32) + (-8 : Int32)) hx hb dJ23_numberOfLeadingZeros_40 L (k := 0) rfl rfl (by decide) rfl) ?_
        refine x_up (pc' := 44) (fun _ _ _ _ _ L => lv_iload_n hx hb dJ23_numberOfLeadingZeros_43 rfl (lv_at L 1 rfl)) ?_
        refine x_up (pc' := 46) (fun _ _ _ _ _ L => lv_bipush (v := (8 : Int32)) hx hb dJ23_numberOfLeadingZeros_44 (by decide)) ?_
        refine x_up (pc' := 47) (fun _ _ _ _ _ L => lv_iushr hx hb dJ23_numberOfLeadingZeros_46 rfl) ?_
        refine x_upL (pc' := 48) (lo' := [(0, .int ((x0.toUInt32 >>> ((8 : Int32).toUInt32 &&& Int32.toUInt32 31)).toInt32)), (1, .int ((31 : Int32) + (-8 : Int32)))]) (fun _ _ _ _ _ L => lv_istore_n hx hb dJ23_numberOfLeadingZeros_47 rfl L (by decide) rfl) ?_
        refine x_up (pc' := 49) (fun _ _ _ _ _ L => lv_iload_n hx hb dJ23_numberOfLeadingZeros_48 rfl (lv_at L 0 rfl)) ?_
        refine x_up (pc' := 51) (fun _ _ _ _ _ L => lv_bipush (v := (16 : Int32)) hx hb dJ23_numberOfLeadingZeros_49 (by decide)) ?_
        refine x_if (C := ((x0.toUInt32 >>> ((8 : Int32).toUInt32 &&& Int32.toUInt32 31)).toInt32) < (16 : Int32)) (pt := 61) (pc' := 54) (fun _ _ _ _ _ => lv_icmp_lt (tgt := 61) hx hb dJ23_numberOfLeadingZeros_51 (by decide)) (fun c51 => ?_) (fun c51 => ?_)
        · have hp11 := hp10.1 c51
          refine x_up (pc' := 62) (fun _ _ _ _ _ L => lv_iload_n hx hb dJ23_numberOfLeadingZeros_61 rfl (lv_at L 0 rfl)) ?_
          refine x_up (pc' := 63) (fun _ _ _ _ _ L => lv_iconst (v := (4 : Int32)) hx hb dJ23_numberOfLeadingZeros_62 (by decide)) ?_
          refine x_if (C := ((x0.toUInt32 >>> ((8 : Int32).toUInt32 &&& Int32.toUInt32 31)).toInt32) < (4 : Int32)) (pt := 73) (pc' := 66) (fun _ _ _ _ _ => lv_icmp_lt (tgt := 73) hx hb dJ23_numberOfLeadingZeros_63 (by decide)) (fun c63 => ?_) (fun c63 => ?_)
          · have hp12 := hp11.1 c63
            refine x_up (pc' := 74) (fun _ _ _ _ _ L => lv_iload_n hx hb dJ23_numberOfLeadingZeros_73 rfl (lv_at L 1 rfl)) ?_
            refine x_up (pc' := 75) (fun _ _ _ _ _ L => lv_iload_n hx hb dJ23_numberOfLeadingZeros_74 rfl (lv_at L 0 rfl)) ?_
            refine x_up (pc' := 76) (fun _ _ _ _ _ L => lv_iconst (v := (1 : Int32)) hx hb dJ23_numberOfLeadingZeros_75 (by decide)) ?_
            refine x_up (pc' := 77) (fun _ _ _ _ _ L => lv_iushr hx hb dJ23_numberOfLeadingZeros_76 rfl) ?_
            refine x_up (pc' := 78) (fun _ _ _ _ _ L => lv_isub hx hb dJ23_numberOfLeadingZeros_77) ?_
            exact x_iret X hr rfl dJ23_numberOfLeadingZeros_78 hp12
          · have hp13 := hp11.2 c63
            refine x_upL (pc' := 69) (lo' := [(1, .int ((31 : Int32) + (-8 : Int32) + (-2 : Int32))), (0, .int ((x0.toUInt32 >>> ((8 : Int32).toUInt32 &&& Int32.toUInt32 31)).toInt32))]) (fun _ _ _ _ _ L => lv_iinc (v := (31 : Int32) + (-8 : Int32) + (-2 : Int32)) hx hb dJ23_numberOfLeadingZeros_66 L (k := 1) rfl rfl (by decide) rfl) ?_
            refine x_up (pc' := 70) (fun _ _ _ _ _ L => lv_iload_n hx hb dJ23_numberOfLeadingZeros_69 rfl (lv_at L 1 rfl)) ?_
            refine x_up (pc' := 71) (fun _ _ _ _ _ L => lv_iconst (v := (2 : Int32)) hx hb dJ23_numberOfLeadingZeros_70 (by decide)) ?_
            refine x_up (pc' := 72) (fun _ _ _ _ _ L => lv_iushr hx hb dJ23_numberOfLeadingZeros_71 rfl) ?_
            refine x_upL (pc' := 73) (lo' := [(0, .int ((((x0.toUInt32 >>> ((8 : Int32).toUInt32 &&& Int32.toUInt32 31)).toInt32).toUInt32 >>> ((2 : Int32).toUInt32 &&& Int32.toUInt32 31)).toInt32)), (1, .int ((31 : Int32) + (-8 : Int32) + (-2 : Int32)))]) (fun _ _ _ _ _ L => lv_istore_n hx hb dJ23_numberOfLeadingZeros_72 rfl L (by decide) rfl) ?_
            refine x_up (pc' := 74) (fun _ _ _ _ _ L => lv_iload_n hx hb dJ23_numberOfLeadingZeros_73 rfl (lv_at L 1 rfl)) ?_
            refine x_up (pc' := 75) (fun _ _ _ _ _ L => lv_iload_n hx hb dJ23_numberOfLeadingZeros_74 rfl (lv_at L 0 rfl)) ?_
            refine x_up (pc' := 76) (fun _ _ _ _ _ L => lv_iconst (v := (1 : Int32)) hx hb dJ23_numberOfLeadingZeros_75 (by decide)) ?_
            refine x_up (pc' := 77) (fun _ _ _ _ _ L => lv_iushr hx hb dJ23_numberOfLeadingZeros_76 rfl) ?_
            refine x_up (pc' := 78) (fun _ _ _ _ _ L => lv_isub hx hb dJ23_numberOfLeadingZeros_77) ?_
            exact x_iret X hr rfl dJ23_numberOfLeadingZeros_78 hp13
        · have hp14 := hp10.2 c51
          refine x_upL (pc' := 57) (lo' := [(1, .int ((31 : Int32) + (-8 : Int32) + (-4 : Int32))), (0, .int ((x0.toUInt32 >>> ((8 : Int32).toUInt32 &&& Int32.toUInt32 31)).toInt32))]) (fun _ _ _ _ _ L => lv_iinc (v := (31 : Int32) + (-8 : Int32) + (-4 : Int32)) hx hb dJ23_numberOfLeadingZeros_54 L (k := 1) rfl rfl (by decide) rfl) ?_
          refine x_up (pc' := 58) (fun _ _ _ _ _ L => lv_iload_n hx hb dJ23_numberOfLeadingZeros_57 rfl (lv_at L 1 rfl)) ?_
          refine x_up (pc' := 59) (fun _ _ _ _ _ L => lv_iconst (v := (4 : Int32)) hx hb dJ23_numberOfLeadingZeros_58 (by decide)) ?_
          refine x_up (pc' := 60) (fun _ _ _ _ _ L => lv_iushr hx hb dJ23_numberOfLeadingZeros_59 rfl) ?_
          refine x_upL (pc' := 61) (lo' := [(0, .int ((((x0.toUInt32 >>> ((8 : Int32).toUInt32 &&& Int32.toUInt32 31)).toInt32).toUInt32 >>> ((4 : Int32).toUInt32 &&& Int32.toUInt32 31)).toInt32)), (1, .int ((31 : Int32) + (-8 : Int32) + (-4 : Int32)))]) (fun _ _ _ _ _ L => lv_istore_n hx hb dJ23_numberOfLeadingZeros_60 rfl L (by decide) rfl) ?_
          refine x_up (pc' := 62) (fun _ _ _ _ _ L => lv_iload_n hx hb dJ23_numberOfLeadingZeros_61 rfl (lv_at L 0 rfl)) ?_
          refine x_up (pc' := 63) (fun _ _ _ _ _ L => lv_iconst (v := (4 : Int32)) hx hb dJ23_numberOfLeadingZeros_62 (by decide)) ?_
          refine x_if (C := ((((x0.toUInt32 >>> ((8 : Int32).toUInt32 &&& Int32.toUInt32 31)).toInt32).toUInt32 >>> ((4 : Int32).toUInt32 &&& Int32.toUInt32 31)).toInt32) < (4 : Int32)) (pt := 73) (pc' := 66) (fun _ _ _ _ _ => lv_icmp_lt (tgt := 73) hx hb dJ23_numberOfLeadingZeros_63 (by decide)) (fun c63 => ?_) (fun c63 => ?_)
          · have hp15 := hp14.1 c63
            refine x_up (pc' := 74) (fun _ _ _ _ _ L => lv_iload_n hx hb dJ23_numberOfLeadingZeros_73 rfl (lv_at L 1 rfl)) ?_
            refine x_up (pc' := 75) (fun _ _ _ _ _ L => lv_iload_n hx hb dJ23_numberOfLeadingZeros_74 rfl (lv_at L 0 rfl)) ?_
            refine x_up (pc' := 76) (fun _ _ _ _ _ L => lv_iconst (v := (1 : Int32)) hx hb dJ23_numberOfLeadingZeros_75 (by decide)) ?_
            refine x_up (pc' := 77) (fun _ _ _ _ _ L => lv_iushr hx hb dJ23_numberOfLeadingZeros_76 rfl) ?_
            refine x_up (pc' := 78) (fun _ _ _ _ _ L => lv_isub hx hb dJ23_numberOfLeadingZeros_77) ?_
            exact x_iret X hr rfl dJ23_numberOfLeadingZeros_78 hp15
          · have hp16 := hp14.2 c63
            refine x_upL (pc' := 69) (lo' := [(1, .int ((31 : Int32) + (-8 : Int32) + (-4 : Int32) + (-2 : Int32))), (0, .int ((((x0.toUInt32 >>> ((8 : Int32).toUInt32 &&& Int32.toUInt32 31)).toInt32).toUInt32 >>> ((4 : Int32).toUInt32 &&& Int32.toUInt32 31)).toInt32))]) (fun _ _ _ _ _ L => lv_iinc (v := (31 : Int32) + (-8 : Int32) + (-4 : Int32) + (-2 : Int32)) hx hb dJ23_numberOfLeadingZeros_66 L (k := 1) rfl rfl (by decide) rfl) ?_
            refine x_up (pc' := 70) (fun _ _ _ _ _ L => lv_iload_n hx hb dJ23_numberOfLeadingZeros_69 rfl (lv_at L 1 rfl)) ?_
            refine x_up (pc' := 71) (fun _ _ _ _ _ L => lv_iconst (v := (2 : Int32)) hx hb dJ23_numberOfLeadingZeros_70 (by decide)) ?_
            refine x_up (pc' := 72) (fun _ _ _ _ _ L => lv_iushr hx hb dJ23_numberOfLeadingZeros_71 rfl) ?_
            refine x_upL (pc' := 73) (lo' := [(0, .int ((((((x0.toUInt32 >>> ((8 : Int32).toUInt32 &&& Int32.toUInt32 31)).toInt32).toUInt32 >>> ((4 : Int32).toUInt32 &&& Int32.toUInt32 31)).toInt32).toUInt32 >>> ((2 : Int32).toUInt32 &&& Int32.toUInt32 31)).toInt32)), (1, .int ((31 : Int32) + (-8 : Int32) + (-4 : Int32) + (-2 : Int32)))]) (fun _ _ _ _ _ L => lv_istore_n hx hb dJ23_numberOfLeadingZeros_72 rfl L (by decide) rfl) ?_
            refine x_up (pc' := 74) (fun _ _ _ _ _ L => lv_iload_n hx hb dJ23_numberOfLeadingZeros_73 rfl (lv_at L 1 rfl)) ?_
            refine x_up (pc' := 75) (fun _ _ _ _ _ L => lv_iload_n hx hb dJ23_numberOfLeadingZeros_74 rfl (lv_at L 0 rfl)) ?_
            refine x_up (pc' := 76) (fun _ _ _ _ _ L => lv_iconst (v := (1 : Int32)) hx hb dJ23_numberOfLeadingZeros_75 (by decide)) ?_
            refine x_up (pc' := 77) (fun _ _ _ _ _ L => lv_iushr hx hb dJ23_numberOfLeadingZeros_76 rfl) ?_
            refine x_up (pc' := 78) (fun _ _ _ _ _ L => lv_isub hx hb dJ23_numberOfLeadingZeros_77) ?_
            exact x_iret X hr rfl dJ23_numberOfLeadingZeros_78 hp16
    · have hp17 := hp1.2 c22
      refine x_upL (pc' := 28) (lo' := [(1, .int ((31 : Int32) + (-16 : Int32))), (0, .int x0)]) (fun _ _ _ _ _ L => lv_iinc (v := (31 : Int32) + (-16 : Int32)) hx hb dJ23_numberOfLeadingZeros_25 L (k := 0) rfl rfl (by decide) rfl) ?_
      refine x_up (pc' := 29) (fun _ _ _ _ _ L => lv_iload_n hx hb dJ23_numberOfLeadingZeros_28 rfl (lv_at L 1 rfl)) ?_
      refine x_up (pc' := 31) (fun _ _ _ _ _ L => lv_bipush (v := (16 : Int32)) hx hb dJ23_numberOfLeadingZeros_29 (by decide)) ?_
      refine x_up (pc' := 32) (fun _ _ _ _ _ L => lv_iushr hx hb dJ23_numberOfLeadingZeros_31 rfl) ?_
      refine x_upL (pc' := 33) (lo' := [(0, .int ((x0.toUInt32 >>> ((16 : Int32).toUInt32 &&& Int32.toUInt32 31)).toInt32)), (1, .int ((31 : Int32) + (-16 : Int32)))]) (fun _ _ _ _ _ L => lv_istore_n hx hb dJ23_numberOfLeadingZeros_32 rfl L (by decide) rfl) ?_
      refine x_up (pc' := 34) (fun _ _ _ _ _ L => lv_iload_n hx hb dJ23_numberOfLeadingZeros_33 rfl (lv_at L 0 rfl)) ?_
      refine x_up (pc' := 37) (fun _ _ _ _ _ L => lv_sipush (v := (256 : Int32)) hx hb dJ23_numberOfLeadingZeros_34 (by decide)) ?_
      refine x_if (C := ((x0.toUInt32 >>> ((16 : Int32).toUInt32 &&& Int32.toUInt32 31)).toInt32) < (256 : Int32)) (pt := 48) (pc' := 40) (fun _ _ _ _ _ => lv_icmp_lt (tgt := 48) hx hb dJ23_numberOfLeadingZeros_37 (by decide)) (fun c37 => ?_) (fun c37 => ?_)
      · have hp18 := hp17.1 c37
        refine x_up (pc' := 49) (fun _ _ _ _ _ L => lv_iload_n hx hb dJ23_numberOfLeadingZeros_48 rfl (lv_at L 0 rfl)) ?_
        refine x_up (pc' := 51) (fun _ _ _ _ _ L => lv_bipush (v := (16 : Int32)) hx hb dJ23_numberOfLeadingZeros_49 (by decide)) ?_
        refine x_if (C := ((x0.toUInt32 >>> ((16 : Int32).toUInt32 &&& Int32.toUInt32 31)).toInt32) < (16 : Int32)) (pt := 61) (pc' := 54) (fun _ _ _ _ _ => lv_icmp_lt (tgt := 61) hx hb dJ23_numberOfLeadingZeros_51 (by decide)) (fun c51 => ?_) (fun c51 => ?_)
        · have hp19 := hp18.1 c51
          refine x_up (pc' := 62) (fun _ _ _ _ _ L => lv_iload_n hx hb dJ23_numberOfLeadingZeros_61 rfl (lv_at L 0 rfl)) ?_
          refine x_up (pc' := 63) (fun _ _ _ _ _ L => lv_iconst (v := (4 : Int32)) hx hb dJ23_numberOfLeadingZeros_62 (by decide)) ?_
          refine x_if (C := ((x0.toUInt32 >>> ((16 : Int32).toUInt32 &&& Int32.toUInt32 31)).toInt32) < (4 : Int32)) (pt := 73) (pc' := 66) (fun _ _ _ _ _ => lv_icmp_lt (tgt := 73) hx hb dJ23_numberOfLeadingZeros_63 (by decide)) (fun c63 => ?_) (fun c63 => ?_)
          · have hp20 := hp19.1 c63
            refine x_up (pc' := 74) (fun _ _ _ _ _ L => lv_iload_n hx hb dJ23_numberOfLeadingZeros_73 rfl (lv_at L 1 rfl)) ?_
            refine x_up (pc' := 75) (fun _ _ _ _ _ L => lv_iload_n hx hb dJ23_numberOfLeadingZeros_74 rfl (lv_at L 0 rfl)) ?_
            refine x_up (pc' := 76) (fun _ _ _ _ _ L => lv_iconst (v := (1 : Int32)) hx hb dJ23_numberOfLeadingZeros_75 (by decide)) ?_
            refine x_up (pc' := 77) (fun _ _ _ _ _ L => lv_iushr hx hb dJ23_numberOfLeadingZeros_76 rfl) ?_
            refine x_up (pc' := 78) (fun _ _ _ _ _ L => lv_isub hx hb dJ23_numberOfLeadingZeros_77) ?_
            exact x_iret X hr rfl dJ23_numberOfLeadingZeros_78 hp20
          · have hp21 := hp19.2 c63
            refine x_upL (pc' := 69) (lo' := [(1, .int ((31 : Int32) + (-16 : Int32) + (-2 : Int32))), (0, .int ((x0.toUInt32 >>> ((16 : Int32).toUInt32 &&& Int32.toUInt32 31)).toInt32))]) (fun _ _ _ _ _ L => lv_iinc (v := (31 : Int32) + (-16 : Int32) + (-2 : Int32)) hx hb dJ23_numberOfLeadingZeros_66 L (k := 1) rfl rfl (by decide) rfl) ?_
            refine x_up (pc' := 70) (fun _ _ _ _ _ L => lv_iload_n hx hb dJ23_numberOfLeadingZeros_69 rfl (lv_at L 1 rfl)) ?_
            refine x_up (pc' := 71) (fun _ _ _ _ _ L => lv_iconst (v := (2 : Int32)) hx hb dJ23_numberOfLeadingZeros_70 (by decide)) ?_
            refine x_up (pc' := 72) (fun _ _ _ _ _ L => lv_iushr hx hb dJ23_numberOfLeadingZeros_71 rfl) ?_
            refine x_upL (pc' := 73) (lo' := [(0, .int ((((x0.toUInt32 >>> ((16 : Int32).toUInt32 &&& Int32.toUInt32 31)).toInt32).toUInt32 >>> ((2 : Int32).toUInt32 &&& Int32.toUInt32 31)).toInt32)), (1, .int ((31 : Int32) + (-16 : Int32) + (-2 : Int32)))]) (fun _ _ _ _ _ L => lv_istore_n hx hb dJ23_numberOfLeadingZeros_72 rfl L (by decide) rfl) ?_
            refine x_up (pc' := 74) (fun _ _ _ _ _ L => lv_iload_n hx hb dJ23_numberOfLeadingZeros_73 rfl (lv_at L 1 rfl)) ?_
            refine x_up (pc' := 75) (fun _ _ _ _ _ L => lv_iload_n hx hb dJ23_numberOfLeadingZeros_74 rfl (lv_at L 0 rfl)) ?_
            refine x_up (pc' := 76) (fun _ _ _ _ _ L => lv_iconst (v := (1 : Int32)) hx hb dJ23_numberOfLeadingZeros_75 (by decide)) ?_
            refine x_up (pc' := 77) (fun _ _ _ _ _ L => lv_iushr hx hb dJ23_numberOfLeadingZeros_76 rfl) ?_
            refine x_up (pc' := 78) (fun _ _ _ _ _ L => lv_isub hx hb dJ23_numberOfLeadingZeros_77) ?_
            exact x_iret X hr rfl dJ23_numberOfLeadingZeros_78 hp21
        · have hp22 := hp18.2 c51
          refine x_upL (pc' := 57) (lo' := [(1, .int ((31 : Int32) + (-16 : Int32) + (-4 : Int32))), (0, .int ((x0.toUInt32 >>> ((16 : Int32).toUInt32 &&& Int32.toUInt32 31)).toInt32))]) (fun _ _ _ _ _ L => lv_iinc (v := (31 : Int32) + (-16 : Int32) + (-4 : Int32)) hx hb dJ23_numberOfLeadingZeros_54 L (k := 1) rfl rfl (by decide) rfl) ?_
          refine x_up (pc' := 58) (fun _ _ _ _ _ L => lv_iload_n hx hb dJ23_numberOfLeadingZeros_57 rfl (lv_at L 1 rfl)) ?_
          refine x_up (pc' := 59) (fun _ _ _ _ _ L => lv_iconst (v := (4 : Int32)) hx hb dJ23_numberOfLeadingZeros_58 (by decide)) ?_
          refine x_up (pc' := 60) (fun _ _ _ _ _ L => lv_iushr hx hb dJ23_numberOfLeadingZeros_59 rfl) ?_
          refine x_upL (pc' := 61) (lo' := [(0, .int ((((x0.toUInt32 >>> ((16 : Int32).toUInt32 &&& Int32.toUInt32 31)).toInt32).toUInt32 >>> ((4 : Int32).toUInt32 &&& Int32.toUInt32 31)).toInt32)), (1, .int ((31 : Int32) + (-16 : Int32) + (-4 : Int32)))]) (fun _ _ _ _ _ L => lv_istore_n hx hb dJ23_numberOfLeadingZeros_60 rfl L (by decide) rfl) ?_
          refine x_up (pc' := 62) (fun _ _ _ _ _ L => lv_iload_n hx hb dJ23_numberOfLeadingZeros_61 rfl (lv_at L 0 rfl)) ?_
          refine x_up (pc' := 63) (fun _ _ _ _ _ L => lv_iconst (v := (4 : Int32)) hx hb dJ23_numberOfLeadingZeros_62 (by decide)) ?_
          refine x_if (C := ((((x0.toUInt32 >>> ((16 : Int32).toUInt32 &&& Int32.toUInt32 31)).toInt32).toUInt32 >>> ((4 : Int32).toUInt32 &&& Int32.toUInt32 31)).toInt32) < (4 : Int32)) (pt := 73) (pc' := 66) (fun _ _ _ _ _ => lv_icmp_lt (tgt := 73) hx hb dJ23_numberOfLeadingZeros_63 (by decide)) (fun c63 => ?_) (fun c63 => ?_)
          · have hp23 := hp22.1 c63
            refine x_up (pc' := 74) (fun _ _ _ _ _ L => lv_iload_n hx hb dJ23_numberOfLeadingZeros_73 rfl (lv_at L 1 rfl)) ?_
            refine x_up (pc' := 75) (fun _ _ _ _ _ L => lv_iload_n hx hb dJ23_numberOfLeadingZeros_74 rfl (lv_at L 0 rfl)) ?_
            refine x_up (pc' := 76) (fun _ _ _ _ _ L => lv_iconst (v := (1 : Int32)) hx hb dJ23_numberOfLeadingZeros_75 (by decide)) ?_
            refine x_up (pc' := 77) (fun _ _ _ _ _ L => lv_iushr hx hb dJ23_numberOfLeadingZeros_76 rfl) ?_
            refine x_up (pc' := 78) (fun _ _ _ _ _ L => lv_isub hx hb dJ23_numberOfLeadingZeros_77) ?_
            exact x_iret X hr rfl dJ23_numberOfLeadingZeros_78 hp23
          · have hp24 := hp22.2 c63
            refine x_upL (pc' := 69) (lo' := [(1, .int ((31 : Int32) + (-16 : Int32) + (-4 : Int32) + (-2 : Int32))), (0, .int ((((x0.toUInt32 >>> ((16 : Int32).toUInt32 &&& Int32.toUInt32 31)).toInt32).toUInt32 >>> ((4 : Int32).toUInt32 &&& Int32.toUInt32 31)).toInt32))]) (fun _ _ _ _ _ L => lv_iinc (v := (31 : Int32) + (-16 : Int32) + (-4 : Int32) + (-2 : Int32)) hx hb dJ23_numberOfLeadingZeros_66 L (k := 1) rfl rfl (by decide) rfl) ?_
            refine x_up (pc' := 70) (fun _ _ _ _ _ L => lv_iload_n hx hb dJ23_numberOfLeadingZeros_69 rfl (lv_at L 1 rfl)) ?_
            refine x_up (pc' := 71) (fun _ _ _ _ _ L => lv_iconst (v := (2 : Int32)) hx hb dJ23_numberOfLeadingZeros_70 (by decide)) ?_
            refine x_up (pc' := 72) (fun _ _ _ _ _ L => lv_iushr hx hb dJ23_numberOfLeadingZeros_71 rfl) ?_
            refine x_upL (pc' := 73) (lo' := [(0, .int ((((((x0.toUInt32 >>> ((16 : Int32).toUInt32 &&& Int32.toUInt32 31)).toInt32).toUInt32 >>> ((4 : Int32).toUInt32 &&& Int32.toUInt32 31)).toInt32).toUInt32 >>> ((2 : Int32).toUInt32 &&& Int32.toUInt32 31)).toInt32)), (1, .int ((31 : Int32) + (-16 : Int32) + (-4 : Int32) + (-2 : Int32)))]) (fun _ _ _ _ _ L => lv_istore_n hx hb dJ23_numberOfLeadingZeros_72 rfl L (by decide) rfl) ?_
            refine x_up (pc' := 74) (fun _ _ _ _ _ L => lv_iload_n hx hb dJ23_numberOfLeadingZeros_73 rfl (lv_at L 1 rfl)) ?_
            refine x_up (pc' := 75) (fun _ _ _ _ _ L => lv_iload_n hx hb dJ23_numberOfLeadingZeros_74 rfl (lv_at L 0 rfl)) ?_
            refine x_up (pc' := 76) (fun _ _ _ _ _ L => lv_iconst (v := (1 : Int32)) hx hb dJ23_numberOfLeadingZeros_75 (by decide)) ?_
            refine x_up (pc' := 77) (fun _ _ _ _ _ L => lv_iushr hx hb dJ23_numberOfLeadingZeros_76 rfl) ?_
            refine x_up (pc' := 78) (fun _ _ _ _ _ L => lv_isub hx hb dJ23_numberOfLeadingZeros_77) ?_
            exact x_iret X hr rfl dJ23_numberOfLeadingZeros_78 hp24
      · have hp25 := hp17.2 c37
        refine x_upL (pc' := 43) (lo' := [(1, .int ((31 : Int32) + (-16 : Int32) + (-8 : Int32))), (0, .int ((x0.toUInt32 >>> ((16 : Int32).toUInt32 &&& Int32.toUInt32 31)).toInt32))]) (fun _ _ _ _ _ L => lv_iinc (v := (31 : Int32) + (-16 : Int32) + (-8 : Int32)) hx hb dJ23_numberOfLeadingZeros_40 L (k := 1) rfl rfl (by decide) rfl) ?_
        refine x_up (pc' := 44) (fun _ _ _ _ _ L => lv_iload_n hx hb dJ23_numberOfLeadingZeros_43 rfl (lv_at L 1 rfl)) ?_
        refine x_up (pc' := 46) (fun _ _ _ _ _ L => lv_bipush (v := (8 : Int32)) hx hb dJ23_numberOfLeadingZeros_44 (by decide)) ?_
        refine x_up (pc' := 47) (fun _ _ _ _ _ L => lv_iushr hx hb dJ23_numberOfLeadingZeros_46 rfl) ?_
        refine x_upL (pc' := 48) (lo' := [(0, .int ((((x0.toUInt32 >>> ((16 : Int32).toUInt32 &&& Int32.toUInt32 31)).toInt32).toUInt32 >>> ((8 : Int32).toUInt32 &&& Int32.toUInt32 31)).toInt32)), (1, .int ((31 : Int32) + (-16 : Int32) + (-8 : Int32)))]) (fun _ _ _ _ _ L => lv_istore_n hx hb dJ23_numberOfLeadingZeros_47 rfl L (by decide) rfl) ?_
        refine x_up (pc' := 49) (fun _ _ _ _ _ L => lv_iload_n hx hb dJ23_numberOfLeadingZeros_48 rfl (lv_at L 0 rfl)) ?_
        refine x_up (pc' := 51) (fun _ _ _ _ _ L => lv_bipush (v := (16 : Int32)) hx hb dJ23_numberOfLeadingZeros_49 (by decide)) ?_
        refine x_if (C := ((((x0.toUInt32 >>> ((16 : Int32).toUInt32 &&& Int32.toUInt32 31)).toInt32).toUInt32 >>> ((8 : Int32).toUInt32 &&& Int32.toUInt32 31)).toInt32) < (16 : Int32)) (pt := 61) (pc' := 54) (fun _ _ _ _ _ => lv_icmp_lt (tgt := 61) hx hb dJ23_numberOfLeadingZeros_51 (by decide)) (fun c51 => ?_) (fun c51 => ?_)
        · have hp26 := hp25.1 c51
          refine x_up (pc' := 62) (fun _ _ _ _ _ L => lv_iload_n hx hb dJ23_numberOfLeadingZeros_61 rfl (lv_at L 0 rfl)) ?_
          refine x_up (pc' := 63) (fun _ _ _ _ _ L => lv_iconst (v := (4 : Int32)) hx hb dJ23_numberOfLeadingZeros_62 (by decide)) ?_
          refine x_if (C := ((((x0.toUInt32 >>> ((16 : Int32).toUInt32 &&& Int32.toUInt32 31)).toInt32).toUInt32 >>> ((8 : Int32).toUInt32 &&& Int32.toUInt32 31)).toInt32) < (4 : Int32)) (pt := 73) (pc' := 66) (fun _ _ _ _ _ => lv_icmp_lt (tgt := 73) hx hb dJ23_numberOfLeadingZeros_63 (by decide)) (fun c63 => ?_) (fun c63 => ?_)
          · have hp27 := hp26.1 c63
            refine x_up (pc' := 74) (fun _ _ _ _ _ L => lv_iload_n hx hb dJ23_numberOfLeadingZeros_73 rfl (lv_at L 1 rfl)) ?_
            refine x_up (pc' := 75) (fun _ _ _ _ _ L => lv_iload_n hx hb dJ23_numberOfLeadingZeros_74 rfl (lv_at L 0 rfl)) ?_
            refine x_up (pc' := 76) (fun _ _ _ _ _ L => lv_iconst (v := (1 : Int32)) hx hb dJ23_numberOfLeadingZeros_75 (by decide)) ?_
            refine x_up (pc' := 77) (fun _ _ _ _ _ L => lv_iushr hx hb dJ23_numberOfLeadingZeros_76 rfl) ?_
            refine x_up (pc' := 78) (fun _ _ _ _ _ L => lv_isub hx hb dJ23_numberOfLeadingZeros_77) ?_
            exact x_iret X hr rfl dJ23_numberOfLeadingZeros_78 hp27
          · have hp28 := hp26.2 c63
            refine x_upL (pc' := 69) (lo' := [(1, .int ((31 : Int32) + (-16 : Int32) + (-8 : Int32) + (-2 : Int32))), (0, .int ((((x0.toUInt32 >>> ((16 : Int32).toUInt32 &&& Int32.toUInt32 31)).toInt32).toUInt32 >>> ((8 : Int32).toUInt32 &&& Int32.toUInt32 31)).toInt32))]) (fun _ _ _ _ _ L => lv_iinc (v := (31 : Int32) + (-16 : Int32) + (-8 : Int32) + (-2 : Int32)) hx hb dJ23_numberOfLeadingZeros_66 L (k := 1) rfl rfl (by decide) rfl) ?_
            refine x_up (pc' := 70) (fun _ _ _ _ _ L => lv_iload_n hx hb dJ23_numberOfLeadingZeros_69 rfl (lv_at L 1 rfl)) ?_
            refine x_up (pc' := 71) (fun _ _ _ _ _ L => lv_iconst (v := (2 : Int32)) hx hb dJ23_numberOfLeadingZeros_70 (by decide)) ?_
            refine x_up (pc' := 72) (fun _ _ _ _ _ L => lv_iushr hx hb dJ23_numberOfLeadingZeros_71 rfl) ?_
            refine x_upL (pc' := 73) (lo' := [(0, .int ((((((x0.toUInt32 >>> ((16 : Int32).toUInt32 &&& Int32.toUInt32 31)).toInt32).toUInt32 >>> ((8 : Int32).toUInt32 &&& Int32.toUInt32 31)).toInt32).toUInt32 >>> ((2 : Int32).toUInt32 &&& Int32.toUInt32 31)).toInt32)), (1, .int ((31 : Int32) + (-16 : Int32) + (-8 : Int32) + (-2 : Int32)))]) (fun _ _ _ _ _ L => lv_istore_n hx hb dJ23_numberOfLeadingZeros_72 rfl L (by decide) rfl) ?_
            refine x_up (pc' := 74) (fun _ _ _ _ _ L => lv_iload_n hx hb dJ23_numberOfLeadingZeros_73 rfl (lv_at L 1 rfl)) ?_
            refine x_up (pc' := 75) (fun _ _ _ _ _ L => lv_iload_n hx hb dJ23_numberOfLeadingZeros_74 rfl (lv_at L 0 rfl)) ?_
            refine x_up (pc' := 76) (fun _ _ _ _ _ L => lv_iconst (v := (1 : Int32)) hx hb dJ23_numberOfLeadingZeros_75 (by decide)) ?_
            refine x_up (pc' := 77) (fun _ _ _ _ _ L => lv_iushr hx hb dJ23_numberOfLeadingZeros_76 rfl) ?_
            refine x_up (pc' := 78) (fun _ _ _ _ _ L => lv_isub hx hb dJ23_numberOfLeadingZeros_77) ?_
            exact x_iret X hr rfl dJ23_numberOfLeadingZeros_78 hp28
        · have hp29 := hp25.2 c51
          refine x_upL (pc' := 57) (lo' := [(1, .int ((31 : Int32) + (-16 : Int32) + (-8 : Int32) + (-4 : Int32))), (0, .int ((((x0.toUInt32 >>> ((16 : Int32).toUInt32 &&& Int32.toUInt32 31)).toInt32).toUInt32 >>> ((8 : Int32).toUInt32 &&& Int32.toUInt32 31)).toInt32))]) (fun _ _ _ _ _ L => lv_iinc (v := (31 : Int32) + (-16 : Int32) + (-8 : Int32) + (-4 : Int32)) hx hb dJ23_numberOfLeadingZeros_54 L (k := 1) rfl rfl (by decide) rfl) ?_
          refine x_up (pc' := 58) (fun _ _ _ _ _ L => lv_iload_n hx hb dJ23_numberOfLeadingZeros_57 rfl (lv_at L 1 rfl)) ?_
          refine x_up (pc' := 59) (fun _ _ _ _ _ L => lv_iconst (v := (4 : Int32)) hx hb dJ23_numberOfLeadingZeros_58 (by decide)) ?_
          refine x_up (pc' := 60) (fun _ _ _ _ _ L => lv_iushr hx hb dJ23_numberOfLeadingZeros_59 rfl) ?_
          refine x_upL (pc' := 61) (lo' := [(0, .int ((((((x0.toUInt32 >>> ((16 : Int32).toUInt32 &&& Int32.toUInt32 31)).toInt32).toUInt32 >>> ((8 : Int32).toUInt32 &&& Int32.toUInt32 31)).toInt32).toUInt32 >>> ((4 : Int32).toUInt32 &&& Int32.toUInt32 31)).toInt32)), (1, .int ((31 : Int32) + (-16 : Int32) + (-8 : Int32) + (-4 : Int32)))]) (fun _ _ _ _ _ L => lv_istore_n hx hb dJ23_numberOfLeadingZeros_60 rfl L (by decide) rfl) ?_
          refine x_up (pc' := 62) (fun _ _ _ _ _ L => lv_iload_n hx hb dJ23_numberOfLeadingZeros_61 rfl (lv_at L 0 rfl)) ?_
          refine x_up (pc' := 63) (fun _ _ _ _ _ L => lv_iconst (v := (4 : Int32)) hx hb dJ23_numberOfLeadingZeros_62 (by decide)) ?_
          refine x_if (C := ((((((x0.toUInt32 >>> ((16 : Int32).toUInt32 &&& Int32.toUInt32 31)).toInt32).toUInt32 >>> ((8 : Int32).toUInt32 &&& Int32.toUInt32 31)).toInt32).toUInt32 >>> ((4 : Int32).toUInt32 &&& Int32.toUInt32 31)).toInt32) < (4 : Int32)) (pt := 73) (pc' := 66) (fun _ _ _ _ _ => lv_icmp_lt (tgt := 73) hx hb dJ23_numberOfLeadingZeros_63 (by decide)) (fun c63 => ?_) (fun c63 => ?_)
          · have hp30 := hp29.1 c63
            refine x_up (pc' := 74) (fun _ _ _ _ _ L => lv_iload_n hx hb dJ23_numberOfLeadingZeros_73 rfl (lv_at L 1 rfl)) ?_
            refine x_up (pc' := 75) (fun _ _ _ _ _ L => lv_iload_n hx hb dJ23_numberOfLeadingZeros_74 rfl (lv_at L 0 rfl)) ?_
            refine x_up (pc' := 76) (fun _ _ _ _ _ L => lv_iconst (v := (1 : Int32)) hx hb dJ23_numberOfLeadingZeros_75 (by decide)) ?_
            refine x_up (pc' := 77) (fun _ _ _ _ _ L => lv_iushr hx hb dJ23_numberOfLeadingZeros_76 rfl) ?_
            refine x_up (pc' := 78) (fun _ _ _ _ _ L => lv_isub hx hb dJ23_numberOfLeadingZeros_77) ?_
            exact x_iret X hr rfl dJ23_numberOfLeadingZeros_78 hp30
          · have hp31 := hp29.2 c63
            refine x_upL (pc' := 69) (lo' := [(1, .int ((31 : Int32) + (-16 : Int32) + (-8 : Int32) + (-4 : Int32) + (-2 : Int32))), (0, .int ((((((x0.toUInt32 >>> ((16 : Int32).toUInt32 &&& Int32.toUInt32 31)).toInt32).toUInt32 >>> ((8 : Int32).toUInt32 &&& Int32.toUInt32 31)).toInt32).toUInt32 >>> ((4 : Int32).toUInt32 &&& Int32.toUInt32 31)).toInt32))]) (fun _ _ _ _ _ L => lv_iinc (v := (31 : Int32) + (-16 : Int32) + (-8 : Int32) + (-4 : Int32) + (-2 : Int32)) hx hb dJ23_numberOfLeadingZeros_66 L (k := 1) rfl rfl (by decide) rfl) ?_
            refine x_up (pc' := 70) (fun _ _ _ _ _ L => lv_iload_n hx hb dJ23_numberOfLeadingZeros_69 rfl (lv_at L 1 rfl)) ?_
            refine x_up (pc' := 71) (fun _ _ _ _ _ L => lv_iconst (v := (2 : Int32)) hx hb dJ23_numberOfLeadingZeros_70 (by decide)) ?_
            refine x_up (pc' := 72) (fun _ _ _ _ _ L => lv_iushr hx hb dJ23_numberOfLeadingZeros_71 rfl) ?_
            refine x_upL (pc' := 73) (lo' := [(0, .int ((((((((x0.toUInt32 >>> ((16 : Int32).toUInt32 &&& Int32.toUInt32 31)).toInt32).toUInt32 >>> ((8 : Int32).toUInt32 &&& Int32.toUInt32 31)).toInt32).toUInt32 >>> ((4 : Int32).toUInt32 &&& Int32.toUInt32 31)).toInt32).toUInt32 >>> ((2 : Int32).toUInt32 &&& Int32.toUInt32 31)).toInt32)), (1, .int ((31 : Int32) + (-16 : Int32) + (-8 : Int32) + (-4 : Int32) + (-2 : Int32)))]) (fun _ _ _ _ _ L => lv_istore_n hx hb dJ23_numberOfLeadingZeros_72 rfl L (by decide) rfl) ?_
            refine x_up (pc' := 74) (fun _ _ _ _ _ L => lv_iload_n hx hb dJ23_numberOfLeadingZeros_73 rfl (lv_at L 1 rfl)) ?_
            refine x_up (pc' := 75) (fun _ _ _ _ _ L => lv_iload_n hx hb dJ23_numberOfLeadingZeros_74 rfl (lv_at L 0 rfl)) ?_
            refine x_up (pc' := 76) (fun _ _ _ _ _ L => lv_iconst (v := (1 : Int32)) hx hb dJ23_numberOfLeadingZeros_75 (by decide)) ?_
            refine x_up (pc' := 77) (fun _ _ _ _ _ L => lv_iushr hx hb dJ23_numberOfLeadingZeros_76 rfl) ?_
            refine x_up (pc' := 78) (fun _ _ _ _ _ L => lv_isub hx hb dJ23_numberOfLeadingZeros_77) ?_
            exact x_iret X hr rfl dJ23_numberOfLeadingZeros_78 hp31
  · have hp32 := hp.2 c1
    refine x_up (pc' := 5) (fun _ _ _ _ _ L => lv_iload_n hx hb dJ23_numberOfLeadingZeros_4 rfl (lv_at L 0 rfl)) ?_
    refine x_ifn (C := x0 = 0) (pt := 13) (pc' := 8) (fun _ _ _ _ _ => lv_if_ne (tgt := 13) hx hb dJ23_numberOfLeadingZeros_5 (by decide)) (fun c5 => ?_) (fun c5 => ?_)
    · have hp33 := hp32.1 c5
      refine x_up (pc' := 10) (fun _ _ _ _ _ L => lv_bipush (v := (32 : Int32)) hx hb dJ23_numberOfLeadingZeros_8 (by decide)) ?_
      refine x_up (pc' := 14) (fun _ _ _ _ _ L => lv_goto (tgt := 14) hx hb dJ23_numberOfLeadingZeros_10 (by decide)) ?_
      exact x_iret X hr rfl dJ23_numberOfLeadingZeros_14 hp33
    · have hp34 := hp32.2 c5
      refine x_up (pc' := 14) (fun _ _ _ _ _ L => lv_iconst (v := (0 : Int32)) hx hb dJ23_numberOfLeadingZeros_13 (by decide)) ?_
      exact x_iret X hr rfl dJ23_numberOfLeadingZeros_14 hp34
-- J1_computeRedLevel
def P_J1_computeRedLevel (κ : Nat → Nat) (x0 : Int32) (σ : xS) (K : Int32 → xH → Prop) : Prop :=
  xcall (fun τ L => P_J23_numberOfLeadingZeros κ (x0 + (1 : Int32)) τ L) σ fun v1 σ2 => K ((31 : Int32) - v1) σ2.1
theorem mdJ1_computeRedLevel : yJ1_computeRedLevel.cls ≠ "java/lang/invoke/MethodHandle" ∧ yJ1_computeRedLevel.cls ≠ "java/lang/invoke/VarHandle" ∧ (parseMethodDescriptor yJ1_computeRedLevel.desc).map (fun d => d.parameters.length) = some 1 := by decide +kernel
set_option maxHeartbeats 4000000 in
set_option maxRecDepth 100000 in
theorem R_J1_computeRedLevel (l : Launch) (hl : l.stackTraces = false) (G : xG) (hG : G.1.2 = x_cl) (x0 : Int32) (σ : xS) (K : Int32 → xH → Prop) (hp : P_J1_computeRedLevel G.2 x0 σ K) : xM l yJ1_computeRedLevel cJ1_computeRedLevel 1 (Option.some Jvm.ClassFile.FieldType.int) 1 21 G [.int x0] σ (xlift emI K) := by
  refine x_entry (by decide) (Nat.le_of_ble_eq_true rfl) ?_
  intro p e s m args below meth c X hr hin
  have X : xX p s m args meth c G cJ1_computeRedLevel 1 RJ1 := X
  have hx := X.1
  have hb := X.2.1
  have hts := X.2.2.2.2.1
  have hown := X.2.2.2.1
  unfold P_J1_computeRedLevel at hp
  refine x_same (lo' := [(0, .int x0)]) rfl ?_
  refine x_up (pc' := 2) (fun _ _ _ _ _ L => lv_bipush (v := (31 : Int32)) hx hb dJ1_computeRedLevel_0 (by decide)) ?_
  refine x_up (pc' := 3) (fun _ _ _ _ _ L => lv_iload_n hx hb dJ1_computeRedLevel_2 rfl (lv_at L 0 rfl)) ?_
  refine x_up (pc' := 4) (fun _ _ _ _ _ L => lv_iconst (v := (1 : Int32)) hx hb dJ1_computeRedLevel_3 (by decide)) ?_
  refine x_up (pc' := 5) (fun _ _ _ _ _ L => lv_iadd hx hb dJ1_computeRedLevel_4) ?_
  refine x_callS (em := emI) (fun r st => .int r :: st) (fun _ _ => rfl) 1 X (fun σ' KK h => R_J23_numberOfLeadingZeros l hl G hG (x0 + (1 : Int32)) σ' KK h) (lw_S q757 q758 q128 q759) mdJ23_numberOfLeadingZeros ⟨Nat.le_of_ble_eq_true rfl, Nat.le_of_ble_eq_true rfl⟩ rfl rfl (Nat.le_of_ble_eq_true rfl) dJ1_computeRedLevel_5 hp (fun v1 σ2 hp1 => ?_)
  refine x_pc (pc' := 8) rfl ?_
  refine x_up (pc' := 9) (fun _ _ _ _ _ L => lv_isub hx hb dJ1_computeRedLevel_8) ?_
  exact x_iret X hr rfl dJ1_computeRedLevel_9 hp1
-- J1_buildFromSorted_2
def P_J1_buildFromSorted_2 (κ : Nat → Nat) : Nat → Nat → Int32 → Int32 → Int32 → Int32 → Option Nat → Option Nat → Option Nat → xS → (Option Nat → xH → Prop) → Prop
  | 0 => fun a0 x1 x2 x3 x4 x5 x6 x7 σ K => False
  | n + 1 => fun a0 x1 x2 x3 x4 x5 x6 x7 σ K =>
  ((x2 ≤ x3 → ((((((x2 + x3).toUInt32 >>> ((1 : Int32).toUInt32 &&& Int32.toUInt32 31)).toInt32) ≤ x2 → (((x5 = none → (False)) ∧ (∀ b1 : Nat, x5 = some b1 → (((x7 = none → (xrc σ b1 13 ∧ xcall (fun τ L => P_J21_next κ b1 τ L) σ fun v3 σ4 => xnn v3 fun b5 => xrc σ4 b5 19 ∧ xrc σ4 b5 19 ∧ xcall (fun τ L => P_J31_getKey κ b5 τ L) σ4 fun v6 σ7 => xrc σ7 b5 19 ∧ xcall (fun τ L => P_J31_getValue κ b5 τ L) σ7 fun v8 σ9 => xnew κ σ9 19 6 [va_rf none, va_rf none, va_rf none, va_rf none, va_rf none, .int 0] fun q10 σ11 => xcall (fun τ L => P_J31_init κ q10 v6 v8 none τ L) σ11 fun _ σ12 => ((x1 = x4 → (xpi κ σ12 q10 19 5 (0 : Int32) fun σ13 => ((x3 ≤ (((x2 + x3).toUInt32 >>> ((1 : Int32).toUInt32 &&& Int32.toUInt32 31)).toInt32) → (K (some q10) σ13.1)) ∧ (¬ x3 ≤ (((x2 + x3).toUInt32 >>> ((1 : Int32).toUInt32 &&& Int32.toUInt32 31)).toInt32) → (xrc σ13 a0 2 ∧ xcall (fun τ L => P_J1_buildFromSorted_2 κ n a0 (x1 + (1 : Int32)) ((((x2 + x3).toUInt32 >>> ((1 : Int32).toUInt32 &&& Int32.toUInt32 31)).toInt32) + (1 : Int32)) x3 x4 (some b1) x6 none τ L) σ13 fun v14 σ15 => xpq κ σ15 q10 19 3 v14 fun σ16 => xnn v14 fun b17 => xpq κ σ16 b17 19 4 (some q10) fun σ18 => K (some q10) σ18.1))))) ∧ (¬ x1 = x4 → (((x3 ≤ (((x2 + x3).toUInt32 >>> ((1 : Int32).toUInt32 &&& Int32.toUInt32 31)).toInt32) → (K (some q10) σ12.1)) ∧ (¬ x3 ≤ (((x2 + x3).toUInt32 >>> ((1 : Int32).toUInt32 &&& Int32.toUInt32 31)).toInt32) → (xrc σ12 a0 2 ∧ xcall (fun τ L => P_J1_buildFromSorted_2 κ n a0 (x1 + (1 : Int32)) ((((x2 + x3).toUInt32 >>> ((1 : Int32).toUInt32 &&& Int32.toUInt32 31)).toInt32) + (1 : Int32)) x3 x4 (some b1) x6 none τ L) σ12 fun v19 σ20 => xpq κ σ20 q10 19 3 v19 fun σ21 => xnn v19 fun b22 => xpq κ σ21 b22 19 4 (some q10) fun σ23 => K (some q10) σ23.1)))))))) ∧ (∀ b2 : Nat, x7 = some b2 → (xrc σ b1 13 ∧ xcall (fun τ L => P_J21_next κ b1 τ L) σ fun v24 σ25 => xnew κ σ25 19 6 [va_rf none, va_rf none, va_rf none, va_rf none, va_rf none, .int 0] fun q26 σ27 => xcall (fun τ L => P_J31_init κ q26 v24 (some b2) none τ L) σ27 fun _ σ28 => ((x1 = x4 → (xpi κ σ28 q26 19 5 (0 : Int32) fun σ29 => ((x3 ≤ (((x2 + x3).toUInt32 >>> ((1 : Int32).toUInt32 &&& Int32.toUInt32 31)).toInt32) → (K (some q26) σ29.1)) ∧ (¬ x3 ≤ (((x2 + x3).toUInt32 >>> ((1 : Int32).toUInt32 &&& Int32.toUInt32 31)).toInt32) → (xrc σ29 a0 2 ∧ xcall (fun τ L => P_J1_buildFromSorted_2 κ n a0 (x1 + (1 : Int32)) ((((x2 + x3).toUInt32 >>> ((1 : Int32).toUInt32 &&& Int32.toUInt32 31)).toInt32) + (1 : Int32)) x3 x4 (some b1) x6 (some b2) τ L) σ29 fun v30 σ31 => xpq κ σ31 q26 19 3 v30 fun σ32 => xnn v30 fun b33 => xpq κ σ32 b33 19 4 (some q26) fun σ34 => K (some q26) σ34.1))))) ∧ (¬ x1 = x4 → (((x3 ≤ (((x2 + x3).toUInt32 >>> ((1 : Int32).toUInt32 &&& Int32.toUInt32 31)).toInt32) → (K (some q26) σ28.1)) ∧ (¬ x3 ≤ (((x2 + x3).toUInt32 >>> ((1 : Int32).toUInt32 &&& Int32.toUInt32 31)).toInt32) → (xrc σ28 a0 2 ∧ xcall (fun τ L => P_J1_buildFromSorted_2 κ n a0 (x1 + (1 : Int32)) ((((x2 + x3).toUInt32 >>> ((1 : Int32).toUInt32 &&& Int32.toUInt32 31)).toInt32) + (1 : Int32)) x3 x4 (some b1) x6 (some b2) τ L) σ28 fun v35 σ36 => xpq κ σ36 q26 19 3 v35 fun σ37 => xnn v35 fun b38 => xpq κ σ37 b38 19 4 (some q26) fun σ39 => K (some q26) σ39.1)))))))))))))) ∧ (¬ (((x2 + x3).toUInt32 >>> ((1 : Int32).toUInt32 &&& Int32.toUInt32 31)).toInt32) ≤ x2 → (xrc σ a0 2 ∧ xcall (fun τ L => P_J1_buildFromSorted_2 κ n a0 (x1 + (1 : Int32)) x2 ((((x2 + x3).toUInt32 >>> ((1 : Int32).toUInt32 &&& Int32.toUInt32 31)).toInt32) - (1 : Int32)) x4 x5 x6 x7 τ L) σ fun v40 σ41 => ((x5 = none → (False)) ∧ (∀ b42 : Nat, x5 = some b42 → (((x7 = none → (xrc σ41 b42 13 ∧ xcall (fun τ L => P_J21_next κ b42 τ L) σ41 fun v44 σ45 => xnn v44 fun b46 => xrc σ45 b46 19 ∧ xrc σ45 b46 19 ∧ xcall (fun τ L => P_J31_getKey κ b46 τ L) σ45 fun v47 σ48 => xrc σ48 b46 19 ∧ xcall (fun τ L => P_J31_getValue κ b46 τ L) σ48 fun v49 σ50 => xnew κ σ50 19 6 [va_rf none, va_rf none, va_rf none, va_rf none, va_rf none, .int 0] fun q51 σ52 => xcall (fun τ L => P_J31_init κ q51 v47 v49 none τ L) σ52 fun _ σ53 => ((x1 = x4 → (xpi κ σ53 q51 19 5 (0 : Int32) fun σ54 => ((v40 = none → (((x3 ≤ (((x2 + x3).toUInt32 >>> ((1 : Int32).toUInt32 &&& Int32.toUInt32 31)).toInt32) → (K (some q51) σ54.1)) ∧ (¬ x3 ≤ (((x2 + x3).toUInt32 >>> ((1 : Int32).toUInt32 &&& Int32.toUInt32 31)).toInt32) → (xrc σ54 a0 2 ∧ xcall (fun τ L => P_J1_buildFromSorted_2 κ n a0 (x1 + (1 : Int32)) ((((x2 + x3).toUInt32 >>> ((1 : Int32).toUInt32 &&& Int32.toUInt32 31)).toInt32) + (1 : Int32)) x3 x4 (some b42) x6 none τ L) σ54 fun v56 σ57 => xpq κ σ57 q51 19 3 v56 fun σ58 => xnn v56 fun b59 => xpq κ σ58 b59 19 4 (some q51) fun σ60 => K (some q51) σ60.1))))) ∧ (∀ b55 : Nat, v40 = some b55 → (xpq κ σ54 q51 19 2 (some b55) fun σ61 => xpq κ σ61 b55 19 4 (some q51) fun σ62 => ((x3 ≤ (((x2 + x3).toUInt32 >>> ((1 : Int32).toUInt32 &&& Int32.toUInt32 31)).toInt32) → (K (some q51) σ62.1)) ∧ (¬ x3 ≤ (((x2 + x3).toUInt32 >>> ((1 : Int32).toUInt32 &&& Int32.toUInt32 31)).toInt32) → (xrc σ62 a0 2 ∧ xcall (fun τ L => P_J1_buildFromSorted_2 κ n a0 (x1 + (1 : Int32)) ((((x2 + x3).toUInt32 >>> ((1 : Int32).toUInt32 &&& Int32.toUInt32 31)).toInt32) + (1 : Int32)) x3 x4 (some b42) x6 none τ L) σ62 fun v63 σ64 => xpq κ σ64 q51 19 3 v63 fun σ65 => xnn v63 fun b66 => xpq κ σ65 b66 19 4 (some q51) fun σ67 => K (some q51) σ67.1)))))))) ∧ (¬ x1 = x4 → (((v40 = none → (((x3 ≤ (((x2 + x3).toUInt32 >>> ((1 : Int32).toUInt32 &&& Int32.toUInt32 31)).toInt32) → (K (some q51) σ53.1)) ∧ (¬ x3 ≤ (((x2 + x3).toUInt32 >>> ((1 : Int32).toUInt32 &&& Int32.toUInt32 31)).toInt32) → (xrc σ53 a0 2 ∧ xcall (fun τ L => P_J1_buildFromSorted_2 κ n a0 (x1 + (1 : Int32)) ((((x2 + x3).toUInt32 >>> ((1 : Int32).toUInt32 &&& Int32.toUInt32 31)).toInt32) + (1 : Int32)) x3 x4 (some b42) x6 none τ L) σ53 fun v69 σ70 => xpq κ σ70 q51 19 3 v69 fun σ71 => xnn v69 fun b72 => xpq κ σ71 b72 19 4 (some q51) fun σ73 => K (some q51) σ73.1))))) ∧ (∀ b68 : Nat, v40 = some b68 → (xpq κ σ53 q51 19 2 (some b68) fun σ74 => xpq κ σ74 b68 19 4 (some q51) fun σ75 => ((x3 ≤ (((x2 + x3).toUInt32 >>> ((1 : Int32).toUInt32 &&& Int32.toUInt32 31)).toInt32) → (K (some q51) σ75.1)) ∧ (¬ x3 ≤ (((x2 + x3).toUInt32 >>> ((1 : Int32).toUInt32 &&& Int32.toUInt32 31)).toInt32) → (xrc σ75 a0 2 ∧ xcall (fun τ L => P_J1_buildFromSorted_2 κ n a0 (x1 + (1 : Int32)) ((((x2 + x3).toUInt32 >>> ((1 : Int32).toUInt32 &&& Int32.toUInt32 31)).toInt32) + (1 : Int32)) x3 x4 (some b42) x6 none τ L) σ75 fun v76 σ77 => xpq κ σ77 q51 19 3 v76 fun σ78 => xnn v76 fun b79 => xpq κ σ78 b79 19 4 (some q51) fun σ80 => K (some q51) σ80.1))))))))))) ∧ (∀ b43 : Nat, x7 = some b43 → (xrc σ41 b42 13 ∧ xcall (fun τ L => P_J21_next κ b42 τ L) σ41 fun v81 σ82 => xnew κ σ82 19 6 [va_rf none, va_rf none, va_rf none, va_rf none, va_rf none, .int 0] fun q83 σ84 => xcall (fun τ L => P_J31_init κ q83 v81 (some b43) none τ L) σ84 fun _ σ85 => ((x1 = x4 → (xpi κ σ85 q83 19 5 (0 : Int32) fun σ86 => ((v40 = none → (((x3 ≤ (((x2 + x3).toUInt32 >>> ((1 : Int32).toUInt32 &&& Int32.toUInt32 31)).toInt32) → (K (some q83) σ86.1)) ∧ (¬ x3 ≤ (((x2 + x3).toUInt32 >>> ((1 : Int32).toUInt32 &&& Int32.toUInt32 31)).toInt32) → (xrc σ86 a0 2 ∧ xcall (fun τ L => P_J1_buildFromSorted_2 κ n a0 (x1 + (1 : Int32)) ((((x2 + x3).toUInt32 >>> ((1 : Int32).toUInt32 &&& Int32.toUInt32 31)).toInt32) + (1 : Int32)) x3 x4 (some b42) x6 (some b43) τ L) σ86 fun v88 σ89 => xpq κ σ89 q83 19 3 v88 fun σ90 => xnn v88 fun b91 => xpq κ σ90 b91 19 4 (some q83) fun σ92 => K (some q83) σ92.1))))) ∧ (∀ b87 : Nat, v40 = some b87 → (xpq κ σ86 q83 19 2 (some b87) fun σ93 => xpq κ σ93 b87 19 4 (some q83) fun σ94 => ((x3 ≤ (((x2 + x3).toUInt32 >>> ((1 : Int32).toUInt32 &&& Int32.toUInt32 31)).toInt32) → (K (some q83) σ94.1)) ∧ (¬ x3 ≤ (((x2 + x3).toUInt32 >>> ((1 : Int32).toUInt32 &&& Int32.toUInt32 31)).toInt32) → (xrc σ94 a0 2 ∧ xcall (fun τ L => P_J1_buildFromSorted_2 κ n a0 (x1 + (1 : Int32)) ((((x2 + x3).toUInt32 >>> ((1 : Int32).toUInt32 &&& Int32.toUInt32 31)).toInt32) + (1 : Int32)) x3 x4 (some b42) x6 (some b43) τ L) σ94 fun v95 σ96 => xpq κ σ96 q83 19 3 v95 fun σ97 => xnn v95 fun b98 => xpq κ σ97 b98 19 4 (some q83) fun σ99 => K (some q83) σ99.1)))))))) ∧ (¬ x1 = x4 → (((v40 = none → (((x3 ≤ (((x2 + x3).toUInt32 >>> ((1 : Int32).toUInt32 &&& Int32.toUInt32 31)).toInt32) → (K (some q83) σ85.1)) ∧ (¬ x3 ≤ (((x2 + x3).toUInt32 >>> ((1 : Int32).toUInt32 &&& Int32.toUInt32 31)).toInt32) → (xrc σ85 a0 2 ∧ xcall (fun τ L => P_J1_buildFromSorted_2 κ n a0 (x1 + (1 : Int32)) ((((x2 + x3).toUInt32 >>> ((1 : Int32).toUInt32 &&& Int32.toUInt32 31)).toInt32) + (1 : Int32)) x3 x4 (some b42) x6 (some b43) τ L) σ85 fun v101 σ102 => xpq κ σ102 q83 19 3 v101 fun σ103 => xnn v101 fun b104 => xpq κ σ103 b104 19 4 (some q83) fun σ105 => K (some q83) σ105.1))))) ∧ (∀ b100 : Nat, v40 = some b100 → (xpq κ σ85 q83 19 2 (some b100) fun σ106 => xpq κ σ106 b100 19 4 (some q83) fun σ107 => ((x3 ≤ (((x2 + x3).toUInt32 >>> ((1 : Int32).toUInt32 &&& Int32.toUInt32 31)).toInt32) → (K (some q83) σ107.1)) ∧ (¬ x3 ≤ (((x2 + x3).toUInt32 >>> ((1 : Int32).toUInt32 &&& Int32.toUInt32 31)).toInt32) → (xrc σ107 a0 2 ∧ xcall (fun τ L => P_J1_buildFromSorted_2 κ n a0 (x1 + (1 : Int32)) ((((x2 + x3).toUInt32 >>> ((1 : Int32).toUInt32 &&& Int32.toUInt32 31)).toInt32) + (1 : Int32)) x3 x4 (some b42) x6 (some b43) τ L) σ107 fun v108 σ109 => xpq κ σ109 q83 19 3 v108 fun σ110 => xnn v108 fun b111 => xpq κ σ110 b111 19 4 (some q83) fun σ112 => K (some q83) σ112.1)))))))))))))))))))) ∧ (¬ x2 ≤ x3 → (K none σ.1)))
theorem mdJ1_buildFromSorted_2 : yJ1_buildFromSorted_2.cls ≠ "java/lang/invoke/MethodHandle" ∧ yJ1_buildFromSorted_2.cls ≠ "java/lang/invoke/VarHandle" ∧ (parseMethodDescriptor yJ1_buildFromSorted_2.desc).map (fun d => d.parameters.length) = some 7 := by decide +kernel
set_option maxHeartbeats 4000000 in
set_option maxRecDepth 100000 in
theorem R_J1_buildFromSorted_2 (l : Launch) (hl : l.stackTraces = false) (G : xG) (hG : G.1.2 = x_cl) : ∀ (n : Nat) (a0 : Nat) (x1 : Int32) (x2 : Int32) (x3 : Int32) (x4 : Int32) (x5 : Option Nat) (x6 : Option Nat) (x7 : Option Nat) (σ : xS) (K : Option Nat → xH → Prop) (hp : P_J1_buildFromSorted_2 G.2 n a0 x1 x2 x3 x4 x5 x6 x7 σ K), xM l yJ1_buildFromSorted_2 cJ1_buildFromSorted_2 14 (Option.some (Jvm.ClassFile.FieldType.object "java/util/TreeMap$Entry")) (4 + n) (83 + n * 33) G [(.ref a0), .int x1, .int x2, .int x3, .int x4, va_rf x5, va_rf x6, va_rf x7] σ (xlift emQ K) := by
  intro n
  induction n with
  | zero => intro a0 x1 x2 x3 x4 x5 x6 x7 σ K hp; exact hp.elim
  | succ n ih =>
  intro a0 x1 x2 x3 x4 x5 x6 x7 σ K hp
  refine x_entry (by decide) (by simp [lg_sl, x_catq, x_cati, x_catr, x_catn]) ?_
  intro p e s m args below meth c X hr hin
  have X : xX p s m args meth c G cJ1_buildFromSorted_2 14 RJ1 := X
  have hx := X.1
  have hb := X.2.1
  have hts := X.2.2.2.2.1
  have hown := X.2.2.2.1
  unfold P_J1_buildFromSorted_2 at hp
  refine x_same (lo' := [(0, .ref a0), (1, .int x1), (2, .int x2), (3, .int x3), (4, .int x4), (5, va_rf x5), (6, va_rf x6), (7, va_rf x7)]) (by simp [lv_args, x_catq, x_cati, x_catr, x_catn]) ?_
  refine x_up (pc' := 1) (fun _ _ _ _ _ L => lv_iload_n hx hb dJ1_buildFromSorted_2_0 rfl (lv_at L 3 rfl)) ?_
  refine x_up (pc' := 2) (fun _ _ _ _ _ L => lv_iload_n hx hb dJ1_buildFromSorted_2_1 rfl (lv_at L 2 rfl)) ?_
  refine x_if (C := x2 ≤ x3) (pt := 7) (pc' := 5) (fun _ _ _ _ _ => lv_icmp_ge (tgt := 7) hx hb dJ1_buildFromSorted_2_2 (by decide)) (fun c2 => ?_) (fun c2 => ?_)
  · have hp1 := hp.1 c2
    refine x_up (pc' := 8) (fun _ _ _ _ _ L => lv_iload_n hx hb dJ1_buildFromSorted_2_7 rfl (lv_at L 2 rfl)) ?_
    refine x_up (pc' := 9) (fun _ _ _ _ _ L => lv_iload_n hx hb dJ1_buildFromSorted_2_8 rfl (lv_at L 3 rfl)) ?_
    refine x_up (pc' := 10) (fun _ _ _ _ _ L => lv_iadd hx hb dJ1_buildFromSorted_2_9) ?_
    refine x_up (pc' := 11) (fun _ _ _ _ _ L => lv_iconst (v := (1 : Int32)) hx hb dJ1_buildFromSorted_2_10 (by decide)) ?_
    refine x_up (pc' := 12) (fun _ _ _ _ _ L => lv_iushr hx hb dJ1_buildFromSorted_2_11 rfl) ?_
    refine x_st (pc' := 14) ([(8, .int (((x2 + x3).toUInt32 >>> ((1 : Int32).toUInt32 &&& Int32.toUInt32 31)).toInt32)), (0, .ref a0), (1, .int x1), (2, .int x2), (3, .int x3), (4, .int x4), (5, va_rf x5), (6, va_rf x6), (7, va_rf x7)]) rfl (by simp [x_catq, x_cati, x_catr, x_catn]) (fun _ _ _ _ _ L => lv_istore hx hb dJ1_buildFromSorted_2_12 L (by decide) rfl) ?_
    refine x_up (pc' := 15) (fun _ _ _ _ _ L => lv_null hx hb dJ1_buildFromSorted_2_14) ?_
    refine x_upL (pc' := 17) (lo' := [(9, .null), (8, .int (((x2 + x3).toUInt32 >>> ((1 : Int32).toUInt32 &&& Int32.toUInt32 31)).toInt32)), (0, .ref a0), (1, .int x1), (2, .int x2), (3, .int x3), (4, .int x4), (5, va_rf x5), (6, va_rf x6), (7, va_rf x7)]) (fun _ _ _ _ _ L => lv_astoreN hx hb dJ1_buildFromSorted_2_15 L (by decide) rfl) ?_
    refine x_up (pc' := 18) (fun _ _ _ _ _ L => lv_iload_n hx hb dJ1_buildFromSorted_2_17 rfl (lv_at L 4 rfl)) ?_
    refine x_up (pc' := 20) (fun _ _ _ _ _ L => lv_iload hx hb dJ1_buildFromSorted_2_18 (lv_at L 1 rfl)) ?_
    refine x_if (C := (((x2 + x3).toUInt32 >>> ((1 : Int32).toUInt32 &&& Int32.toUInt32 31)).toInt32) ≤ x2) (pt := 45) (pc' := 23) (fun _ _ _ _ _ => lv_icmp_ge (tgt := 45) hx hb dJ1_buildFromSorted_2_20 (by decide)) (fun c20 => ?_) (fun c20 => ?_)
    · have hp2 := hp1.1 c20
      refine x_up (pc' := 47) (fun _ _ _ _ _ L => lv_aloadq hx hb dJ1_buildFromSorted_2_45 (lv_at L 7 rfl)) ?_
      rcases x5 with _ | b1
      · have hp3 := hp2.1 rfl
        refine x_up (pc' := 104) (fun _ _ _ _ _ L => lv_ifnullN (tgt := 104) hx hb dJ1_buildFromSorted_2_47 (by decide)) ?_
        refine x_up (pc' := 106) (fun _ _ _ _ _ L => lv_aloadq hx hb dJ1_buildFromSorted_2_104 (lv_at L 8 rfl)) ?_
        exact hp3.elim
      · have hp4 := hp2.2 _ rfl
        refine x_up (pc' := 50) (fun _ _ _ _ _ L => lv_ifnull hx hb dJ1_buildFromSorted_2_47) ?_
        refine x_up (pc' := 52) (fun _ _ _ _ _ L => lv_aloadq hx hb dJ1_buildFromSorted_2_50 (lv_at L 9 rfl)) ?_
        rcases x7 with _ | b2
        · have hp5 := hp4.1 rfl
          refine x_up (pc' := 55) (fun _ _ _ _ _ L => lv_ifnonnullN hx hb dJ1_buildFromSorted_2_52) ?_
          refine x_up (pc' := 57) (fun _ _ _ _ _ L => lv_aload hx hb dJ1_buildFromSorted_2_55 (lv_at L 7 rfl)) ?_
          refine x_callF (x := ⟨"java/util/Iterator", "next", "()Ljava/lang/Object;"⟩) (em := emQ) (fun r st => va_rf r :: st) (fun _ _ => rfl) 0 X (kJ21 hG) (fun σ' KK h => R_J21_next l hl G hG b1 σ' KK h) q766 q1252 q1254 q126 q1256 ⟨⟨q768, q767, q1255, q1253, q1251⟩, by decide, by decide⟩ (by decide +kernel) ⟨(by show _ ≤ 4 + (n + 1); omega), (by show _ ≤ 83 + (n + 1) * 33; omega)⟩ rfl rfl (Nat.le_of_ble_eq_true rfl) dJ1_buildFromSorted_2_57 hp5.1 hp5.2 (fun v3 σ4 hp6 => ?_)
          refine x_pc (pc' := 62) rfl ?_
          obtain ⟨b5, rfl, hp7⟩ := hp6
          refine x_castY X (kJ31 hG) q1272 q1277 hp7.1 dJ1_buildFromSorted_2_62 ?_
          have hp8 := hp7.2
          refine x_pc (pc' := 65) rfl ?_
          refine x_upL (pc' := 67) (lo' := [(12, .ref b5), (9, .null), (8, .int (((x2 + x3).toUInt32 >>> ((1 : Int32).toUInt32 &&& Int32.toUInt32 31)).toInt32)), (0, .ref a0), (1, .int x1), (2, .int x2), (3, .int x3), (4, .int x4), (5, .ref b1), (6, va_rf x6), (7, .null)]) (fun _ _ _ _ _ L => lv_astore hx hb dJ1_buildFromSorted_2_65 L (by decide) rfl) ?_
          refine x_up (pc' := 69) (fun _ _ _ _ _ L => lv_aload hx hb dJ1_buildFromSorted_2_67 (lv_at L 0 rfl)) ?_
          refine x_callF (x := ⟨"java/util/Map$Entry", "getKey", "()Ljava/lang/Object;"⟩) (em := emQ) (fun r st => va_rf r :: st) (fun _ _ => rfl) 0 X (kJ31 hG) (fun σ' KK h => R_J31_getKey l hl G hG b5 σ' KK h) q1274 q1278 q1280 q136 q1282 ⟨⟨q1276, q1275, q1281, q1279, q1277⟩, by decide, by decide⟩ (by decide +kernel) ⟨(by show _ ≤ 4 + (n + 1); omega), (by show _ ≤ 83 + (n + 1) * 33; omega)⟩ rfl rfl (Nat.le_of_ble_eq_true rfl) dJ1_buildFromSorted_2_69 hp8.1 hp8.2 (fun v6 σ7 hp9 => ?_)
          refine x_pc (pc' := 74) rfl ?_
          refine x_upL (pc' := 76) (lo' := [(10, va_rf v6), (12, .ref b5), (9, .null), (8, .int (((x2 + x3).toUInt32 >>> ((1 : Int32).toUInt32 &&& Int32.toUInt32 31)).toInt32)), (0, .ref a0), (1, .int x1), (2, .int x2), (3, .int x3), (4, .int x4), (5, .ref b1), (6, va_rf x6), (7, .null)]) (fun _ _ _ _ _ L => lv_astoreq hx hb dJ1_buildFromSorted_2_74 L (by decide) rfl) ?_
          refine x_up (pc' := 78) (fun _ _ _ _ _ L => lv_aload hx hb dJ1_buildFromSorted_2_76 (lv_at L 1 rfl)) ?_
          refine x_callF (x := ⟨"java/util/Map$Entry", "getValue", "()Ljava/lang/Object;"⟩) (em := emQ) (fun r st => va_rf r :: st) (fun _ _ => rfl) 0 X (kJ31 hG) (fun σ' KK h => R_J31_getValue l hl G hG b5 σ' KK h) q1284 q1287 q1289 q136 q1291 ⟨⟨q1286, q1285, q1290, q1288, q1277⟩, by decide, by decide⟩ (by decide +kernel) ⟨(by show _ ≤ 4 + (n + 1); omega), (by show _ ≤ 83 + (n + 1) * 33; omega)⟩ rfl rfl (Nat.le_of_ble_eq_true rfl) dJ1_buildFromSorted_2_78 hp9.1 hp9.2 (fun v8 σ9 hp10 => ?_)
          refine x_pc (pc' := 83) rfl ?_
          refine x_st (pc' := 85) ([(11, va_rf v8), (10, va_rf v6), (12, .ref b5), (9, .null), (8, .int (((x2 + x3).toUInt32 >>> ((1 : Int32).toUInt32 &&& Int32.toUInt32 31)).toInt32)), (0, .ref a0), (1, .int x1), (2, .int x2), (3, .int x3), (4, .int x4), (5, .ref b1), (6, va_rf x6), (7, .null)]) rfl (by simp [x_catq, x_cati, x_catr, x_catn]) (fun _ _ _ _ _ L => lv_astoreq hx hb dJ1_buildFromSorted_2_83 L (by decide) rfl) ?_
          refine x_up (pc' := 128) (fun _ _ _ _ _ L => lv_goto (tgt := 128) hx hb dJ1_buildFromSorted_2_85 (by decide)) ?_
          refine x_new X (kJ31 hG) q1292 q1293 q136 (fs := [va_rf none, va_rf none, va_rf none, va_rf none, va_rf none, .int 0]) x_dflt_J31 dJ1_buildFromSorted_2_128 hp10 (fun q10 σ11 hp11 => ?_)
          refine x_pc (pc' := 131) rfl ?_
          refine x_up (pc' := 132) (fun _ _ _ _ _ L => lv_dup hx hb dJ1_buildFromSorted_2_131 rfl) ?_
          refine x_up (pc' := 134) (fun _ _ _ _ _ L => lv_aloadq hx hb dJ1_buildFromSorted_2_132 (lv_at L 1 rfl)) ?_
          refine x_up (pc' := 136) (fun _ _ _ _ _ L => lv_aloadq hx hb dJ1_buildFromSorted_2_134 (lv_at L 0 rfl)) ?_
          refine x_up (pc' := 137) (fun _ _ _ _ _ L => lv_null hx hb dJ1_buildFromSorted_2_136) ?_
          refine x_callI 3 X (fun σ' KK h => R_J31_init l hl G hG q10 v6 v8 none σ' KK h) (lw_meth q1296) q136 q1294 q1295 rfl mdJ31_init ⟨(by show _ ≤ 4 + (n + 1); omega), (by show _ ≤ 83 + (n + 1) * 33; omega)⟩ rfl rfl (Nat.le_of_ble_eq_true rfl) dJ1_buildFromSorted_2_137 hp11 (fun σ12 hp12 => ?_)
          refine x_pc (pc' := 140) rfl ?_
          refine x_st (pc' := 142) ([(12, .ref q10), (11, va_rf v8), (10, va_rf v6), (9, .null), (8, .int (((x2 + x3).toUInt32 >>> ((1 : Int32).toUInt32 &&& Int32.toUInt32 31)).toInt32)), (0, .ref a0), (1, .int x1), (2, .int x2), (3, .int x3), (4, .int x4), (5, .ref b1), (6, va_rf x6), (7, .null)]) rfl (by simp [x_catq, x_cati, x_catr, x_catn]) (fun _ _ _ _ _ L => lv_astore hx hb dJ1_buildFromSorted_2_140 L (by decide) rfl) ?_
          refine x_up (pc' := 143) (fun _ _ _ _ _ L => lv_iload_n hx hb dJ1_buildFromSorted_2_142 rfl (lv_at L 6 rfl)) ?_
          refine x_up (pc' := 145) (fun _ _ _ _ _ L => lv_iload hx hb dJ1_buildFromSorted_2_143 (lv_at L 9 rfl)) ?_
          refine x_ifn (C := x1 = x4) (pt := 154) (pc' := 148) (fun _ _ _ _ _ => lv_icmp_ne (tgt := 154) hx hb dJ1_buildFromSorted_2_145 (by decide)) (fun c145 => ?_) (fun c145 => ?_)
          · have hp13 := hp12.1 c145
            refine x_up (pc' := 150) (fun _ _ _ _ _ L => lv_aload hx hb dJ1_buildFromSorted_2_148 (lv_at L 0 rfl)) ?_
            refine x_up (pc' := 151) (fun _ _ _ _ _ L => lv_iconst (v := (0 : Int32)) hx hb dJ1_buildFromSorted_2_150 (by decide)) ?_
            refine x_pi X (kJ31 hG) 5 (by decide) q1307 (fun _ h => h) rfl rfl rfl dJ1_buildFromSorted_2_151 hp13 (fun σ13 hp14 => ?_)
            refine x_pc (pc' := 154) rfl ?_
            refine x_up (pc' := 156) (fun _ _ _ _ _ L => lv_aloadN hx hb dJ1_buildFromSorted_2_154 (lv_at L 3 rfl)) ?_
            refine x_up (pc' := 173) (fun _ _ _ _ _ L => lv_ifnullN (tgt := 173) hx hb dJ1_buildFromSorted_2_156 (by decide)) ?_
            refine x_up (pc' := 175) (fun _ _ _ _ _ L => lv_iload hx hb dJ1_buildFromSorted_2_173 (lv_at L 4 rfl)) ?_
            refine x_up (pc' := 176) (fun _ _ _ _ _ L => lv_iload_n hx hb dJ1_buildFromSorted_2_175 rfl (lv_at L 8 rfl)) ?_
            refine x_if (C := x3 ≤ (((x2 + x3).toUInt32 >>> ((1 : Int32).toUInt32 &&& Int32.toUInt32 31)).toInt32)) (pt := 215) (pc' := 179) (fun _ _ _ _ _ => lv_icmp_ge (tgt := 215) hx hb dJ1_buildFromSorted_2_176 (by decide)) (fun c176 => ?_) (fun c176 => ?_)
            · have hp15 := hp14.1 c176
              refine x_up (pc' := 217) (fun _ _ _ _ _ L => lv_aload hx hb dJ1_buildFromSorted_2_215 (lv_at L 0 rfl)) ?_
              exact x_aret X hr (Or.inl ⟨_, rfl⟩) dJ1_buildFromSorted_2_217 (some q10) hp15
            · have hp16 := hp14.2 c176
              refine x_up (pc' := 180) (fun _ _ _ _ _ L => lv_aload_n hx hb dJ1_buildFromSorted_2_179 rfl (lv_at L 5 rfl)) ?_
              refine x_up (pc' := 181) (fun _ _ _ _ _ L => lv_iload_n hx hb dJ1_buildFromSorted_2_180 rfl (lv_at L 6 rfl)) ?_
              refine x_up (pc' := 182) (fun _ _ _ _ _ L => lv_iconst (v := (1 : Int32)) hx hb dJ1_buildFromSorted_2_181 (by decide)) ?_
              refine x_up (pc' := 183) (fun _ _ _ _ _ L => lv_iadd hx hb dJ1_buildFromSorted_2_182) ?_
              refine x_up (pc' := 185) (fun _ _ _ _ _ L => lv_iload hx hb dJ1_buildFromSorted_2_183 (lv_at L 4 rfl)) ?_
              refine x_up (pc' := 186) (fun _ _ _ _ _ L => lv_iconst (v := (1 : Int32)) hx hb dJ1_buildFromSorted_2_185 (by decide)) ?_
              refine x_up (pc' := 187) (fun _ _ _ _ _ L => lv_iadd hx hb dJ1_buildFromSorted_2_186) ?_
              refine x_up (pc' := 188) (fun _ _ _ _ _ L => lv_iload_n hx hb dJ1_buildFromSorted_2_187 rfl (lv_at L 8 rfl)) ?_
              refine x_up (pc' := 190) (fun _ _ _ _ _ L => lv_iload hx hb dJ1_buildFromSorted_2_188 (lv_at L 9 rfl)) ?_
              refine x_up (pc' := 192) (fun _ _ _ _ _ L => lv_aload hx hb dJ1_buildFromSorted_2_190 (lv_at L 10 rfl)) ?_
              refine x_up (pc' := 194) (fun _ _ _ _ _ L => lv_aloadq hx hb dJ1_buildFromSorted_2_192 (lv_at L 11 rfl)) ?_
              refine x_up (pc' := 196) (fun _ _ _ _ _ L => lv_aloadN hx hb dJ1_buildFromSorted_2_194 (lv_at L 12 rfl)) ?_
              refine x_callV (em := emQ) (fun r st => va_rf r :: st) (fun _ _ => rfl) 7 X (kJ1 hG) (fun σ' KK h => ih a0 (x1 + (1 : Int32)) ((((x2 + x3).toUInt32 >>> ((1 : Int32).toUInt32 &&& Int32.toUInt32 31)).toInt32) + (1 : Int32)) x3 x4 (some b1) x6 none σ' KK h) (lw_V q761 q763 qs5 q102 q764) ⟨rfl, mdJ1_buildFromSorted_2⟩ ⟨(by show _ ≤ 4 + (n + 1); omega), (by show _ ≤ 83 + (n + 1) * 33; omega)⟩ rfl rfl (Nat.le_of_ble_eq_true rfl) dJ1_buildFromSorted_2_196 hp16.1 hp16.2 (fun v14 σ15 hp17 => ?_)
              refine x_pc (pc' := 199) rfl ?_
              refine x_upL (pc' := 201) (lo' := [(13, va_rf v14), (12, .ref q10), (11, va_rf v8), (10, va_rf v6), (9, .null), (8, .int (((x2 + x3).toUInt32 >>> ((1 : Int32).toUInt32 &&& Int32.toUInt32 31)).toInt32)), (0, .ref a0), (1, .int x1), (2, .int x2), (3, .int x3), (4, .int x4), (5, .ref b1), (6, va_rf x6), (7, .null)]) (fun _ _ _ _ _ L => lv_astoreq hx hb dJ1_buildFromSorted_2_199 L (by decide) rfl) ?_
              refine x_up (pc' := 203) (fun _ _ _ _ _ L => lv_aload hx hb dJ1_buildFromSorted_2_201 (lv_at L 1 rfl)) ?_
              refine x_up (pc' := 205) (fun _ _ _ _ _ L => lv_aloadq hx hb dJ1_buildFromSorted_2_203 (lv_at L 0 rfl)) ?_
              refine x_pq X (kJ31 hG) 3 (by decide) q1303 (fun _ h => h) rfl v14 (x_nar _ (by decide)) (x_fit _ (by decide)) dJ1_buildFromSorted_2_205 hp17 (fun σ16 hp18 => ?_)
              refine x_pc (pc' := 208) rfl ?_
              refine x_up (pc' := 210) (fun _ _ _ _ _ L => lv_aloadq hx hb dJ1_buildFromSorted_2_208 (lv_at L 0 rfl)) ?_
              refine x_up (pc' := 212) (fun _ _ _ _ _ L => lv_aload hx hb dJ1_buildFromSorted_2_210 (lv_at L 1 rfl)) ?_
              obtain ⟨b17, rfl, hp19⟩ := hp18
              refine x_pq X (kJ31 hG) 4 (by decide) q1305 (fun _ h => h) rfl (some q10) (x_nar _ (by decide)) (x_fit _ (by decide)) dJ1_buildFromSorted_2_212 hp19 (fun σ18 hp20 => ?_)
              refine x_pc (pc' := 215) rfl ?_
              refine x_up (pc' := 217) (fun _ _ _ _ _ L => lv_aload hx hb dJ1_buildFromSorted_2_215 (lv_at L 1 rfl)) ?_
              exact x_aret X hr (Or.inl ⟨_, rfl⟩) dJ1_buildFromSorted_2_217 (some q10) hp20
          · have hp21 := hp12.2 c145
            refine x_up (pc' := 156) (fun _ _ _ _ _ L => lv_aloadN hx hb dJ1_buildFromSorted_2_154 (lv_at L 3 rfl)) ?_
            refine x_up (pc' := 173) (fun _ _ _ _ _ L => lv_ifnullN (tgt := 173) hx hb dJ1_buildFromSorted_2_156 (by decide)) ?_
            refine x_up (pc' := 175) (fun _ _ _ _ _ L => lv_iload hx hb dJ1_buildFromSorted_2_173 (lv_at L 4 rfl)) ?_
            refine x_up (pc' := 176) (fun _ _ _ _ _ L => lv_iload_n hx hb dJ1_buildFromSorted_2_175 rfl (lv_at L 8 rfl)) ?_
            refine x_if (C := x3 ≤ (((x2 + x3).toUInt32 >>> ((1 : Int32).toUInt32 &&& Int32.toUInt32 31)).toInt32)) (pt := 215) (pc' := 179) (fun _ _ _ _ _ => lv_icmp_ge (tgt := 215) hx hb dJ1_buildFromSorted_2_176 (by decide)) (fun c176 => ?_) (fun c176 => ?_)
            · have hp22 := hp21.1 c176
              refine x_up (pc' := 217) (fun _ _ _ _ _ L => lv_aload hx hb dJ1_buildFromSorted_2_215 (lv_at L 0 rfl)) ?_
              exact x_aret X hr (Or.inl ⟨_, rfl⟩) dJ1_buildFromSorted_2_217 (some q10) hp22
            · have hp23 := hp21.2 c176
              refine x_up (pc' := 180) (fun _ _ _ _ _ L => lv_aload_n hx hb dJ1_buildFromSorted_2_179 rfl (lv_at L 5 rfl)) ?_
              refine x_up (pc' := 181) (fun _ _ _ _ _ L => lv_iload_n hx hb dJ1_buildFromSorted_2_180 rfl (lv_at L 6 rfl)) ?_
              refine x_up (pc' := 182) (fun _ _ _ _ _ L => lv_iconst (v := (1 : Int32)) hx hb dJ1_buildFromSorted_2_181 (by decide)) ?_
              refine x_up (pc' := 183) (fun _ _ _ _ _ L => lv_iadd hx hb dJ1_buildFromSorted_2_182) ?_
              refine x_up (pc' := 185) (fun _ _ _ _ _ L => lv_iload hx hb dJ1_buildFromSorted_2_183 (lv_at L 4 rfl)) ?_
              refine x_up (pc' := 186) (fun _ _ _ _ _ L => lv_iconst (v := (1 : Int32)) hx hb dJ1_buildFromSorted_2_185 (by decide)) ?_
              refine x_up (pc' := 187) (fun _ _ _ _ _ L => lv_iadd hx hb dJ1_buildFromSorted_2_186) ?_
              refine x_up (pc' := 188) (fun _ _ _ _ _ L => lv_iload_n hx hb dJ1_buildFromSorted_2_187 rfl (lv_at L 8 rfl)) ?_
              refine x_up (pc' := 190) (fun _ _ _ _ _ L => lv_iload hx hb dJ1_buildFromSorted_2_188 (lv_at L 9 rfl)) ?_
              refine x_up (pc' := 192) (fun _ _ _ _ _ L => lv_aload hx hb dJ1_buildFromSorted_2_190 (lv_at L 10 rfl)) ?_
              refine x_up (pc' := 194) (fun _ _ _ _ _ L => lv_aloadq hx hb dJ1_buildFromSorted_2_192 (lv_at L 11 rfl)) ?_
              refine x_up (pc' := 196) (fun _ _ _ _ _ L => lv_aloadN hx hb dJ1_buildFromSorted_2_194 (lv_at L 12 rfl)) ?_
              refine x_callV (em := emQ) (fun r st => va_rf r :: st) (fun _ _ => rfl) 7 X (kJ1 hG) (fun σ' KK h => ih a0 (x1 + (1 : Int32)) ((((x2 + x3).toUInt32 >>> ((1 : Int32).toUInt32 &&& Int32.toUInt32 31)).toInt32) + (1 : Int32)) x3 x4 (some b1) x6 none σ' KK h) (lw_V q761 q763 qs5 q102 q764) ⟨rfl, mdJ1_buildFromSorted_2⟩ ⟨(by show _ ≤ 4 + (n + 1); omega), (by show _ ≤ 83 + (n + 1) * 33; omega)⟩ rfl rfl (Nat.le_of_ble_eq_true rfl) dJ1_buildFromSorted_2_196 hp23.1 hp23.2 (fun v19 σ20 hp24 => ?_)
              refine x_pc (pc' := 199) rfl ?_
              refine x_upL (pc' := 201) (lo' := [(13, va_rf v19), (12, .ref q10), (11, va_rf v8), (10, va_rf v6), (9, .null), (8, .int (((x2 + x3).toUInt32 >>> ((1 : Int32).toUInt32 &&& Int32.toUInt32 31)).toInt32)), (0, .ref a0), (1, .int x1), (2, .int x2), (3, .int x3), (4, .int x4), (5, .ref b1), (6, va_rf x6), (7, .null)]) (fun _ _ _ _ _ L => lv_astoreq hx hb dJ1_buildFromSorted_2_199 L (by decide) rfl) ?_
              refine x_up (pc' := 203) (fun _ _ _ _ _ L => lv_aload hx hb dJ1_buildFromSorted_2_201 (lv_at L 1 rfl)) ?_
              refine x_up (pc' := 205) (fun _ _ _ _ _ L => lv_aloadq hx hb dJ1_buildFromSorted_2_203 (lv_at L 0 rfl)) ?_
              refine x_pq X (kJ31 hG) 3 (by decide) q1303 (fun _ h => h) rfl v19 (x_nar _ (by decide)) (x_fit _ (by decide)) dJ1_buildFromSorted_2_205 hp24 (fun σ21 hp25 => ?_)
              refine x_pc (pc' := 208) rfl ?_
              refine x_up (pc' := 210) (fun _ _ _ _ _ L => lv_aloadq hx hb dJ1_buildFromSorted_2_208 (lv_at L 0 rfl)) ?_
              refine x_up (pc' := 212) (fun _ _ _ _ _ L => lv_aload hx hb dJ1_buildFromSorted_2_210 (lv_at L 1 rfl)) ?_
              obtain ⟨b22, rfl, hp26⟩ := hp25
              refine x_pq X (kJ31 hG) 4 (by decide) q1305 (fun _ h => h) rfl (some q10) (x_nar _ (by decide)) (x_fit _ (by decide)) dJ1_buildFromSorted_2_212 hp26 (fun σ23 hp27 => ?_)
              refine x_pc (pc' := 215) rfl ?_
              refine x_up (pc' := 217) (fun _ _ _ _ _ L => lv_aload hx hb dJ1_buildFromSorted_2_215 (lv_at L 1 rfl)) ?_
              exact x_aret X hr (Or.inl ⟨_, rfl⟩) dJ1_buildFromSorted_2_217 (some q10) hp27
        · have hp28 := hp4.2 _ rfl
          refine x_up (pc' := 88) (fun _ _ _ _ _ L => lv_ifnonnull (tgt := 88) hx hb dJ1_buildFromSorted_2_52 (by decide)) ?_
          refine x_up (pc' := 90) (fun _ _ _ _ _ L => lv_aload hx hb dJ1_buildFromSorted_2_88 (lv_at L 7 rfl)) ?_
          refine x_callF (x := ⟨"java/util/Iterator", "next", "()Ljava/lang/Object;"⟩) (em := emQ) (fun r st => va_rf r :: st) (fun _ _ => rfl) 0 X (kJ21 hG) (fun σ' KK h => R_J21_next l hl G hG b1 σ' KK h) q766 q1252 q1254 q126 q1256 ⟨⟨q768, q767, q1255, q1253, q1251⟩, by decide, by decide⟩ (by decide +kernel) ⟨(by show _ ≤ 4 + (n + 1); omega), (by show _ ≤ 83 + (n + 1) * 33; omega)⟩ rfl rfl (Nat.le_of_ble_eq_true rfl) dJ1_buildFromSorted_2_90 hp28.1 hp28.2 (fun v24 σ25 hp29 => ?_)
          refine x_pc (pc' := 95) rfl ?_
          refine x_upL (pc' := 97) (lo' := [(10, va_rf v24), (9, .null), (8, .int (((x2 + x3).toUInt32 >>> ((1 : Int32).toUInt32 &&& Int32.toUInt32 31)).toInt32)), (0, .ref a0), (1, .int x1), (2, .int x2), (3, .int x3), (4, .int x4), (5, .ref b1), (6, va_rf x6), (7, .ref b2)]) (fun _ _ _ _ _ L => lv_astoreq hx hb dJ1_buildFromSorted_2_95 L (by decide) rfl) ?_
          refine x_up (pc' := 99) (fun _ _ _ _ _ L => lv_aload hx hb dJ1_buildFromSorted_2_97 (lv_at L 10 rfl)) ?_
          refine x_st (pc' := 101) ([(11, .ref b2), (10, va_rf v24), (9, .null), (8, .int (((x2 + x3).toUInt32 >>> ((1 : Int32).toUInt32 &&& Int32.toUInt32 31)).toInt32)), (0, .ref a0), (1, .int x1), (2, .int x2), (3, .int x3), (4, .int x4), (5, .ref b1), (6, va_rf x6), (7, .ref b2)]) rfl (by simp [x_catq, x_cati, x_catr, x_catn]) (fun _ _ _ _ _ L => lv_astore hx hb dJ1_buildFromSorted_2_99 L (by decide) rfl) ?_
          refine x_up (pc' := 128) (fun _ _ _ _ _ L => lv_goto (tgt := 128) hx hb dJ1_buildFromSorted_2_101 (by decide)) ?_
          refine x_new X (kJ31 hG) q1292 q1293 q136 (fs := [va_rf none, va_rf none, va_rf none, va_rf none, va_rf none, .int 0]) x_dflt_J31 dJ1_buildFromSorted_2_128 hp29 (fun q26 σ27 hp30 => ?_)
          refine x_pc (pc' := 131) rfl ?_
          refine x_up (pc' := 132) (fun _ _ _ _ _ L => lv_dup hx hb dJ1_buildFromSorted_2_131 rfl) ?_
          refine x_up (pc' := 134) (fun _ _ _ _ _ L => lv_aloadq hx hb dJ1_buildFromSorted_2_132 (lv_at L 1 rfl)) ?_
          refine x_up (pc' := 136) (fun _ _ _ _ _ L => lv_aload hx hb dJ1_buildFromSorted_2_134 (lv_at L 0 rfl)) ?_
          refine x_up (pc' := 137) (fun _ _ _ _ _ L => lv_null hx hb dJ1_buildFromSorted_2_136) ?_
          refine x_callI 3 X (fun σ' KK h => R_J31_init l hl G hG q26 v24 (some b2) none σ' KK h) (lw_meth q1296) q136 q1294 q1295 rfl mdJ31_init ⟨(by show _ ≤ 4 + (n + 1); omega), (by show _ ≤ 83 + (n + 1) * 33; omega)⟩ rfl rfl (Nat.le_of_ble_eq_true rfl) dJ1_buildFromSorted_2_137 hp30 (fun σ28 hp31 => ?_)
          refine x_pc (pc' := 140) rfl ?_
          refine x_upL (pc' := 142) (lo' := [(12, .ref q26), (11, .ref b2), (10, va_rf v24), (9, .null), (8, .int (((x2 + x3).toUInt32 >>> ((1 : Int32).toUInt32 &&& Int32.toUInt32 31)).toInt32)), (0, .ref a0), (1, .int x1), (2, .int x2), (3, .int x3), (4, .int x4), (5, .ref b1), (6, va_rf x6), (7, .ref b2)]) (fun _ _ _ _ _ L => lv_astore hx hb dJ1_buildFromSorted_2_140 L (by decide) rfl) ?_
          refine x_up (pc' := 143) (fun _ _ _ _ _ L => lv_iload_n hx hb dJ1_buildFromSorted_2_142 rfl (lv_at L 6 rfl)) ?_
          refine x_up (pc' := 145) (fun _ _ _ _ _ L => lv_iload hx hb dJ1_buildFromSorted_2_143 (lv_at L 9 rfl)) ?_
          refine x_ifn (C := x1 = x4) (pt := 154) (pc' := 148) (fun _ _ _ _ _ => lv_icmp_ne (tgt := 154) hx hb dJ1_buildFromSorted_2_145 (by decide)) (fun c145 => ?_) (fun c145 => ?_)
          · have hp32 := hp31.1 c145
            refine x_up (pc' := 150) (fun _ _ _ _ _ L => lv_aload hx hb dJ1_buildFromSorted_2_148 (lv_at L 0 rfl)) ?_
            refine x_up (pc' := 151) (fun _ _ _ _ _ L => lv_iconst (v := (0 : Int32)) hx hb dJ1_buildFromSorted_2_150 (by decide)) ?_
            refine x_pi X (kJ31 hG) 5 (by decide) q1307 (fun _ h => h) rfl rfl rfl dJ1_buildFromSorted_2_151 hp32 (fun σ29 hp33 => ?_)
            refine x_pc (pc' := 154) rfl ?_
            refine x_up (pc' := 156) (fun _ _ _ _ _ L => lv_aloadN hx hb dJ1_buildFromSorted_2_154 (lv_at L 3 rfl)) ?_
            refine x_up (pc' := 173) (fun _ _ _ _ _ L => lv_ifnullN (tgt := 173) hx hb dJ1_buildFromSorted_2_156 (by decide)) ?_
            refine x_up (pc' := 175) (fun _ _ _ _ _ L => lv_iload hx hb dJ1_buildFromSorted_2_173 (lv_at L 4 rfl)) ?_
            refine x_up (pc' := 176) (fun _ _ _ _ _ L => lv_iload_n hx hb dJ1_buildFromSorted_2_175 rfl (lv_at L 8 rfl)) ?_
            refine x_if (C := x3 ≤ (((x2 + x3).toUInt32 >>> ((1 : Int32).toUInt32 &&& Int32.toUInt32 31)).toInt32)) (pt := 215) (pc' := 179) (fun _ _ _ _ _ => lv_icmp_ge (tgt := 215) hx hb dJ1_buildFromSorted_2_176 (by decide)) (fun c176 => ?_) (fun c176 => ?_)
            · have hp34 := hp33.1 c176
              refine x_up (pc' := 217) (fun _ _ _ _ _ L => lv_aload hx hb dJ1_buildFromSorted_2_215 (lv_at L 0 rfl)) ?_
              exact x_aret X hr (Or.inl ⟨_, rfl⟩) dJ1_buildFromSorted_2_217 (some q26) hp34
            · have hp35 := hp33.2 c176
              refine x_up (pc' := 180) (fun _ _ _ _ _ L => lv_aload_n hx hb dJ1_buildFromSorted_2_179 rfl (lv_at L 5 rfl)) ?_
              refine x_up (pc' := 181) (fun _ _ _ _ _ L => lv_iload_n hx hb dJ1_buildFromSorted_2_180 rfl (lv_at L 6 rfl)) ?_
              refine x_up (pc' := 182) (fun _ _ _ _ _ L => lv_iconst (v := (1 : Int32)) hx hb dJ1_buildFromSorted_2_181 (by decide)) ?_
              refine x_up (pc' := 183) (fun _ _ _ _ _ L => lv_iadd hx hb dJ1_buildFromSorted_2_182) ?_
              refine x_up (pc' := 185) (fun _ _ _ _ _ L => lv_iload hx hb dJ1_buildFromSorted_2_183 (lv_at L 4 rfl)) ?_
              refine x_up (pc' := 186) (fun _ _ _ _ _ L => lv_iconst (v := (1 : Int32)) hx hb dJ1_buildFromSorted_2_185 (by decide)) ?_
              refine x_up (pc' := 187) (fun _ _ _ _ _ L => lv_iadd hx hb dJ1_buildFromSorted_2_186) ?_
              refine x_up (pc' := 188) (fun _ _ _ _ _ L => lv_iload_n hx hb dJ1_buildFromSorted_2_187 rfl (lv_at L 8 rfl)) ?_
              refine x_up (pc' := 190) (fun _ _ _ _ _ L => lv_iload hx hb dJ1_buildFromSorted_2_188 (lv_at L 9 rfl)) ?_
              refine x_up (pc' := 192) (fun _ _ _ _ _ L => lv_aload hx hb dJ1_buildFromSorted_2_190 (lv_at L 10 rfl)) ?_
              refine x_up (pc' := 194) (fun _ _ _ _ _ L => lv_aloadq hx hb dJ1_buildFromSorted_2_192 (lv_at L 11 rfl)) ?_
              refine x_up (pc' := 196) (fun _ _ _ _ _ L => lv_aload hx hb dJ1_buildFromSorted_2_194 (lv_at L 12 rfl)) ?_
              refine x_callV (em := emQ) (fun r st => va_rf r :: st) (fun _ _ => rfl) 7 X (kJ1 hG) (fun σ' KK h => ih a0 (x1 + (1 : Int32)) ((((x2 + x3).toUInt32 >>> ((1 : Int32).toUInt32 &&& Int32.toUInt32 31)).toInt32) + (1 : Int32)) x3 x4 (some b1) x6 (some b2) σ' KK h) (lw_V q761 q763 qs5 q102 q764) ⟨rfl, mdJ1_buildFromSorted_2⟩ ⟨(by show _ ≤ 4 + (n + 1); omega), (by show _ ≤ 83 + (n + 1) * 33; omega)⟩ rfl rfl (Nat.le_of_ble_eq_true rfl) dJ1_buildFromSorted_2_196 hp35.1 hp35.2 (fun v30 σ31 hp36 => ?_)
              refine x_pc (pc' := 199) rfl ?_
              refine x_upL (pc' := 201) (lo' := [(13, va_rf v30), (12, .ref q26), (11, .ref b2), (10, va_rf v24), (9, .null), (8, .int (((x2 + x3).toUInt32 >>> ((1 : Int32).toUInt32 &&& Int32.toUInt32 31)).toInt32)), (0, .ref a0), (1, .int x1), (2, .int x2), (3, .int x3), (4, .int x4), (5, .ref b1), (6, va_rf x6), (7, .ref b2)]) (fun _ _ _ _ _ L => lv_astoreq hx hb dJ1_buildFromSorted_2_199 L (by decide) rfl) ?_
              refine x_up (pc' := 203) (fun _ _ _ _ _ L => lv_aload hx hb dJ1_buildFromSorted_2_201 (lv_at L 1 rfl)) ?_
              refine x_up (pc' := 205) (fun _ _ _ _ _ L => lv_aloadq hx hb dJ1_buildFromSorted_2_203 (lv_at L 0 rfl)) ?_
              refine x_pq X (kJ31 hG) 3 (by decide) q1303 (fun _ h => h) rfl v30 (x_nar _ (by decide)) (x_fit _ (by decide)) dJ1_buildFromSorted_2_205 hp36 (fun σ32 hp37 => ?_)
              refine x_pc (pc' := 208) rfl ?_
              refine x_up (pc' := 210) (fun _ _ _ _ _ L => lv_aloadq hx hb dJ1_buildFromSorted_2_208 (lv_at L 0 rfl)) ?_
              refine x_up (pc' := 212) (fun _ _ _ _ _ L => lv_aload hx hb dJ1_buildFromSorted_2_210 (lv_at L 1 rfl)) ?_
              obtain ⟨b33, rfl, hp38⟩ := hp37
              refine x_pq X (kJ31 hG) 4 (by decide) q1305 (fun _ h => h) rfl (some q26) (x_nar _ (by decide)) (x_fit _ (by decide)) dJ1_buildFromSorted_2_212 hp38 (fun σ34 hp39 => ?_)
              refine x_pc (pc' := 215) rfl ?_
              refine x_up (pc' := 217) (fun _ _ _ _ _ L => lv_aload hx hb dJ1_buildFromSorted_2_215 (lv_at L 1 rfl)) ?_
              exact x_aret X hr (Or.inl ⟨_, rfl⟩) dJ1_buildFromSorted_2_217 (some q26) hp39
          · have hp40 := hp31.2 c145
            refine x_up (pc' := 156) (fun _ _ _ _ _ L => lv_aloadN hx hb dJ1_buildFromSorted_2_154 (lv_at L 3 rfl)) ?_
            refine x_up (pc' := 173) (fun _ _ _ _ _ L => lv_ifnullN (tgt := 173) hx hb dJ1_buildFromSorted_2_156 (by decide)) ?_
            refine x_up (pc' := 175) (fun _ _ _ _ _ L => lv_iload hx hb dJ1_buildFromSorted_2_173 (lv_at L 4 rfl)) ?_
            refine x_up (pc' := 176) (fun _ _ _ _ _ L => lv_iload_n hx hb dJ1_buildFromSorted_2_175 rfl (lv_at L 8 rfl)) ?_
            refine x_if (C := x3 ≤ (((x2 + x3).toUInt32 >>> ((1 : Int32).toUInt32 &&& Int32.toUInt32 31)).toInt32)) (pt := 215) (pc' := 179) (fun _ _ _ _ _ => lv_icmp_ge (tgt := 215) hx hb dJ1_buildFromSorted_2_176 (by decide)) (fun c176 => ?_) (fun c176 => ?_)
            · have hp41 := hp40.1 c176
              refine x_up (pc' := 217) (fun _ _ _ _ _ L => lv_aload hx hb dJ1_buildFromSorted_2_215 (lv_at L 0 rfl)) ?_
              exact x_aret X hr (Or.inl ⟨_, rfl⟩) dJ1_buildFromSorted_2_217 (some q26) hp41
            · have hp42 := hp40.2 c176
              refine x_up (pc' := 180) (fun _ _ _ _ _ L => lv_aload_n hx hb dJ1_buildFromSorted_2_179 rfl (lv_at L 5 rfl)) ?_
              refine x_up (pc' := 181) (fun _ _ _ _ _ L => lv_iload_n hx hb dJ1_buildFromSorted_2_180 rfl (lv_at L 6 rfl)) ?_
              refine x_up (pc' := 182) (fun _ _ _ _ _ L => lv_iconst (v := (1 : Int32)) hx hb dJ1_buildFromSorted_2_181 (by decide)) ?_
              refine x_up (pc' := 183) (fun _ _ _ _ _ L => lv_iadd hx hb dJ1_buildFromSorted_2_182) ?_
              refine x_up (pc' := 185) (fun _ _ _ _ _ L => lv_iload hx hb dJ1_buildFromSorted_2_183 (lv_at L 4 rfl)) ?_
              refine x_up (pc' := 186) (fun _ _ _ _ _ L => lv_iconst (v := (1 : Int32)) hx hb dJ1_buildFromSorted_2_185 (by decide)) ?_
              refine x_up (pc' := 187) (fun _ _ _ _ _ L => lv_iadd hx hb dJ1_buildFromSorted_2_186) ?_
              refine x_up (pc' := 188) (fun _ _ _ _ _ L => lv_iload_n hx hb dJ1_buildFromSorted_2_187 rfl (lv_at L 8 rfl)) ?_
              refine x_up (pc' := 190) (fun _ _ _ _ _ L => lv_iload hx hb dJ1_buildFromSorted_2_188 (lv_at L 9 rfl)) ?_
              refine x_up (pc' := 192) (fun _ _ _ _ _ L => lv_aload hx hb dJ1_buildFromSorted_2_190 (lv_at L 10 rfl)) ?_
              refine x_up (pc' := 194) (fun _ _ _ _ _ L => lv_aloadq hx hb dJ1_buildFromSorted_2_192 (lv_at L 11 rfl)) ?_
              refine x_up (pc' := 196) (fun _ _ _ _ _ L => lv_aload hx hb dJ1_buildFromSorted_2_194 (lv_at L 12 rfl)) ?_
              refine x_callV (em := emQ) (fun r st => va_rf r :: st) (fun _ _ => rfl) 7 X (kJ1 hG) (fun σ' KK h => ih a0 (x1 + (1 : Int32)) ((((x2 + x3).toUInt32 >>> ((1 : Int32).toUInt32 &&& Int32.toUInt32 31)).toInt32) + (1 : Int32)) x3 x4 (some b1) x6 (some b2) σ' KK h) (lw_V q761 q763 qs5 q102 q764) ⟨rfl, mdJ1_buildFromSorted_2⟩ ⟨(by show _ ≤ 4 + (n + 1); omega), (by show _ ≤ 83 + (n + 1) * 33; omega)⟩ rfl rfl (Nat.le_of_ble_eq_true rfl) dJ1_buildFromSorted_2_196 hp42.1 hp42.2 (fun v35 σ36 hp43 => ?_)
              refine x_pc (pc' := 199) rfl ?_
              refine x_upL (pc' := 201) (lo' := [(13, va_rf v35), (12, .ref q26), (11, .ref b2), (10, va_rf v24), (9, .null), (8, .int (((x2 + x3).toUInt32 >>> ((1 : Int32).toUInt32 &&& Int32.toUInt32 31)).toInt32)), (0, .ref a0), (1, .int x1), (2, .int x2), (3, .int x3), (4, .int x4), (5, .ref b1), (6, va_rf x6), (7, .ref b2)]) (fun _ _ _ _ _ L => lv_astoreq hx hb dJ1_buildFromSorted_2_199 L (by decide) rfl) ?_
              refine x_up (pc' := 203) (fun _ _ _ _ _ L => lv_aload hx hb dJ1_buildFromSorted_2_201 (lv_at L 1 rfl)) ?_
              refine x_up (pc' := 205) (fun _ _ _ _ _ L => lv_aloadq hx hb dJ1_buildFromSorted_2_203 (lv_at L 0 rfl)) ?_
              refine x_pq X (kJ31 hG) 3 (by decide) q1303 (fun _ h => h) rfl v35 (x_nar _ (by decide)) (x_fit _ (by decide)) dJ1_buildFromSorted_2_205 hp43 (fun σ37 hp44 => ?_)
              refine x_pc (pc' := 208) rfl ?_
              refine x_up (pc' := 210) (fun _ _ _ _ _ L => lv_aloadq hx hb dJ1_buildFromSorted_2_208 (lv_at L 0 rfl)) ?_
              refine x_up (pc' := 212) (fun _ _ _ _ _ L => lv_aload hx hb dJ1_buildFromSorted_2_210 (lv_at L 1 rfl)) ?_
              obtain ⟨b38, rfl, hp45⟩ := hp44
              refine x_pq X (kJ31 hG) 4 (by decide) q1305 (fun _ h => h) rfl (some q26) (x_nar _ (by decide)) (x_fit _ (by decide)) dJ1_buildFromSorted_2_212 hp45 (fun σ39 hp46 => ?_)
              refine x_pc (pc' := 215) rfl ?_
              refine x_up (pc' := 217) (fun _ _ _ _ _ L => lv_aload hx hb dJ1_buildFromSorted_2_215 (lv_at L 1 rfl)) ?_
              exact x_aret X hr (Or.inl ⟨_, rfl⟩) dJ1_buildFromSorted_2_217 (some q26) hp46
    · have hp47 := hp1.2 c20
      refine x_up (pc' := 24) (fun _ _ _ _ _ L => lv_aload_n hx hb dJ1_buildFromSorted_2_23 rfl (lv_at L 2 rfl)) ?_
      refine x_up (pc' := 25) (fun _ _ _ _ _ L => lv_iload_n hx hb dJ1_buildFromSorted_2_24 rfl (lv_at L 3 rfl)) ?_
      refine x_up (pc' := 26) (fun _ _ _ _ _ L => lv_iconst (v := (1 : Int32)) hx hb dJ1_buildFromSorted_2_25 (by decide)) ?_
      refine x_up (pc' := 27) (fun _ _ _ _ _ L => lv_iadd hx hb dJ1_buildFromSorted_2_26) ?_
      refine x_up (pc' := 28) (fun _ _ _ _ _ L => lv_iload_n hx hb dJ1_buildFromSorted_2_27 rfl (lv_at L 4 rfl)) ?_
      refine x_up (pc' := 30) (fun _ _ _ _ _ L => lv_iload hx hb dJ1_buildFromSorted_2_28 (lv_at L 1 rfl)) ?_
      refine x_up (pc' := 31) (fun _ _ _ _ _ L => lv_iconst (v := (1 : Int32)) hx hb dJ1_buildFromSorted_2_30 (by decide)) ?_
      refine x_up (pc' := 32) (fun _ _ _ _ _ L => lv_isub hx hb dJ1_buildFromSorted_2_31) ?_
      refine x_up (pc' := 34) (fun _ _ _ _ _ L => lv_iload hx hb dJ1_buildFromSorted_2_32 (lv_at L 6 rfl)) ?_
      refine x_up (pc' := 36) (fun _ _ _ _ _ L => lv_aloadq hx hb dJ1_buildFromSorted_2_34 (lv_at L 7 rfl)) ?_
      refine x_up (pc' := 38) (fun _ _ _ _ _ L => lv_aloadq hx hb dJ1_buildFromSorted_2_36 (lv_at L 8 rfl)) ?_
      refine x_up (pc' := 40) (fun _ _ _ _ _ L => lv_aloadq hx hb dJ1_buildFromSorted_2_38 (lv_at L 9 rfl)) ?_
      refine x_callV (em := emQ) (fun r st => va_rf r :: st) (fun _ _ => rfl) 7 X (kJ1 hG) (fun σ' KK h => ih a0 (x1 + (1 : Int32)) x2 ((((x2 + x3).toUInt32 >>> ((1 : Int32).toUInt32 &&& Int32.toUInt32 31)).toInt32) - (1 : Int32)) x4 x5 x6 x7 σ' KK h) (lw_V q761 q763 qs5 q102 q764) ⟨rfl, mdJ1_buildFromSorted_2⟩ ⟨(by show _ ≤ 4 + (n + 1); omega), (by show _ ≤ 83 + (n + 1) * 33; omega)⟩ rfl rfl (Nat.le_of_ble_eq_true rfl) dJ1_buildFromSorted_2_40 hp47.1 hp47.2 (fun v40 σ41 hp48 => ?_)
      refine x_pc (pc' := 43) rfl ?_
      refine x_upL (pc' := 45) (lo' := [(9, va_rf v40), (8, .int (((x2 + x3).toUInt32 >>> ((1 : Int32).toUInt32 &&& Int32.toUInt32 31)).toInt32)), (0, .ref a0), (1, .int x1), (2, .int x2), (3, .int x3), (4, .int x4), (5, va_rf x5), (6, va_rf x6), (7, va_rf x7)]) (fun _ _ _ _ _ L => lv_astoreq hx hb dJ1_buildFromSorted_2_43 L (by decide) rfl) ?_
      refine x_up (pc' := 47) (fun _ _ _ _ _ L => lv_aloadq hx hb dJ1_buildFromSorted_2_45 (lv_at L 7 rfl)) ?_
      rcases x5 with _ | b42
      · have hp49 := hp48.1 rfl
        refine x_up (pc' := 104) (fun _ _ _ _ _ L => lv_ifnullN (tgt := 104) hx hb dJ1_buildFromSorted_2_47 (by decide)) ?_
        refine x_up (pc' := 106) (fun _ _ _ _ _ L => lv_aloadq hx hb dJ1_buildFromSorted_2_104 (lv_at L 8 rfl)) ?_
        exact hp49.elim
      · have hp50 := hp48.2 _ rfl
        refine x_up (pc' := 50) (fun _ _ _ _ _ L => lv_ifnull hx hb dJ1_buildFromSorted_2_47) ?_
        refine x_up (pc' := 52) (fun _ _ _ _ _ L => lv_aloadq hx hb dJ1_buildFromSorted_2_50 (lv_at L 9 rfl)) ?_
        rcases x7 with _ | b43
        · have hp51 := hp50.1 rfl
          refine x_up (pc' := 55) (fun _ _ _ _ _ L => lv_ifnonnullN hx hb dJ1_buildFromSorted_2_52) ?_
          refine x_up (pc' := 57) (fun _ _ _ _ _ L => lv_aload hx hb dJ1_buildFromSorted_2_55 (lv_at L 7 rfl)) ?_
          refine x_callF (x := ⟨"java/util/Iterator", "next", "()Ljava/lang/Object;"⟩) (em := emQ) (fun r st => va_rf r :: st) (fun _ _ => rfl) 0 X (kJ21 hG) (fun σ' KK h => R_J21_next l hl G hG b42 σ' KK h) q766 q1252 q1254 q126 q1256 ⟨⟨q768, q767, q1255, q1253, q1251⟩, by decide, by decide⟩ (by decide +kernel) ⟨(by show _ ≤ 4 + (n + 1); omega), (by show _ ≤ 83 + (n + 1) * 33; omega)⟩ rfl rfl (Nat.le_of_ble_eq_true rfl) dJ1_buildFromSorted_2_57 hp51.1 hp51.2 (fun v44 σ45 hp52 => ?_)
          refine x_pc (pc' := 62) rfl ?_
          obtain ⟨b46, rfl, hp53⟩ := hp52
          refine x_castY X (kJ31 hG) q1272 q1277 hp53.1 dJ1_buildFromSorted_2_62 ?_
          have hp54 := hp53.2
          refine x_pc (pc' := 65) rfl ?_
          refine x_upL (pc' := 67) (lo' := [(12, .ref b46), (9, va_rf v40), (8, .int (((x2 + x3).toUInt32 >>> ((1 : Int32).toUInt32 &&& Int32.toUInt32 31)).toInt32)), (0, .ref a0), (1, .int x1), (2, .int x2), (3, .int x3), (4, .int x4), (5, .ref b42), (6, va_rf x6), (7, .null)]) (fun _ _ _ _ _ L => lv_astore hx hb dJ1_buildFromSorted_2_65 L (by decide) rfl) ?_
          refine x_up (pc' := 69) (fun _ _ _ _ _ L => lv_aload hx hb dJ1_buildFromSorted_2_67 (lv_at L 0 rfl)) ?_
          refine x_callF (x := ⟨"java/util/Map$Entry", "getKey", "()Ljava/lang/Object;"⟩) (em := emQ) (fun r st => va_rf r :: st) (fun _ _ => rfl) 0 X (kJ31 hG) (fun σ' KK h => R_J31_getKey l hl G hG b46 σ' KK h) q1274 q1278 q1280 q136 q1282 ⟨⟨q1276, q1275, q1281, q1279, q1277⟩, by decide, by decide⟩ (by decide +kernel) ⟨(by show _ ≤ 4 + (n + 1); omega), (by show _ ≤ 83 + (n + 1) * 33; omega)⟩ rfl rfl (Nat.le_of_ble_eq_true rfl) dJ1_buildFromSorted_2_69 hp54.1 hp54.2 (fun v47 σ48 hp55 => ?_)
          refine x_pc (pc' := 74) rfl ?_
          refine x_st (pc' := 76) ([(10, va_rf v47), (12, .ref b46), (9, va_rf v40), (8, .int (((x2 + x3).toUInt32 >>> ((1 : Int32).toUInt32 &&& Int32.toUInt32 31)).toInt32)), (0, .ref a0), (1, .int x1), (2, .int x2), (3, .int x3), (4, .int x4), (5, .ref b42), (6, va_rf x6), (7, .null)]) rfl (by simp [x_catq, x_cati, x_catr, x_catn]) (fun _ _ _ _ _ L => lv_astoreq hx hb dJ1_buildFromSorted_2_74 L (by decide) rfl) ?_
          refine x_up (pc' := 78) (fun _ _ _ _ _ L => lv_aload hx hb dJ1_buildFromSorted_2_76 (lv_at L 1 rfl)) ?_
          refine x_callF (x := ⟨"java/util/Map$Entry", "getValue", "()Ljava/lang/Object;"⟩) (em := emQ) (fun r st => va_rf r :: st) (fun _ _ => rfl) 0 X (kJ31 hG) (fun σ' KK h => R_J31_getValue l hl G hG b46 σ' KK h) q1284 q1287 q1289 q136 q1291 ⟨⟨q1286, q1285, q1290, q1288, q1277⟩, by decide, by decide⟩ (by decide +kernel) ⟨(by show _ ≤ 4 + (n + 1); omega), (by show _ ≤ 83 + (n + 1) * 33; omega)⟩ rfl rfl (Nat.le_of_ble_eq_true rfl) dJ1_buildFromSorted_2_78 hp55.1 hp55.2 (fun v49 σ50 hp56 => ?_)
          refine x_pc (pc' := 83) rfl ?_
          refine x_st (pc' := 85) ([(11, va_rf v49), (10, va_rf v47), (12, .ref b46), (9, va_rf v40), (8, .int (((x2 + x3).toUInt32 >>> ((1 : Int32).toUInt32 &&& Int32.toUInt32 31)).toInt32)), (0, .ref a0), (1, .int x1), (2, .int x2), (3, .int x3), (4, .int x4), (5, .ref b42), (6, va_rf x6), (7, .null)]) rfl (by simp [x_catq, x_cati, x_catr, x_catn]) (fun _ _ _ _ _ L => lv_astoreq hx hb dJ1_buildFromSorted_2_83 L (by decide) rfl) ?_
          refine x_up (pc' := 128) (fun _ _ _ _ _ L => lv_goto (tgt := 128) hx hb dJ1_buildFromSorted_2_85 (by decide)) ?_
          refine x_new X (kJ31 hG) q1292 q1293 q136 (fs := [va_rf none, va_rf none, va_rf none, va_rf none, va_rf none, .int 0]) x_dflt_J31 dJ1_buildFromSorted_2_128 hp56 (fun q51 σ52 hp57 => ?_)
          refine x_pc (pc' := 131) rfl ?_
          refine x_up (pc' := 132) (fun _ _ _ _ _ L => lv_dup hx hb dJ1_buildFromSorted_2_131 rfl) ?_
          refine x_up (pc' := 134) (fun _ _ _ _ _ L => lv_aloadq hx hb dJ1_buildFromSorted_2_132 (lv_at L 1 rfl)) ?_
          refine x_up (pc' := 136) (fun _ _ _ _ _ L => lv_aloadq hx hb dJ1_buildFromSorted_2_134 (lv_at L 0 rfl)) ?_
          refine x_up (pc' := 137) (fun _ _ _ _ _ L => lv_null hx hb dJ1_buildFromSorted_2_136) ?_
          refine x_callI 3 X (fun σ' KK h => R_J31_init l hl G hG q51 v47 v49 none σ' KK h) (lw_meth q1296) q136 q1294 q1295 rfl mdJ31_init ⟨(by show _ ≤ 4 + (n + 1); omega), (by show _ ≤ 83 + (n + 1) * 33; omega)⟩ rfl rfl (Nat.le_of_ble_eq_true rfl) dJ1_buildFromSorted_2_137 hp57 (fun σ53 hp58 => ?_)
          refine x_pc (pc' := 140) rfl ?_
          refine x_st (pc' := 142) ([(12, .ref q51), (11, va_rf v49), (10, va_rf v47), (9, va_rf v40), (8, .int (((x2 + x3).toUInt32 >>> ((1 : Int32).toUInt32 &&& Int32.toUInt32 31)).toInt32)), (0, .ref a0), (1, .int x1), (2, .int x2), (3, .int x3), (4, .int x4), (5, .ref b42), (6, va_rf x6), (7, .null)]) rfl (by simp [x_catq, x_cati, x_catr, x_catn]) (fun _ _ _ _ _ L => lv_astore hx hb dJ1_buildFromSorted_2_140 L (by decide) rfl) ?_
          refine x_up (pc' := 143) (fun _ _ _ _ _ L => lv_iload_n hx hb dJ1_buildFromSorted_2_142 rfl (lv_at L 6 rfl)) ?_
          refine x_up (pc' := 145) (fun _ _ _ _ _ L => lv_iload hx hb dJ1_buildFromSorted_2_143 (lv_at L 9 rfl)) ?_
          refine x_ifn (C := x1 = x4) (pt := 154) (pc' := 148) (fun _ _ _ _ _ => lv_icmp_ne (tgt := 154) hx hb dJ1_buildFromSorted_2_145 (by decide)) (fun c145 => ?_) (fun c145 => ?_)
          · have hp59 := hp58.1 c145
            refine x_up (pc' := 150) (fun _ _ _ _ _ L => lv_aload hx hb dJ1_buildFromSorted_2_148 (lv_at L 0 rfl)) ?_
            refine x_up (pc' := 151) (fun _ _ _ _ _ L => lv_iconst (v := (0 : Int32)) hx hb dJ1_buildFromSorted_2_150 (by decide)) ?_
            refine x_pi X (kJ31 hG) 5 (by decide) q1307 (fun _ h => h) rfl rfl rfl dJ1_buildFromSorted_2_151 hp59 (fun σ54 hp60 => ?_)
            refine x_pc (pc' := 154) rfl ?_
            refine x_up (pc' := 156) (fun _ _ _ _ _ L => lv_aloadq hx hb dJ1_buildFromSorted_2_154 (lv_at L 3 rfl)) ?_
            rcases v40 with _ | b55
            · have hp61 := hp60.1 rfl
              refine x_up (pc' := 173) (fun _ _ _ _ _ L => lv_ifnullN (tgt := 173) hx hb dJ1_buildFromSorted_2_156 (by decide)) ?_
              refine x_up (pc' := 175) (fun _ _ _ _ _ L => lv_iload hx hb dJ1_buildFromSorted_2_173 (lv_at L 4 rfl)) ?_
              refine x_up (pc' := 176) (fun _ _ _ _ _ L => lv_iload_n hx hb dJ1_buildFromSorted_2_175 rfl (lv_at L 8 rfl)) ?_
              refine x_if (C := x3 ≤ (((x2 + x3).toUInt32 >>> ((1 : Int32).toUInt32 &&& Int32.toUInt32 31)).toInt32)) (pt := 215) (pc' := 179) (fun _ _ _ _ _ => lv_icmp_ge (tgt := 215) hx hb dJ1_buildFromSorted_2_176 (by decide)) (fun c176 => ?_) (fun c176 => ?_)
              · have hp62 := hp61.1 c176
                refine x_up (pc' := 217) (fun _ _ _ _ _ L => lv_aload hx hb dJ1_buildFromSorted_2_215 (lv_at L 0 rfl)) ?_
                exact x_aret X hr (Or.inl ⟨_, rfl⟩) dJ1_buildFromSorted_2_217 (some q51) hp62
              · have hp63 := hp61.2 c176
                refine x_up (pc' := 180) (fun _ _ _ _ _ L => lv_aload_n hx hb dJ1_buildFromSorted_2_179 rfl (lv_at L 5 rfl)) ?_
                refine x_up (pc' := 181) (fun _ _ _ _ _ L => lv_iload_n hx hb dJ1_buildFromSorted_2_180 rfl (lv_at L 6 rfl)) ?_
                refine x_up (pc' := 182) (fun _ _ _ _ _ L => lv_iconst (v := (1 : Int32)) hx hb dJ1_buildFromSorted_2_181 (by decide)) ?_
                refine x_up (pc' := 183) (fun _ _ _ _ _ L => lv_iadd hx hb dJ1_buildFromSorted_2_182) ?_
                refine x_up (pc' := 185) (fun _ _ _ _ _ L => lv_iload hx hb dJ1_buildFromSorted_2_183 (lv_at L 4 rfl)) ?_
                refine x_up (pc' := 186) (fun _ _ _ _ _ L => lv_iconst (v := (1 : Int32)) hx hb dJ1_buildFromSorted_2_185 (by decide)) ?_
                refine x_up (pc' := 187) (fun _ _ _ _ _ L => lv_iadd hx hb dJ1_buildFromSorted_2_186) ?_
                refine x_up (pc' := 188) (fun _ _ _ _ _ L => lv_iload_n hx hb dJ1_buildFromSorted_2_187 rfl (lv_at L 8 rfl)) ?_
                refine x_up (pc' := 190) (fun _ _ _ _ _ L => lv_iload hx hb dJ1_buildFromSorted_2_188 (lv_at L 9 rfl)) ?_
                refine x_up (pc' := 192) (fun _ _ _ _ _ L => lv_aload hx hb dJ1_buildFromSorted_2_190 (lv_at L 10 rfl)) ?_
                refine x_up (pc' := 194) (fun _ _ _ _ _ L => lv_aloadq hx hb dJ1_buildFromSorted_2_192 (lv_at L 11 rfl)) ?_
                refine x_up (pc' := 196) (fun _ _ _ _ _ L => lv_aloadN hx hb dJ1_buildFromSorted_2_194 (lv_at L 12 rfl)) ?_
                refine x_callV (em := emQ) (fun r st => va_rf r :: st) (fun _ _ => rfl) 7 X (kJ1 hG) (fun σ' KK h => ih a0 (x1 + (1 : Int32)) ((((x2 + x3).toUInt32 >>> ((1 : Int32).toUInt32 &&& Int32.toUInt32 31)).toInt32) + (1 : Int32)) x3 x4 (some b42) x6 none σ' KK h) (lw_V q761 q763 qs5 q102 q764) ⟨rfl, mdJ1_buildFromSorted_2⟩ ⟨(by show _ ≤ 4 + (n + 1); omega), (by show _ ≤ 83 + (n + 1) * 33; omega)⟩ rfl rfl (Nat.le_of_ble_eq_true rfl) dJ1_buildFromSorted_2_196 hp63.1 hp63.2 (fun v56 σ57 hp64 => ?_)
                refine x_pc (pc' := 199) rfl ?_
                refine x_upL (pc' := 201) (lo' := [(13, va_rf v56), (12, .ref q51), (11, va_rf v49), (10, va_rf v47), (9, .null), (8, .int (((x2 + x3).toUInt32 >>> ((1 : Int32).toUInt32 &&& Int32.toUInt32 31)).toInt32)), (0, .ref a0), (1, .int x1), (2, .int x2), (3, .int x3), (4, .int x4), (5, .ref b42), (6, va_rf x6), (7, .null)]) (fun _ _ _ _ _ L => lv_astoreq hx hb dJ1_buildFromSorted_2_199 L (by decide) rfl) ?_
                refine x_up (pc' := 203) (fun _ _ _ _ _ L => lv_aload hx hb dJ1_buildFromSorted_2_201 (lv_at L 1 rfl)) ?_
                refine x_up (pc' := 205) (fun _ _ _ _ _ L => lv_aloadq hx hb dJ1_buildFromSorted_2_203 (lv_at L 0 rfl)) ?_
                refine x_pq X (kJ31 hG) 3 (by decide) q1303 (fun _ h => h) rfl v56 (x_nar _ (by decide)) (x_fit _ (by decide)) dJ1_buildFromSorted_2_205 hp64 (fun σ58 hp65 => ?_)
                refine x_pc (pc' := 208) rfl ?_
                refine x_up (pc' := 210) (fun _ _ _ _ _ L => lv_aloadq hx hb dJ1_buildFromSorted_2_208 (lv_at L 0 rfl)) ?_
                refine x_up (pc' := 212) (fun _ _ _ _ _ L => lv_aload hx hb dJ1_buildFromSorted_2_210 (lv_at L 1 rfl)) ?_
                obtain ⟨b59, rfl, hp66⟩ := hp65
                refine x_pq X (kJ31 hG) 4 (by decide) q1305 (fun _ h => h) rfl (some q51) (x_nar _ (by decide)) (x_fit _ (by decide)) dJ1_buildFromSorted_2_212 hp66 (fun σ60 hp67 => ?_)
                refine x_pc (pc' := 215) rfl ?_
                refine x_up (pc' := 217) (fun _ _ _ _ _ L => lv_aload hx hb dJ1_buildFromSorted_2_215 (lv_at L 1 rfl)) ?_
                exact x_aret X hr (Or.inl ⟨_, rfl⟩) dJ1_buildFromSorted_2_217 (some q51) hp67
            · have hp68 := hp60.2 _ rfl
              refine x_up (pc' := 159) (fun _ _ _ _ _ L => lv_ifnull hx hb dJ1_buildFromSorted_2_156) ?_
              refine x_up (pc' := 161) (fun _ _ _ _ _ L => lv_aload hx hb dJ1_buildFromSorted_2_159 (lv_at L 0 rfl)) ?_
              refine x_up (pc' := 163) (fun _ _ _ _ _ L => lv_aload hx hb dJ1_buildFromSorted_2_161 (lv_at L 3 rfl)) ?_
              refine x_pq X (kJ31 hG) 2 (by decide) q1302 (fun _ h => h) rfl (some b55) (x_nar _ (by decide)) (x_fit _ (by decide)) dJ1_buildFromSorted_2_163 hp68 (fun σ61 hp69 => ?_)
              refine x_pc (pc' := 166) rfl ?_
              refine x_up (pc' := 168) (fun _ _ _ _ _ L => lv_aload hx hb dJ1_buildFromSorted_2_166 (lv_at L 3 rfl)) ?_
              refine x_up (pc' := 170) (fun _ _ _ _ _ L => lv_aload hx hb dJ1_buildFromSorted_2_168 (lv_at L 0 rfl)) ?_
              refine x_pq X (kJ31 hG) 4 (by decide) q1305 (fun _ h => h) rfl (some q51) (x_nar _ (by decide)) (x_fit _ (by decide)) dJ1_buildFromSorted_2_170 hp69 (fun σ62 hp70 => ?_)
              refine x_pc (pc' := 173) rfl ?_
              refine x_up (pc' := 175) (fun _ _ _ _ _ L => lv_iload hx hb dJ1_buildFromSorted_2_173 (lv_at L 4 rfl)) ?_
              refine x_up (pc' := 176) (fun _ _ _ _ _ L => lv_iload_n hx hb dJ1_buildFromSorted_2_175 rfl (lv_at L 8 rfl)) ?_
              refine x_if (C := x3 ≤ (((x2 + x3).toUInt32 >>> ((1 : Int32).toUInt32 &&& Int32.toUInt32 31)).toInt32)) (pt := 215) (pc' := 179) (fun _ _ _ _ _ => lv_icmp_ge (tgt := 215) hx hb dJ1_buildFromSorted_2_176 (by decide)) (fun c176 => ?_) (fun c176 => ?_)
              · have hp71 := hp70.1 c176
                refine x_up (pc' := 217) (fun _ _ _ _ _ L => lv_aload hx hb dJ1_buildFromSorted_2_215 (lv_at L 0 rfl)) ?_
                exact x_aret X hr (Or.inl ⟨_, rfl⟩) dJ1_buildFromSorted_2_217 (some q51) hp71
              · have hp72 := hp70.2 c176
                refine x_up (pc' := 180) (fun _ _ _ _ _ L => lv_aload_n hx hb dJ1_buildFromSorted_2_179 rfl (lv_at L 5 rfl)) ?_
                refine x_up (pc' := 181) (fun _ _ _ _ _ L => lv_iload_n hx hb dJ1_buildFromSorted_2_180 rfl (lv_at L 6 rfl)) ?_
                refine x_up (pc' := 182) (fun _ _ _ _ _ L => lv_iconst (v := (1 : Int32)) hx hb dJ1_buildFromSorted_2_181 (by decide)) ?_
                refine x_up (pc' := 183) (fun _ _ _ _ _ L => lv_iadd hx hb dJ1_buildFromSorted_2_182) ?_
                refine x_up (pc' := 185) (fun _ _ _ _ _ L => lv_iload hx hb dJ1_buildFromSorted_2_183 (lv_at L 4 rfl)) ?_
                refine x_up (pc' := 186) (fun _ _ _ _ _ L => lv_iconst (v := (1 : Int32)) hx hb dJ1_buildFromSorted_2_185 (by decide)) ?_
                refine x_up (pc' := 187) (fun _ _ _ _ _ L => lv_iadd hx hb dJ1_buildFromSorted_2_186) ?_
                refine x_up (pc' := 188) (fun _ _ _ _ _ L => lv_iload_n hx hb dJ1_buildFromSorted_2_187 rfl (lv_at L 8 rfl)) ?_
                refine x_up (pc' := 190) (fun _ _ _ _ _ L => lv_iload hx hb dJ1_buildFromSorted_2_188 (lv_at L 9 rfl)) ?_
                refine x_up (pc' := 192) (fun _ _ _ _ _ L => lv_aload hx hb dJ1_buildFromSorted_2_190 (lv_at L 10 rfl)) ?_
                refine x_up (pc' := 194) (fun _ _ _ _ _ L => lv_aloadq hx hb dJ1_buildFromSorted_2_192 (lv_at L 11 rfl)) ?_
                refine x_up (pc' := 196) (fun _ _ _ _ _ L => lv_aloadN hx hb dJ1_buildFromSorted_2_194 (lv_at L 12 rfl)) ?_
                refine x_callV (em := emQ) (fun r st => va_rf r :: st) (fun _ _ => rfl) 7 X (kJ1 hG) (fun σ' KK h => ih a0 (x1 + (1 : Int32)) ((((x2 + x3).toUInt32 >>> ((1 : Int32).toUInt32 &&& Int32.toUInt32 31)).toInt32) + (1 : Int32)) x3 x4 (some b42) x6 none σ' KK h) (lw_V q761 q763 qs5 q102 q764) ⟨rfl, mdJ1_buildFromSorted_2⟩ ⟨(by show _ ≤ 4 + (n + 1); omega), (by show _ ≤ 83 + (n + 1) * 33; omega)⟩ rfl rfl (Nat.le_of_ble_eq_true rfl) dJ1_buildFromSorted_2_196 hp72.1 hp72.2 (fun v63 σ64 hp73 => ?_)
                refine x_pc (pc' := 199) rfl ?_
                refine x_upL (pc' := 201) (lo' := [(13, va_rf v63), (12, .ref q51), (11, va_rf v49), (10, va_rf v47), (9, .ref b55), (8, .int (((x2 + x3).toUInt32 >>> ((1 : Int32).toUInt32 &&& Int32.toUInt32 31)).toInt32)), (0, .ref a0), (1, .int x1), (2, .int x2), (3, .int x3), (4, .int x4), (5, .ref b42), (6, va_rf x6), (7, .null)]) (fun _ _ _ _ _ L => lv_astoreq hx hb dJ1_buildFromSorted_2_199 L (by decide) rfl) ?_
                refine x_up (pc' := 203) (fun _ _ _ _ _ L => lv_aload hx hb dJ1_buildFromSorted_2_201 (lv_at L 1 rfl)) ?_
                refine x_up (pc' := 205) (fun _ _ _ _ _ L => lv_aloadq hx hb dJ1_buildFromSorted_2_203 (lv_at L 0 rfl)) ?_
                refine x_pq X (kJ31 hG) 3 (by decide) q1303 (fun _ h => h) rfl v63 (x_nar _ (by decide)) (x_fit _ (by decide)) dJ1_buildFromSorted_2_205 hp73 (fun σ65 hp74 => ?_)
                refine x_pc (pc' := 208) rfl ?_
                refine x_up (pc' := 210) (fun _ _ _ _ _ L => lv_aloadq hx hb dJ1_buildFromSorted_2_208 (lv_at L 0 rfl)) ?_
                refine x_up (pc' := 212) (fun _ _ _ _ _ L => lv_aload hx hb dJ1_buildFromSorted_2_210 (lv_at L 1 rfl)) ?_
                obtain ⟨b66, rfl, hp75⟩ := hp74
                refine x_pq X (kJ31 hG) 4 (by decide) q1305 (fun _ h => h) rfl (some q51) (x_nar _ (by decide)) (x_fit _ (by decide)) dJ1_buildFromSorted_2_212 hp75 (fun σ67 hp76 => ?_)
                refine x_pc (pc' := 215) rfl ?_
                refine x_up (pc' := 217) (fun _ _ _ _ _ L => lv_aload hx hb dJ1_buildFromSorted_2_215 (lv_at L 1 rfl)) ?_
                exact x_aret X hr (Or.inl ⟨_, rfl⟩) dJ1_buildFromSorted_2_217 (some q51) hp76
          · have hp77 := hp58.2 c145
            refine x_up (pc' := 156) (fun _ _ _ _ _ L => lv_aloadq hx hb dJ1_buildFromSorted_2_154 (lv_at L 3 rfl)) ?_
            rcases v40 with _ | b68
            · have hp78 := hp77.1 rfl
              refine x_up (pc' := 173) (fun _ _ _ _ _ L => lv_ifnullN (tgt := 173) hx hb dJ1_buildFromSorted_2_156 (by decide)) ?_
              refine x_up (pc' := 175) (fun _ _ _ _ _ L => lv_iload hx hb dJ1_buildFromSorted_2_173 (lv_at L 4 rfl)) ?_
              refine x_up (pc' := 176) (fun _ _ _ _ _ L => lv_iload_n hx hb dJ1_buildFromSorted_2_175 rfl (lv_at L 8 rfl)) ?_
              refine x_if (C := x3 ≤ (((x2 + x3).toUInt32 >>> ((1 : Int32).toUInt32 &&& Int32.toUInt32 31)).toInt32)) (pt := 215) (pc' := 179) (fun _ _ _ _ _ => lv_icmp_ge (tgt := 215) hx hb dJ1_buildFromSorted_2_176 (by decide)) (fun c176 => ?_) (fun c176 => ?_)
              · have hp79 := hp78.1 c176
                refine x_up (pc' := 217) (fun _ _ _ _ _ L => lv_aload hx hb dJ1_buildFromSorted_2_215 (lv_at L 0 rfl)) ?_
                exact x_aret X hr (Or.inl ⟨_, rfl⟩) dJ1_buildFromSorted_2_217 (some q51) hp79
              · have hp80 := hp78.2 c176
                refine x_up (pc' := 180) (fun _ _ _ _ _ L => lv_aload_n hx hb dJ1_buildFromSorted_2_179 rfl (lv_at L 5 rfl)) ?_
                refine x_up (pc' := 181) (fun _ _ _ _ _ L => lv_iload_n hx hb dJ1_buildFromSorted_2_180 rfl (lv_at L 6 rfl)) ?_
                refine x_up (pc' := 182) (fun _ _ _ _ _ L => lv_iconst (v := (1 : Int32)) hx hb dJ1_buildFromSorted_2_181 (by decide)) ?_
                refine x_up (pc' := 183) (fun _ _ _ _ _ L => lv_iadd hx hb dJ1_buildFromSorted_2_182) ?_
                refine x_up (pc' := 185) (fun _ _ _ _ _ L => lv_iload hx hb dJ1_buildFromSorted_2_183 (lv_at L 4 rfl)) ?_
                refine x_up (pc' := 186) (fun _ _ _ _ _ L => lv_iconst (v := (1 : Int32)) hx hb dJ1_buildFromSorted_2_185 (by decide)) ?_
                refine x_up (pc' := 187) (fun _ _ _ _ _ L => lv_iadd hx hb dJ1_buildFromSorted_2_186) ?_
                refine x_up (pc' := 188) (fun _ _ _ _ _ L => lv_iload_n hx hb dJ1_buildFromSorted_2_187 rfl (lv_at L 8 rfl)) ?_
                refine x_up (pc' := 190) (fun _ _ _ _ _ L => lv_iload hx hb dJ1_buildFromSorted_2_188 (lv_at L 9 rfl)) ?_
                refine x_up (pc' := 192) (fun _ _ _ _ _ L => lv_aload hx hb dJ1_buildFromSorted_2_190 (lv_at L 10 rfl)) ?_
                refine x_up (pc' := 194) (fun _ _ _ _ _ L => lv_aloadq hx hb dJ1_buildFromSorted_2_192 (lv_at L 11 rfl)) ?_
                refine x_up (pc' := 196) (fun _ _ _ _ _ L => lv_aloadN hx hb dJ1_buildFromSorted_2_194 (lv_at L 12 rfl)) ?_
                refine x_callV (em := emQ) (fun r st => va_rf r :: st) (fun _ _ => rfl) 7 X (kJ1 hG) (fun σ' KK h => ih a0 (x1 + (1 : Int32)) ((((x2 + x3).toUInt32 >>> ((1 : Int32).toUInt32 &&& Int32.toUInt32 31)).toInt32) + (1 : Int32)) x3 x4 (some b42) x6 none σ' KK h) (lw_V q761 q763 qs5 q102 q764) ⟨rfl, mdJ1_buildFromSorted_2⟩ ⟨(by show _ ≤ 4 + (n + 1); omega), (by show _ ≤ 83 + (n + 1) * 33; omega)⟩ rfl rfl (Nat.le_of_ble_eq_true rfl) dJ1_buildFromSorted_2_196 hp80.1 hp80.2 (fun v69 σ70 hp81 => ?_)
                refine x_pc (pc' := 199) rfl ?_
                refine x_upL (pc' := 201) (lo' := [(13, va_rf v69), (12, .ref q51), (11, va_rf v49), (10, va_rf v47), (9, .null), (8, .int (((x2 + x3).toUInt32 >>> ((1 : Int32).toUInt32 &&& Int32.toUInt32 31)).toInt32)), (0, .ref a0), (1, .int x1), (2, .int x2), (3, .int x3), (4, .int x4), (5, .ref b42), (6, va_rf x6), (7, .null)]) (fun _ _ _ _ _ L => lv_astoreq hx hb dJ1_buildFromSorted_2_199 L (by decide) rfl) ?_
                refine x_up (pc' := 203) (fun _ _ _ _ _ L => lv_aload hx hb dJ1_buildFromSorted_2_201 (lv_at L 1 rfl)) ?_
                refine x_up (pc' := 205) (fun _ _ _ _ _ L => lv_aloadq hx hb dJ1_buildFromSorted_2_203 (lv_at L 0 rfl)) ?_
                refine x_pq X (kJ31 hG) 3 (by decide) q1303 (fun _ h => h) rfl v69 (x_nar _ (by decide)) (x_fit _ (by decide)) dJ1_buildFromSorted_2_205 hp81 (fun σ71 hp82 => ?_)
                refine x_pc (pc' := 208) rfl ?_
                refine x_up (pc' := 210) (fun _ _ _ _ _ L => lv_aloadq hx hb dJ1_buildFromSorted_2_208 (lv_at L 0 rfl)) ?_
                refine x_up (pc' := 212) (fun _ _ _ _ _ L => lv_aload hx hb dJ1_buildFromSorted_2_210 (lv_at L 1 rfl)) ?_
                obtain ⟨b72, rfl, hp83⟩ := hp82
                refine x_pq X (kJ31 hG) 4 (by decide) q1305 (fun _ h => h) rfl (some q51) (x_nar _ (by decide)) (x_fit _ (by decide)) dJ1_buildFromSorted_2_212 hp83 (fun σ73 hp84 => ?_)
                refine x_pc (pc' := 215) rfl ?_
                refine x_up (pc' := 217) (fun _ _ _ _ _ L => lv_aload hx hb dJ1_buildFromSorted_2_215 (lv_at L 1 rfl)) ?_
                exact x_aret X hr (Or.inl ⟨_, rfl⟩) dJ1_buildFromSorted_2_217 (some q51) hp84
            · have hp85 := hp77.2 _ rfl
              refine x_up (pc' := 159) (fun _ _ _ _ _ L => lv_ifnull hx hb dJ1_buildFromSorted_2_156) ?_
              refine x_up (pc' := 161) (fun _ _ _ _ _ L => lv_aload hx hb dJ1_buildFromSorted_2_159 (lv_at L 0 rfl)) ?_
              refine x_up (pc' := 163) (fun _ _ _ _ _ L => lv_aload hx hb dJ1_buildFromSorted_2_161 (lv_at L 3 rfl)) ?_
              refine x_pq X (kJ31 hG) 2 (by decide) q1302 (fun _ h => h) rfl (some b68) (x_nar _ (by decide)) (x_fit _ (by decide)) dJ1_buildFromSorted_2_163 hp85 (fun σ74 hp86 => ?_)
              refine x_pc (pc' := 166) rfl ?_
              refine x_up (pc' := 168) (fun _ _ _ _ _ L => lv_aload hx hb dJ1_buildFromSorted_2_166 (lv_at L 3 rfl)) ?_
              refine x_up (pc' := 170) (fun _ _ _ _ _ L => lv_aload hx hb dJ1_buildFromSorted_2_168 (lv_at L 0 rfl)) ?_
              refine x_pq X (kJ31 hG) 4 (by decide) q1305 (fun _ h => h) rfl (some q51) (x_nar _ (by decide)) (x_fit _ (by decide)) dJ1_buildFromSorted_2_170 hp86 (fun σ75 hp87 => ?_)
              refine x_pc (pc' := 173) rfl ?_
              refine x_up (pc' := 175) (fun _ _ _ _ _ L => lv_iload hx hb dJ1_buildFromSorted_2_173 (lv_at L 4 rfl)) ?_
              refine x_up (pc' := 176) (fun _ _ _ _ _ L => lv_iload_n hx hb dJ1_buildFromSorted_2_175 rfl (lv_at L 8 rfl)) ?_
              refine x_if (C := x3 ≤ (((x2 + x3).toUInt32 >>> ((1 : Int32).toUInt32 &&& Int32.toUInt32 31)).toInt32)) (pt := 215) (pc' := 179) (fun _ _ _ _ _ => lv_icmp_ge (tgt := 215) hx hb dJ1_buildFromSorted_2_176 (by decide)) (fun c176 => ?_) (fun c176 => ?_)
              · have hp88 := hp87.1 c176
                refine x_up (pc' := 217) (fun _ _ _ _ _ L => lv_aload hx hb dJ1_buildFromSorted_2_215 (lv_at L 0 rfl)) ?_
                exact x_aret X hr (Or.inl ⟨_, rfl⟩) dJ1_buildFromSorted_2_217 (some q51) hp88
              · have hp89 := hp87.2 c176
                refine x_up (pc' := 180) (fun _ _ _ _ _ L => lv_aload_n hx hb dJ1_buildFromSorted_2_179 rfl (lv_at L 5 rfl)) ?_
                refine x_up (pc' := 181) (fun _ _ _ _ _ L => lv_iload_n hx hb dJ1_buildFromSorted_2_180 rfl (lv_at L 6 rfl)) ?_
                refine x_up (pc' := 182) (fun _ _ _ _ _ L => lv_iconst (v := (1 : Int32)) hx hb dJ1_buildFromSorted_2_181 (by decide)) ?_
                refine x_up (pc' := 183) (fun _ _ _ _ _ L => lv_iadd hx hb dJ1_buildFromSorted_2_182) ?_
                refine x_up (pc' := 185) (fun _ _ _ _ _ L => lv_iload hx hb dJ1_buildFromSorted_2_183 (lv_at L 4 rfl)) ?_
                refine x_up (pc' := 186) (fun _ _ _ _ _ L => lv_iconst (v := (1 : Int32)) hx hb dJ1_buildFromSorted_2_185 (by decide)) ?_
                refine x_up (pc' := 187) (fun _ _ _ _ _ L => lv_iadd hx hb dJ1_buildFromSorted_2_186) ?_
                refine x_up (pc' := 188) (fun _ _ _ _ _ L => lv_iload_n hx hb dJ1_buildFromSorted_2_187 rfl (lv_at L 8 rfl)) ?_
                refine x_up (pc' := 190) (fun _ _ _ _ _ L => lv_iload hx hb dJ1_buildFromSorted_2_188 (lv_at L 9 rfl)) ?_
                refine x_up (pc' := 192) (fun _ _ _ _ _ L => lv_aload hx hb dJ1_buildFromSorted_2_190 (lv_at L 10 rfl)) ?_
                refine x_up (pc' := 194) (fun _ _ _ _ _ L => lv_aloadq hx hb dJ1_buildFromSorted_2_192 (lv_at L 11 rfl)) ?_
                refine x_up (pc' := 196) (fun _ _ _ _ _ L => lv_aloadN hx hb dJ1_buildFromSorted_2_194 (lv_at L 12 rfl)) ?_
                refine x_callV (em := emQ) (fun r st => va_rf r :: st) (fun _ _ => rfl) 7 X (kJ1 hG) (fun σ' KK h => ih a0 (x1 + (1 : Int32)) ((((x2 + x3).toUInt32 >>> ((1 : Int32).toUInt32 &&& Int32.toUInt32 31)).toInt32) + (1 : Int32)) x3 x4 (some b42) x6 none σ' KK h) (lw_V q761 q763 qs5 q102 q764) ⟨rfl, mdJ1_buildFromSorted_2⟩ ⟨(by show _ ≤ 4 + (n + 1); omega), (by show _ ≤ 83 + (n + 1) * 33; omega)⟩ rfl rfl (Nat.le_of_ble_eq_true rfl) dJ1_buildFromSorted_2_196 hp89.1 hp89.2 (fun v76 σ77 hp90 => ?_)
                refine x_pc (pc' := 199) rfl ?_
                refine x_upL (pc' := 201) (lo' := [(13, va_rf v76), (12, .ref q51), (11, va_rf v49), (10, va_rf v47), (9, .ref b68), (8, .int (((x2 + x3).toUInt32 >>> ((1 : Int32).toUInt32 &&& Int32.toUInt32 31)).toInt32)), (0, .ref a0), (1, .int x1), (2, .int x2), (3, .int x3), (4, .int x4), (5, .ref b42), (6, va_rf x6), (7, .null)]) (fun _ _ _ _ _ L => lv_astoreq hx hb dJ1_buildFromSorted_2_199 L (by decide) rfl) ?_
                refine x_up (pc' := 203) (fun _ _ _ _ _ L => lv_aload hx hb dJ1_buildFromSorted_2_201 (lv_at L 1 rfl)) ?_
                refine x_up (pc' := 205) (fun _ _ _ _ _ L => lv_aloadq hx hb dJ1_buildFromSorted_2_203 (lv_at L 0 rfl)) ?_
                refine x_pq X (kJ31 hG) 3 (by decide) q1303 (fun _ h => h) rfl v76 (x_nar _ (by decide)) (x_fit _ (by decide)) dJ1_buildFromSorted_2_205 hp90 (fun σ78 hp91 => ?_)
                refine x_pc (pc' := 208) rfl ?_
                refine x_up (pc' := 210) (fun _ _ _ _ _ L => lv_aloadq hx hb dJ1_buildFromSorted_2_208 (lv_at L 0 rfl)) ?_
                refine x_up (pc' := 212) (fun _ _ _ _ _ L => lv_aload hx hb dJ1_buildFromSorted_2_210 (lv_at L 1 rfl)) ?_
                obtain ⟨b79, rfl, hp92⟩ := hp91
                refine x_pq X (kJ31 hG) 4 (by decide) q1305 (fun _ h => h) rfl (some q51) (x_nar _ (by decide)) (x_fit _ (by decide)) dJ1_buildFromSorted_2_212 hp92 (fun σ80 hp93 => ?_)
                refine x_pc (pc' := 215) rfl ?_
                refine x_up (pc' := 217) (fun _ _ _ _ _ L => lv_aload hx hb dJ1_buildFromSorted_2_215 (lv_at L 1 rfl)) ?_
                exact x_aret X hr (Or.inl ⟨_, rfl⟩) dJ1_buildFromSorted_2_217 (some q51) hp93
        · have hp94 := hp50.2 _ rfl
          refine x_up (pc' := 88) (fun _ _ _ _ _ L => lv_ifnonnull (tgt := 88) hx hb dJ1_buildFromSorted_2_52 (by decide)) ?_
          refine x_up (pc' := 90) (fun _ _ _ _ _ L => lv_aload hx hb dJ1_buildFromSorted_2_88 (lv_at L 7 rfl)) ?_
          refine x_callF (x := ⟨"java/util/Iterator", "next", "()Ljava/lang/Object;"⟩) (em := emQ) (fun r st => va_rf r :: st) (fun _ _ => rfl) 0 X (kJ21 hG) (fun σ' KK h => R_J21_next l hl G hG b42 σ' KK h) q766 q1252 q1254 q126 q1256 ⟨⟨q768, q767, q1255, q1253, q1251⟩, by decide, by decide⟩ (by decide +kernel) ⟨(by show _ ≤ 4 + (n + 1); omega), (by show _ ≤ 83 + (n + 1) * 33; omega)⟩ rfl rfl (Nat.le_of_ble_eq_true rfl) dJ1_buildFromSorted_2_90 hp94.1 hp94.2 (fun v81 σ82 hp95 => ?_)
          refine x_pc (pc' := 95) rfl ?_
          refine x_st (pc' := 97) ([(10, va_rf v81), (9, va_rf v40), (8, .int (((x2 + x3).toUInt32 >>> ((1 : Int32).toUInt32 &&& Int32.toUInt32 31)).toInt32)), (0, .ref a0), (1, .int x1), (2, .int x2), (3, .int x3), (4, .int x4), (5, .ref b42), (6, va_rf x6), (7, .ref b43)]) rfl (by simp [x_catq, x_cati, x_catr, x_catn]) (fun _ _ _ _ _ L => lv_astoreq hx hb dJ1_buildFromSorted_2_95 L (by decide) rfl) ?_
          refine x_up (pc' := 99) (fun _ _ _ _ _ L => lv_aload hx hb dJ1_buildFromSorted_2_97 (lv_at L 10 rfl)) ?_
          refine x_st (pc' := 101) ([(11, .ref b43), (10, va_rf v81), (9, va_rf v40), (8, .int (((x2 + x3).toUInt32 >>> ((1 : Int32).toUInt32 &&& Int32.toUInt32 31)).toInt32)), (0, .ref a0), (1, .int x1), (2, .int x2), (3, .int x3), (4, .int x4), (5, .ref b42), (6, va_rf x6), (7, .ref b43)]) rfl (by simp [x_catq, x_cati, x_catr, x_catn]) (fun _ _ _ _ _ L => lv_astore hx hb dJ1_buildFromSorted_2_99 L (by decide) rfl) ?_
          refine x_up (pc' := 128) (fun _ _ _ _ _ L => lv_goto (tgt := 128) hx hb dJ1_buildFromSorted_2_101 (by decide)) ?_
          refine x_new X (kJ31 hG) q1292 q1293 q136 (fs := [va_rf none, va_rf none, va_rf none, va_rf none, va_rf none, .int 0]) x_dflt_J31 dJ1_buildFromSorted_2_128 hp95 (fun q83 σ84 hp96 => ?_)
          refine x_pc (pc' := 131) rfl ?_
          refine x_up (pc' := 132) (fun _ _ _ _ _ L => lv_dup hx hb dJ1_buildFromSorted_2_131 rfl) ?_
          refine x_up (pc' := 134) (fun _ _ _ _ _ L => lv_aloadq hx hb dJ1_buildFromSorted_2_132 (lv_at L 1 rfl)) ?_
          refine x_up (pc' := 136) (fun _ _ _ _ _ L => lv_aload hx hb dJ1_buildFromSorted_2_134 (lv_at L 0 rfl)) ?_
          refine x_up (pc' := 137) (fun _ _ _ _ _ L => lv_null hx hb dJ1_buildFromSorted_2_136) ?_
          refine x_callI 3 X (fun σ' KK h => R_J31_init l hl G hG q83 v81 (some b43) none σ' KK h) (lw_meth q1296) q136 q1294 q1295 rfl mdJ31_init ⟨(by show _ ≤ 4 + (n + 1); omega), (by show _ ≤ 83 + (n + 1) * 33; omega)⟩ rfl rfl (Nat.le_of_ble_eq_true rfl) dJ1_buildFromSorted_2_137 hp96 (fun σ85 hp97 => ?_)
          refine x_pc (pc' := 140) rfl ?_
          refine x_upL (pc' := 142) (lo' := [(12, .ref q83), (11, .ref b43), (10, va_rf v81), (9, va_rf v40), (8, .int (((x2 + x3).toUInt32 >>> ((1 : Int32).toUInt32 &&& Int32.toUInt32 31)).toInt32)), (0, .ref a0), (1, .int x1), (2, .int x2), (3, .int x3), (4, .int x4), (5, .ref b42), (6, va_rf x6), (7, .ref b43)]) (fun _ _ _ _ _ L => lv_astore hx hb dJ1_buildFromSorted_2_140 L (by decide) rfl) ?_
          refine x_up (pc' := 143) (fun _ _ _ _ _ L => lv_iload_n hx hb dJ1_buildFromSorted_2_142 rfl (lv_at L 6 rfl)) ?_
          refine x_up (pc' := 145) (fun _ _ _ _ _ L => lv_iload hx hb dJ1_buildFromSorted_2_143 (lv_at L 9 rfl)) ?_
          refine x_ifn (C := x1 = x4) (pt := 154) (pc' := 148) (fun _ _ _ _ _ => lv_icmp_ne (tgt := 154) hx hb dJ1_buildFromSorted_2_145 (by decide)) (fun c145 => ?_) (fun c145 => ?_)
          · have hp98 := hp97.1 c145
            refine x_up (pc' := 150) (fun _ _ _ _ _ L => lv_aload hx hb dJ1_buildFromSorted_2_148 (lv_at L 0 rfl)) ?_
            refine x_up (pc' := 151) (fun _ _ _ _ _ L => lv_iconst (v := (0 : Int32)) hx hb dJ1_buildFromSorted_2_150 (by decide)) ?_
            refine x_pi X (kJ31 hG) 5 (by decide) q1307 (fun _ h => h) rfl rfl rfl dJ1_buildFromSorted_2_151 hp98 (fun σ86 hp99 => ?_)
            refine x_pc (pc' := 154) rfl ?_
            refine x_up (pc' := 156) (fun _ _ _ _ _ L => lv_aloadq hx hb dJ1_buildFromSorted_2_154 (lv_at L 3 rfl)) ?_
            rcases v40 with _ | b87
            · have hp100 := hp99.1 rfl
              refine x_up (pc' := 173) (fun _ _ _ _ _ L => lv_ifnullN (tgt := 173) hx hb dJ1_buildFromSorted_2_156 (by decide)) ?_
              refine x_up (pc' := 175) (fun _ _ _ _ _ L => lv_iload hx hb dJ1_buildFromSorted_2_173 (lv_at L 4 rfl)) ?_
              refine x_up (pc' := 176) (fun _ _ _ _ _ L => lv_iload_n hx hb dJ1_buildFromSorted_2_175 rfl (lv_at L 8 rfl)) ?_
              refine x_if (C := x3 ≤ (((x2 + x3).toUInt32 >>> ((1 : Int32).toUInt32 &&& Int32.toUInt32 31)).toInt32)) (pt := 215) (pc' := 179) (fun _ _ _ _ _ => lv_icmp_ge (tgt := 215) hx hb dJ1_buildFromSorted_2_176 (by decide)) (fun c176 => ?_) (fun c176 => ?_)
              · have hp101 := hp100.1 c176
                refine x_up (pc' := 217) (fun _ _ _ _ _ L => lv_aload hx hb dJ1_buildFromSorted_2_215 (lv_at L 0 rfl)) ?_
                exact x_aret X hr (Or.inl ⟨_, rfl⟩) dJ1_buildFromSorted_2_217 (some q83) hp101
              · have hp102 := hp100.2 c176
                refine x_up (pc' := 180) (fun _ _ _ _ _ L => lv_aload_n hx hb dJ1_buildFromSorted_2_179 rfl (lv_at L 5 rfl)) ?_
                refine x_up (pc' := 181) (fun _ _ _ _ _ L => lv_iload_n hx hb dJ1_buildFromSorted_2_180 rfl (lv_at L 6 rfl)) ?_
                refine x_up (pc' := 182) (fun _ _ _ _ _ L => lv_iconst (v := (1 : Int32)) hx hb dJ1_buildFromSorted_2_181 (by decide)) ?_
                refine x_up (pc' := 183) (fun _ _ _ _ _ L => lv_iadd hx hb dJ1_buildFromSorted_2_182) ?_
                refine x_up (pc' := 185) (fun _ _ _ _ _ L => lv_iload hx hb dJ1_buildFromSorted_2_183 (lv_at L 4 rfl)) ?_
                refine x_up (pc' := 186) (fun _ _ _ _ _ L => lv_iconst (v := (1 : Int32)) hx hb dJ1_buildFromSorted_2_185 (by decide)) ?_
                refine x_up (pc' := 187) (fun _ _ _ _ _ L => lv_iadd hx hb dJ1_buildFromSorted_2_186) ?_
                refine x_up (pc' := 188) (fun _ _ _ _ _ L => lv_iload_n hx hb dJ1_buildFromSorted_2_187 rfl (lv_at L 8 rfl)) ?_
                refine x_up (pc' := 190) (fun _ _ _ _ _ L => lv_iload hx hb dJ1_buildFromSorted_2_188 (lv_at L 9 rfl)) ?_
                refine x_up (pc' := 192) (fun _ _ _ _ _ L => lv_aload hx hb dJ1_buildFromSorted_2_190 (lv_at L 10 rfl)) ?_
                refine x_up (pc' := 194) (fun _ _ _ _ _ L => lv_aloadq hx hb dJ1_buildFromSorted_2_192 (lv_at L 11 rfl)) ?_
                refine x_up (pc' := 196) (fun _ _ _ _ _ L => lv_aload hx hb dJ1_buildFromSorted_2_194 (lv_at L 12 rfl)) ?_
                refine x_callV (em := emQ) (fun r st => va_rf r :: st) (fun _ _ => rfl) 7 X (kJ1 hG) (fun σ' KK h => ih a0 (x1 + (1 : Int32)) ((((x2 + x3).toUInt32 >>> ((1 : Int32).toUInt32 &&& Int32.toUInt32 31)).toInt32) + (1 : Int32)) x3 x4 (some b42) x6 (some b43) σ' KK h) (lw_V q761 q763 qs5 q102 q764) ⟨rfl, mdJ1_buildFromSorted_2⟩ ⟨(by show _ ≤ 4 + (n + 1); omega), (by show _ ≤ 83 + (n + 1) * 33; omega)⟩ rfl rfl (Nat.le_of_ble_eq_true rfl) dJ1_buildFromSorted_2_196 hp102.1 hp102.2 (fun v88 σ89 hp103 => ?_)
                refine x_pc (pc' := 199) rfl ?_
                refine x_upL (pc' := 201) (lo' := [(13, va_rf v88), (12, .ref q83), (11, .ref b43), (10, va_rf v81), (9, .null), (8, .int (((x2 + x3).toUInt32 >>> ((1 : Int32).toUInt32 &&& Int32.toUInt32 31)).toInt32)), (0, .ref a0), (1, .int x1), (2, .int x2), (3, .int x3), (4, .int x4), (5, .ref b42), (6, va_rf x6), (7, .ref b43)]) (fun _ _ _ _ _ L => lv_astoreq hx hb dJ1_buildFromSorted_2_199 L (by decide) rfl) ?_
                refine x_up (pc' := 203) (fun _ _ _ _ _ L => lv_aload hx hb dJ1_buildFromSorted_2_201 (lv_at L 1 rfl)) ?_
                refine x_up (pc' := 205) (fun _ _ _ _ _ L => lv_aloadq hx hb dJ1_buildFromSorted_2_203 (lv_at L 0 rfl)) ?_
                refine x_pq X (kJ31 hG) 3 (by decide) q1303 (fun _ h => h) rfl v88 (x_nar _ (by decide)) (x_fit _ (by decide)) dJ1_buildFromSorted_2_205 hp103 (fun σ90 hp104 => ?_)
                refine x_pc (pc' := 208) rfl ?_
                refine x_up (pc' := 210) (fun _ _ _ _ _ L => lv_aloadq hx hb dJ1_buildFromSorted_2_208 (lv_at L 0 rfl)) ?_
                refine x_up (pc' := 212) (fun _ _ _ _ _ L => lv_aload hx hb dJ1_buildFromSorted_2_210 (lv_at L 1 rfl)) ?_
                obtain ⟨b91, rfl, hp105⟩ := hp104
                refine x_pq X (kJ31 hG) 4 (by decide) q1305 (fun _ h => h) rfl (some q83) (x_nar _ (by decide)) (x_fit _ (by decide)) dJ1_buildFromSorted_2_212 hp105 (fun σ92 hp106 => ?_)
                refine x_pc (pc' := 215) rfl ?_
                refine x_up (pc' := 217) (fun _ _ _ _ _ L => lv_aload hx hb dJ1_buildFromSorted_2_215 (lv_at L 1 rfl)) ?_
                exact x_aret X hr (Or.inl ⟨_, rfl⟩) dJ1_buildFromSorted_2_217 (some q83) hp106
            · have hp107 := hp99.2 _ rfl
              refine x_up (pc' := 159) (fun _ _ _ _ _ L => lv_ifnull hx hb dJ1_buildFromSorted_2_156) ?_
              refine x_up (pc' := 161) (fun _ _ _ _ _ L => lv_aload hx hb dJ1_buildFromSorted_2_159 (lv_at L 0 rfl)) ?_
              refine x_up (pc' := 163) (fun _ _ _ _ _ L => lv_aload hx hb dJ1_buildFromSorted_2_161 (lv_at L 3 rfl)) ?_
              refine x_pq X (kJ31 hG) 2 (by decide) q1302 (fun _ h => h) rfl (some b87) (x_nar _ (by decide)) (x_fit _ (by decide)) dJ1_buildFromSorted_2_163 hp107 (fun σ93 hp108 => ?_)
              refine x_pc (pc' := 166) rfl ?_
              refine x_up (pc' := 168) (fun _ _ _ _ _ L => lv_aload hx hb dJ1_buildFromSorted_2_166 (lv_at L 3 rfl)) ?_
              refine x_up (pc' := 170) (fun _ _ _ _ _ L => lv_aload hx hb dJ1_buildFromSorted_2_168 (lv_at L 0 rfl)) ?_
              refine x_pq X (kJ31 hG) 4 (by decide) q1305 (fun _ h => h) rfl (some q83) (x_nar _ (by decide)) (x_fit _ (by decide)) dJ1_buildFromSorted_2_170 hp108 (fun σ94 hp109 => ?_)
              refine x_pc (pc' := 173) rfl ?_
              refine x_up (pc' := 175) (fun _ _ _ _ _ L => lv_iload hx hb dJ1_buildFromSorted_2_173 (lv_at L 4 rfl)) ?_
              refine x_up (pc' := 176) (fun _ _ _ _ _ L => lv_iload_n hx hb dJ1_buildFromSorted_2_175 rfl (lv_at L 8 rfl)) ?_
              refine x_if (C := x3 ≤ (((x2 + x3).toUInt32 >>> ((1 : Int32).toUInt32 &&& Int32.toUInt32 31)).toInt32)) (pt := 215) (pc' := 179) (fun _ _ _ _ _ => lv_icmp_ge (tgt := 215) hx hb dJ1_buildFromSorted_2_176 (by decide)) (fun c176 => ?_) (fun c176 => ?_)
              · have hp110 := hp109.1 c176
                refine x_up (pc' := 217) (fun _ _ _ _ _ L => lv_aload hx hb dJ1_buildFromSorted_2_215 (lv_at L 0 rfl)) ?_
                exact x_aret X hr (Or.inl ⟨_, rfl⟩) dJ1_buildFromSorted_2_217 (some q83) hp110
              · have hp111 := hp109.2 c176
                refine x_up (pc' := 180) (fun _ _ _ _ _ L => lv_aload_n hx hb dJ1_buildFromSorted_2_179 rfl (lv_at L 5 rfl)) ?_
                refine x_up (pc' := 181) (fun _ _ _ _ _ L => lv_iload_n hx hb dJ1_buildFromSorted_2_180 rfl (lv_at L 6 rfl)) ?_
                refine x_up (pc' := 182) (fun _ _ _ _ _ L => lv_iconst (v := (1 : Int32)) hx hb dJ1_buildFromSorted_2_181 (by decide)) ?_
                refine x_up (pc' := 183) (fun _ _ _ _ _ L => lv_iadd hx hb dJ1_buildFromSorted_2_182) ?_
                refine x_up (pc' := 185) (fun _ _ _ _ _ L => lv_iload hx hb dJ1_buildFromSorted_2_183 (lv_at L 4 rfl)) ?_
                refine x_up (pc' := 186) (fun _ _ _ _ _ L => lv_iconst (v := (1 : Int32)) hx hb dJ1_buildFromSorted_2_185 (by decide)) ?_
                refine x_up (pc' := 187) (fun _ _ _ _ _ L => lv_iadd hx hb dJ1_buildFromSorted_2_186) ?_
                refine x_up (pc' := 188) (fun _ _ _ _ _ L => lv_iload_n hx hb dJ1_buildFromSorted_2_187 rfl (lv_at L 8 rfl)) ?_
                refine x_up (pc' := 190) (fun _ _ _ _ _ L => lv_iload hx hb dJ1_buildFromSorted_2_188 (lv_at L 9 rfl)) ?_
                refine x_up (pc' := 192) (fun _ _ _ _ _ L => lv_aload hx hb dJ1_buildFromSorted_2_190 (lv_at L 10 rfl)) ?_
                refine x_up (pc' := 194) (fun _ _ _ _ _ L => lv_aloadq hx hb dJ1_buildFromSorted_2_192 (lv_at L 11 rfl)) ?_
                refine x_up (pc' := 196) (fun _ _ _ _ _ L => lv_aload hx hb dJ1_buildFromSorted_2_194 (lv_at L 12 rfl)) ?_
                refine x_callV (em := emQ) (fun r st => va_rf r :: st) (fun _ _ => rfl) 7 X (kJ1 hG) (fun σ' KK h => ih a0 (x1 + (1 : Int32)) ((((x2 + x3).toUInt32 >>> ((1 : Int32).toUInt32 &&& Int32.toUInt32 31)).toInt32) + (1 : Int32)) x3 x4 (some b42) x6 (some b43) σ' KK h) (lw_V q761 q763 qs5 q102 q764) ⟨rfl, mdJ1_buildFromSorted_2⟩ ⟨(by show _ ≤ 4 + (n + 1); omega), (by show _ ≤ 83 + (n + 1) * 33; omega)⟩ rfl rfl (Nat.le_of_ble_eq_true rfl) dJ1_buildFromSorted_2_196 hp111.1 hp111.2 (fun v95 σ96 hp112 => ?_)
                refine x_pc (pc' := 199) rfl ?_
                refine x_upL (pc' := 201) (lo' := [(13, va_rf v95), (12, .ref q83), (11, .ref b43), (10, va_rf v81), (9, .ref b87), (8, .int (((x2 + x3).toUInt32 >>> ((1 : Int32).toUInt32 &&& Int32.toUInt32 31)).toInt32)), (0, .ref a0), (1, .int x1), (2, .int x2), (3, .int x3), (4, .int x4), (5, .ref b42), (6, va_rf x6), (7, .ref b43)]) (fun _ _ _ _ _ L => lv_astoreq hx hb dJ1_buildFromSorted_2_199 L (by decide) rfl) ?_
                refine x_up (pc' := 203) (fun _ _ _ _ _ L => lv_aload hx hb dJ1_buildFromSorted_2_201 (lv_at L 1 rfl)) ?_
                refine x_up (pc' := 205) (fun _ _ _ _ _ L => lv_aloadq hx hb dJ1_buildFromSorted_2_203 (lv_at L 0 rfl)) ?_
                refine x_pq X (kJ31 hG) 3 (by decide) q1303 (fun _ h => h) rfl v95 (x_nar _ (by decide)) (x_fit _ (by decide)) dJ1_buildFromSorted_2_205 hp112 (fun σ97 hp113 => ?_)
                refine x_pc (pc' := 208) rfl ?_
                refine x_up (pc' := 210) (fun _ _ _ _ _ L => lv_aloadq hx hb dJ1_buildFromSorted_2_208 (lv_at L 0 rfl)) ?_
                refine x_up (pc' := 212) (fun _ _ _ _ _ L => lv_aload hx hb dJ1_buildFromSorted_2_210 (lv_at L 1 rfl)) ?_
                obtain ⟨b98, rfl, hp114⟩ := hp113
                refine x_pq X (kJ31 hG) 4 (by decide) q1305 (fun _ h => h) rfl (some q83) (x_nar _ (by decide)) (x_fit _ (by decide)) dJ1_buildFromSorted_2_212 hp114 (fun σ99 hp115 => ?_)
                refine x_pc (pc' := 215) rfl ?_
                refine x_up (pc' := 217) (fun _ _ _ _ _ L => lv_aload hx hb dJ1_buildFromSorted_2_215 (lv_at L 1 rfl)) ?_
                exact x_aret X hr (Or.inl ⟨_, rfl⟩) dJ1_buildFromSorted_2_217 (some q83) hp115
          · have hp116 := hp97.2 c145
            refine x_up (pc' := 156) (fun _ _ _ _ _ L => lv_aloadq hx hb dJ1_buildFromSorted_2_154 (lv_at L 3 rfl)) ?_
            rcases v40 with _ | b100
            · have hp117 := hp116.1 rfl
              refine x_up (pc' := 173) (fun _ _ _ _ _ L => lv_ifnullN (tgt := 173) hx hb dJ1_buildFromSorted_2_156 (by decide)) ?_
              refine x_up (pc' := 175) (fun _ _ _ _ _ L => lv_iload hx hb dJ1_buildFromSorted_2_173 (lv_at L 4 rfl)) ?_
              refine x_up (pc' := 176) (fun _ _ _ _ _ L => lv_iload_n hx hb dJ1_buildFromSorted_2_175 rfl (lv_at L 8 rfl)) ?_
              refine x_if (C := x3 ≤ (((x2 + x3).toUInt32 >>> ((1 : Int32).toUInt32 &&& Int32.toUInt32 31)).toInt32)) (pt := 215) (pc' := 179) (fun _ _ _ _ _ => lv_icmp_ge (tgt := 215) hx hb dJ1_buildFromSorted_2_176 (by decide)) (fun c176 => ?_) (fun c176 => ?_)
              · have hp118 := hp117.1 c176
                refine x_up (pc' := 217) (fun _ _ _ _ _ L => lv_aload hx hb dJ1_buildFromSorted_2_215 (lv_at L 0 rfl)) ?_
                exact x_aret X hr (Or.inl ⟨_, rfl⟩) dJ1_buildFromSorted_2_217 (some q83) hp118
              · have hp119 := hp117.2 c176
                refine x_up (pc' := 180) (fun _ _ _ _ _ L => lv_aload_n hx hb dJ1_buildFromSorted_2_179 rfl (lv_at L 5 rfl)) ?_
                refine x_up (pc' := 181) (fun _ _ _ _ _ L => lv_iload_n hx hb dJ1_buildFromSorted_2_180 rfl (lv_at L 6 rfl)) ?_
                refine x_up (pc' := 182) (fun _ _ _ _ _ L => lv_iconst (v := (1 : Int32)) hx hb dJ1_buildFromSorted_2_181 (by decide)) ?_
                refine x_up (pc' := 183) (fun _ _ _ _ _ L => lv_iadd hx hb dJ1_buildFromSorted_2_182) ?_
                refine x_up (pc' := 185) (fun _ _ _ _ _ L => lv_iload hx hb dJ1_buildFromSorted_2_183 (lv_at L 4 rfl)) ?_
                refine x_up (pc' := 186) (fun _ _ _ _ _ L => lv_iconst (v := (1 : Int32)) hx hb dJ1_buildFromSorted_2_185 (by decide)) ?_
                refine x_up (pc' := 187) (fun _ _ _ _ _ L => lv_iadd hx hb dJ1_buildFromSorted_2_186) ?_
                refine x_up (pc' := 188) (fun _ _ _ _ _ L => lv_iload_n hx hb dJ1_buildFromSorted_2_187 rfl (lv_at L 8 rfl)) ?_
                refine x_up (pc' := 190) (fun _ _ _ _ _ L => lv_iload hx hb dJ1_buildFromSorted_2_188 (lv_at L 9 rfl)) ?_
                refine x_up (pc' := 192) (fun _ _ _ _ _ L => lv_aload hx hb dJ1_buildFromSorted_2_190 (lv_at L 10 rfl)) ?_
                refine x_up (pc' := 194) (fun _ _ _ _ _ L => lv_aloadq hx hb dJ1_buildFromSorted_2_192 (lv_at L 11 rfl)) ?_
                refine x_up (pc' := 196) (fun _ _ _ _ _ L => lv_aload hx hb dJ1_buildFromSorted_2_194 (lv_at L 12 rfl)) ?_
                refine x_callV (em := emQ) (fun r st => va_rf r :: st) (fun _ _ => rfl) 7 X (kJ1 hG) (fun σ' KK h => ih a0 (x1 + (1 : Int32)) ((((x2 + x3).toUInt32 >>> ((1 : Int32).toUInt32 &&& Int32.toUInt32 31)).toInt32) + (1 : Int32)) x3 x4 (some b42) x6 (some b43) σ' KK h) (lw_V q761 q763 qs5 q102 q764) ⟨rfl, mdJ1_buildFromSorted_2⟩ ⟨(by show _ ≤ 4 + (n + 1); omega), (by show _ ≤ 83 + (n + 1) * 33; omega)⟩ rfl rfl (Nat.le_of_ble_eq_true rfl) dJ1_buildFromSorted_2_196 hp119.1 hp119.2 (fun v101 σ102 hp120 => ?_)
                refine x_pc (pc' := 199) rfl ?_
                refine x_upL (pc' := 201) (lo' := [(13, va_rf v101), (12, .ref q83), (11, .ref b43), (10, va_rf v81), (9, .null), (8, .int (((x2 + x3).toUInt32 >>> ((1 : Int32).toUInt32 &&& Int32.toUInt32 31)).toInt32)), (0, .ref a0), (1, .int x1), (2, .int x2), (3, .int x3), (4, .int x4), (5, .ref b42), (6, va_rf x6), (7, .ref b43)]) (fun _ _ _ _ _ L => lv_astoreq hx hb dJ1_buildFromSorted_2_199 L (by decide) rfl) ?_
                refine x_up (pc' := 203) (fun _ _ _ _ _ L => lv_aload hx hb dJ1_buildFromSorted_2_201 (lv_at L 1 rfl)) ?_
                refine x_up (pc' := 205) (fun _ _ _ _ _ L => lv_aloadq hx hb dJ1_buildFromSorted_2_203 (lv_at L 0 rfl)) ?_
                refine x_pq X (kJ31 hG) 3 (by decide) q1303 (fun _ h => h) rfl v101 (x_nar _ (by decide)) (x_fit _ (by decide)) dJ1_buildFromSorted_2_205 hp120 (fun σ103 hp121 => ?_)
                refine x_pc (pc' := 208) rfl ?_
                refine x_up (pc' := 210) (fun _ _ _ _ _ L => lv_aloadq hx hb dJ1_buildFromSorted_2_208 (lv_at L 0 rfl)) ?_
                refine x_up (pc' := 212) (fun _ _ _ _ _ L => lv_aload hx hb dJ1_buildFromSorted_2_210 (lv_at L 1 rfl)) ?_
                obtain ⟨b104, rfl, hp122⟩ := hp121
                refine x_pq X (kJ31 hG) 4 (by decide) q1305 (fun _ h => h) rfl (some q83) (x_nar _ (by decide)) (x_fit _ (by decide)) dJ1_buildFromSorted_2_212 hp122 (fun σ105 hp123 => ?_)
                refine x_pc (pc' := 215) rfl ?_
                refine x_up (pc' := 217) (fun _ _ _ _ _ L => lv_aload hx hb dJ1_buildFromSorted_2_215 (lv_at L 1 rfl)) ?_
                exact x_aret X hr (Or.inl ⟨_, rfl⟩) dJ1_buildFromSorted_2_217 (some q83) hp123
            · have hp124 := hp116.2 _ rfl
              refine x_up (pc' := 159) (fun _ _ _ _ _ L => lv_ifnull hx hb dJ1_buildFromSorted_2_156) ?_
              refine x_up (pc' := 161) (fun _ _ _ _ _ L => lv_aload hx hb dJ1_buildFromSorted_2_159 (lv_at L 0 rfl)) ?_
              refine x_up (pc' := 163) (fun _ _ _ _ _ L => lv_aload hx hb dJ1_buildFromSorted_2_161 (lv_at L 3 rfl)) ?_
              refine x_pq X (kJ31 hG) 2 (by decide) q1302 (fun _ h => h) rfl (some b100) (x_nar _ (by decide)) (x_fit _ (by decide)) dJ1_buildFromSorted_2_163 hp124 (fun σ106 hp125 => ?_)
              refine x_pc (pc' := 166) rfl ?_
              refine x_up (pc' := 168) (fun _ _ _ _ _ L => lv_aload hx hb dJ1_buildFromSorted_2_166 (lv_at L 3 rfl)) ?_
              refine x_up (pc' := 170) (fun _ _ _ _ _ L => lv_aload hx hb dJ1_buildFromSorted_2_168 (lv_at L 0 rfl)) ?_
              refine x_pq X (kJ31 hG) 4 (by decide) q1305 (fun _ h => h) rfl (some q83) (x_nar _ (by decide)) (x_fit _ (by decide)) dJ1_buildFromSorted_2_170 hp125 (fun σ107 hp126 => ?_)
              refine x_pc (pc' := 173) rfl ?_
              refine x_up (pc' := 175) (fun _ _ _ _ _ L => lv_iload hx hb dJ1_buildFromSorted_2_173 (lv_at L 4 rfl)) ?_
              refine x_up (pc' := 176) (fun _ _ _ _ _ L => lv_iload_n hx hb dJ1_buildFromSorted_2_175 rfl (lv_at L 8 rfl)) ?_
              refine x_if (C := x3 ≤ (((x2 + x3).toUInt32 >>> ((1 : Int32).toUInt32 &&& Int32.toUInt32 31)).toInt32)) (pt := 215) (pc' := 179) (fun _ _ _ _ _ => lv_icmp_ge (tgt := 215) hx hb dJ1_buildFromSorted_2_176 (by decide)) (fun c176 => ?_) (fun c176 => ?_)
              · have hp127 := hp126.1 c176
                refine x_up (pc' := 217) (fun _ _ _ _ _ L => lv_aload hx hb dJ1_buildFromSorted_2_215 (lv_at L 0 rfl)) ?_
                exact x_aret X hr (Or.inl ⟨_, rfl⟩) dJ1_buildFromSorted_2_217 (some q83) hp127
              · have hp128 := hp126.2 c176
                refine x_up (pc' := 180) (fun _ _ _ _ _ L => lv_aload_n hx hb dJ1_buildFromSorted_2_179 rfl (lv_at L 5 rfl)) ?_
                refine x_up (pc' := 181) (fun _ _ _ _ _ L => lv_iload_n hx hb dJ1_buildFromSorted_2_180 rfl (lv_at L 6 rfl)) ?_
                refine x_up (pc' := 182) (fun _ _ _ _ _ L => lv_iconst (v := (1 : Int32)) hx hb dJ1_buildFromSorted_2_181 (by decide)) ?_
                refine x_up (pc' := 183) (fun _ _ _ _ _ L => lv_iadd hx hb dJ1_buildFromSorted_2_182) ?_
                refine x_up (pc' := 185) (fun _ _ _ _ _ L => lv_iload hx hb dJ1_buildFromSorted_2_183 (lv_at L 4 rfl)) ?_
                refine x_up (pc' := 186) (fun _ _ _ _ _ L => lv_iconst (v := (1 : Int32)) hx hb dJ1_buildFromSorted_2_185 (by decide)) ?_
                refine x_up (pc' := 187) (fun _ _ _ _ _ L => lv_iadd hx hb dJ1_buildFromSorted_2_186) ?_
                refine x_up (pc' := 188) (fun _ _ _ _ _ L => lv_iload_n hx hb dJ1_buildFromSorted_2_187 rfl (lv_at L 8 rfl)) ?_
                refine x_up (pc' := 190) (fun _ _ _ _ _ L => lv_iload hx hb dJ1_buildFromSorted_2_188 (lv_at L 9 rfl)) ?_
                refine x_up (pc' := 192) (fun _ _ _ _ _ L => lv_aload hx hb dJ1_buildFromSorted_2_190 (lv_at L 10 rfl)) ?_
                refine x_up (pc' := 194) (fun _ _ _ _ _ L => lv_aloadq hx hb dJ1_buildFromSorted_2_192 (lv_at L 11 rfl)) ?_
                refine x_up (pc' := 196) (fun _ _ _ _ _ L => lv_aload hx hb dJ1_buildFromSorted_2_194 (lv_at L 12 rfl)) ?_
                refine x_callV (em := emQ) (fun r st => va_rf r :: st) (fun _ _ => rfl) 7 X (kJ1 hG) (fun σ' KK h => ih a0 (x1 + (1 : Int32)) ((((x2 + x3).toUInt32 >>> ((1 : Int32).toUInt32 &&& Int32.toUInt32 31)).toInt32) + (1 : Int32)) x3 x4 (some b42) x6 (some b43) σ' KK h) (lw_V q761 q763 qs5 q102 q764) ⟨rfl, mdJ1_buildFromSorted_2⟩ ⟨(by show _ ≤ 4 + (n + 1); omega), (by show _ ≤ 83 + (n + 1) * 33; omega)⟩ rfl rfl (Nat.le_of_ble_eq_true rfl) dJ1_buildFromSorted_2_196 hp128.1 hp128.2 (fun v108 σ109 hp129 => ?_)
                refine x_pc (pc' := 199) rfl ?_
                refine x_upL (pc' := 201) (lo' := [(13, va_rf v108), (12, .ref q83), (11, .ref b43), (10, va_rf v81), (9, .ref b100), (8, .int (((x2 + x3).toUInt32 >>> ((1 : Int32).toUInt32 &&& Int32.toUInt32 31)).toInt32)), (0, .ref a0), (1, .int x1), (2, .int x2), (3, .int x3), (4, .int x4), (5, .ref b42), (6, va_rf x6), (7, .ref b43)]) (fun _ _ _ _ _ L => lv_astoreq hx hb dJ1_buildFromSorted_2_199 L (by decide) rfl) ?_
                refine x_up (pc' := 203) (fun _ _ _ _ _ L => lv_aload hx hb dJ1_buildFromSorted_2_201 (lv_at L 1 rfl)) ?_
                refine x_up (pc' := 205) (fun _ _ _ _ _ L => lv_aloadq hx hb dJ1_buildFromSorted_2_203 (lv_at L 0 rfl)) ?_
                refine x_pq X (kJ31 hG) 3 (by decide) q1303 (fun _ h => h) rfl v108 (x_nar _ (by decide)) (x_fit _ (by decide)) dJ1_buildFromSorted_2_205 hp129 (fun σ110 hp130 => ?_)
                refine x_pc (pc' := 208) rfl ?_
                refine x_up (pc' := 210) (fun _ _ _ _ _ L => lv_aloadq hx hb dJ1_buildFromSorted_2_208 (lv_at L 0 rfl)) ?_
                refine x_up (pc' := 212) (fun _ _ _ _ _ L => lv_aload hx hb dJ1_buildFromSorted_2_210 (lv_at L 1 rfl)) ?_
                obtain ⟨b111, rfl, hp131⟩ := hp130
                refine x_pq X (kJ31 hG) 4 (by decide) q1305 (fun _ h => h) rfl (some q83) (x_nar _ (by decide)) (x_fit _ (by decide)) dJ1_buildFromSorted_2_212 hp131 (fun σ112 hp132 => ?_)
                refine x_pc (pc' := 215) rfl ?_
                refine x_up (pc' := 217) (fun _ _ _ _ _ L => lv_aload hx hb dJ1_buildFromSorted_2_215 (lv_at L 1 rfl)) ?_
                exact x_aret X hr (Or.inl ⟨_, rfl⟩) dJ1_buildFromSorted_2_217 (some q83) hp132
  · have hp133 := hp.2 c2
    refine x_up (pc' := 6) (fun _ _ _ _ _ L => lv_null hx hb dJ1_buildFromSorted_2_5) ?_
    exact x_aret X hr (Or.inl ⟨_, rfl⟩) dJ1_buildFromSorted_2_6 none hp133
-- J1_buildFromSorted
def P_J1_buildFromSorted (κ : Nat → Nat) (a0 : Nat) (x1 : Int32) (x2 : Option Nat) (x3 : Option Nat) (x4 : Option Nat) (σ : xS) (K : Unit → xH → Prop) : Prop :=
  xpi κ σ a0 2 4 x1 fun σ1 => xcall (fun τ L => P_J1_computeRedLevel κ x1 τ L) σ1 fun v2 σ3 => xrc σ3 a0 2 ∧ xcall (fun τ L => P_J1_buildFromSorted_2 κ 8 a0 (0 : Int32) (0 : Int32) (x1 - (1 : Int32)) v2 x2 x3 x4 τ L) σ3 fun v4 σ5 => xpq κ σ5 a0 2 3 v4 fun σ6 => K () σ6.1
theorem mdJ1_buildFromSorted : yJ1_buildFromSorted.cls ≠ "java/lang/invoke/MethodHandle" ∧ yJ1_buildFromSorted.cls ≠ "java/lang/invoke/VarHandle" ∧ (parseMethodDescriptor yJ1_buildFromSorted.desc).map (fun d => d.parameters.length) = some 4 := by decide +kernel
set_option maxHeartbeats 4000000 in
set_option maxRecDepth 100000 in
theorem R_J1_buildFromSorted (l : Launch) (hl : l.stackTraces = false) (G : xG) (hG : G.1.2 = x_cl) (a0 : Nat) (x1 : Int32) (x2 : Option Nat) (x3 : Option Nat) (x4 : Option Nat) (σ : xS) (K : Unit → xH → Prop) (hp : P_J1_buildFromSorted G.2 a0 x1 x2 x3 x4 σ K) : xM l yJ1_buildFromSorted cJ1_buildFromSorted 5 (Option.none : Option Jvm.ClassFile.FieldType) 13 380 G [(.ref a0), .int x1, va_rf x2, va_rf x3, va_rf x4] σ (xlift emV K) := by
  refine x_entry (by decide) (by simp [lg_sl, x_catq, x_cati, x_catr, x_catn]) ?_
  intro p e s m args below meth c X hr hin
  have X : xX p s m args meth c G cJ1_buildFromSorted 5 RJ1 := X
  have hx := X.1
  have hb := X.2.1
  have hts := X.2.2.2.2.1
  have hown := X.2.2.2.1
  unfold P_J1_buildFromSorted at hp
  refine x_same (lo' := [(0, .ref a0), (1, .int x1), (2, va_rf x2), (3, va_rf x3), (4, va_rf x4)]) (by simp [lv_args, x_catq, x_cati, x_catr, x_catn]) ?_
  refine x_up (pc' := 1) (fun _ _ _ _ _ L => lv_aload_n hx hb dJ1_buildFromSorted_0 rfl (lv_at L 0 rfl)) ?_
  refine x_up (pc' := 2) (fun _ _ _ _ _ L => lv_iload_n hx hb dJ1_buildFromSorted_1 rfl (lv_at L 1 rfl)) ?_
  refine x_pi X (kJ1 hG) 4 (by decide) q189 (fun _ h => h) rfl rfl rfl dJ1_buildFromSorted_2 hp (fun σ1 hp1 => ?_)
  refine x_pc (pc' := 5) rfl ?_
  refine x_up (pc' := 6) (fun _ _ _ _ _ L => lv_aload_n hx hb dJ1_buildFromSorted_5 rfl (lv_at L 0 rfl)) ?_
  refine x_up (pc' := 7) (fun _ _ _ _ _ L => lv_aload_n hx hb dJ1_buildFromSorted_6 rfl (lv_at L 0 rfl)) ?_
  refine x_up (pc' := 8) (fun _ _ _ _ _ L => lv_iconst (v := (0 : Int32)) hx hb dJ1_buildFromSorted_7 (by decide)) ?_
  refine x_up (pc' := 9) (fun _ _ _ _ _ L => lv_iconst (v := (0 : Int32)) hx hb dJ1_buildFromSorted_8 (by decide)) ?_
  refine x_up (pc' := 10) (fun _ _ _ _ _ L => lv_iload_n hx hb dJ1_buildFromSorted_9 rfl (lv_at L 1 rfl)) ?_
  refine x_up (pc' := 11) (fun _ _ _ _ _ L => lv_iconst (v := (1 : Int32)) hx hb dJ1_buildFromSorted_10 (by decide)) ?_
  refine x_up (pc' := 12) (fun _ _ _ _ _ L => lv_isub hx hb dJ1_buildFromSorted_11) ?_
  refine x_up (pc' := 13) (fun _ _ _ _ _ L => lv_iload_n hx hb dJ1_buildFromSorted_12 rfl (lv_at L 1 rfl)) ?_
  refine x_callS (em := emI) (fun r st => .int r :: st) (fun _ _ => rfl) 1 X (fun σ' KK h => R_J1_computeRedLevel l hl G hG x1 σ' KK h) (lw_S q754 q755 q102 q756) mdJ1_computeRedLevel ⟨Nat.le_of_ble_eq_true rfl, Nat.le_of_ble_eq_true rfl⟩ rfl rfl (Nat.le_of_ble_eq_true rfl) dJ1_buildFromSorted_13 hp1 (fun v2 σ3 hp2 => ?_)
  refine x_pc (pc' := 16) rfl ?_
  refine x_up (pc' := 17) (fun _ _ _ _ _ L => lv_aloadq_n hx hb dJ1_buildFromSorted_16 rfl (lv_at L 2 rfl)) ?_
  refine x_up (pc' := 18) (fun _ _ _ _ _ L => lv_aloadq_n hx hb dJ1_buildFromSorted_17 rfl (lv_at L 3 rfl)) ?_
  refine x_up (pc' := 20) (fun _ _ _ _ _ L => lv_aloadq hx hb dJ1_buildFromSorted_18 (lv_at L 4 rfl)) ?_
  refine x_callV (em := emQ) (fun r st => va_rf r :: st) (fun _ _ => rfl) 7 X (kJ1 hG) (fun σ' KK h => R_J1_buildFromSorted_2 l hl G hG 8 a0 (0 : Int32) (0 : Int32) (x1 - (1 : Int32)) v2 x2 x3 x4 σ' KK h) (lw_V q761 q763 qs5 q102 q764) ⟨rfl, mdJ1_buildFromSorted_2⟩ ⟨Nat.le_of_ble_eq_true rfl, Nat.le_of_ble_eq_true rfl⟩ rfl rfl (Nat.le_of_ble_eq_true rfl) dJ1_buildFromSorted_20 hp2.1 hp2.2 (fun v4 σ5 hp3 => ?_)
  refine x_pc (pc' := 23) rfl ?_
  refine x_pq X (kJ1 hG) 3 (by decide) q188 (fun _ h => h) rfl v4 (x_nar _ (by decide)) (x_fit _ (by decide)) dJ1_buildFromSorted_23 hp3 (fun σ6 hp4 => ?_)
  refine x_pc (pc' := 26) rfl ?_
  exact x_vret X hr dJ1_buildFromSorted_26 hp4
-- J1_putAll
def P_J1_putAll (κ : Nat → Nat) (a0 : Nat) (x1 : Option Nat) (σ : xS) (K : Unit → xH → Prop) (KX : Nat → xH → Prop) : Prop :=
  xnn x1 fun b1 => xrc σ b1 2 ∧ xcall (fun τ L => P_J1_size κ b1 τ L) σ fun v2 σ3 => xgi σ3 a0 2 4 fun v4 => ((v4 = 0 → (((v2 = 0 → (xrc σ3 a0 2 ∧ xcall (fun τ L => P_J0_putAll κ a0 (some b1) τ L) σ3 fun _ σ5 => K () σ5.1)) ∧ (¬ v2 = 0 → (xrc σ3 b1 2 ∧ (((1 : Int32) = 0 → (xrc σ3 a0 2 ∧ xcall (fun τ L => P_J0_putAll κ a0 (some b1) τ L) σ3 fun _ σ6 => K () σ6.1)) ∧ (¬ (1 : Int32) = 0 → (xgq σ3 a0 2 2 fun v7 => xrc σ3 b1 2 ∧ xrc σ3 b1 2 ∧ xcall (fun τ L => P_J1_comparator κ b1 τ L) σ3 fun v8 σ9 => xcall (fun τ L => P_J16_equals κ v7 v8 τ L) σ9 fun v10 σ11 => ((v10 = 0 → (xrc σ11 a0 2 ∧ xcall (fun τ L => P_J0_putAll κ a0 (some b1) τ L) σ11 fun _ σ12 => K () σ12.1)) ∧ (¬ v10 = 0 → (xgi σ11 a0 2 5 fun v13 => xpi κ σ11 a0 2 5 (v13 + (1 : Int32)) fun σ14 => xrc σ14 b1 2 ∧ xcall (fun τ L => P_J1_entrySet κ b1 τ L) σ14 fun v15 σ16 => xnn v15 fun b17 => xrc σ16 b17 12 ∧ xcall (fun τ L => P_J19_iterator κ b17 τ L) σ16 fun v18 σ19 => xrc σ19 a0 2 ∧ xcall (fun τ L => P_J1_buildFromSorted κ a0 v2 v18 none none τ L) σ19 fun _ σ20 => K () σ20.1))))))))))) ∧ (¬ v4 = 0 → (xrc σ3 a0 2 ∧ xcall (fun τ L => P_J0_putAll κ a0 (some b1) τ L) σ3 fun _ σ21 => K () σ21.1)))
theorem mdJ1_putAll : yJ1_putAll.cls ≠ "java/lang/invoke/MethodHandle" ∧ yJ1_putAll.cls ≠ "java/lang/invoke/VarHandle" ∧ (parseMethodDescriptor yJ1_putAll.desc).map (fun d => d.parameters.length) = some 1 := by decide +kernel
set_option maxHeartbeats 4000000 in
set_option maxRecDepth 100000 in
theorem R_J1_putAll (l : Launch) (hl : l.stackTraces = false) (G : xG) (hG : G.1.2 = x_cl) (a0 : Nat) (x1 : Option Nat) (σ : xS) (K : Unit → xH → Prop) (KX : Nat → xH → Prop) (hp : P_J1_putAll G.2 a0 x1 σ K KX) : xMH l yJ1_putAll cJ1_putAll 4 (Option.none : Option Jvm.ClassFile.FieldType) [(54, 72, 75, 46), (54, 72, 75, 48)] 14 404 G [(.ref a0), va_rf x1] σ (xlift emV K) KX := by
  refine x_entryH (by decide) (by simp [lg_sl, x_catq, x_cati, x_catr, x_catn]) ?_
  intro p e s m args below meth c X hr hin hE
  have X : xX p s m args meth c G cJ1_putAll 4 RJ1 := X
  have hx := X.1
  have hb := X.2.1
  have hts := X.2.2.2.2.1
  have hown := X.2.2.2.1
  unfold P_J1_putAll at hp
  refine x_same (lo' := [(0, .ref a0), (1, va_rf x1)]) (by simp [lv_args, x_catq, x_cati, x_catr, x_catn]) ?_
  refine x_up (pc' := 1) (fun _ _ _ _ _ L => lv_aloadq_n hx hb dJ1_putAll_0 rfl (lv_at L 1 rfl)) ?_
  obtain ⟨b1, rfl, hp1⟩ := hp
  refine x_callF (x := ⟨"java/util/Map", "size", "()I"⟩) (em := emI) (fun r st => .int r :: st) (fun _ _ => rfl) 0 X (kJ1 hG) (fun σ' KK h => R_J1_size l hl G hG b1 σ' KK h) q624 q628 q630 q102 q632 ⟨⟨q626, q625, q631, q629, q627⟩, by decide, by decide⟩ (by decide +kernel) ⟨Nat.le_of_ble_eq_true rfl, Nat.le_of_ble_eq_true rfl⟩ rfl rfl (Nat.le_of_ble_eq_true rfl) dJ1_putAll_1 hp1.1 hp1.2 (fun v2 σ3 hp2 => ?_)
  refine x_pc (pc' := 6) rfl ?_
  refine x_upL (pc' := 7) (lo' := [(2, .int v2), (0, .ref a0), (1, .ref b1)]) (fun _ _ _ _ _ L => lv_istore_n hx hb dJ1_putAll_6 rfl L (by decide) rfl) ?_
  refine x_up (pc' := 8) (fun _ _ _ _ _ L => lv_aload_n hx hb dJ1_putAll_7 rfl (lv_at L 1 rfl)) ?_
  refine x_gi X (kJ1 hG) 4 (by decide) q189 (fun _ h => h) dJ1_putAll_8 hp2 (fun v4 hp3 => ?_)
  refine x_pc (pc' := 11) rfl ?_
  refine x_ifn (C := v4 = 0) (pt := 77) (pc' := 14) (fun _ _ _ _ _ => lv_if_ne (tgt := 77) hx hb dJ1_putAll_11 (by decide)) (fun c11 => ?_) (fun c11 => ?_)
  · have hp4 := hp3.1 c11
    refine x_up (pc' := 15) (fun _ _ _ _ _ L => lv_iload_n hx hb dJ1_putAll_14 rfl (lv_at L 0 rfl)) ?_
    refine x_if (C := v2 = 0) (pt := 77) (pc' := 18) (fun _ _ _ _ _ => lv_if_eq (tgt := 77) hx hb dJ1_putAll_15 (by decide)) (fun c15 => ?_) (fun c15 => ?_)
    · have hp5 := hp4.1 c15
      refine x_up (pc' := 78) (fun _ _ _ _ _ L => lv_aload_n hx hb dJ1_putAll_77 rfl (lv_at L 1 rfl)) ?_
      refine x_up (pc' := 79) (fun _ _ _ _ _ L => lv_aload_n hx hb dJ1_putAll_78 rfl (lv_at L 2 rfl)) ?_
      refine x_callSU (em := emV) (fun r st => st) (fun _ _ => rfl) 1 X (kJ1 hG) (fun σ' KK h => R_J0_putAll l hl G hG a0 (some b1) σ' KK h) q1321 q3684 q211 q1322 q101 q1323 (by decide +kernel) ⟨Nat.le_of_ble_eq_true rfl, Nat.le_of_ble_eq_true rfl⟩ rfl rfl (Nat.le_of_ble_eq_true rfl) dJ1_putAll_79 hp5.1 hp5.2 (fun _ σ5 hp6 => ?_)
      refine x_pc (pc' := 82) rfl ?_
      refine x_vx ?_; exact x_vret X hr dJ1_putAll_82 hp6
    · have hp7 := hp4.2 c15
      refine x_up (pc' := 19) (fun _ _ _ _ _ L => lv_aload_n hx hb dJ1_putAll_18 rfl (lv_at L 2 rfl)) ?_
      refine x_instY X (kJ1 hG) q633 q638 hp7.1 dJ1_putAll_19 ?_
      have hp8 := hp7.2
      refine x_pc (pc' := 22) rfl ?_
      refine x_if (C := (1 : Int32) = 0) (pt := 77) (pc' := 25) (fun _ _ _ _ _ => lv_if_eq (tgt := 77) hx hb dJ1_putAll_22 (by decide)) (fun c22 => ?_) (fun c22 => ?_)
      · have hp9 := hp8.1 c22
        refine x_up (pc' := 78) (fun _ _ _ _ _ L => lv_aload_n hx hb dJ1_putAll_77 rfl (lv_at L 1 rfl)) ?_
        refine x_up (pc' := 79) (fun _ _ _ _ _ L => lv_aload_n hx hb dJ1_putAll_78 rfl (lv_at L 2 rfl)) ?_
        refine x_callSU (em := emV) (fun r st => st) (fun _ _ => rfl) 1 X (kJ1 hG) (fun σ' KK h => R_J0_putAll l hl G hG a0 (some b1) σ' KK h) q1321 q3684 q211 q1322 q101 q1323 (by decide +kernel) ⟨Nat.le_of_ble_eq_true rfl, Nat.le_of_ble_eq_true rfl⟩ rfl rfl (Nat.le_of_ble_eq_true rfl) dJ1_putAll_79 hp9.1 hp9.2 (fun _ σ6 hp10 => ?_)
        refine x_pc (pc' := 82) rfl ?_
        refine x_vx ?_; exact x_vret X hr dJ1_putAll_82 hp10
      · have hp11 := hp8.2 c22
        refine x_up (pc' := 26) (fun _ _ _ _ _ L => lv_aload_n hx hb dJ1_putAll_25 rfl (lv_at L 1 rfl)) ?_
        refine x_gq X (kJ1 hG) 2 (by decide) q187 (fun _ h => h) dJ1_putAll_26 hp11 (fun v7 hp12 => ?_)
        refine x_pc (pc' := 29) rfl ?_
        refine x_up (pc' := 30) (fun _ _ _ _ _ L => lv_aload_n hx hb dJ1_putAll_29 rfl (lv_at L 2 rfl)) ?_
        refine x_castY X (kJ1 hG) q633 q638 hp12.1 dJ1_putAll_30 ?_
        have hp13 := hp12.2
        refine x_pc (pc' := 33) rfl ?_
        refine x_callF (x := ⟨"java/util/SortedMap", "comparator", "()Ljava/util/Comparator;"⟩) (em := emQ) (fun r st => va_rf r :: st) (fun _ _ => rfl) 0 X (kJ1 hG) (fun σ' KK h => R_J1_comparator l hl G hG b1 σ' KK h) q635 q639 q641 q102 q643 ⟨⟨q637, q636, q642, q640, q638⟩, by decide, by decide⟩ (by decide +kernel) ⟨Nat.le_of_ble_eq_true rfl, Nat.le_of_ble_eq_true rfl⟩ rfl rfl (by simp only [List.map_cons, List.map_nil, List.sum_cons, List.sum_nil, x_catq, x_cati, x_catr, x_catn] <;> decide) dJ1_putAll_33 hp13.1 hp13.2 (fun v8 σ9 hp14 => ?_)
        refine x_pc (pc' := 38) rfl ?_
        refine x_callS (em := emI) (fun r st => .int r :: st) (fun _ _ => rfl) 2 X (fun σ' KK h => R_J16_equals l hl G hG v7 v8 σ' KK h) (lw_S q644 q645 q121 q646) mdJ16_equals ⟨Nat.le_of_ble_eq_true rfl, Nat.le_of_ble_eq_true rfl⟩ rfl rfl (Nat.le_of_ble_eq_true rfl) dJ1_putAll_38 hp14 (fun v10 σ11 hp15 => ?_)
        refine x_pc (pc' := 41) rfl ?_
        refine x_if (C := v10 = 0) (pt := 77) (pc' := 44) (fun _ _ _ _ _ => lv_if_eq (tgt := 77) hx hb dJ1_putAll_41 (by decide)) (fun c41 => ?_) (fun c41 => ?_)
        · have hp16 := hp15.1 c41
          refine x_up (pc' := 78) (fun _ _ _ _ _ L => lv_aload_n hx hb dJ1_putAll_77 rfl (lv_at L 1 rfl)) ?_
          refine x_up (pc' := 79) (fun _ _ _ _ _ L => lv_aload_n hx hb dJ1_putAll_78 rfl (lv_at L 2 rfl)) ?_
          refine x_callSU (em := emV) (fun r st => st) (fun _ _ => rfl) 1 X (kJ1 hG) (fun σ' KK h => R_J0_putAll l hl G hG a0 (some b1) σ' KK h) q1321 q3684 q211 q1322 q101 q1323 (by decide +kernel) ⟨Nat.le_of_ble_eq_true rfl, Nat.le_of_ble_eq_true rfl⟩ rfl rfl (Nat.le_of_ble_eq_true rfl) dJ1_putAll_79 hp16.1 hp16.2 (fun _ σ12 hp17 => ?_)
          refine x_pc (pc' := 82) rfl ?_
          refine x_vx ?_; exact x_vret X hr dJ1_putAll_82 hp17
        · have hp18 := hp15.2 c41
          refine x_up (pc' := 45) (fun _ _ _ _ _ L => lv_aload_n hx hb dJ1_putAll_44 rfl (lv_at L 1 rfl)) ?_
          refine x_up (pc' := 46) (fun _ _ _ _ _ L => lv_dup hx hb dJ1_putAll_45 rfl) ?_
          refine x_gi X (kJ1 hG) 5 (by decide) q190 (fun _ h => h) dJ1_putAll_46 hp18 (fun v13 hp19 => ?_)
          refine x_pc (pc' := 49) rfl ?_
          refine x_up (pc' := 50) (fun _ _ _ _ _ L => lv_iconst (v := (1 : Int32)) hx hb dJ1_putAll_49 (by decide)) ?_
          refine x_up (pc' := 51) (fun _ _ _ _ _ L => lv_iadd hx hb dJ1_putAll_50) ?_
          refine x_pi X (kJ1 hG) 5 (by decide) q190 (fun _ h => h) rfl rfl rfl dJ1_putAll_51 hp19 (fun σ14 hp20 => ?_)
          refine x_pc (pc' := 54) rfl ?_
          refine x_up (pc' := 55) (fun _ _ _ _ _ L => lv_aload_n hx hb dJ1_putAll_54 rfl (lv_at L 1 rfl)) ?_
          refine x_up (pc' := 56) (fun _ _ _ _ _ L => lv_iload_n hx hb dJ1_putAll_55 rfl (lv_at L 0 rfl)) ?_
          refine x_up (pc' := 57) (fun _ _ _ _ _ L => lv_aload_n hx hb dJ1_putAll_56 rfl (lv_at L 2 rfl)) ?_
          refine x_callF (x := ⟨"java/util/Map", "entrySet", "()Ljava/util/Set;"⟩) (em := emQ) (fun r st => va_rf r :: st) (fun _ _ => rfl) 0 X (kJ1 hG) (fun σ' KK h => R_J1_entrySet l hl G hG b1 σ' KK h) q693 q696 q698 q102 q700 ⟨⟨q695, q694, q699, q697, q627⟩, by decide, by decide⟩ (by decide +kernel) ⟨Nat.le_of_ble_eq_true rfl, Nat.le_of_ble_eq_true rfl⟩ rfl rfl (Nat.le_of_ble_eq_true rfl) dJ1_putAll_57 hp20.1 hp20.2 (fun v15 σ16 hp21 => ?_)
          refine x_pc (pc' := 62) rfl ?_
          obtain ⟨b17, rfl, hp22⟩ := hp21
          refine x_callF (x := ⟨"java/util/Set", "iterator", "()Ljava/util/Iterator;"⟩) (em := emQ) (fun r st => va_rf r :: st) (fun _ _ => rfl) 0 X (kJ19 hG) (fun σ' KK h => R_J19_iterator l hl G hG b17 σ' KK h) q715 q719 q721 q124 q723 ⟨⟨q717, q716, q722, q720, q718⟩, by decide, by decide⟩ (by decide +kernel) ⟨Nat.le_of_ble_eq_true rfl, Nat.le_of_ble_eq_true rfl⟩ rfl rfl (Nat.le_of_ble_eq_true rfl) dJ1_putAll_62 hp22.1 hp22.2 (fun v18 σ19 hp23 => ?_)
          refine x_pc (pc' := 67) rfl ?_
          refine x_up (pc' := 68) (fun _ _ _ _ _ L => lv_null hx hb dJ1_putAll_67) ?_
          refine x_up (pc' := 69) (fun _ _ _ _ _ L => lv_null hx hb dJ1_putAll_68) ?_
          refine x_callV (em := emV) (fun r st => st) (fun _ _ => rfl) 4 X (kJ1 hG) (fun σ' KK h => R_J1_buildFromSorted l hl G hG a0 v2 v18 none none σ' KK h) (lw_V q750 q752 qs4 q102 q753) ⟨rfl, mdJ1_buildFromSorted⟩ ⟨Nat.le_of_ble_eq_true rfl, Nat.le_of_ble_eq_true rfl⟩ rfl rfl (Nat.le_of_ble_eq_true rfl) dJ1_putAll_69 hp23.1 hp23.2 (fun _ σ20 hp24 => ?_)
          refine x_pc (pc' := 72) rfl ?_
          refine x_up (pc' := 76) (fun _ _ _ _ _ L => lv_goto (tgt := 76) hx hb dJ1_putAll_72 (by decide)) ?_
          refine x_vx ?_; exact x_vret X hr dJ1_putAll_76 hp24
  · have hp25 := hp3.2 c11
    refine x_up (pc' := 78) (fun _ _ _ _ _ L => lv_aload_n hx hb dJ1_putAll_77 rfl (lv_at L 1 rfl)) ?_
    refine x_up (pc' := 79) (fun _ _ _ _ _ L => lv_aload_n hx hb dJ1_putAll_78 rfl (lv_at L 2 rfl)) ?_
    refine x_callSU (em := emV) (fun r st => st) (fun _ _ => rfl) 1 X (kJ1 hG) (fun σ' KK h => R_J0_putAll l hl G hG a0 (some b1) σ' KK h) q1321 q3684 q211 q1322 q101 q1323 (by decide +kernel) ⟨Nat.le_of_ble_eq_true rfl, Nat.le_of_ble_eq_true rfl⟩ rfl rfl (Nat.le_of_ble_eq_true rfl) dJ1_putAll_79 hp25.1 hp25.2 (fun _ σ21 hp26 => ?_)
    refine x_pc (pc' := 82) rfl ?_
    refine x_vx ?_; exact x_vret X hr dJ1_putAll_82 hp26
-- J35_init
def P_J35_init (κ : Nat → Nat) (a0 : Nat) (x1 : Option Nat) (σ : xS) (K : Unit → xH → Prop) : Prop :=
  xpq κ σ a0 21 3 x1 fun σ1 => xpi κ σ1 a0 21 1 (-1 : Int32) fun σ2 => xgq σ2 a0 21 3 fun v3 => xnn v3 fun b4 => xgi σ2 b4 3 0 fun v5 => xpi κ σ2 a0 21 2 v5 fun σ6 => K () σ6.1
theorem mdJ35_init : yJ35_init.cls ≠ "java/lang/invoke/MethodHandle" ∧ yJ35_init.cls ≠ "java/lang/invoke/VarHandle" ∧ (parseMethodDescriptor yJ35_init.desc).map (fun d => d.parameters.length) = some 1 := by decide +kernel
set_option maxHeartbeats 4000000 in
set_option maxRecDepth 100000 in
theorem R_J35_init (l : Launch) (hl : l.stackTraces = false) (G : xG) (hG : G.1.2 = x_cl) (a0 : Nat) (x1 : Option Nat) (σ : xS) (K : Unit → xH → Prop) (hp : P_J35_init G.2 a0 x1 σ K) : xM l yJ35_init cJ35_init 2 (Option.none : Option Jvm.ClassFile.FieldType) 1 20 G [(.ref a0), va_rf x1] σ (xlift emV K) := by
  refine x_entry (by decide) (by simp [lg_sl, x_catq, x_cati, x_catr, x_catn]) ?_
  intro p e s m args below meth c X hr hin
  have X : xX p s m args meth c G cJ35_init 2 RJ35 := X
  have hx := X.1
  have hb := X.2.1
  have hts := X.2.2.2.2.1
  have hown := X.2.2.2.1
  unfold P_J35_init at hp
  refine x_same (lo' := [(0, .ref a0), (1, va_rf x1)]) (by simp [lv_args, x_catq, x_cati, x_catr, x_catn]) ?_
  refine x_up (pc' := 1) (fun _ _ _ _ _ L => lv_aload_n hx hb dJ35_init_0 rfl (lv_at L 0 rfl)) ?_
  refine x_up (pc' := 2) (fun _ _ _ _ _ L => lv_aloadq_n hx hb dJ35_init_1 rfl (lv_at L 1 rfl)) ?_
  refine x_pqF X (kJ35 hG) 3 (by decide) q1717 (fun _ h => h) rfl hin rfl x1 (x_nar _ (by decide)) (x_fit _ (by decide)) dJ35_init_2 hp (fun σ1 hp1 => ?_)
  refine x_pc (pc' := 5) rfl ?_
  refine x_up (pc' := 6) (fun _ _ _ _ _ L => lv_aload_n hx hb dJ35_init_5 rfl (lv_at L 0 rfl)) ?_
  refine x_objInit X q1711 q170 q171 dJ35_init_6 (Nat.le_of_ble_eq_true rfl) ⟨Nat.le_of_ble_eq_true rfl, Nat.le_of_ble_eq_true rfl⟩ ?_
  refine x_pc (pc' := 9) rfl ?_
  refine x_up (pc' := 10) (fun _ _ _ _ _ L => lv_aload_n hx hb dJ35_init_9 rfl (lv_at L 0 rfl)) ?_
  refine x_up (pc' := 11) (fun _ _ _ _ _ L => lv_iconst (v := (-1 : Int32)) hx hb dJ35_init_10 (by decide)) ?_
  refine x_pi X (kJ35 hG) 1 (by decide) q1715 (fun _ h => h) rfl rfl rfl dJ35_init_11 hp1 (fun σ2 hp2 => ?_)
  refine x_pc (pc' := 14) rfl ?_
  refine x_up (pc' := 15) (fun _ _ _ _ _ L => lv_aload_n hx hb dJ35_init_14 rfl (lv_at L 0 rfl)) ?_
  refine x_up (pc' := 16) (fun _ _ _ _ _ L => lv_aload_n hx hb dJ35_init_15 rfl (lv_at L 0 rfl)) ?_
  refine x_gq X (kJ35 hG) 3 (by decide) q1717 (fun _ h => h) dJ35_init_16 hp2 (fun v3 hp3 => ?_)
  refine x_pc (pc' := 19) rfl ?_
  obtain ⟨b4, rfl, hp4⟩ := hp3
  refine x_gi X (kJ4 hG) 0 (by decide) q234 (x_sameF (X.2.2.2.2.1 _ q235)) dJ35_init_19 hp4 (fun v5 hp5 => ?_)
  refine x_pc (pc' := 22) rfl ?_
  refine x_pi X (kJ35 hG) 2 (by decide) q1716 (fun _ h => h) rfl rfl rfl dJ35_init_22 hp5 (fun σ6 hp6 => ?_)
  refine x_pc (pc' := 25) rfl ?_
  exact x_vret X hr dJ35_init_25 hp6
-- J4_iterator
def P_J4_iterator (κ : Nat → Nat) (a0 : Nat) (σ : xS) (K : Option Nat → xH → Prop) : Prop :=
  xnew κ σ 21 4 [.int 0, .int 0, .int 0, va_rf none] fun q1 σ2 => xcall (fun τ L => P_J35_init κ q1 (some a0) τ L) σ2 fun _ σ3 => K (some q1) σ3.1
theorem mdJ4_iterator : yJ4_iterator.cls ≠ "java/lang/invoke/MethodHandle" ∧ yJ4_iterator.cls ≠ "java/lang/invoke/VarHandle" ∧ (parseMethodDescriptor yJ4_iterator.desc).map (fun d => d.parameters.length) = some 0 := by decide +kernel
set_option maxHeartbeats 4000000 in
set_option maxRecDepth 100000 in
theorem R_J4_iterator (l : Launch) (hl : l.stackTraces = false) (G : xG) (hG : G.1.2 = x_cl) (a0 : Nat) (σ : xS) (K : Option Nat → xH → Prop) (hp : P_J4_iterator G.2 a0 σ K) : xM l yJ4_iterator cJ4_iterator 1 (Option.some (Jvm.ClassFile.FieldType.object "java/util/Iterator")) 2 41 G [(.ref a0)] σ (xlift emQ K) := by
  refine x_entry (by decide) (Nat.le_of_ble_eq_true rfl) ?_
  intro p e s m args below meth c X hr hin
  have X : xX p s m args meth c G cJ4_iterator 1 RJ4 := X
  have hx := X.1
  have hb := X.2.1
  have hts := X.2.2.2.2.1
  have hown := X.2.2.2.1
  unfold P_J4_iterator at hp
  refine x_same (lo' := [(0, .ref a0)]) rfl ?_
  refine x_new X (kJ35 hG) q1706 q1707 q141 (fs := [.int 0, .int 0, .int 0, va_rf none]) x_dflt_J35 dJ4_iterator_0 hp (fun q1 σ2 hp1 => ?_)
  refine x_pc (pc' := 3) rfl ?_
  refine x_up (pc' := 4) (fun _ _ _ _ _ L => lv_dup hx hb dJ4_iterator_3 rfl) ?_
  refine x_up (pc' := 5) (fun _ _ _ _ _ L => lv_aload_n hx hb dJ4_iterator_4 rfl (lv_at L 0 rfl)) ?_
  refine x_callI 1 X (fun σ' KK h => R_J35_init l hl G hG q1 (some a0) σ' KK h) (lw_meth q1710) q141 q1708 q1709 rfl mdJ35_init ⟨Nat.le_of_ble_eq_true rfl, Nat.le_of_ble_eq_true rfl⟩ rfl rfl (Nat.le_of_ble_eq_true rfl) dJ4_iterator_5 hp1 (fun σ3 hp2 => ?_)
  refine x_pc (pc' := 8) rfl ?_
  exact x_aret X hr (Or.inl ⟨_, rfl⟩) dJ4_iterator_8 (some q1) hp2
-- J35_hasNext
def P_J35_hasNext (κ : Nat → Nat) (a0 : Nat) (σ : xS) (K : Int32 → xH → Prop) : Prop :=
  xgi σ a0 21 0 fun v1 => xgq σ a0 21 3 fun v2 => xnn v2 fun b3 => xgi σ b3 3 2 fun v4 => ((v1 = v4 → (K (0 : Int32) σ.1)) ∧ (¬ v1 = v4 → (K (1 : Int32) σ.1)))
theorem mdJ35_hasNext : yJ35_hasNext.cls ≠ "java/lang/invoke/MethodHandle" ∧ yJ35_hasNext.cls ≠ "java/lang/invoke/VarHandle" ∧ (parseMethodDescriptor yJ35_hasNext.desc).map (fun d => d.parameters.length) = some 0 := by decide +kernel
set_option maxHeartbeats 4000000 in
set_option maxRecDepth 100000 in
theorem R_J35_hasNext (l : Launch) (hl : l.stackTraces = false) (G : xG) (hG : G.1.2 = x_cl) (a0 : Nat) (σ : xS) (K : Int32 → xH → Prop) (hp : P_J35_hasNext G.2 a0 σ K) : xM l yJ35_hasNext cJ35_hasNext 1 (Option.some Jvm.ClassFile.FieldType.boolean) 0 0 G [(.ref a0)] σ (xlift emI K) := by
  refine x_entry (by decide) (Nat.le_of_ble_eq_true rfl) ?_
  intro p e s m args below meth c X hr hin
  have X : xX p s m args meth c G cJ35_hasNext 1 RJ35 := X
  have hx := X.1
  have hb := X.2.1
  have hts := X.2.2.2.2.1
  have hown := X.2.2.2.1
  unfold P_J35_hasNext at hp
  refine x_same (lo' := [(0, .ref a0)]) rfl ?_
  refine x_up (pc' := 1) (fun _ _ _ _ _ L => lv_aload_n hx hb dJ35_hasNext_0 rfl (lv_at L 0 rfl)) ?_
  refine x_gi X (kJ35 hG) 0 (by decide) q1714 (fun _ h => h) dJ35_hasNext_1 hp (fun v1 hp1 => ?_)
  refine x_pc (pc' := 4) rfl ?_
  refine x_up (pc' := 5) (fun _ _ _ _ _ L => lv_aload_n hx hb dJ35_hasNext_4 rfl (lv_at L 0 rfl)) ?_
  refine x_gq X (kJ35 hG) 3 (by decide) q1717 (fun _ h => h) dJ35_hasNext_5 hp1 (fun v2 hp2 => ?_)
  refine x_pc (pc' := 8) rfl ?_
  obtain ⟨b3, rfl, hp3⟩ := hp2
  refine x_giN X (kJ4 hG) 2 (by decide) q229 (fun _ h => h) dJ35_hasNext_8 hp3 (fun v4 hp4 => ?_)
  refine x_pc (pc' := 11) rfl ?_
  refine x_if (C := v1 = v4) (pt := 18) (pc' := 14) (fun _ _ _ _ _ => lv_icmp_eq (tgt := 18) hx hb dJ35_hasNext_11 (by decide)) (fun c11 => ?_) (fun c11 => ?_)
  · have hp5 := hp4.1 c11
    refine x_up (pc' := 19) (fun _ _ _ _ _ L => lv_iconst (v := (0 : Int32)) hx hb dJ35_hasNext_18 (by decide)) ?_
    exact x_iret X hr rfl dJ35_hasNext_19 hp5
  · have hp6 := hp4.2 c11
    refine x_up (pc' := 15) (fun _ _ _ _ _ L => lv_iconst (v := (1 : Int32)) hx hb dJ35_hasNext_14 (by decide)) ?_
    refine x_up (pc' := 19) (fun _ _ _ _ _ L => lv_goto (tgt := 19) hx hb dJ35_hasNext_15 (by decide)) ?_
    exact x_iret X hr rfl dJ35_hasNext_19 hp6
-- J35_checkForComodification
def P_J35_checkForComodification (κ : Nat → Nat) (a0 : Nat) (σ : xS) (K : Unit → xH → Prop) : Prop :=
  xgq σ a0 21 3 fun v1 => xnn v1 fun b2 => xgi σ b2 3 0 fun v3 => xgi σ a0 21 2 fun v4 => ((v3 = v4 → (K () σ.1)) ∧ (¬ v3 = v4 → (False)))
theorem mdJ35_checkForComodification : yJ35_checkForComodification.cls ≠ "java/lang/invoke/MethodHandle" ∧ yJ35_checkForComodification.cls ≠ "java/lang/invoke/VarHandle" ∧ (parseMethodDescriptor yJ35_checkForComodification.desc).map (fun d => d.parameters.length) = some 0 := by decide +kernel
set_option maxHeartbeats 4000000 in
set_option maxRecDepth 100000 in
theorem R_J35_checkForComodification (l : Launch) (hl : l.stackTraces = false) (G : xG) (hG : G.1.2 = x_cl) (a0 : Nat) (σ : xS) (K : Unit → xH → Prop) (hp : P_J35_checkForComodification G.2 a0 σ K) : xM l yJ35_checkForComodification cJ35_checkForComodification 1 (Option.none : Option Jvm.ClassFile.FieldType) 0 0 G [(.ref a0)] σ (xlift emV K) := by
  refine x_entry (by decide) (Nat.le_of_ble_eq_true rfl) ?_
  intro p e s m args below meth c X hr hin
  have X : xX p s m args meth c G cJ35_checkForComodification 1 RJ35 := X
  have hx := X.1
  have hb := X.2.1
  have hts := X.2.2.2.2.1
  have hown := X.2.2.2.1
  unfold P_J35_checkForComodification at hp
  refine x_same (lo' := [(0, .ref a0)]) rfl ?_
  refine x_up (pc' := 1) (fun _ _ _ _ _ L => lv_aload_n hx hb dJ35_checkForComodification_0 rfl (lv_at L 0 rfl)) ?_
  refine x_gq X (kJ35 hG) 3 (by decide) q1717 (fun _ h => h) dJ35_checkForComodification_1 hp (fun v1 hp1 => ?_)
  refine x_pc (pc' := 4) rfl ?_
  obtain ⟨b2, rfl, hp2⟩ := hp1
  refine x_gi X (kJ4 hG) 0 (by decide) q234 (x_sameF (X.2.2.2.2.1 _ q235)) dJ35_checkForComodification_4 hp2 (fun v3 hp3 => ?_)
  refine x_pc (pc' := 7) rfl ?_
  refine x_up (pc' := 8) (fun _ _ _ _ _ L => lv_aload_n hx hb dJ35_checkForComodification_7 rfl (lv_at L 0 rfl)) ?_
  refine x_gi X (kJ35 hG) 2 (by decide) q1716 (fun _ h => h) dJ35_checkForComodification_8 hp3 (fun v4 hp4 => ?_)
  refine x_pc (pc' := 11) rfl ?_
  refine x_if (C := v3 = v4) (pt := 22) (pc' := 14) (fun _ _ _ _ _ => lv_icmp_eq (tgt := 22) hx hb dJ35_checkForComodification_11 (by decide)) (fun c11 => ?_) (fun c11 => ?_)
  · have hp5 := hp4.1 c11
    exact x_vret X hr dJ35_checkForComodification_22 hp5
  · have hp6 := hp4.2 c11
    exact hp6.elim
-- J35_next
def P_J35_next (κ : Nat → Nat) (a0 : Nat) (σ : xS) (K : Option Nat → xH → Prop) : Prop :=
  xrc σ a0 21 ∧ xcall (fun τ L => P_J35_checkForComodification κ a0 τ L) σ fun _ σ1 => xgi σ1 a0 21 0 fun v2 => xgq σ1 a0 21 3 fun v3 => xnn v3 fun b4 => xgi σ1 b4 3 2 fun v5 => ((v2 < v5 → (xgq σ1 a0 21 3 fun v6 => xnn v6 fun b7 => xgq σ1 b7 3 1 fun v8 => xnn v8 fun b9 => xan σ1 b9 fun v10 => ((v2 < v10 → (xpi κ σ1 a0 21 0 (v2 + (1 : Int32)) fun σ11 => xpi κ σ11 a0 21 1 v2 fun σ12 => xaq σ12 b9 v2 fun v13 => K v13 σ12.1)) ∧ (¬ v2 < v10 → (False))))) ∧ (¬ v2 < v5 → (False)))
theorem mdJ35_next : yJ35_next.cls ≠ "java/lang/invoke/MethodHandle" ∧ yJ35_next.cls ≠ "java/lang/invoke/VarHandle" ∧ (parseMethodDescriptor yJ35_next.desc).map (fun d => d.parameters.length) = some 0 := by decide +kernel
set_option maxHeartbeats 4000000 in
set_option maxRecDepth 100000 in
theorem R_J35_next (l : Launch) (hl : l.stackTraces = false) (G : xG) (hG : G.1.2 = x_cl) (a0 : Nat) (σ : xS) (K : Option Nat → xH → Prop) (hp : P_J35_next G.2 a0 σ K) : xM l yJ35_next cJ35_next 3 (Option.some (Jvm.ClassFile.FieldType.object "java/lang/Object")) 1 20 G [(.ref a0)] σ (xlift emQ K) := by
  refine x_entry (by decide) (Nat.le_of_ble_eq_true rfl) ?_
  intro p e s m args below meth c X hr hin
  have X : xX p s m args meth c G cJ35_next 3 RJ35 := X
  have hx := X.1
  have hb := X.2.1
  have hts := X.2.2.2.2.1
  have hown := X.2.2.2.1
  unfold P_J35_next at hp
  refine x_same (lo' := [(0, .ref a0)]) rfl ?_
  refine x_up (pc' := 1) (fun _ _ _ _ _ L => lv_aload_n hx hb dJ35_next_0 rfl (lv_at L 0 rfl)) ?_
  refine x_callV (em := emV) (fun r st => st) (fun _ _ => rfl) 0 X (kJ35 hG) (fun σ' KK h => R_J35_checkForComodification l hl G hG a0 σ' KK h) (lw_V q1204 q1205 q1206 q141 q1209) ⟨rfl, mdJ35_checkForComodification⟩ ⟨Nat.le_of_ble_eq_true rfl, Nat.le_of_ble_eq_true rfl⟩ rfl rfl (Nat.le_of_ble_eq_true rfl) dJ35_next_1 hp.1 hp.2 (fun _ σ1 hp1 => ?_)
  refine x_pc (pc' := 4) rfl ?_
  refine x_up (pc' := 5) (fun _ _ _ _ _ L => lv_aload_n hx hb dJ35_next_4 rfl (lv_at L 0 rfl)) ?_
  refine x_gi X (kJ35 hG) 0 (by decide) q1714 (fun _ h => h) dJ35_next_5 hp1 (fun v2 hp2 => ?_)
  refine x_pc (pc' := 8) rfl ?_
  refine x_upL (pc' := 9) (lo' := [(1, .int v2), (0, .ref a0)]) (fun _ _ _ _ _ L => lv_istore_n hx hb dJ35_next_8 rfl L (by decide) rfl) ?_
  refine x_up (pc' := 10) (fun _ _ _ _ _ L => lv_iload_n hx hb dJ35_next_9 rfl (lv_at L 0 rfl)) ?_
  refine x_up (pc' := 11) (fun _ _ _ _ _ L => lv_aload_n hx hb dJ35_next_10 rfl (lv_at L 1 rfl)) ?_
  refine x_gq X (kJ35 hG) 3 (by decide) q1717 (fun _ h => h) dJ35_next_11 hp2 (fun v3 hp3 => ?_)
  refine x_pc (pc' := 14) rfl ?_
  obtain ⟨b4, rfl, hp4⟩ := hp3
  refine x_giN X (kJ4 hG) 2 (by decide) q229 (fun _ h => h) dJ35_next_14 hp4 (fun v5 hp5 => ?_)
  refine x_pc (pc' := 17) rfl ?_
  refine x_if (C := v2 < v5) (pt := 28) (pc' := 20) (fun _ _ _ _ _ => lv_icmp_lt (tgt := 28) hx hb dJ35_next_17 (by decide)) (fun c17 => ?_) (fun c17 => ?_)
  · have hp6 := hp5.1 c17
    refine x_up (pc' := 29) (fun _ _ _ _ _ L => lv_aload_n hx hb dJ35_next_28 rfl (lv_at L 1 rfl)) ?_
    refine x_gq X (kJ35 hG) 3 (by decide) q1717 (fun _ h => h) dJ35_next_29 hp6 (fun v6 hp7 => ?_)
    refine x_pc (pc' := 32) rfl ?_
    obtain ⟨b7, rfl, hp8⟩ := hp7
    refine x_gq X (kJ4 hG) 1 (by decide) q228 (fun _ h => h) dJ35_next_32 hp8 (fun v8 hp9 => ?_)
    refine x_pc (pc' := 35) rfl ?_
    refine x_upL (pc' := 36) (lo' := [(2, va_rf v8), (1, .int v2), (0, .ref a0)]) (fun _ _ _ _ _ L => lv_astoreq_n hx hb dJ35_next_35 rfl L (by decide) rfl) ?_
    refine x_up (pc' := 37) (fun _ _ _ _ _ L => lv_iload_n hx hb dJ35_next_36 rfl (lv_at L 1 rfl)) ?_
    refine x_up (pc' := 38) (fun _ _ _ _ _ L => lv_aloadq_n hx hb dJ35_next_37 rfl (lv_at L 0 rfl)) ?_
    obtain ⟨b9, rfl, hp10⟩ := hp9
    refine x_alen X dJ35_next_38 hp10 (fun v10 hp11 => ?_)
    refine x_pc (pc' := 39) rfl ?_
    refine x_if (C := v2 < v10) (pt := 50) (pc' := 42) (fun _ _ _ _ _ => lv_icmp_lt (tgt := 50) hx hb dJ35_next_39 (by decide)) (fun c39 => ?_) (fun c39 => ?_)
    · have hp12 := hp11.1 c39
      refine x_up (pc' := 51) (fun _ _ _ _ _ L => lv_aload_n hx hb dJ35_next_50 rfl (lv_at L 2 rfl)) ?_
      refine x_up (pc' := 52) (fun _ _ _ _ _ L => lv_iload_n hx hb dJ35_next_51 rfl (lv_at L 1 rfl)) ?_
      refine x_up (pc' := 53) (fun _ _ _ _ _ L => lv_iconst (v := (1 : Int32)) hx hb dJ35_next_52 (by decide)) ?_
      refine x_up (pc' := 54) (fun _ _ _ _ _ L => lv_iadd hx hb dJ35_next_53) ?_
      refine x_pi X (kJ35 hG) 0 (by decide) q1714 (fun _ h => h) rfl rfl rfl dJ35_next_54 hp12 (fun σ11 hp13 => ?_)
      refine x_pc (pc' := 57) rfl ?_
      refine x_up (pc' := 58) (fun _ _ _ _ _ L => lv_aload_n hx hb dJ35_next_57 rfl (lv_at L 0 rfl)) ?_
      refine x_up (pc' := 59) (fun _ _ _ _ _ L => lv_aload_n hx hb dJ35_next_58 rfl (lv_at L 2 rfl)) ?_
      refine x_up (pc' := 60) (fun _ _ _ _ _ L => lv_iload_n hx hb dJ35_next_59 rfl (lv_at L 1 rfl)) ?_
      refine x_up (pc' := 61) (fun _ _ _ _ _ L => lv_dup_x1 hx hb dJ35_next_60 rfl rfl) ?_
      refine x_pi X (kJ35 hG) 1 (by decide) q1715 (fun _ h => h) rfl rfl rfl dJ35_next_61 hp13 (fun σ12 hp14 => ?_)
      refine x_pc (pc' := 64) rfl ?_
      refine x_aald X dJ35_next_64 hp14 (fun v13 hp15 => ?_)
      refine x_pc (pc' := 65) rfl ?_
      exact x_aret X hr (Or.inl ⟨_, rfl⟩) dJ35_next_65 v13 hp15
    · have hp16 := hp11.2 c39
      exact hp16.elim
  · have hp17 := hp5.2 c17
    exact hp17.elim
-- X3_init_2
def P_X3_init_2 (κ : Nat → Nat) (a0 : Nat) (x1 : Option Nat) (σ : xS) (K : Unit → xH → Prop) : Prop :=
  xnn x1 fun b1 => xgi σ b1 5 0 fun v2 => xcall (fun τ L => P_X3_init κ a0 v2 τ L) σ fun _ σ3 => xgq σ3 b1 5 1 fun v4 => xgq σ3 a0 5 1 fun v5 => xnn v5 fun b6 => xnn v4 fun b7 => xcpi κ .int σ3 b7 (0 : Int32) b6 (0 : Int32) (4 : Int32) fun σ8 => xgi σ8 b1 5 2 fun v9 => xpi κ σ8 a0 5 2 v9 fun σ10 => xgi σ10 b1 5 3 fun v11 => xpi κ σ10 a0 5 3 v11 fun σ12 => xgi σ12 b1 5 4 fun v13 => narrow .boolean (.int v13) = .int v13 ∧ fits .boolean (.int v13) = true ∧ xpi κ σ12 a0 5 4 v13 fun σ14 => xgi σ14 b1 5 5 fun v15 => xpi κ σ14 a0 5 5 v15 fun σ16 => xgi σ16 b1 5 6 fun v17 => xpi κ σ16 a0 5 6 v17 fun σ18 => xgi σ18 b1 5 7 fun v19 => xpi κ σ18 a0 5 7 v19 fun σ20 => K () σ20.1
theorem mdX3_init_2 : yX3_init_2.cls ≠ "java/lang/invoke/MethodHandle" ∧ yX3_init_2.cls ≠ "java/lang/invoke/VarHandle" ∧ (parseMethodDescriptor yX3_init_2.desc).map (fun d => d.parameters.length) = some 1 := by decide +kernel
set_option maxHeartbeats 4000000 in
set_option maxRecDepth 100000 in
theorem R_X3_init_2 (l : Launch) (hl : l.stackTraces = false) (G : xG) (hG : G.1.2 = x_cl) (a0 : Nat) (x1 : Option Nat) (σ : xS) (K : Unit → xH → Prop) (hp : P_X3_init_2 G.2 a0 x1 σ K) : xM l yX3_init_2 cX3_init_2 2 (Option.none : Option Jvm.ClassFile.FieldType) 2 60 G [(.ref a0), va_rf x1] σ (xlift emV K) := by
  refine x_entry (by decide) (by simp [lg_sl, x_catq, x_cati, x_catr, x_catn]) ?_
  intro p e s m args below meth c X hr hin
  have X : xX p s m args meth c G cX3_init_2 2 RX3 := X
  have hx := X.1
  have hb := X.2.1
  have hts := X.2.2.2.2.1
  have hown := X.2.2.2.1
  unfold P_X3_init_2 at hp
  refine x_same (lo' := [(0, .ref a0), (1, va_rf x1)]) (by simp [lv_args, x_catq, x_cati, x_catr, x_catn]) ?_
  refine x_up (pc' := 1) (fun _ _ _ _ _ L => lv_aload_n hx hb dX3_init_2_0 rfl (lv_at L 0 rfl)) ?_
  refine x_up (pc' := 2) (fun _ _ _ _ _ L => lv_aloadq_n hx hb dX3_init_2_1 rfl (lv_at L 1 rfl)) ?_
  obtain ⟨b1, rfl, hp1⟩ := hp
  refine x_gi X (kX3 hG) 0 (by decide) q293 (fun _ h => h) dX3_init_2_2 hp1 (fun v2 hp2 => ?_)
  refine x_pc (pc' := 5) rfl ?_
  refine x_callI 1 X (fun σ' KK h => R_X3_init l hl G hG a0 v2 σ' KK h) (lw_meth q291) q108 q1818 q290 rfl mdX3_init ⟨Nat.le_of_ble_eq_true rfl, Nat.le_of_ble_eq_true rfl⟩ rfl rfl (Nat.le_of_ble_eq_true rfl) dX3_init_2_5 hp2 (fun σ3 hp3 => ?_)
  refine x_pc (pc' := 8) rfl ?_
  refine x_up (pc' := 9) (fun _ _ _ _ _ L => lv_aload_n hx hb dX3_init_2_8 rfl (lv_at L 1 rfl)) ?_
  refine x_gq X (kX3 hG) 1 (by decide) q296 (fun _ h => h) dX3_init_2_9 hp3 (fun v4 hp4 => ?_)
  refine x_pc (pc' := 12) rfl ?_
  refine x_up (pc' := 13) (fun _ _ _ _ _ L => lv_iconst (v := (0 : Int32)) hx hb dX3_init_2_12 (by decide)) ?_
  refine x_up (pc' := 14) (fun _ _ _ _ _ L => lv_aload_n hx hb dX3_init_2_13 rfl (lv_at L 0 rfl)) ?_
  refine x_gq X (kX3 hG) 1 (by decide) q296 (fun _ h => h) dX3_init_2_14 hp4 (fun v5 hp5 => ?_)
  refine x_pc (pc' := 17) rfl ?_
  refine x_up (pc' := 18) (fun _ _ _ _ _ L => lv_iconst (v := (0 : Int32)) hx hb dX3_init_2_17 (by decide)) ?_
  refine x_up (pc' := 19) (fun _ _ _ _ _ L => lv_iconst (v := (4 : Int32)) hx hb dX3_init_2_18 (by decide)) ?_
  obtain ⟨b6, rfl, hp6⟩ := hp5
  obtain ⟨b7, rfl, hp7⟩ := hp6
  refine x_cpi (ty := .int) (fun _ h => nomatch h) X q1819 q424 q423 q112 (Nat.le_of_ble_eq_true rfl) ⟨Nat.le_of_ble_eq_true rfl, Nat.le_of_ble_eq_true rfl⟩ dX3_init_2_19 hp7 (fun σ8 hp8 => ?_)
  refine x_pc (pc' := 22) rfl ?_
  refine x_up (pc' := 23) (fun _ _ _ _ _ L => lv_aload_n hx hb dX3_init_2_22 rfl (lv_at L 0 rfl)) ?_
  refine x_up (pc' := 24) (fun _ _ _ _ _ L => lv_aload_n hx hb dX3_init_2_23 rfl (lv_at L 1 rfl)) ?_
  refine x_gi X (kX3 hG) 2 (by decide) q298 (fun _ h => h) dX3_init_2_24 hp8 (fun v9 hp9 => ?_)
  refine x_pc (pc' := 27) rfl ?_
  refine x_pi X (kX3 hG) 2 (by decide) q298 (fun _ h => h) rfl rfl rfl dX3_init_2_27 hp9 (fun σ10 hp10 => ?_)
  refine x_pc (pc' := 30) rfl ?_
  refine x_up (pc' := 31) (fun _ _ _ _ _ L => lv_aload_n hx hb dX3_init_2_30 rfl (lv_at L 0 rfl)) ?_
  refine x_up (pc' := 32) (fun _ _ _ _ _ L => lv_aload_n hx hb dX3_init_2_31 rfl (lv_at L 1 rfl)) ?_
  refine x_gi X (kX3 hG) 3 (by decide) q301 (fun _ h => h) dX3_init_2_32 hp10 (fun v11 hp11 => ?_)
  refine x_pc (pc' := 35) rfl ?_
  refine x_pi X (kX3 hG) 3 (by decide) q301 (fun _ h => h) rfl rfl rfl dX3_init_2_35 hp11 (fun σ12 hp12 => ?_)
  refine x_pc (pc' := 38) rfl ?_
  refine x_up (pc' := 39) (fun _ _ _ _ _ L => lv_aload_n hx hb dX3_init_2_38 rfl (lv_at L 0 rfl)) ?_
  refine x_up (pc' := 40) (fun _ _ _ _ _ L => lv_aload_n hx hb dX3_init_2_39 rfl (lv_at L 1 rfl)) ?_
  refine x_gi X (kX3 hG) 4 (by decide) q304 (fun _ h => h) dX3_init_2_40 hp12 (fun v13 hp13 => ?_)
  refine x_pc (pc' := 43) rfl ?_
  obtain ⟨hn43, hf43, hp14⟩ := hp13
  refine x_pi X (kX3 hG) 4 (by decide) q304 (fun _ h => h) rfl hn43 hf43 dX3_init_2_43 hp14 (fun σ14 hp15 => ?_)
  refine x_pc (pc' := 46) rfl ?_
  refine x_up (pc' := 47) (fun _ _ _ _ _ L => lv_aload_n hx hb dX3_init_2_46 rfl (lv_at L 0 rfl)) ?_
  refine x_up (pc' := 48) (fun _ _ _ _ _ L => lv_aload_n hx hb dX3_init_2_47 rfl (lv_at L 1 rfl)) ?_
  refine x_gi X (kX3 hG) 5 (by decide) q307 (fun _ h => h) dX3_init_2_48 hp15 (fun v15 hp16 => ?_)
  refine x_pc (pc' := 51) rfl ?_
  refine x_pi X (kX3 hG) 5 (by decide) q307 (fun _ h => h) rfl rfl rfl dX3_init_2_51 hp16 (fun σ16 hp17 => ?_)
  refine x_pc (pc' := 54) rfl ?_
  refine x_up (pc' := 55) (fun _ _ _ _ _ L => lv_aload_n hx hb dX3_init_2_54 rfl (lv_at L 0 rfl)) ?_
  refine x_up (pc' := 56) (fun _ _ _ _ _ L => lv_aload_n hx hb dX3_init_2_55 rfl (lv_at L 1 rfl)) ?_
  refine x_gi X (kX3 hG) 6 (by decide) q310 (fun _ h => h) dX3_init_2_56 hp17 (fun v17 hp18 => ?_)
  refine x_pc (pc' := 59) rfl ?_
  refine x_pi X (kX3 hG) 6 (by decide) q310 (fun _ h => h) rfl rfl rfl dX3_init_2_59 hp18 (fun σ18 hp19 => ?_)
  refine x_pc (pc' := 62) rfl ?_
  refine x_up (pc' := 63) (fun _ _ _ _ _ L => lv_aload_n hx hb dX3_init_2_62 rfl (lv_at L 0 rfl)) ?_
  refine x_up (pc' := 64) (fun _ _ _ _ _ L => lv_aload_n hx hb dX3_init_2_63 rfl (lv_at L 1 rfl)) ?_
  refine x_gi X (kX3 hG) 7 (by decide) q313 (fun _ h => h) dX3_init_2_64 hp19 (fun v19 hp20 => ?_)
  refine x_pc (pc' := 67) rfl ?_
  refine x_pi X (kX3 hG) 7 (by decide) q313 (fun _ h => h) rfl rfl rfl dX3_init_2_67 hp20 (fun σ20 hp21 => ?_)
  refine x_pc (pc' := 70) rfl ?_
  exact x_vret X hr dX3_init_2_70 hp21
-- J6_isPositionIndex
def P_J6_isPositionIndex (κ : Nat → Nat) (a0 : Nat) (x1 : Int32) (σ : xS) (K : Int32 → xH → Prop) : Prop :=
  ((x1 < 0 → (K (0 : Int32) σ.1)) ∧ (¬ x1 < 0 → (xgi σ a0 4 1 fun v1 => ((v1 < x1 → (K (0 : Int32) σ.1)) ∧ (¬ v1 < x1 → (K (1 : Int32) σ.1))))))
theorem mdJ6_isPositionIndex : yJ6_isPositionIndex.cls ≠ "java/lang/invoke/MethodHandle" ∧ yJ6_isPositionIndex.cls ≠ "java/lang/invoke/VarHandle" ∧ (parseMethodDescriptor yJ6_isPositionIndex.desc).map (fun d => d.parameters.length) = some 1 := by decide +kernel
set_option maxHeartbeats 4000000 in
set_option maxRecDepth 100000 in
theorem R_J6_isPositionIndex (l : Launch) (hl : l.stackTraces = false) (G : xG) (hG : G.1.2 = x_cl) (a0 : Nat) (x1 : Int32) (σ : xS) (K : Int32 → xH → Prop) (hp : P_J6_isPositionIndex G.2 a0 x1 σ K) : xM l yJ6_isPositionIndex cJ6_isPositionIndex 2 (Option.some Jvm.ClassFile.FieldType.boolean) 0 0 G [(.ref a0), .int x1] σ (xlift emI K) := by
  refine x_entry (by decide) (Nat.le_of_ble_eq_true rfl) ?_
  intro p e s m args below meth c X hr hin
  have X : xX p s m args meth c G cJ6_isPositionIndex 2 RJ6 := X
  have hx := X.1
  have hb := X.2.1
  have hts := X.2.2.2.2.1
  have hown := X.2.2.2.1
  unfold P_J6_isPositionIndex at hp
  refine x_same (lo' := [(0, .ref a0), (1, .int x1)]) rfl ?_
  refine x_up (pc' := 1) (fun _ _ _ _ _ L => lv_iload_n hx hb dJ6_isPositionIndex_0 rfl (lv_at L 1 rfl)) ?_
  refine x_if (C := x1 < 0) (pt := 16) (pc' := 4) (fun _ _ _ _ _ => lv_if_lt (tgt := 16) hx hb dJ6_isPositionIndex_1 (by decide)) (fun c1 => ?_) (fun c1 => ?_)
  · have hp1 := hp.1 c1
    refine x_up (pc' := 17) (fun _ _ _ _ _ L => lv_iconst (v := (0 : Int32)) hx hb dJ6_isPositionIndex_16 (by decide)) ?_
    exact x_iret X hr rfl dJ6_isPositionIndex_17 hp1
  · have hp2 := hp.2 c1
    refine x_up (pc' := 5) (fun _ _ _ _ _ L => lv_iload_n hx hb dJ6_isPositionIndex_4 rfl (lv_at L 1 rfl)) ?_
    refine x_up (pc' := 6) (fun _ _ _ _ _ L => lv_aload_n hx hb dJ6_isPositionIndex_5 rfl (lv_at L 0 rfl)) ?_
    refine x_gi X (kJ6 hG) 1 (by decide) q255 (fun _ h => h) dJ6_isPositionIndex_6 hp2 (fun v1 hp3 => ?_)
    refine x_pc (pc' := 9) rfl ?_
    refine x_if (C := v1 < x1) (pt := 16) (pc' := 12) (fun _ _ _ _ _ => lv_icmp_gt (tgt := 16) hx hb dJ6_isPositionIndex_9 (by decide)) (fun c9 => ?_) (fun c9 => ?_)
    · have hp4 := hp3.1 c9
      refine x_up (pc' := 17) (fun _ _ _ _ _ L => lv_iconst (v := (0 : Int32)) hx hb dJ6_isPositionIndex_16 (by decide)) ?_
      exact x_iret X hr rfl dJ6_isPositionIndex_17 hp4
    · have hp5 := hp3.2 c9
      refine x_up (pc' := 13) (fun _ _ _ _ _ L => lv_iconst (v := (1 : Int32)) hx hb dJ6_isPositionIndex_12 (by decide)) ?_
      refine x_up (pc' := 17) (fun _ _ _ _ _ L => lv_goto (tgt := 17) hx hb dJ6_isPositionIndex_13 (by decide)) ?_
      exact x_iret X hr rfl dJ6_isPositionIndex_17 hp5
-- J6_checkPositionIndex
def P_J6_checkPositionIndex (κ : Nat → Nat) (a0 : Nat) (x1 : Int32) (σ : xS) (K : Unit → xH → Prop) : Prop :=
  xrc σ a0 4 ∧ xcall (fun τ L => P_J6_isPositionIndex κ a0 x1 τ L) σ fun v1 σ2 => ((v1 = 0 → (False)) ∧ (¬ v1 = 0 → (K () σ2.1)))
theorem mdJ6_checkPositionIndex : yJ6_checkPositionIndex.cls ≠ "java/lang/invoke/MethodHandle" ∧ yJ6_checkPositionIndex.cls ≠ "java/lang/invoke/VarHandle" ∧ (parseMethodDescriptor yJ6_checkPositionIndex.desc).map (fun d => d.parameters.length) = some 1 := by decide +kernel
set_option maxHeartbeats 4000000 in
set_option maxRecDepth 100000 in
theorem R_J6_checkPositionIndex (l : Launch) (hl : l.stackTraces = false) (G : xG) (hG : G.1.2 = x_cl) (a0 : Nat) (x1 : Int32) (σ : xS) (K : Unit → xH → Prop) (hp : P_J6_checkPositionIndex G.2 a0 x1 σ K) : xM l yJ6_checkPositionIndex cJ6_checkPositionIndex 2 (Option.none : Option Jvm.ClassFile.FieldType) 1 21 G [(.ref a0), .int x1] σ (xlift emV K) := by
  refine x_entry (by decide) (Nat.le_of_ble_eq_true rfl) ?_
  intro p e s m args below meth c X hr hin
  have X : xX p s m args meth c G cJ6_checkPositionIndex 2 RJ6 := X
  have hx := X.1
  have hb := X.2.1
  have hts := X.2.2.2.2.1
  have hown := X.2.2.2.1
  unfold P_J6_checkPositionIndex at hp
  refine x_same (lo' := [(0, .ref a0), (1, .int x1)]) rfl ?_
  refine x_up (pc' := 1) (fun _ _ _ _ _ L => lv_aload_n hx hb dJ6_checkPositionIndex_0 rfl (lv_at L 0 rfl)) ?_
  refine x_up (pc' := 2) (fun _ _ _ _ _ L => lv_iload_n hx hb dJ6_checkPositionIndex_1 rfl (lv_at L 1 rfl)) ?_
  refine x_callV (em := emI) (fun r st => .int r :: st) (fun _ _ => rfl) 1 X (kJ6 hG) (fun σ' KK h => R_J6_isPositionIndex l hl G hG a0 x1 σ' KK h) (lw_V q1782 q1784 qs19 q107 q1785) ⟨rfl, mdJ6_isPositionIndex⟩ ⟨Nat.le_of_ble_eq_true rfl, Nat.le_of_ble_eq_true rfl⟩ rfl rfl (Nat.le_of_ble_eq_true rfl) dJ6_checkPositionIndex_2 hp.1 hp.2 (fun v1 σ2 hp1 => ?_)
  refine x_pc (pc' := 5) rfl ?_
  refine x_ifn (C := v1 = 0) (pt := 21) (pc' := 8) (fun _ _ _ _ _ => lv_if_ne (tgt := 21) hx hb dJ6_checkPositionIndex_5 (by decide)) (fun c5 => ?_) (fun c5 => ?_)
  · have hp2 := hp1.1 c5
    exact hp2.elim
  · have hp3 := hp1.2 c5
    exact x_vret X hr dJ6_checkPositionIndex_21 hp3
-- J6_toArray
def B_J6_toArray_15 (κ : Nat → Nat) (K : Option Nat → xH → Prop) (f1 : Nat) : ((Int32 × Option Nat) → xS → Prop) → (Int32 × Option Nat) → xS → Prop := fun self16003 w16001 σ16002 =>
  ((w16001.2 = none → (K (some f1) σ16002.1)) ∧ (∀ b16004 : Nat, w16001.2 = some b16004 → (xgq σ16002 b16004 6 0 fun v16005 => xsq κ σ16002 f1 w16001.1 v16005 fun σ16006 => xgq σ16006 b16004 6 1 fun v16007 => self16003 ((w16001.1 + (1 : Int32)), v16007) σ16006)))
def P_J6_toArray (κ : Nat → Nat) (a0 : Nat) (σ : xS) (K : Option Nat → xH → Prop) : Prop :=
  xgi σ a0 4 1 fun v1 => xneq κ σ v1 fun q2 σ3 => xgq σ3 a0 4 2 fun v4 => xwhile (B_J6_toArray_15 κ K q2) ((0 : Int32), v4) σ3
theorem mdJ6_toArray : yJ6_toArray.cls ≠ "java/lang/invoke/MethodHandle" ∧ yJ6_toArray.cls ≠ "java/lang/invoke/VarHandle" ∧ (parseMethodDescriptor yJ6_toArray.desc).map (fun d => d.parameters.length) = some 0 := by decide +kernel
set_option maxHeartbeats 4000000 in
set_option maxRecDepth 100000 in
theorem R_J6_toArray (l : Launch) (hl : l.stackTraces = false) (G : xG) (hG : G.1.2 = x_cl) (a0 : Nat) (σ : xS) (K : Option Nat → xH → Prop) (hp : P_J6_toArray G.2 a0 σ K) : xM l yJ6_toArray cJ6_toArray 4 (Option.some (Jvm.ClassFile.FieldType.array (Jvm.ClassFile.FieldType.object "java/lang/Object"))) 0 0 G [(.ref a0)] σ (xlift emQ K) := by
  refine x_entry (by decide) (Nat.le_of_ble_eq_true rfl) ?_
  intro p e s m args below meth c X hr hin
  have X : xX p s m args meth c G cJ6_toArray 4 RJ6 := X
  have hx := X.1
  have hb := X.2.1
  have hts := X.2.2.2.2.1
  have hown := X.2.2.2.1
  unfold P_J6_toArray at hp
  refine x_same (lo' := [(0, .ref a0)]) rfl ?_
  refine x_up (pc' := 1) (fun _ _ _ _ _ L => lv_aload_n hx hb dJ6_toArray_0 rfl (lv_at L 0 rfl)) ?_
  refine x_gi X (kJ6 hG) 1 (by decide) q255 (fun _ h => h) dJ6_toArray_1 hp (fun v1 hp1 => ?_)
  refine x_pc (pc' := 4) rfl ?_
  refine x_neq X q1859 dJ6_toArray_4 hp1 (fun q2 σ3 hp2 => ?_)
  refine x_pc (pc' := 7) rfl ?_
  refine x_upL (pc' := 8) (lo' := [(1, .ref q2), (0, .ref a0)]) (fun _ _ _ _ _ L => lv_astore_n hx hb dJ6_toArray_7 rfl L (by decide) rfl) ?_
  refine x_up (pc' := 9) (fun _ _ _ _ _ L => lv_iconst (v := (0 : Int32)) hx hb dJ6_toArray_8 (by decide)) ?_
  refine x_upL (pc' := 10) (lo' := [(2, .int (0 : Int32)), (1, .ref q2), (0, .ref a0)]) (fun _ _ _ _ _ L => lv_istore_n hx hb dJ6_toArray_9 rfl L (by decide) rfl) ?_
  refine x_up (pc' := 11) (fun _ _ _ _ _ L => lv_aload_n hx hb dJ6_toArray_10 rfl (lv_at L 2 rfl)) ?_
  refine x_gq X (kJ6 hG) 2 (by decide) q257 (fun _ h => h) dJ6_toArray_11 hp2 (fun v4 hp3 => ?_)
  refine x_pc (pc' := 14) rfl ?_
  refine x_upL (pc' := 15) (lo' := [(3, va_rf v4), (2, .int (0 : Int32)), (1, .ref q2), (0, .ref a0)]) (fun _ _ _ _ _ L => lv_astoreq_n hx hb dJ6_toArray_14 rfl L (by decide) rfl) ?_
  refine x_lo (lo' := [(2, .int (0 : Int32)), (3, va_rf v4), (1, .ref q2)]) [1, 0, 2] rfl ?_
  refine x_while (v0 := ((0 : Int32), v4)) (fun w5 => [(2, .int w5.1), (3, va_rf w5.2), (1, .ref q2)]) hp3 (fun self6 hself7 => ?_)
  rintro ⟨y9, y10⟩ σ8 hp4
  unfold B_J6_toArray_15 at hp4
  refine x_same (lo' := [(2, .int y9), (3, va_rf y10), (1, .ref q2)]) rfl ?_
  refine x_up (pc' := 16) (fun _ _ _ _ _ L => lv_aloadq_n hx hb dJ6_toArray_15 rfl (lv_at L 1 rfl)) ?_
  rcases y10 with _ | b11
  · have hp5 := hp4.1 rfl
    refine x_up (pc' := 37) (fun _ _ _ _ _ L => lv_ifnullN (tgt := 37) hx hb dJ6_toArray_16 (by decide)) ?_
    refine x_up (pc' := 38) (fun _ _ _ _ _ L => lv_aload_n hx hb dJ6_toArray_37 rfl (lv_at L 2 rfl)) ?_
    exact x_aret X hr (Or.inr ⟨_, rfl⟩) dJ6_toArray_38 (some q2) hp5
  · have hp6 := hp4.2 _ rfl
    refine x_up (pc' := 19) (fun _ _ _ _ _ L => lv_ifnull hx hb dJ6_toArray_16) ?_
    refine x_up (pc' := 20) (fun _ _ _ _ _ L => lv_aload_n hx hb dJ6_toArray_19 rfl (lv_at L 2 rfl)) ?_
    refine x_up (pc' := 21) (fun _ _ _ _ _ L => lv_iload_n hx hb dJ6_toArray_20 rfl (lv_at L 0 rfl)) ?_
    refine x_upL (pc' := 24) (lo' := [(2, .int (y9 + (1 : Int32))), (3, .ref b11), (1, .ref q2)]) (fun _ _ _ _ _ L => lv_iinc (v := y9 + (1 : Int32)) hx hb dJ6_toArray_21 L (k := 0) rfl rfl (by decide) rfl) ?_
    refine x_up (pc' := 25) (fun _ _ _ _ _ L => lv_aload_n hx hb dJ6_toArray_24 rfl (lv_at L 1 rfl)) ?_
    refine x_gq X (kJ10 hG) 0 (by decide) q444 (fun _ h => h) dJ6_toArray_25 hp6 (fun v12 hp7 => ?_)
    refine x_pc (pc' := 28) rfl ?_
    refine x_aast X hG v12 dJ6_toArray_28 hp7 (fun σ13 hp8 => ?_)
    refine x_pc (pc' := 29) rfl ?_
    refine x_up (pc' := 30) (fun _ _ _ _ _ L => lv_aload_n hx hb dJ6_toArray_29 rfl (lv_at L 1 rfl)) ?_
    refine x_gq X (kJ10 hG) 1 (by decide) q447 (fun _ h => h) dJ6_toArray_30 hp8 (fun v14 hp9 => ?_)
    refine x_pc (pc' := 33) rfl ?_
    refine x_upL (pc' := 34) (lo' := [(3, va_rf v14), (2, .int (y9 + (1 : Int32))), (1, .ref q2)]) (fun _ _ _ _ _ L => lv_astoreq_n hx hb dJ6_toArray_33 rfl L (by decide) rfl) ?_
    refine x_up (pc' := 15) (fun _ _ _ _ _ L => lv_goto (tgt := 15) hx hb dJ6_toArray_34 (by decide)) ?_
    refine x_lo (lo' := [(2, .int (y9 + (1 : Int32))), (3, va_rf v14), (1, .ref q2)]) [1, 0, 2] rfl ?_
    exact hself7 ((y9 + (1 : Int32)), v14) σ13 hp9
-- J10_init
def P_J10_init (κ : Nat → Nat) (a0 : Nat) (x1 : Option Nat) (x2 : Option Nat) (x3 : Option Nat) (σ : xS) (K : Unit → xH → Prop) : Prop :=
  xpq κ σ a0 6 0 x2 fun σ1 => xpq κ σ1 a0 6 1 x3 fun σ2 => xpq κ σ2 a0 6 2 x1 fun σ3 => K () σ3.1
theorem mdJ10_init : yJ10_init.cls ≠ "java/lang/invoke/MethodHandle" ∧ yJ10_init.cls ≠ "java/lang/invoke/VarHandle" ∧ (parseMethodDescriptor yJ10_init.desc).map (fun d => d.parameters.length) = some 3 := by decide +kernel
set_option maxHeartbeats 4000000 in
set_option maxRecDepth 100000 in
theorem R_J10_init (l : Launch) (hl : l.stackTraces = false) (G : xG) (hG : G.1.2 = x_cl) (a0 : Nat) (x1 : Option Nat) (x2 : Option Nat) (x3 : Option Nat) (σ : xS) (K : Unit → xH → Prop) (hp : P_J10_init G.2 a0 x1 x2 x3 σ K) : xM l yJ10_init cJ10_init 4 (Option.none : Option Jvm.ClassFile.FieldType) 1 20 G [(.ref a0), va_rf x1, va_rf x2, va_rf x3] σ (xlift emV K) := by
  refine x_entry (by decide) (by simp [lg_sl, x_catq, x_cati, x_catr, x_catn]) ?_
  intro p e s m args below meth c X hr hin
  have X : xX p s m args meth c G cJ10_init 4 RJ10 := X
  have hx := X.1
  have hb := X.2.1
  have hts := X.2.2.2.2.1
  have hown := X.2.2.2.1
  unfold P_J10_init at hp
  refine x_same (lo' := [(0, .ref a0), (1, va_rf x1), (2, va_rf x2), (3, va_rf x3)]) (by simp [lv_args, x_catq, x_cati, x_catr, x_catn]) ?_
  refine x_up (pc' := 1) (fun _ _ _ _ _ L => lv_aload_n hx hb dJ10_init_0 rfl (lv_at L 0 rfl)) ?_
  refine x_objInit X q441 q170 q171 dJ10_init_1 (Nat.le_of_ble_eq_true rfl) ⟨Nat.le_of_ble_eq_true rfl, Nat.le_of_ble_eq_true rfl⟩ ?_
  refine x_pc (pc' := 4) rfl ?_
  refine x_up (pc' := 5) (fun _ _ _ _ _ L => lv_aload_n hx hb dJ10_init_4 rfl (lv_at L 0 rfl)) ?_
  refine x_up (pc' := 6) (fun _ _ _ _ _ L => lv_aloadq_n hx hb dJ10_init_5 rfl (lv_at L 2 rfl)) ?_
  refine x_pq X (kJ10 hG) 0 (by decide) q442 (fun _ h => h) rfl x2 (x_nar _ (by decide)) (x_fit _ (by decide)) dJ10_init_6 hp (fun σ1 hp1 => ?_)
  refine x_pc (pc' := 9) rfl ?_
  refine x_up (pc' := 10) (fun _ _ _ _ _ L => lv_aload_n hx hb dJ10_init_9 rfl (lv_at L 0 rfl)) ?_
  refine x_up (pc' := 11) (fun _ _ _ _ _ L => lv_aloadq_n hx hb dJ10_init_10 rfl (lv_at L 3 rfl)) ?_
  refine x_pq X (kJ10 hG) 1 (by decide) q445 (fun _ h => h) rfl x3 (x_nar _ (by decide)) (x_fit _ (by decide)) dJ10_init_11 hp1 (fun σ2 hp2 => ?_)
  refine x_pc (pc' := 14) rfl ?_
  refine x_up (pc' := 15) (fun _ _ _ _ _ L => lv_aload_n hx hb dJ10_init_14 rfl (lv_at L 0 rfl)) ?_
  refine x_up (pc' := 16) (fun _ _ _ _ _ L => lv_aloadq_n hx hb dJ10_init_15 rfl (lv_at L 1 rfl)) ?_
  refine x_pq X (kJ10 hG) 2 (by decide) q448 (fun _ h => h) rfl x1 (x_nar _ (by decide)) (x_fit _ (by decide)) dJ10_init_16 hp2 (fun σ3 hp3 => ?_)
  refine x_pc (pc' := 19) rfl ?_
  exact x_vret X hr dJ10_init_19 hp3
-- J6_node
def B_J6_node_47 (κ : Nat → Nat) (K : Option Nat → xH → Prop) (f1 : Int32) : ((Option Nat × Int32) → xS → Prop) → (Option Nat × Int32) → xS → Prop := fun self48003 w48001 σ48002 =>
  ((w48001.2 ≤ f1 → (K w48001.1 σ48002.1)) ∧ (¬ w48001.2 ≤ f1 → (xnn w48001.1 fun b48004 => xgq σ48002 b48004 6 2 fun v48005 => self48003 (v48005, (w48001.2 + (-1 : Int32))) σ48002)))
def B_J6_node_17 (κ : Nat → Nat) (K : Option Nat → xH → Prop) (f1 : Int32) : ((Option Nat × Int32) → xS → Prop) → (Option Nat × Int32) → xS → Prop := fun self18003 w18001 σ18002 =>
  ((f1 ≤ w18001.2 → (K w18001.1 σ18002.1)) ∧ (¬ f1 ≤ w18001.2 → (xnn w18001.1 fun b18004 => xgq σ18002 b18004 6 1 fun v18005 => self18003 (v18005, (w18001.2 + (1 : Int32))) σ18002)))
def P_J6_node (κ : Nat → Nat) (a0 : Nat) (x1 : Int32) (σ : xS) (K : Option Nat → xH → Prop) : Prop :=
  xgi σ a0 4 1 fun v1 => (((v1 >>> ((1 : Int32) &&& 31)) ≤ x1 → (xgq σ a0 4 3 fun v2 => xgi σ a0 4 1 fun v3 => xwhile (B_J6_node_47 κ K x1) (v2, (v3 - (1 : Int32))) σ)) ∧ (¬ (v1 >>> ((1 : Int32) &&& 31)) ≤ x1 → (xgq σ a0 4 2 fun v4 => xwhile (B_J6_node_17 κ K x1) (v4, (0 : Int32)) σ)))
theorem mdJ6_node : yJ6_node.cls ≠ "java/lang/invoke/MethodHandle" ∧ yJ6_node.cls ≠ "java/lang/invoke/VarHandle" ∧ (parseMethodDescriptor yJ6_node.desc).map (fun d => d.parameters.length) = some 1 := by decide +kernel
set_option maxHeartbeats 4000000 in
set_option maxRecDepth 100000 in
theorem R_J6_node (l : Launch) (hl : l.stackTraces = false) (G : xG) (hG : G.1.2 = x_cl) (a0 : Nat) (x1 : Int32) (σ : xS) (K : Option Nat → xH → Prop) (hp : P_J6_node G.2 a0 x1 σ K) : xM l yJ6_node cJ6_node 4 (Option.some (Jvm.ClassFile.FieldType.object "java/util/LinkedList$Node")) 0 0 G [(.ref a0), .int x1] σ (xlift emQ K) := by
  refine x_entry (by decide) (Nat.le_of_ble_eq_true rfl) ?_
  intro p e s m args below meth c X hr hin
  have X : xX p s m args meth c G cJ6_node 4 RJ6 := X
  have hx := X.1
  have hb := X.2.1
  have hts := X.2.2.2.2.1
  have hown := X.2.2.2.1
  unfold P_J6_node at hp
  refine x_same (lo' := [(0, .ref a0), (1, .int x1)]) rfl ?_
  refine x_up (pc' := 1) (fun _ _ _ _ _ L => lv_iload_n hx hb dJ6_node_0 rfl (lv_at L 1 rfl)) ?_
  refine x_up (pc' := 2) (fun _ _ _ _ _ L => lv_aload_n hx hb dJ6_node_1 rfl (lv_at L 0 rfl)) ?_
  refine x_gi X (kJ6 hG) 1 (by decide) q255 (fun _ h => h) dJ6_node_2 hp (fun v1 hp1 => ?_)
  refine x_pc (pc' := 5) rfl ?_
  refine x_up (pc' := 6) (fun _ _ _ _ _ L => lv_iconst (v := (1 : Int32)) hx hb dJ6_node_5 (by decide)) ?_
  refine x_up (pc' := 7) (fun _ _ _ _ _ L => lv_ishr hx hb dJ6_node_6) ?_
  refine x_if (C := (v1 >>> ((1 : Int32) &&& 31)) ≤ x1) (pt := 35) (pc' := 10) (fun _ _ _ _ _ => lv_icmp_ge (tgt := 35) hx hb dJ6_node_7 (by decide)) (fun c7 => ?_) (fun c7 => ?_)
  · have hp2 := hp1.1 c7
    refine x_up (pc' := 36) (fun _ _ _ _ _ L => lv_aload_n hx hb dJ6_node_35 rfl (lv_at L 0 rfl)) ?_
    refine x_gq X (kJ6 hG) 3 (by decide) q258 (fun _ h => h) dJ6_node_36 hp2 (fun v2 hp3 => ?_)
    refine x_pc (pc' := 39) rfl ?_
    refine x_upL (pc' := 40) (lo' := [(2, va_rf v2), (0, .ref a0), (1, .int x1)]) (fun _ _ _ _ _ L => lv_astoreq_n hx hb dJ6_node_39 rfl L (by decide) rfl) ?_
    refine x_up (pc' := 41) (fun _ _ _ _ _ L => lv_aload_n hx hb dJ6_node_40 rfl (lv_at L 1 rfl)) ?_
    refine x_gi X (kJ6 hG) 1 (by decide) q255 (fun _ h => h) dJ6_node_41 hp3 (fun v3 hp4 => ?_)
    refine x_pc (pc' := 44) rfl ?_
    refine x_up (pc' := 45) (fun _ _ _ _ _ L => lv_iconst (v := (1 : Int32)) hx hb dJ6_node_44 (by decide)) ?_
    refine x_up (pc' := 46) (fun _ _ _ _ _ L => lv_isub hx hb dJ6_node_45) ?_
    refine x_st (pc' := 47) ([(3, .int (v3 - (1 : Int32))), (2, va_rf v2), (0, .ref a0), (1, .int x1)]) rfl (by simp [x_catq, x_cati, x_catr, x_catn]) (fun _ _ _ _ _ L => lv_istore_n hx hb dJ6_node_46 rfl L (by decide) rfl) ?_
    refine x_lo (lo' := [(2, va_rf v2), (3, .int (v3 - (1 : Int32))), (1, .int x1)]) [1, 0, 3] rfl ?_
    refine x_while (v0 := (v2, (v3 - (1 : Int32)))) (fun w4 => [(2, va_rf w4.1), (3, .int w4.2), (1, .int x1)]) hp4 (fun self5 hself6 => ?_)
    rintro ⟨y8, y9⟩ σ7 hp5
    unfold B_J6_node_47 at hp5
    refine x_same (lo' := [(2, va_rf y8), (3, .int y9), (1, .int x1)]) rfl ?_
    refine x_up (pc' := 48) (fun _ _ _ _ _ L => lv_iload_n hx hb dJ6_node_47 rfl (lv_at L 1 rfl)) ?_
    refine x_up (pc' := 49) (fun _ _ _ _ _ L => lv_iload_n hx hb dJ6_node_48 rfl (lv_at L 2 rfl)) ?_
    refine x_if (C := y9 ≤ x1) (pt := 63) (pc' := 52) (fun _ _ _ _ _ => lv_icmp_le (tgt := 63) hx hb dJ6_node_49 (by decide)) (fun c49 => ?_) (fun c49 => ?_)
    · have hp6 := hp5.1 c49
      refine x_up (pc' := 64) (fun _ _ _ _ _ L => lv_aloadq_n hx hb dJ6_node_63 rfl (lv_at L 0 rfl)) ?_
      exact x_aret X hr (Or.inl ⟨_, rfl⟩) dJ6_node_64 y8 hp6
    · have hp7 := hp5.2 c49
      refine x_up (pc' := 53) (fun _ _ _ _ _ L => lv_aloadq_n hx hb dJ6_node_52 rfl (lv_at L 0 rfl)) ?_
      obtain ⟨b10, rfl, hp8⟩ := hp7
      refine x_gq X (kJ10 hG) 2 (by decide) q449 (fun _ h => h) dJ6_node_53 hp8 (fun v11 hp9 => ?_)
      refine x_pc (pc' := 56) rfl ?_
      refine x_upL (pc' := 57) (lo' := [(2, va_rf v11), (3, .int y9), (1, .int x1)]) (fun _ _ _ _ _ L => lv_astoreq_n hx hb dJ6_node_56 rfl L (by decide) rfl) ?_
      refine x_st (pc' := 60) ([(3, .int (y9 + (-1 : Int32))), (2, va_rf v11), (1, .int x1)]) rfl (by simp [x_catq, x_cati, x_catr, x_catn]) (fun _ _ _ _ _ L => lv_iinc hx hb dJ6_node_57 L (k := 1) rfl rfl (by decide) rfl) ?_
      refine x_up (pc' := 47) (fun _ _ _ _ _ L => lv_goto (tgt := 47) hx hb dJ6_node_60 (by decide)) ?_
      refine x_lo (lo' := [(2, va_rf v11), (3, .int (y9 + (-1 : Int32))), (1, .int x1)]) [1, 0, 2] rfl ?_
      exact hself6 (v11, (y9 + (-1 : Int32))) σ7 hp9
  · have hp10 := hp1.2 c7
    refine x_up (pc' := 11) (fun _ _ _ _ _ L => lv_aload_n hx hb dJ6_node_10 rfl (lv_at L 0 rfl)) ?_
    refine x_gq X (kJ6 hG) 2 (by decide) q257 (fun _ h => h) dJ6_node_11 hp10 (fun v12 hp11 => ?_)
    refine x_pc (pc' := 14) rfl ?_
    refine x_upL (pc' := 15) (lo' := [(2, va_rf v12), (0, .ref a0), (1, .int x1)]) (fun _ _ _ _ _ L => lv_astoreq_n hx hb dJ6_node_14 rfl L (by decide) rfl) ?_
    refine x_up (pc' := 16) (fun _ _ _ _ _ L => lv_iconst (v := (0 : Int32)) hx hb dJ6_node_15 (by decide)) ?_
    refine x_st (pc' := 17) ([(3, .int (0 : Int32)), (2, va_rf v12), (0, .ref a0), (1, .int x1)]) rfl (by simp [x_catq, x_cati, x_catr, x_catn]) (fun _ _ _ _ _ L => lv_istore_n hx hb dJ6_node_16 rfl L (by decide) rfl) ?_
    refine x_lo (lo' := [(2, va_rf v12), (3, .int (0 : Int32)), (1, .int x1)]) [1, 0, 3] rfl ?_
    refine x_while (v0 := (v12, (0 : Int32))) (fun w13 => [(2, va_rf w13.1), (3, .int w13.2), (1, .int x1)]) hp11 (fun self14 hself15 => ?_)
    rintro ⟨y17, y18⟩ σ16 hp12
    unfold B_J6_node_17 at hp12
    refine x_same (lo' := [(2, va_rf y17), (3, .int y18), (1, .int x1)]) rfl ?_
    refine x_up (pc' := 18) (fun _ _ _ _ _ L => lv_iload_n hx hb dJ6_node_17 rfl (lv_at L 1 rfl)) ?_
    refine x_up (pc' := 19) (fun _ _ _ _ _ L => lv_iload_n hx hb dJ6_node_18 rfl (lv_at L 2 rfl)) ?_
    refine x_if (C := x1 ≤ y18) (pt := 33) (pc' := 22) (fun _ _ _ _ _ => lv_icmp_ge (tgt := 33) hx hb dJ6_node_19 (by decide)) (fun c19 => ?_) (fun c19 => ?_)
    · have hp13 := hp12.1 c19
      refine x_up (pc' := 34) (fun _ _ _ _ _ L => lv_aloadq_n hx hb dJ6_node_33 rfl (lv_at L 0 rfl)) ?_
      exact x_aret X hr (Or.inl ⟨_, rfl⟩) dJ6_node_34 y17 hp13
    · have hp14 := hp12.2 c19
      refine x_up (pc' := 23) (fun _ _ _ _ _ L => lv_aloadq_n hx hb dJ6_node_22 rfl (lv_at L 0 rfl)) ?_
      obtain ⟨b19, rfl, hp15⟩ := hp14
      refine x_gq X (kJ10 hG) 1 (by decide) q447 (fun _ h => h) dJ6_node_23 hp15 (fun v20 hp16 => ?_)
      refine x_pc (pc' := 26) rfl ?_
      refine x_upL (pc' := 27) (lo' := [(2, va_rf v20), (3, .int y18), (1, .int x1)]) (fun _ _ _ _ _ L => lv_astoreq_n hx hb dJ6_node_26 rfl L (by decide) rfl) ?_
      refine x_st (pc' := 30) ([(3, .int (y18 + (1 : Int32))), (2, va_rf v20), (1, .int x1)]) rfl (by simp [x_catq, x_cati, x_catr, x_catn]) (fun _ _ _ _ _ L => lv_iinc hx hb dJ6_node_27 L (k := 1) rfl rfl (by decide) rfl) ?_
      refine x_up (pc' := 17) (fun _ _ _ _ _ L => lv_goto (tgt := 17) hx hb dJ6_node_30 (by decide)) ?_
      refine x_lo (lo' := [(2, va_rf v20), (3, .int (y18 + (1 : Int32))), (1, .int x1)]) [1, 0, 2] rfl ?_
      exact hself15 (v20, (y18 + (1 : Int32))) σ16 hp16
