-- J42_init
def P_J42_init (κ : Nat → Nat) (a0 : Nat) (x1 : Option Nat) (σ : xS) (K : Unit → xH → Prop) : Prop :=
  xcall (fun τ L => P_J42_init_2 κ a0 (11 : Int32) x1 τ L) σ fun _ σ1 => K () σ1.1
theorem mdJ42_init : yJ42_init.cls ≠ "java/lang/invoke/MethodHandle" ∧ yJ42_init.cls ≠ "java/lang/invoke/VarHandle" ∧ (parseMethodDescriptor yJ42_init.desc).map (fun d => d.parameters.length) = some 1 := by decide +kernel
set_option maxHeartbeats 4000000 in
set_option maxRecDepth 100000 in
theorem R_J42_init (l : Launch) (hl : l.stackTraces = false) (G : xG) (hG : G.1.2 = x_cl) (a0 : Nat) (x1 : Option Nat) (σ : xS) (K : Unit → xH → Prop) (hp : P_J42_init G.2 a0 x1 σ K) : xM l yJ42_init cJ42_init 2 (Option.none : Option Jvm.ClassFile.FieldType) 4 82 G [(.ref a0), va_rf x1] σ (xlift emV K) := by
  refine x_entry (by decide) (by simp [lg_sl, x_catq, x_cati, x_catr, x_catn]) ?_
  intro p e s m args below meth c X hr hin
  have X : xX p s m args meth c G cJ42_init 2 RJ42 := X
  have hx := X.1
  have hb := X.2.1
  have hts := X.2.2.2.2.1
  have hown := X.2.2.2.1
  unfold P_J42_init at hp
  refine x_same (lo' := [(0, .ref a0), (1, va_rf x1)]) (by simp [lv_args, x_catq, x_cati, x_catr, x_catn]) ?_
  refine x_up (pc' := 1) (fun _ _ _ _ _ L => lv_aload_n hx hb dJ42_init_0 rfl (lv_at L 0 rfl)) ?_
  refine x_up (pc' := 3) (fun _ _ _ _ _ L => lv_bipush (v := (11 : Int32)) hx hb dJ42_init_1 (by decide)) ?_
  refine x_up (pc' := 4) (fun _ _ _ _ _ L => lv_aloadq_n hx hb dJ42_init_3 rfl (lv_at L 1 rfl)) ?_
  refine x_callI 2 X (fun σ' KK h => R_J42_init_2 l hl G hG a0 (11 : Int32) x1 σ' KK h) (lw_meth q2318) q150 q2316 q2317 rfl mdJ42_init_2 ⟨Nat.le_of_ble_eq_true rfl, Nat.le_of_ble_eq_true rfl⟩ rfl rfl (Nat.le_of_ble_eq_true rfl) dJ42_init_4 hp (fun σ1 hp1 => ?_)
  refine x_pc (pc' := 7) rfl ?_
  exact x_vret X hr dJ42_init_7 hp1
-- X3_mayGive
def P_X3_mayGive (κ : Nat → Nat) (a0 : Nat) (σ : xS) (K : Int32 → xH → Prop) : Prop :=
  xrc σ a0 5 ∧ xcall (fun τ L => P_X3_isEmpty κ a0 τ L) σ fun v1 σ2 => ((v1 = 0 → (xgi σ2 a0 5 4 fun v3 => ((v3 = 0 → (K (1 : Int32) σ2.1)) ∧ (¬ v3 = 0 → (K (0 : Int32) σ2.1))))) ∧ (¬ v1 = 0 → (K (0 : Int32) σ2.1)))
theorem mdX3_mayGive : yX3_mayGive.cls ≠ "java/lang/invoke/MethodHandle" ∧ yX3_mayGive.cls ≠ "java/lang/invoke/VarHandle" ∧ (parseMethodDescriptor yX3_mayGive.desc).map (fun d => d.parameters.length) = some 0 := by decide +kernel
set_option maxHeartbeats 4000000 in
set_option maxRecDepth 100000 in
theorem R_X3_mayGive (l : Launch) (hl : l.stackTraces = false) (G : xG) (hG : G.1.2 = x_cl) (a0 : Nat) (σ : xS) (K : Int32 → xH → Prop) (hp : P_X3_mayGive G.2 a0 σ K) : xM l yX3_mayGive cX3_mayGive 1 (Option.some Jvm.ClassFile.FieldType.boolean) 1 20 G [(.ref a0)] σ (xlift emI K) := by
  refine x_entry (by decide) (Nat.le_of_ble_eq_true rfl) ?_
  intro p e s m args below meth c X hr hin
  have X : xX p s m args meth c G cX3_mayGive 1 RX3 := X
  have hx := X.1
  have hb := X.2.1
  have hts := X.2.2.2.2.1
  have hown := X.2.2.2.1
  unfold P_X3_mayGive at hp
  refine x_same (lo' := [(0, .ref a0)]) rfl ?_
  refine x_up (pc' := 1) (fun _ _ _ _ _ L => lv_aload_n hx hb dX3_mayGive_0 rfl (lv_at L 0 rfl)) ?_
  refine x_callV (em := emI) (fun r st => .int r :: st) (fun _ _ => rfl) 0 X (kX3 hG) (fun σ' KK h => R_X3_isEmpty l hl G hG a0 σ' KK h) (lw_V q2349 q2106 q2107 q108 q2108) ⟨rfl, mdX3_isEmpty⟩ ⟨Nat.le_of_ble_eq_true rfl, Nat.le_of_ble_eq_true rfl⟩ rfl rfl (Nat.le_of_ble_eq_true rfl) dX3_mayGive_1 hp.1 hp.2 (fun v1 σ2 hp1 => ?_)
  refine x_pc (pc' := 4) rfl ?_
  refine x_ifn (C := v1 = 0) (pt := 18) (pc' := 7) (fun _ _ _ _ _ => lv_if_ne (tgt := 18) hx hb dX3_mayGive_4 (by decide)) (fun c4 => ?_) (fun c4 => ?_)
  · have hp2 := hp1.1 c4
    refine x_up (pc' := 8) (fun _ _ _ _ _ L => lv_aload_n hx hb dX3_mayGive_7 rfl (lv_at L 0 rfl)) ?_
    refine x_gi X (kX3 hG) 4 (by decide) q304 (fun _ h => h) dX3_mayGive_8 hp2 (fun v3 hp3 => ?_)
    refine x_pc (pc' := 11) rfl ?_
    refine x_ifn (C := v3 = 0) (pt := 18) (pc' := 14) (fun _ _ _ _ _ => lv_if_ne (tgt := 18) hx hb dX3_mayGive_11 (by decide)) (fun c11 => ?_) (fun c11 => ?_)
    · have hp4 := hp3.1 c11
      refine x_up (pc' := 15) (fun _ _ _ _ _ L => lv_iconst (v := (1 : Int32)) hx hb dX3_mayGive_14 (by decide)) ?_
      refine x_up (pc' := 19) (fun _ _ _ _ _ L => lv_goto (tgt := 19) hx hb dX3_mayGive_15 (by decide)) ?_
      exact x_iret X hr rfl dX3_mayGive_19 hp4
    · have hp5 := hp3.2 c11
      refine x_up (pc' := 19) (fun _ _ _ _ _ L => lv_iconst (v := (0 : Int32)) hx hb dX3_mayGive_18 (by decide)) ?_
      exact x_iret X hr rfl dX3_mayGive_19 hp5
  · have hp6 := hp1.2 c4
    refine x_up (pc' := 19) (fun _ _ _ _ _ L => lv_iconst (v := (0 : Int32)) hx hb dX3_mayGive_18 (by decide)) ?_
    exact x_iret X hr rfl dX3_mayGive_19 hp6
-- J42_siftUpComparable
def B_J42_siftUpComparable_5 (κ : Nat → Nat) (K : Unit → xH → Prop) (f2 : Option Nat) (f3 : Nat) : (Int32 → xS → Prop) → Int32 → xS → Prop := fun self6003 w6001 σ6002 =>
  ((w6001 ≤ 0 → (xnn f2 fun b6004 => xsq κ σ6002 b6004 w6001 (some f3) fun σ6005 => K () σ6005.1)) ∧ (¬ w6001 ≤ 0 → (xnn f2 fun b6006 => xaq σ6002 b6006 (((w6001 - (1 : Int32)).toUInt32 >>> ((1 : Int32).toUInt32 &&& Int32.toUInt32 31)).toInt32) fun v6007 => xrc σ6002 f3 14 ∧ xcall (fun τ L => P_J23_compareTo κ f3 v6007 τ L) σ6002 fun v6008 σ6009 => ((v6008 < 0 → (xsq κ σ6009 b6006 w6001 v6007 fun σ6010 => self6003 (((w6001 - (1 : Int32)).toUInt32 >>> ((1 : Int32).toUInt32 &&& Int32.toUInt32 31)).toInt32) σ6010)) ∧ (¬ v6008 < 0 → (xsq κ σ6009 b6006 w6001 (some f3) fun σ6011 => K () σ6011.1))))))
def P_J42_siftUpComparable (κ : Nat → Nat) (x0 : Int32) (x1 : Option Nat) (x2 : Option Nat) (σ : xS) (K : Unit → xH → Prop) : Prop :=
  xnn x1 fun b1 => xrc σ b1 14 ∧ xwhile (B_J42_siftUpComparable_5 κ K x2 b1) x0 σ
theorem mdJ42_siftUpComparable : yJ42_siftUpComparable.cls ≠ "java/lang/invoke/MethodHandle" ∧ yJ42_siftUpComparable.cls ≠ "java/lang/invoke/VarHandle" ∧ (parseMethodDescriptor yJ42_siftUpComparable.desc).map (fun d => d.parameters.length) = some 3 := by decide +kernel
set_option maxHeartbeats 4000000 in
set_option maxRecDepth 100000 in
theorem R_J42_siftUpComparable (l : Launch) (hl : l.stackTraces = false) (G : xG) (hG : G.1.2 = x_cl) (x0 : Int32) (x1 : Option Nat) (x2 : Option Nat) (σ : xS) (K : Unit → xH → Prop) (hp : P_J42_siftUpComparable G.2 x0 x1 x2 σ K) : xM l yJ42_siftUpComparable cJ42_siftUpComparable 6 (Option.none : Option Jvm.ClassFile.FieldType) 3 63 G [.int x0, va_rf x1, va_rf x2] σ (xlift emV K) := by
  refine x_entry (by decide) (by simp [lg_sl, x_catq, x_cati, x_catr, x_catn]) ?_
  intro p e s m args below meth c X hr hin
  have X : xX p s m args meth c G cJ42_siftUpComparable 6 RJ42 := X
  have hx := X.1
  have hb := X.2.1
  have hts := X.2.2.2.2.1
  have hown := X.2.2.2.1
  unfold P_J42_siftUpComparable at hp
  refine x_same (lo' := [(0, .int x0), (1, va_rf x1), (2, va_rf x2)]) (by simp [lv_args, x_catq, x_cati, x_catr, x_catn]) ?_
  refine x_up (pc' := 1) (fun _ _ _ _ _ L => lv_aloadq_n hx hb dJ42_siftUpComparable_0 rfl (lv_at L 1 rfl)) ?_
  obtain ⟨b1, rfl, hp1⟩ := hp
  refine x_castY X (kJ23 hG) q2375 q1405 hp1.1 dJ42_siftUpComparable_1 ?_
  have hp2 := hp1.2
  refine x_pc (pc' := 4) rfl ?_
  refine x_st (pc' := 5) ([(3, .ref b1), (0, .int x0), (1, .ref b1), (2, va_rf x2)]) rfl (by simp [x_catq, x_cati, x_catr, x_catn]) (fun _ _ _ _ _ L => lv_astore_n hx hb dJ42_siftUpComparable_4 rfl L (by decide) rfl) ?_
  refine x_lo (lo' := [(0, .int x0), (2, va_rf x2), (3, .ref b1)]) [1, 3, 0] rfl ?_
  refine x_while (v0 := x0) (fun w2 => [(0, .int w2), (2, va_rf x2), (3, .ref b1)]) hp2 (fun self3 hself4 => ?_)
  rintro y6 σ5 hp3
  unfold B_J42_siftUpComparable_5 at hp3
  refine x_same (lo' := [(0, .int y6), (2, va_rf x2), (3, .ref b1)]) rfl ?_
  refine x_up (pc' := 6) (fun _ _ _ _ _ L => lv_iload_n hx hb dJ42_siftUpComparable_5 rfl (lv_at L 0 rfl)) ?_
  refine x_if (C := y6 ≤ 0) (pt := 47) (pc' := 9) (fun _ _ _ _ _ => lv_if_le (tgt := 47) hx hb dJ42_siftUpComparable_6 (by decide)) (fun c6 => ?_) (fun c6 => ?_)
  · have hp4 := hp3.1 c6
    refine x_up (pc' := 48) (fun _ _ _ _ _ L => lv_aloadq_n hx hb dJ42_siftUpComparable_47 rfl (lv_at L 1 rfl)) ?_
    refine x_up (pc' := 49) (fun _ _ _ _ _ L => lv_iload_n hx hb dJ42_siftUpComparable_48 rfl (lv_at L 0 rfl)) ?_
    refine x_up (pc' := 50) (fun _ _ _ _ _ L => lv_aload_n hx hb dJ42_siftUpComparable_49 rfl (lv_at L 2 rfl)) ?_
    obtain ⟨b7, rfl, hp5⟩ := hp4
    refine x_aast X hG (some b1) dJ42_siftUpComparable_50 hp5 (fun σ8 hp6 => ?_)
    refine x_pc (pc' := 51) rfl ?_
    exact x_vret X hr dJ42_siftUpComparable_51 hp6
  · have hp7 := hp3.2 c6
    refine x_up (pc' := 10) (fun _ _ _ _ _ L => lv_iload_n hx hb dJ42_siftUpComparable_9 rfl (lv_at L 0 rfl)) ?_
    refine x_up (pc' := 11) (fun _ _ _ _ _ L => lv_iconst (v := (1 : Int32)) hx hb dJ42_siftUpComparable_10 (by decide)) ?_
    refine x_up (pc' := 12) (fun _ _ _ _ _ L => lv_isub hx hb dJ42_siftUpComparable_11) ?_
    refine x_up (pc' := 13) (fun _ _ _ _ _ L => lv_iconst (v := (1 : Int32)) hx hb dJ42_siftUpComparable_12 (by decide)) ?_
    refine x_up (pc' := 14) (fun _ _ _ _ _ L => lv_iushr hx hb dJ42_siftUpComparable_13 rfl) ?_
    refine x_upL (pc' := 16) (lo' := [(4, .int (((y6 - (1 : Int32)).toUInt32 >>> ((1 : Int32).toUInt32 &&& Int32.toUInt32 31)).toInt32)), (0, .int y6), (2, va_rf x2), (3, .ref b1)]) (fun _ _ _ _ _ L => lv_istore hx hb dJ42_siftUpComparable_14 L (by decide) rfl) ?_
    refine x_up (pc' := 17) (fun _ _ _ _ _ L => lv_aloadq_n hx hb dJ42_siftUpComparable_16 rfl (lv_at L 2 rfl)) ?_
    refine x_up (pc' := 19) (fun _ _ _ _ _ L => lv_iload hx hb dJ42_siftUpComparable_17 (lv_at L 0 rfl)) ?_
    obtain ⟨b9, rfl, hp8⟩ := hp7
    refine x_aald X dJ42_siftUpComparable_19 hp8 (fun v10 hp9 => ?_)
    refine x_pc (pc' := 20) rfl ?_
    refine x_upL (pc' := 22) (lo' := [(5, va_rf v10), (4, .int (((y6 - (1 : Int32)).toUInt32 >>> ((1 : Int32).toUInt32 &&& Int32.toUInt32 31)).toInt32)), (0, .int y6), (2, .ref b9), (3, .ref b1)]) (fun _ _ _ _ _ L => lv_astoreq hx hb dJ42_siftUpComparable_20 L (by decide) rfl) ?_
    refine x_up (pc' := 23) (fun _ _ _ _ _ L => lv_aload_n hx hb dJ42_siftUpComparable_22 rfl (lv_at L 4 rfl)) ?_
    refine x_up (pc' := 25) (fun _ _ _ _ _ L => lv_aloadq hx hb dJ42_siftUpComparable_23 (lv_at L 0 rfl)) ?_
    refine x_callF (x := ⟨"java/lang/Comparable", "compareTo", "(Ljava/lang/Object;)I"⟩) (em := emI) (fun r st => .int r :: st) (fun _ _ => rfl) 1 X (kJ23 hG) (fun σ' KK h => R_J23_compareTo l hl G hG b1 v10 σ' KK h) q2377 q1406 q1408 q128 q1410 ⟨⟨q1404, q1403, q1409, q1407, q1405⟩, by decide, by decide⟩ (by decide +kernel) ⟨Nat.le_of_ble_eq_true rfl, Nat.le_of_ble_eq_true rfl⟩ rfl rfl (Nat.le_of_ble_eq_true rfl) dJ42_siftUpComparable_25 hp9.1 hp9.2 (fun v11 σ12 hp10 => ?_)
    refine x_pc (pc' := 30) rfl ?_
    refine x_if (C := v11 < 0) (pt := 36) (pc' := 33) (fun _ _ _ _ _ => lv_if_lt (tgt := 36) hx hb dJ42_siftUpComparable_30 (by decide)) (fun c30 => ?_) (fun c30 => ?_)
    · have hp11 := hp10.1 c30
      refine x_up (pc' := 37) (fun _ _ _ _ _ L => lv_aload_n hx hb dJ42_siftUpComparable_36 rfl (lv_at L 3 rfl)) ?_
      refine x_up (pc' := 38) (fun _ _ _ _ _ L => lv_iload_n hx hb dJ42_siftUpComparable_37 rfl (lv_at L 2 rfl)) ?_
      refine x_up (pc' := 40) (fun _ _ _ _ _ L => lv_aloadq hx hb dJ42_siftUpComparable_38 (lv_at L 0 rfl)) ?_
      refine x_aast X hG v10 dJ42_siftUpComparable_40 hp11 (fun σ13 hp12 => ?_)
      refine x_pc (pc' := 41) rfl ?_
      refine x_up (pc' := 43) (fun _ _ _ _ _ L => lv_iload hx hb dJ42_siftUpComparable_41 (lv_at L 1 rfl)) ?_
      refine x_upL (pc' := 44) (lo' := [(0, .int (((y6 - (1 : Int32)).toUInt32 >>> ((1 : Int32).toUInt32 &&& Int32.toUInt32 31)).toInt32)), (5, va_rf v10), (4, .int (((y6 - (1 : Int32)).toUInt32 >>> ((1 : Int32).toUInt32 &&& Int32.toUInt32 31)).toInt32)), (2, .ref b9), (3, .ref b1)]) (fun _ _ _ _ _ L => lv_istore_n hx hb dJ42_siftUpComparable_43 rfl L (by decide) rfl) ?_
      refine x_up (pc' := 5) (fun _ _ _ _ _ L => lv_goto (tgt := 5) hx hb dJ42_siftUpComparable_44 (by decide)) ?_
      refine x_lo (lo' := [(0, .int (((y6 - (1 : Int32)).toUInt32 >>> ((1 : Int32).toUInt32 &&& Int32.toUInt32 31)).toInt32)), (2, .ref b9), (3, .ref b1)]) [0, 3, 4] rfl ?_
      exact hself4 (((y6 - (1 : Int32)).toUInt32 >>> ((1 : Int32).toUInt32 &&& Int32.toUInt32 31)).toInt32) σ13 hp12
    · have hp13 := hp10.2 c30
      refine x_up (pc' := 47) (fun _ _ _ _ _ L => lv_goto (tgt := 47) hx hb dJ42_siftUpComparable_33 (by decide)) ?_
      refine x_up (pc' := 48) (fun _ _ _ _ _ L => lv_aload_n hx hb dJ42_siftUpComparable_47 rfl (lv_at L 3 rfl)) ?_
      refine x_up (pc' := 49) (fun _ _ _ _ _ L => lv_iload_n hx hb dJ42_siftUpComparable_48 rfl (lv_at L 2 rfl)) ?_
      refine x_up (pc' := 50) (fun _ _ _ _ _ L => lv_aload_n hx hb dJ42_siftUpComparable_49 rfl (lv_at L 4 rfl)) ?_
      refine x_aast X hG (some b1) dJ42_siftUpComparable_50 hp13 (fun σ14 hp14 => ?_)
      refine x_pc (pc' := 51) rfl ?_
      exact x_vret X hr dJ42_siftUpComparable_51 hp14
-- J42_siftUpUsingComparator
def B_J42_siftUpUsingComparator_0 (κ : Nat → Nat) (K : Unit → xH → Prop) (f1 : Option Nat) (f2 : Option Nat) (f3 : Option Nat) : (Int32 → xS → Prop) → Int32 → xS → Prop := fun self1003 w1001 σ1002 =>
  ((w1001 ≤ 0 → (xnn f2 fun b1004 => xsq κ σ1002 b1004 w1001 f1 fun σ1005 => K () σ1005.1)) ∧ (¬ w1001 ≤ 0 → (xnn f2 fun b1006 => xaq σ1002 b1006 (((w1001 - (1 : Int32)).toUInt32 >>> ((1 : Int32).toUInt32 &&& Int32.toUInt32 31)).toInt32) fun v1007 => xnn f3 fun b1008 => xcall (fun τ L => ((xrc τ b1008 28 ∧ P_X7_compare_2 κ b1008 f1 v1007 τ L) ∨ ((xrc τ b1008 29 ∧ P_X8_compare κ b1008 f1 v1007 τ L) ∨ ((xrc τ b1008 30 ∧ P_X9_compare κ b1008 f1 v1007 τ L) ∨ ((xrc τ b1008 31 ∧ P_X10_compare κ b1008 f1 v1007 τ L) ∨ (xrc τ b1008 34 ∧ P_X11_compare κ b1008 f1 v1007 τ L)))))) σ1002 fun v1009 σ1010 => ((v1009 < 0 → (xsq κ σ1010 b1006 w1001 v1007 fun σ1011 => self1003 (((w1001 - (1 : Int32)).toUInt32 >>> ((1 : Int32).toUInt32 &&& Int32.toUInt32 31)).toInt32) σ1011)) ∧ (¬ v1009 < 0 → (xsq κ σ1010 b1006 w1001 f1 fun σ1012 => K () σ1012.1))))))
def P_J42_siftUpUsingComparator (κ : Nat → Nat) (x0 : Int32) (x1 : Option Nat) (x2 : Option Nat) (x3 : Option Nat) (σ : xS) (K : Unit → xH → Prop) : Prop :=
  xwhile (B_J42_siftUpUsingComparator_0 κ K x1 x2 x3) x0 σ
theorem mdJ42_siftUpUsingComparator : yJ42_siftUpUsingComparator.cls ≠ "java/lang/invoke/MethodHandle" ∧ yJ42_siftUpUsingComparator.cls ≠ "java/lang/invoke/VarHandle" ∧ (parseMethodDescriptor yJ42_siftUpUsingComparator.desc).map (fun d => d.parameters.length) = some 4 := by decide +kernel
set_option maxHeartbeats 4000000 in
set_option maxRecDepth 100000 in
theorem R_J42_siftUpUsingComparator (l : Launch) (hl : l.stackTraces = false) (G : xG) (hG : G.1.2 = x_cl) (x0 : Int32) (x1 : Option Nat) (x2 : Option Nat) (x3 : Option Nat) (σ : xS) (K : Unit → xH → Prop) (hp : P_J42_siftUpUsingComparator G.2 x0 x1 x2 x3 σ K) : xM l yJ42_siftUpUsingComparator cJ42_siftUpUsingComparator 6 (Option.none : Option Jvm.ClassFile.FieldType) 4 87 G [.int x0, va_rf x1, va_rf x2, va_rf x3] σ (xlift emV K) := by
  refine x_entry (by decide) (by simp [lg_sl, x_catq, x_cati, x_catr, x_catn]) ?_
  intro p e s m args below meth c X hr hin
  have X : xX p s m args meth c G cJ42_siftUpUsingComparator 6 RJ42 := X
  have hx := X.1
  have hb := X.2.1
  have hts := X.2.2.2.2.1
  have hown := X.2.2.2.1
  unfold P_J42_siftUpUsingComparator at hp
  refine x_same (lo' := [(0, .int x0), (1, va_rf x1), (2, va_rf x2), (3, va_rf x3)]) (by simp [lv_args, x_catq, x_cati, x_catr, x_catn]) ?_
  refine x_lo (lo' := [(0, .int x0), (1, va_rf x1), (2, va_rf x2), (3, va_rf x3)]) [0, 1, 2, 3] rfl ?_
  refine x_while (v0 := x0) (fun w1 => [(0, .int w1), (1, va_rf x1), (2, va_rf x2), (3, va_rf x3)]) hp (fun self2 hself3 => ?_)
  rintro y5 σ4 hp1
  unfold B_J42_siftUpUsingComparator_0 at hp1
  refine x_same (lo' := [(0, .int y5), (1, va_rf x1), (2, va_rf x2), (3, va_rf x3)]) rfl ?_
  refine x_up (pc' := 1) (fun _ _ _ _ _ L => lv_iload_n hx hb dJ42_siftUpUsingComparator_0 rfl (lv_at L 0 rfl)) ?_
  refine x_if (C := y5 ≤ 0) (pt := 43) (pc' := 4) (fun _ _ _ _ _ => lv_if_le (tgt := 43) hx hb dJ42_siftUpUsingComparator_1 (by decide)) (fun c1 => ?_) (fun c1 => ?_)
  · have hp2 := hp1.1 c1
    refine x_up (pc' := 44) (fun _ _ _ _ _ L => lv_aloadq_n hx hb dJ42_siftUpUsingComparator_43 rfl (lv_at L 2 rfl)) ?_
    refine x_up (pc' := 45) (fun _ _ _ _ _ L => lv_iload_n hx hb dJ42_siftUpUsingComparator_44 rfl (lv_at L 0 rfl)) ?_
    refine x_up (pc' := 46) (fun _ _ _ _ _ L => lv_aloadq_n hx hb dJ42_siftUpUsingComparator_45 rfl (lv_at L 1 rfl)) ?_
    obtain ⟨b6, rfl, hp3⟩ := hp2
    refine x_aast X hG x1 dJ42_siftUpUsingComparator_46 hp3 (fun σ7 hp4 => ?_)
    refine x_pc (pc' := 47) rfl ?_
    exact x_vret X hr dJ42_siftUpUsingComparator_47 hp4
  · have hp5 := hp1.2 c1
    refine x_up (pc' := 5) (fun _ _ _ _ _ L => lv_iload_n hx hb dJ42_siftUpUsingComparator_4 rfl (lv_at L 0 rfl)) ?_
    refine x_up (pc' := 6) (fun _ _ _ _ _ L => lv_iconst (v := (1 : Int32)) hx hb dJ42_siftUpUsingComparator_5 (by decide)) ?_
    refine x_up (pc' := 7) (fun _ _ _ _ _ L => lv_isub hx hb dJ42_siftUpUsingComparator_6) ?_
    refine x_up (pc' := 8) (fun _ _ _ _ _ L => lv_iconst (v := (1 : Int32)) hx hb dJ42_siftUpUsingComparator_7 (by decide)) ?_
    refine x_up (pc' := 9) (fun _ _ _ _ _ L => lv_iushr hx hb dJ42_siftUpUsingComparator_8 rfl) ?_
    refine x_st (pc' := 11) ([(4, .int (((y5 - (1 : Int32)).toUInt32 >>> ((1 : Int32).toUInt32 &&& Int32.toUInt32 31)).toInt32)), (0, .int y5), (1, va_rf x1), (2, va_rf x2), (3, va_rf x3)]) rfl (by simp [x_catq, x_cati, x_catr, x_catn]) (fun _ _ _ _ _ L => lv_istore hx hb dJ42_siftUpUsingComparator_9 L (by decide) rfl) ?_
    refine x_up (pc' := 12) (fun _ _ _ _ _ L => lv_aloadq_n hx hb dJ42_siftUpUsingComparator_11 rfl (lv_at L 3 rfl)) ?_
    refine x_up (pc' := 14) (fun _ _ _ _ _ L => lv_iload hx hb dJ42_siftUpUsingComparator_12 (lv_at L 0 rfl)) ?_
    obtain ⟨b8, rfl, hp6⟩ := hp5
    refine x_aald X dJ42_siftUpUsingComparator_14 hp6 (fun v9 hp7 => ?_)
    refine x_pc (pc' := 15) rfl ?_
    refine x_upL (pc' := 17) (lo' := [(5, va_rf v9), (4, .int (((y5 - (1 : Int32)).toUInt32 >>> ((1 : Int32).toUInt32 &&& Int32.toUInt32 31)).toInt32)), (0, .int y5), (1, va_rf x1), (2, .ref b8), (3, va_rf x3)]) (fun _ _ _ _ _ L => lv_astoreq hx hb dJ42_siftUpUsingComparator_15 L (by decide) rfl) ?_
    refine x_up (pc' := 18) (fun _ _ _ _ _ L => lv_aloadq_n hx hb dJ42_siftUpUsingComparator_17 rfl (lv_at L 5 rfl)) ?_
    refine x_up (pc' := 19) (fun _ _ _ _ _ L => lv_aloadq_n hx hb dJ42_siftUpUsingComparator_18 rfl (lv_at L 3 rfl)) ?_
    refine x_up (pc' := 21) (fun _ _ _ _ _ L => lv_aloadq hx hb dJ42_siftUpUsingComparator_19 (lv_at L 0 rfl)) ?_
    obtain ⟨b10, rfl, hp8⟩ := hp7
    refine x_kk (A := (fun r σ' => xW p l e ({ frames := 4, cells := σ.2.1, slots := σ.2.2, locals := 87 } : Room) s m args below meth c G 6 (MQ below (xQ G (xlift emV K)) args s σ.2.1 σ.2.2 (xA G)) σ' 26 [(5, va_rf v9), (4, .int (((y5 - (1 : Int32)).toUInt32 >>> ((1 : Int32).toUInt32 &&& Int32.toUInt32 31)).toInt32)), (0, .int y5), (1, va_rf x1), (2, .ref b8), (3, .ref b10)] [.int r])) hp8 (fun v11 σ12 hpK21 => ?_) (fun hd21 kk21 => ?_)
    rotate_left
    · refine x_or hd21 (fun h1 => ?_) (fun h2_0 => ?_)
      · obtain ⟨hr, h1⟩ := x_and h1
        exact x_callF (x := ⟨"java/util/Comparator", "compare", "(Ljava/lang/Object;Ljava/lang/Object;)I"⟩) (em := emI) (fun r st => .int r :: st) (fun _ _ => rfl) 2 X (kX7 hG) (fun σ' KK h => R_X7_compare_2 l hl G hG b10 x1 v9 σ' KK h) q2371 q1655 q1657 q151 q1659 ⟨⟨q1596, q1595, q1658, q1656, q1654⟩, by decide, by decide⟩ (by decide +kernel) ⟨Nat.le_of_ble_eq_true rfl, Nat.le_of_ble_eq_true rfl⟩ rfl rfl (Nat.le_of_ble_eq_true rfl) dJ42_siftUpUsingComparator_21 hr h1 kk21
      refine x_or h2_0 (fun h1 => ?_) (fun h2_1 => ?_)
      · obtain ⟨hr, h1⟩ := x_and h1
        exact x_callF (x := ⟨"java/util/Comparator", "compare", "(Ljava/lang/Object;Ljava/lang/Object;)I"⟩) (em := emI) (fun r st => .int r :: st) (fun _ _ => rfl) 2 X (kX8 hG) (fun σ' KK h => R_X8_compare l hl G hG b10 x1 v9 σ' KK h) q2371 q1609 q1611 q152 q1613 ⟨⟨q1596, q1595, q1612, q1610, q1608⟩, by decide, by decide⟩ (by decide +kernel) ⟨Nat.le_of_ble_eq_true rfl, Nat.le_of_ble_eq_true rfl⟩ rfl rfl (Nat.le_of_ble_eq_true rfl) dJ42_siftUpUsingComparator_21 hr h1 kk21
      refine x_or h2_1 (fun h1 => ?_) (fun h2_2 => ?_)
      · obtain ⟨hr, h1⟩ := x_and h1
        exact x_callF (x := ⟨"java/util/Comparator", "compare", "(Ljava/lang/Object;Ljava/lang/Object;)I"⟩) (em := emI) (fun r st => .int r :: st) (fun _ _ => rfl) 2 X (kX9 hG) (fun σ' KK h => R_X9_compare l hl G hG b10 x1 v9 σ' KK h) q2371 q1620 q1622 q153 q1624 ⟨⟨q1596, q1595, q1623, q1621, q1619⟩, by decide, by decide⟩ (by decide +kernel) ⟨Nat.le_of_ble_eq_true rfl, Nat.le_of_ble_eq_true rfl⟩ rfl rfl (Nat.le_of_ble_eq_true rfl) dJ42_siftUpUsingComparator_21 hr h1 kk21
      refine x_or h2_2 (fun h1 => ?_) (fun h2_3 => ?_)
      · obtain ⟨hr, h1⟩ := x_and h1
        exact x_callF (x := ⟨"java/util/Comparator", "compare", "(Ljava/lang/Object;Ljava/lang/Object;)I"⟩) (em := emI) (fun r st => .int r :: st) (fun _ _ => rfl) 2 X (kX10 hG) (fun σ' KK h => R_X10_compare l hl G hG b10 x1 v9 σ' KK h) q2371 q1635 q1637 q154 q1639 ⟨⟨q1596, q1595, q1638, q1636, q1634⟩, by decide, by decide⟩ (by decide +kernel) ⟨Nat.le_of_ble_eq_true rfl, Nat.le_of_ble_eq_true rfl⟩ rfl rfl (Nat.le_of_ble_eq_true rfl) dJ42_siftUpUsingComparator_21 hr h1 kk21
      obtain ⟨hr, h1⟩ := x_and h2_3
      exact x_callF (x := ⟨"java/util/Comparator", "compare", "(Ljava/lang/Object;Ljava/lang/Object;)I"⟩) (em := emI) (fun r st => .int r :: st) (fun _ _ => rfl) 2 X (kX11 hG) (fun σ' KK h => R_X11_compare l hl G hG b10 x1 v9 σ' KK h) q2371 q1598 q1600 q158 q1602 ⟨⟨q1596, q1595, q1601, q1599, q1597⟩, by decide, by decide⟩ (by decide +kernel) ⟨Nat.le_of_ble_eq_true rfl, Nat.le_of_ble_eq_true rfl⟩ rfl rfl (Nat.le_of_ble_eq_true rfl) dJ42_siftUpUsingComparator_21 hr h1 kk21
    have hp9 := hpK21
    refine x_if (C := v11 < 0) (pt := 32) (pc' := 29) (fun _ _ _ _ _ => lv_if_lt (tgt := 32) hx hb dJ42_siftUpUsingComparator_26 (by decide)) (fun c26 => ?_) (fun c26 => ?_)
    · have hp10 := hp9.1 c26
      refine x_up (pc' := 33) (fun _ _ _ _ _ L => lv_aload_n hx hb dJ42_siftUpUsingComparator_32 rfl (lv_at L 4 rfl)) ?_
      refine x_up (pc' := 34) (fun _ _ _ _ _ L => lv_iload_n hx hb dJ42_siftUpUsingComparator_33 rfl (lv_at L 2 rfl)) ?_
      refine x_up (pc' := 36) (fun _ _ _ _ _ L => lv_aloadq hx hb dJ42_siftUpUsingComparator_34 (lv_at L 0 rfl)) ?_
      refine x_aast X hG v9 dJ42_siftUpUsingComparator_36 hp10 (fun σ13 hp11 => ?_)
      refine x_pc (pc' := 37) rfl ?_
      refine x_up (pc' := 39) (fun _ _ _ _ _ L => lv_iload hx hb dJ42_siftUpUsingComparator_37 (lv_at L 1 rfl)) ?_
      refine x_upL (pc' := 40) (lo' := [(0, .int (((y5 - (1 : Int32)).toUInt32 >>> ((1 : Int32).toUInt32 &&& Int32.toUInt32 31)).toInt32)), (5, va_rf v9), (4, .int (((y5 - (1 : Int32)).toUInt32 >>> ((1 : Int32).toUInt32 &&& Int32.toUInt32 31)).toInt32)), (1, va_rf x1), (2, .ref b8), (3, .ref b10)]) (fun _ _ _ _ _ L => lv_istore_n hx hb dJ42_siftUpUsingComparator_39 rfl L (by decide) rfl) ?_
      refine x_up (pc' := 0) (fun _ _ _ _ _ L => lv_goto (tgt := 0) hx hb dJ42_siftUpUsingComparator_40 (by decide)) ?_
      refine x_lo (lo' := [(0, .int (((y5 - (1 : Int32)).toUInt32 >>> ((1 : Int32).toUInt32 &&& Int32.toUInt32 31)).toInt32)), (1, va_rf x1), (2, .ref b8), (3, .ref b10)]) [0, 3, 4, 5] rfl ?_
      exact hself3 (((y5 - (1 : Int32)).toUInt32 >>> ((1 : Int32).toUInt32 &&& Int32.toUInt32 31)).toInt32) σ13 hp11
    · have hp12 := hp9.2 c26
      refine x_up (pc' := 43) (fun _ _ _ _ _ L => lv_goto (tgt := 43) hx hb dJ42_siftUpUsingComparator_29 (by decide)) ?_
      refine x_up (pc' := 44) (fun _ _ _ _ _ L => lv_aload_n hx hb dJ42_siftUpUsingComparator_43 rfl (lv_at L 4 rfl)) ?_
      refine x_up (pc' := 45) (fun _ _ _ _ _ L => lv_iload_n hx hb dJ42_siftUpUsingComparator_44 rfl (lv_at L 2 rfl)) ?_
      refine x_up (pc' := 46) (fun _ _ _ _ _ L => lv_aloadq_n hx hb dJ42_siftUpUsingComparator_45 rfl (lv_at L 3 rfl)) ?_
      refine x_aast X hG x1 dJ42_siftUpUsingComparator_46 hp12 (fun σ14 hp13 => ?_)
      refine x_pc (pc' := 47) rfl ?_
      exact x_vret X hr dJ42_siftUpUsingComparator_47 hp13
-- J42_siftUp
def P_J42_siftUp (κ : Nat → Nat) (a0 : Nat) (x1 : Int32) (x2 : Option Nat) (σ : xS) (K : Unit → xH → Prop) : Prop :=
  xgq σ a0 27 2 fun v1 => ((v1 = none → (xgq σ a0 27 0 fun v3 => xcall (fun τ L => P_J42_siftUpComparable κ x1 x2 v3 τ L) σ fun _ σ4 => K () σ4.1)) ∧ (∀ b2 : Nat, v1 = some b2 → (xgq σ a0 27 0 fun v5 => xgq σ a0 27 2 fun v6 => xcall (fun τ L => P_J42_siftUpUsingComparator κ x1 x2 v5 v6 τ L) σ fun _ σ7 => K () σ7.1)))
theorem mdJ42_siftUp : yJ42_siftUp.cls ≠ "java/lang/invoke/MethodHandle" ∧ yJ42_siftUp.cls ≠ "java/lang/invoke/VarHandle" ∧ (parseMethodDescriptor yJ42_siftUp.desc).map (fun d => d.parameters.length) = some 2 := by decide +kernel
set_option maxHeartbeats 4000000 in
set_option maxRecDepth 100000 in
theorem R_J42_siftUp (l : Launch) (hl : l.stackTraces = false) (G : xG) (hG : G.1.2 = x_cl) (a0 : Nat) (x1 : Int32) (x2 : Option Nat) (σ : xS) (K : Unit → xH → Prop) (hp : P_J42_siftUp G.2 a0 x1 x2 σ K) : xM l yJ42_siftUp cJ42_siftUp 3 (Option.none : Option Jvm.ClassFile.FieldType) 5 112 G [(.ref a0), .int x1, va_rf x2] σ (xlift emV K) := by
  refine x_entry (by decide) (by simp [lg_sl, x_catq, x_cati, x_catr, x_catn]) ?_
  intro p e s m args below meth c X hr hin
  have X : xX p s m args meth c G cJ42_siftUp 3 RJ42 := X
  have hx := X.1
  have hb := X.2.1
  have hts := X.2.2.2.2.1
  have hown := X.2.2.2.1
  unfold P_J42_siftUp at hp
  refine x_same (lo' := [(0, .ref a0), (1, .int x1), (2, va_rf x2)]) (by simp [lv_args, x_catq, x_cati, x_catr, x_catn]) ?_
  refine x_up (pc' := 1) (fun _ _ _ _ _ L => lv_aload_n hx hb dJ42_siftUp_0 rfl (lv_at L 0 rfl)) ?_
  refine x_gq X (kJ42 hG) 2 (by decide) q2333 (fun _ h => h) dJ42_siftUp_1 hp (fun v1 hp1 => ?_)
  refine x_pc (pc' := 4) rfl ?_
  rcases v1 with _ | b2
  · have hp2 := hp1.1 rfl
    refine x_up (pc' := 23) (fun _ _ _ _ _ L => lv_ifnullN (tgt := 23) hx hb dJ42_siftUp_4 (by decide)) ?_
    refine x_up (pc' := 24) (fun _ _ _ _ _ L => lv_iload_n hx hb dJ42_siftUp_23 rfl (lv_at L 1 rfl)) ?_
    refine x_up (pc' := 25) (fun _ _ _ _ _ L => lv_aloadq_n hx hb dJ42_siftUp_24 rfl (lv_at L 2 rfl)) ?_
    refine x_up (pc' := 26) (fun _ _ _ _ _ L => lv_aload_n hx hb dJ42_siftUp_25 rfl (lv_at L 0 rfl)) ?_
    refine x_gq X (kJ42 hG) 0 (by decide) q2330 (fun _ h => h) dJ42_siftUp_26 hp2 (fun v3 hp3 => ?_)
    refine x_pc (pc' := 29) rfl ?_
    refine x_callS (em := emV) (fun r st => st) (fun _ _ => rfl) 3 X (fun σ' KK h => R_J42_siftUpComparable l hl G hG x1 x2 v3 σ' KK h) (lw_S q2372 q2373 q150 q2374) mdJ42_siftUpComparable ⟨Nat.le_of_ble_eq_true rfl, Nat.le_of_ble_eq_true rfl⟩ rfl rfl (Nat.le_of_ble_eq_true rfl) dJ42_siftUp_29 hp3 (fun _ σ4 hp4 => ?_)
    refine x_pc (pc' := 32) rfl ?_
    exact x_vret X hr dJ42_siftUp_32 hp4
  · have hp5 := hp1.2 _ rfl
    refine x_up (pc' := 7) (fun _ _ _ _ _ L => lv_ifnull hx hb dJ42_siftUp_4) ?_
    refine x_up (pc' := 8) (fun _ _ _ _ _ L => lv_iload_n hx hb dJ42_siftUp_7 rfl (lv_at L 1 rfl)) ?_
    refine x_up (pc' := 9) (fun _ _ _ _ _ L => lv_aloadq_n hx hb dJ42_siftUp_8 rfl (lv_at L 2 rfl)) ?_
    refine x_up (pc' := 10) (fun _ _ _ _ _ L => lv_aload_n hx hb dJ42_siftUp_9 rfl (lv_at L 0 rfl)) ?_
    refine x_gq X (kJ42 hG) 0 (by decide) q2330 (fun _ h => h) dJ42_siftUp_10 hp5 (fun v5 hp6 => ?_)
    refine x_pc (pc' := 13) rfl ?_
    refine x_up (pc' := 14) (fun _ _ _ _ _ L => lv_aload_n hx hb dJ42_siftUp_13 rfl (lv_at L 0 rfl)) ?_
    refine x_gq X (kJ42 hG) 2 (by decide) q2333 (fun _ h => h) dJ42_siftUp_14 hp6 (fun v6 hp7 => ?_)
    refine x_pc (pc' := 17) rfl ?_
    refine x_callS (em := emV) (fun r st => st) (fun _ _ => rfl) 4 X (fun σ' KK h => R_J42_siftUpUsingComparator l hl G hG x1 x2 v5 v6 σ' KK h) (lw_S q2367 q2368 q150 q2369) mdJ42_siftUpUsingComparator ⟨Nat.le_of_ble_eq_true rfl, Nat.le_of_ble_eq_true rfl⟩ rfl rfl (Nat.le_of_ble_eq_true rfl) dJ42_siftUp_17 hp7 (fun _ σ7 hp8 => ?_)
    refine x_pc (pc' := 20) rfl ?_
    refine x_up (pc' := 32) (fun _ _ _ _ _ L => lv_goto (tgt := 32) hx hb dJ42_siftUp_20 (by decide)) ?_
    exact x_vret X hr dJ42_siftUp_32 hp8
-- J42_grow
def P_J42_grow (κ : Nat → Nat) (a0 : Nat) (x1 : Int32) (σ : xS) (K : Unit → xH → Prop) : Prop :=
  xgq σ a0 27 0 fun v1 => xnn v1 fun b2 => xan σ b2 fun v3 => (((64 : Int32) ≤ v3 → (xcall (fun τ L => P_J7_newLength κ v3 (x1 - v3) (v3 >>> ((1 : Int32) &&& 31)) τ L) σ fun v4 σ5 => xgq σ5 a0 27 0 fun v6 => xcall (fun τ L => P_J9_copyOf κ v6 v4 τ L) σ5 fun v7 σ8 => xpq κ σ8 a0 27 0 v7 fun σ9 => K () σ9.1)) ∧ (¬ (64 : Int32) ≤ v3 → (xcall (fun τ L => P_J7_newLength κ v3 (x1 - v3) (v3 + (2 : Int32)) τ L) σ fun v10 σ11 => xgq σ11 a0 27 0 fun v12 => xcall (fun τ L => P_J9_copyOf κ v12 v10 τ L) σ11 fun v13 σ14 => xpq κ σ14 a0 27 0 v13 fun σ15 => K () σ15.1)))
theorem mdJ42_grow : yJ42_grow.cls ≠ "java/lang/invoke/MethodHandle" ∧ yJ42_grow.cls ≠ "java/lang/invoke/VarHandle" ∧ (parseMethodDescriptor yJ42_grow.desc).map (fun d => d.parameters.length) = some 1 := by decide +kernel
set_option maxHeartbeats 4000000 in
set_option maxRecDepth 100000 in
theorem R_J42_grow (l : Launch) (hl : l.stackTraces = false) (G : xG) (hG : G.1.2 = x_cl) (a0 : Nat) (x1 : Int32) (σ : xS) (K : Unit → xH → Prop) (hp : P_J42_grow G.2 a0 x1 σ K) : xM l yJ42_grow cJ42_grow 4 (Option.none : Option Jvm.ClassFile.FieldType) 3 104 G [(.ref a0), .int x1] σ (xlift emV K) := by
  refine x_entry (by decide) (Nat.le_of_ble_eq_true rfl) ?_
  intro p e s m args below meth c X hr hin
  have X : xX p s m args meth c G cJ42_grow 4 RJ42 := X
  have hx := X.1
  have hb := X.2.1
  have hts := X.2.2.2.2.1
  have hown := X.2.2.2.1
  unfold P_J42_grow at hp
  refine x_same (lo' := [(0, .ref a0), (1, .int x1)]) rfl ?_
  refine x_up (pc' := 1) (fun _ _ _ _ _ L => lv_aload_n hx hb dJ42_grow_0 rfl (lv_at L 0 rfl)) ?_
  refine x_gq X (kJ42 hG) 0 (by decide) q2330 (fun _ h => h) dJ42_grow_1 hp (fun v1 hp1 => ?_)
  refine x_pc (pc' := 4) rfl ?_
  obtain ⟨b2, rfl, hp2⟩ := hp1
  refine x_alen X dJ42_grow_4 hp2 (fun v3 hp3 => ?_)
  refine x_pc (pc' := 5) rfl ?_
  refine x_upL (pc' := 6) (lo' := [(2, .int v3), (0, .ref a0), (1, .int x1)]) (fun _ _ _ _ _ L => lv_istore_n hx hb dJ42_grow_5 rfl L (by decide) rfl) ?_
  refine x_up (pc' := 7) (fun _ _ _ _ _ L => lv_iload_n hx hb dJ42_grow_6 rfl (lv_at L 0 rfl)) ?_
  refine x_up (pc' := 8) (fun _ _ _ _ _ L => lv_iload_n hx hb dJ42_grow_7 rfl (lv_at L 2 rfl)) ?_
  refine x_up (pc' := 9) (fun _ _ _ _ _ L => lv_iload_n hx hb dJ42_grow_8 rfl (lv_at L 0 rfl)) ?_
  refine x_up (pc' := 10) (fun _ _ _ _ _ L => lv_isub hx hb dJ42_grow_9) ?_
  refine x_up (pc' := 11) (fun _ _ _ _ _ L => lv_iload_n hx hb dJ42_grow_10 rfl (lv_at L 0 rfl)) ?_
  refine x_up (pc' := 13) (fun _ _ _ _ _ L => lv_bipush (v := (64 : Int32)) hx hb dJ42_grow_11 (by decide)) ?_
  refine x_if (C := (64 : Int32) ≤ v3) (pt := 22) (pc' := 16) (fun _ _ _ _ _ => lv_icmp_ge (tgt := 22) hx hb dJ42_grow_13 (by decide)) (fun c13 => ?_) (fun c13 => ?_)
  · have hp4 := hp3.1 c13
    refine x_up (pc' := 23) (fun _ _ _ _ _ L => lv_iload_n hx hb dJ42_grow_22 rfl (lv_at L 0 rfl)) ?_
    refine x_up (pc' := 24) (fun _ _ _ _ _ L => lv_iconst (v := (1 : Int32)) hx hb dJ42_grow_23 (by decide)) ?_
    refine x_up (pc' := 25) (fun _ _ _ _ _ L => lv_ishr hx hb dJ42_grow_24) ?_
    refine x_callS (em := emI) (fun r st => .int r :: st) (fun _ _ => rfl) 3 X (fun σ' KK h => R_J7_newLength l hl G hG v3 (x1 - v3) (v3 >>> ((1 : Int32) &&& 31)) σ' KK h) (lw_S q2362 q355 q109 q356) mdJ7_newLength ⟨Nat.le_of_ble_eq_true rfl, Nat.le_of_ble_eq_true rfl⟩ rfl rfl (Nat.le_of_ble_eq_true rfl) dJ42_grow_25 hp4 (fun v4 σ5 hp5 => ?_)
    refine x_pc (pc' := 28) rfl ?_
    refine x_upL (pc' := 29) (lo' := [(3, .int v4), (2, .int v3), (0, .ref a0), (1, .int x1)]) (fun _ _ _ _ _ L => lv_istore_n hx hb dJ42_grow_28 rfl L (by decide) rfl) ?_
    refine x_up (pc' := 30) (fun _ _ _ _ _ L => lv_aload_n hx hb dJ42_grow_29 rfl (lv_at L 2 rfl)) ?_
    refine x_up (pc' := 31) (fun _ _ _ _ _ L => lv_aload_n hx hb dJ42_grow_30 rfl (lv_at L 2 rfl)) ?_
    refine x_gq X (kJ42 hG) 0 (by decide) q2330 (fun _ h => h) dJ42_grow_31 hp5 (fun v6 hp6 => ?_)
    refine x_pc (pc' := 34) rfl ?_
    refine x_up (pc' := 35) (fun _ _ _ _ _ L => lv_iload_n hx hb dJ42_grow_34 rfl (lv_at L 0 rfl)) ?_
    refine x_callS (em := emQ) (fun r st => va_rf r :: st) (fun _ _ => rfl) 2 X (fun σ' KK h => R_J9_copyOf l hl G hG v6 v4 σ' KK h) (lw_S q1866 q365 q111 q366) mdJ9_copyOf ⟨Nat.le_of_ble_eq_true rfl, Nat.le_of_ble_eq_true rfl⟩ rfl rfl (Nat.le_of_ble_eq_true rfl) dJ42_grow_35 hp6 (fun v7 σ8 hp7 => ?_)
    refine x_pc (pc' := 38) rfl ?_
    refine x_pq X (kJ42 hG) 0 (by decide) q2330 (fun _ h => h) rfl v7 (x_nar _ (by decide)) (x_fit _ (by decide)) dJ42_grow_38 hp7 (fun σ9 hp8 => ?_)
    refine x_pc (pc' := 41) rfl ?_
    exact x_vret X hr dJ42_grow_41 hp8
  · have hp9 := hp3.2 c13
    refine x_up (pc' := 17) (fun _ _ _ _ _ L => lv_iload_n hx hb dJ42_grow_16 rfl (lv_at L 0 rfl)) ?_
    refine x_up (pc' := 18) (fun _ _ _ _ _ L => lv_iconst (v := (2 : Int32)) hx hb dJ42_grow_17 (by decide)) ?_
    refine x_up (pc' := 19) (fun _ _ _ _ _ L => lv_iadd hx hb dJ42_grow_18) ?_
    refine x_up (pc' := 25) (fun _ _ _ _ _ L => lv_goto (tgt := 25) hx hb dJ42_grow_19 (by decide)) ?_
    refine x_callS (em := emI) (fun r st => .int r :: st) (fun _ _ => rfl) 3 X (fun σ' KK h => R_J7_newLength l hl G hG v3 (x1 - v3) (v3 + (2 : Int32)) σ' KK h) (lw_S q2362 q355 q109 q356) mdJ7_newLength ⟨Nat.le_of_ble_eq_true rfl, Nat.le_of_ble_eq_true rfl⟩ rfl rfl (Nat.le_of_ble_eq_true rfl) dJ42_grow_25 hp9 (fun v10 σ11 hp10 => ?_)
    refine x_pc (pc' := 28) rfl ?_
    refine x_upL (pc' := 29) (lo' := [(3, .int v10), (2, .int v3), (0, .ref a0), (1, .int x1)]) (fun _ _ _ _ _ L => lv_istore_n hx hb dJ42_grow_28 rfl L (by decide) rfl) ?_
    refine x_up (pc' := 30) (fun _ _ _ _ _ L => lv_aload_n hx hb dJ42_grow_29 rfl (lv_at L 2 rfl)) ?_
    refine x_up (pc' := 31) (fun _ _ _ _ _ L => lv_aload_n hx hb dJ42_grow_30 rfl (lv_at L 2 rfl)) ?_
    refine x_gq X (kJ42 hG) 0 (by decide) q2330 (fun _ h => h) dJ42_grow_31 hp10 (fun v12 hp11 => ?_)
    refine x_pc (pc' := 34) rfl ?_
    refine x_up (pc' := 35) (fun _ _ _ _ _ L => lv_iload_n hx hb dJ42_grow_34 rfl (lv_at L 0 rfl)) ?_
    refine x_callS (em := emQ) (fun r st => va_rf r :: st) (fun _ _ => rfl) 2 X (fun σ' KK h => R_J9_copyOf l hl G hG v12 v10 σ' KK h) (lw_S q1866 q365 q111 q366) mdJ9_copyOf ⟨Nat.le_of_ble_eq_true rfl, Nat.le_of_ble_eq_true rfl⟩ rfl rfl (Nat.le_of_ble_eq_true rfl) dJ42_grow_35 hp11 (fun v13 σ14 hp12 => ?_)
    refine x_pc (pc' := 38) rfl ?_
    refine x_pq X (kJ42 hG) 0 (by decide) q2330 (fun _ h => h) rfl v13 (x_nar _ (by decide)) (x_fit _ (by decide)) dJ42_grow_38 hp12 (fun σ15 hp13 => ?_)
    refine x_pc (pc' := 41) rfl ?_
    exact x_vret X hr dJ42_grow_41 hp13
-- J42_offer
def P_J42_offer (κ : Nat → Nat) (a0 : Nat) (x1 : Option Nat) (σ : xS) (K : Int32 → xH → Prop) : Prop :=
  ((x1 = none → (False)) ∧ (∀ b1 : Nat, x1 = some b1 → (xgi σ a0 27 3 fun v2 => xpi κ σ a0 27 3 (v2 + (1 : Int32)) fun σ3 => xgi σ3 a0 27 1 fun v4 => xgq σ3 a0 27 0 fun v5 => xnn v5 fun b6 => xan σ3 b6 fun v7 => ((v4 < v7 → (xrc σ3 a0 27 ∧ xcall (fun τ L => P_J42_siftUp κ a0 v4 (some b1) τ L) σ3 fun _ σ8 => xpi κ σ8 a0 27 1 (v4 + (1 : Int32)) fun σ9 => K (1 : Int32) σ9.1)) ∧ (¬ v4 < v7 → (xrc σ3 a0 27 ∧ xcall (fun τ L => P_J42_grow κ a0 (v4 + (1 : Int32)) τ L) σ3 fun _ σ10 => xrc σ10 a0 27 ∧ xcall (fun τ L => P_J42_siftUp κ a0 v4 (some b1) τ L) σ10 fun _ σ11 => xpi κ σ11 a0 27 1 (v4 + (1 : Int32)) fun σ12 => K (1 : Int32) σ12.1))))))
theorem mdJ42_offer : yJ42_offer.cls ≠ "java/lang/invoke/MethodHandle" ∧ yJ42_offer.cls ≠ "java/lang/invoke/VarHandle" ∧ (parseMethodDescriptor yJ42_offer.desc).map (fun d => d.parameters.length) = some 1 := by decide +kernel
set_option maxHeartbeats 4000000 in
set_option maxRecDepth 100000 in
theorem R_J42_offer (l : Launch) (hl : l.stackTraces = false) (G : xG) (hG : G.1.2 = x_cl) (a0 : Nat) (x1 : Option Nat) (σ : xS) (K : Int32 → xH → Prop) (hp : P_J42_offer G.2 a0 x1 σ K) : xM l yJ42_offer cJ42_offer 3 (Option.some Jvm.ClassFile.FieldType.boolean) 6 134 G [(.ref a0), va_rf x1] σ (xlift emI K) := by
  refine x_entry (by decide) (by simp [lg_sl, x_catq, x_cati, x_catr, x_catn]) ?_
  intro p e s m args below meth c X hr hin
  have X : xX p s m args meth c G cJ42_offer 3 RJ42 := X
  have hx := X.1
  have hb := X.2.1
  have hts := X.2.2.2.2.1
  have hown := X.2.2.2.1
  unfold P_J42_offer at hp
  refine x_same (lo' := [(0, .ref a0), (1, va_rf x1)]) (by simp [lv_args, x_catq, x_cati, x_catr, x_catn]) ?_
  refine x_up (pc' := 1) (fun _ _ _ _ _ L => lv_aloadq_n hx hb dJ42_offer_0 rfl (lv_at L 1 rfl)) ?_
  rcases x1 with _ | b1
  · have hp1 := hp.1 rfl
    refine x_up (pc' := 4) (fun _ _ _ _ _ L => lv_ifnonnullN hx hb dJ42_offer_1) ?_
    exact hp1.elim
  · have hp2 := hp.2 _ rfl
    refine x_up (pc' := 12) (fun _ _ _ _ _ L => lv_ifnonnull (tgt := 12) hx hb dJ42_offer_1 (by decide)) ?_
    refine x_up (pc' := 13) (fun _ _ _ _ _ L => lv_aload_n hx hb dJ42_offer_12 rfl (lv_at L 0 rfl)) ?_
    refine x_up (pc' := 14) (fun _ _ _ _ _ L => lv_dup hx hb dJ42_offer_13 rfl) ?_
    refine x_gi X (kJ42 hG) 3 (by decide) q2335 (fun _ h => h) dJ42_offer_14 hp2 (fun v2 hp3 => ?_)
    refine x_pc (pc' := 17) rfl ?_
    refine x_up (pc' := 18) (fun _ _ _ _ _ L => lv_iconst (v := (1 : Int32)) hx hb dJ42_offer_17 (by decide)) ?_
    refine x_up (pc' := 19) (fun _ _ _ _ _ L => lv_iadd hx hb dJ42_offer_18) ?_
    refine x_pi X (kJ42 hG) 3 (by decide) q2335 (fun _ h => h) rfl rfl rfl dJ42_offer_19 hp3 (fun σ3 hp4 => ?_)
    refine x_pc (pc' := 22) rfl ?_
    refine x_up (pc' := 23) (fun _ _ _ _ _ L => lv_aload_n hx hb dJ42_offer_22 rfl (lv_at L 0 rfl)) ?_
    refine x_gi X (kJ42 hG) 1 (by decide) q2332 (fun _ h => h) dJ42_offer_23 hp4 (fun v4 hp5 => ?_)
    refine x_pc (pc' := 26) rfl ?_
    refine x_upL (pc' := 27) (lo' := [(2, .int v4), (0, .ref a0), (1, .ref b1)]) (fun _ _ _ _ _ L => lv_istore_n hx hb dJ42_offer_26 rfl L (by decide) rfl) ?_
    refine x_up (pc' := 28) (fun _ _ _ _ _ L => lv_iload_n hx hb dJ42_offer_27 rfl (lv_at L 0 rfl)) ?_
    refine x_up (pc' := 29) (fun _ _ _ _ _ L => lv_aload_n hx hb dJ42_offer_28 rfl (lv_at L 1 rfl)) ?_
    refine x_gq X (kJ42 hG) 0 (by decide) q2330 (fun _ h => h) dJ42_offer_29 hp5 (fun v5 hp6 => ?_)
    refine x_pc (pc' := 32) rfl ?_
    obtain ⟨b6, rfl, hp7⟩ := hp6
    refine x_alen X dJ42_offer_32 hp7 (fun v7 hp8 => ?_)
    refine x_pc (pc' := 33) rfl ?_
    refine x_if (C := v4 < v7) (pt := 43) (pc' := 36) (fun _ _ _ _ _ => lv_icmp_lt (tgt := 43) hx hb dJ42_offer_33 (by decide)) (fun c33 => ?_) (fun c33 => ?_)
    · have hp9 := hp8.1 c33
      refine x_up (pc' := 44) (fun _ _ _ _ _ L => lv_aload_n hx hb dJ42_offer_43 rfl (lv_at L 1 rfl)) ?_
      refine x_up (pc' := 45) (fun _ _ _ _ _ L => lv_iload_n hx hb dJ42_offer_44 rfl (lv_at L 0 rfl)) ?_
      refine x_up (pc' := 46) (fun _ _ _ _ _ L => lv_aload_n hx hb dJ42_offer_45 rfl (lv_at L 2 rfl)) ?_
      refine x_callV (em := emV) (fun r st => st) (fun _ _ => rfl) 2 X (kJ42 hG) (fun σ' KK h => R_J42_siftUp l hl G hG a0 v4 (some b1) σ' KK h) (lw_V q2363 q2365 qs29 q150 q2366) ⟨rfl, mdJ42_siftUp⟩ ⟨Nat.le_of_ble_eq_true rfl, Nat.le_of_ble_eq_true rfl⟩ rfl rfl (Nat.le_of_ble_eq_true rfl) dJ42_offer_46 hp9.1 hp9.2 (fun _ σ8 hp10 => ?_)
      refine x_pc (pc' := 49) rfl ?_
      refine x_up (pc' := 50) (fun _ _ _ _ _ L => lv_aload_n hx hb dJ42_offer_49 rfl (lv_at L 1 rfl)) ?_
      refine x_up (pc' := 51) (fun _ _ _ _ _ L => lv_iload_n hx hb dJ42_offer_50 rfl (lv_at L 0 rfl)) ?_
      refine x_up (pc' := 52) (fun _ _ _ _ _ L => lv_iconst (v := (1 : Int32)) hx hb dJ42_offer_51 (by decide)) ?_
      refine x_up (pc' := 53) (fun _ _ _ _ _ L => lv_iadd hx hb dJ42_offer_52) ?_
      refine x_pi X (kJ42 hG) 1 (by decide) q2332 (fun _ h => h) rfl rfl rfl dJ42_offer_53 hp10 (fun σ9 hp11 => ?_)
      refine x_pc (pc' := 56) rfl ?_
      refine x_up (pc' := 57) (fun _ _ _ _ _ L => lv_iconst (v := (1 : Int32)) hx hb dJ42_offer_56 (by decide)) ?_
      exact x_iret X hr rfl dJ42_offer_57 hp11
    · have hp12 := hp8.2 c33
      refine x_up (pc' := 37) (fun _ _ _ _ _ L => lv_aload_n hx hb dJ42_offer_36 rfl (lv_at L 1 rfl)) ?_
      refine x_up (pc' := 38) (fun _ _ _ _ _ L => lv_iload_n hx hb dJ42_offer_37 rfl (lv_at L 0 rfl)) ?_
      refine x_up (pc' := 39) (fun _ _ _ _ _ L => lv_iconst (v := (1 : Int32)) hx hb dJ42_offer_38 (by decide)) ?_
      refine x_up (pc' := 40) (fun _ _ _ _ _ L => lv_iadd hx hb dJ42_offer_39) ?_
      refine x_callV (em := emV) (fun r st => st) (fun _ _ => rfl) 1 X (kJ42 hG) (fun σ' KK h => R_J42_grow l hl G hG a0 (v4 + (1 : Int32)) σ' KK h) (lw_V q2358 q2360 qs28 q150 q2361) ⟨rfl, mdJ42_grow⟩ ⟨Nat.le_of_ble_eq_true rfl, Nat.le_of_ble_eq_true rfl⟩ rfl rfl (Nat.le_of_ble_eq_true rfl) dJ42_offer_40 hp12.1 hp12.2 (fun _ σ10 hp13 => ?_)
      refine x_pc (pc' := 43) rfl ?_
      refine x_up (pc' := 44) (fun _ _ _ _ _ L => lv_aload_n hx hb dJ42_offer_43 rfl (lv_at L 1 rfl)) ?_
      refine x_up (pc' := 45) (fun _ _ _ _ _ L => lv_iload_n hx hb dJ42_offer_44 rfl (lv_at L 0 rfl)) ?_
      refine x_up (pc' := 46) (fun _ _ _ _ _ L => lv_aload_n hx hb dJ42_offer_45 rfl (lv_at L 2 rfl)) ?_
      refine x_callV (em := emV) (fun r st => st) (fun _ _ => rfl) 2 X (kJ42 hG) (fun σ' KK h => R_J42_siftUp l hl G hG a0 v4 (some b1) σ' KK h) (lw_V q2363 q2365 qs29 q150 q2366) ⟨rfl, mdJ42_siftUp⟩ ⟨Nat.le_of_ble_eq_true rfl, Nat.le_of_ble_eq_true rfl⟩ rfl rfl (Nat.le_of_ble_eq_true rfl) dJ42_offer_46 hp13.1 hp13.2 (fun _ σ11 hp14 => ?_)
      refine x_pc (pc' := 49) rfl ?_
      refine x_up (pc' := 50) (fun _ _ _ _ _ L => lv_aload_n hx hb dJ42_offer_49 rfl (lv_at L 1 rfl)) ?_
      refine x_up (pc' := 51) (fun _ _ _ _ _ L => lv_iload_n hx hb dJ42_offer_50 rfl (lv_at L 0 rfl)) ?_
      refine x_up (pc' := 52) (fun _ _ _ _ _ L => lv_iconst (v := (1 : Int32)) hx hb dJ42_offer_51 (by decide)) ?_
      refine x_up (pc' := 53) (fun _ _ _ _ _ L => lv_iadd hx hb dJ42_offer_52) ?_
      refine x_pi X (kJ42 hG) 1 (by decide) q2332 (fun _ h => h) rfl rfl rfl dJ42_offer_53 hp14 (fun σ12 hp15 => ?_)
      refine x_pc (pc' := 56) rfl ?_
      refine x_up (pc' := 57) (fun _ _ _ _ _ L => lv_iconst (v := (1 : Int32)) hx hb dJ42_offer_56 (by decide)) ?_
      exact x_iret X hr rfl dJ42_offer_57 hp15
-- J42_add
def P_J42_add (κ : Nat → Nat) (a0 : Nat) (x1 : Option Nat) (σ : xS) (K : Int32 → xH → Prop) : Prop :=
  xrc σ a0 27 ∧ xcall (fun τ L => P_J42_offer κ a0 x1 τ L) σ fun v1 σ2 => (narrow .boolean (.int v1) = .int v1 ∧ K v1 σ2.1)
theorem mdJ42_add : yJ42_add.cls ≠ "java/lang/invoke/MethodHandle" ∧ yJ42_add.cls ≠ "java/lang/invoke/VarHandle" ∧ (parseMethodDescriptor yJ42_add.desc).map (fun d => d.parameters.length) = some 1 := by decide +kernel
set_option maxHeartbeats 4000000 in
set_option maxRecDepth 100000 in
theorem R_J42_add (l : Launch) (hl : l.stackTraces = false) (G : xG) (hG : G.1.2 = x_cl) (a0 : Nat) (x1 : Option Nat) (σ : xS) (K : Int32 → xH → Prop) (hp : P_J42_add G.2 a0 x1 σ K) : xM l yJ42_add cJ42_add 2 (Option.some Jvm.ClassFile.FieldType.boolean) 7 156 G [(.ref a0), va_rf x1] σ (xlift emI K) := by
  refine x_entry (by decide) (by simp [lg_sl, x_catq, x_cati, x_catr, x_catn]) ?_
  intro p e s m args below meth c X hr hin
  have X : xX p s m args meth c G cJ42_add 2 RJ42 := X
  have hx := X.1
  have hb := X.2.1
  have hts := X.2.2.2.2.1
  have hown := X.2.2.2.1
  unfold P_J42_add at hp
  refine x_same (lo' := [(0, .ref a0), (1, va_rf x1)]) (by simp [lv_args, x_catq, x_cati, x_catr, x_catn]) ?_
  refine x_up (pc' := 1) (fun _ _ _ _ _ L => lv_aload_n hx hb dJ42_add_0 rfl (lv_at L 0 rfl)) ?_
  refine x_up (pc' := 2) (fun _ _ _ _ _ L => lv_aloadq_n hx hb dJ42_add_1 rfl (lv_at L 1 rfl)) ?_
  refine x_callV (em := emI) (fun r st => .int r :: st) (fun _ _ => rfl) 1 X (kJ42 hG) (fun σ' KK h => R_J42_offer l hl G hG a0 x1 σ' KK h) (lw_V q2354 q2355 q2356 q150 q2357) ⟨rfl, mdJ42_offer⟩ ⟨Nat.le_of_ble_eq_true rfl, Nat.le_of_ble_eq_true rfl⟩ rfl rfl (Nat.le_of_ble_eq_true rfl) dJ42_add_2 hp.1 hp.2 (fun v1 σ2 hp1 => ?_)
  refine x_pc (pc' := 5) rfl ?_
  exact x_iret X hr hp1.1 dJ42_add_5 hp1.2
-- J42_size
def P_J42_size (κ : Nat → Nat) (a0 : Nat) (σ : xS) (K : Int32 → xH → Prop) : Prop :=
  xgi σ a0 27 1 fun v1 => K v1 σ.1
theorem mdJ42_size : yJ42_size.cls ≠ "java/lang/invoke/MethodHandle" ∧ yJ42_size.cls ≠ "java/lang/invoke/VarHandle" ∧ (parseMethodDescriptor yJ42_size.desc).map (fun d => d.parameters.length) = some 0 := by decide +kernel
set_option maxHeartbeats 4000000 in
set_option maxRecDepth 100000 in
theorem R_J42_size (l : Launch) (hl : l.stackTraces = false) (G : xG) (hG : G.1.2 = x_cl) (a0 : Nat) (σ : xS) (K : Int32 → xH → Prop) (hp : P_J42_size G.2 a0 σ K) : xM l yJ42_size cJ42_size 1 (Option.some Jvm.ClassFile.FieldType.int) 0 0 G [(.ref a0)] σ (xlift emI K) := by
  refine x_entry (by decide) (Nat.le_of_ble_eq_true rfl) ?_
  intro p e s m args below meth c X hr hin
  have X : xX p s m args meth c G cJ42_size 1 RJ42 := X
  have hx := X.1
  have hb := X.2.1
  have hts := X.2.2.2.2.1
  have hown := X.2.2.2.1
  unfold P_J42_size at hp
  refine x_same (lo' := [(0, .ref a0)]) rfl ?_
  refine x_up (pc' := 1) (fun _ _ _ _ _ L => lv_aload_n hx hb dJ42_size_0 rfl (lv_at L 0 rfl)) ?_
  refine x_gi X (kJ42 hG) 1 (by decide) q2332 (fun _ h => h) dJ42_size_1 hp (fun v1 hp1 => ?_)
  refine x_pc (pc' := 4) rfl ?_
  exact x_iret X hr rfl dJ42_size_4 hp1
-- J2_isEmpty
def P_J2_isEmpty (κ : Nat → Nat) (a0 : Nat) (σ : xS) (K : Int32 → xH → Prop) : Prop :=
  xrc σ a0 27 ∧ xcall (fun τ L => P_J42_size κ a0 τ L) σ fun v1 σ2 => ((v1 = 0 → (K (1 : Int32) σ2.1)) ∧ (¬ v1 = 0 → (K (0 : Int32) σ2.1)))
theorem mdJ2_isEmpty : yJ2_isEmpty.cls ≠ "java/lang/invoke/MethodHandle" ∧ yJ2_isEmpty.cls ≠ "java/lang/invoke/VarHandle" ∧ (parseMethodDescriptor yJ2_isEmpty.desc).map (fun d => d.parameters.length) = some 0 := by decide +kernel
set_option maxHeartbeats 4000000 in
set_option maxRecDepth 100000 in
theorem R_J2_isEmpty (l : Launch) (hl : l.stackTraces = false) (G : xG) (hG : G.1.2 = x_cl) (a0 : Nat) (σ : xS) (K : Int32 → xH → Prop) (hp : P_J2_isEmpty G.2 a0 σ K) : xM l yJ2_isEmpty cJ2_isEmpty 1 (Option.some Jvm.ClassFile.FieldType.boolean) 1 20 G [(.ref a0)] σ (xlift emI K) := by
  refine x_entry (by decide) (Nat.le_of_ble_eq_true rfl) ?_
  intro p e s m args below meth c X hr hin
  have X : xX p s m args meth c G cJ2_isEmpty 1 RJ2 := X
  have hx := X.1
  have hb := X.2.1
  have hts := X.2.2.2.2.1
  have hown := X.2.2.2.1
  unfold P_J2_isEmpty at hp
  refine x_same (lo' := [(0, .ref a0)]) rfl ?_
  refine x_up (pc' := 1) (fun _ _ _ _ _ L => lv_aload_n hx hb dJ2_isEmpty_0 rfl (lv_at L 0 rfl)) ?_
  refine x_callO (x := ⟨"java/util/AbstractCollection", "size", "()I"⟩) (owner := "java/util/AbstractCollection") (em := emI) (fun r st => .int r :: st) (fun _ _ => rfl) 0 X (kJ42 hG) (fun σ' KK h => R_J42_size l hl G hG a0 σ' KK h) (hts _ q1873) (hts _ q3690) (x_dcl X q1339) (hts _ q3694) q1879 q150 q1880 (by decide +kernel) ⟨Nat.le_of_ble_eq_true rfl, Nat.le_of_ble_eq_true rfl⟩ rfl rfl (Nat.le_of_ble_eq_true rfl) dJ2_isEmpty_1 hp.1 hp.2 (fun v1 σ2 hp1 => ?_)
  refine x_pc (pc' := 4) rfl ?_
  refine x_ifn (C := v1 = 0) (pt := 11) (pc' := 7) (fun _ _ _ _ _ => lv_if_ne (tgt := 11) hx hb dJ2_isEmpty_4 (by decide)) (fun c4 => ?_) (fun c4 => ?_)
  · have hp2 := hp1.1 c4
    refine x_up (pc' := 8) (fun _ _ _ _ _ L => lv_iconst (v := (1 : Int32)) hx hb dJ2_isEmpty_7 (by decide)) ?_
    refine x_up (pc' := 12) (fun _ _ _ _ _ L => lv_goto (tgt := 12) hx hb dJ2_isEmpty_8 (by decide)) ?_
    exact x_iret X hr rfl dJ2_isEmpty_12 hp2
  · have hp3 := hp1.2 c4
    refine x_up (pc' := 12) (fun _ _ _ _ _ L => lv_iconst (v := (0 : Int32)) hx hb dJ2_isEmpty_11 (by decide)) ?_
    exact x_iret X hr rfl dJ2_isEmpty_12 hp3
-- J42_siftDownComparable
def B_J42_siftDownComparable_11 (κ : Nat → Nat) (K : Unit → xH → Prop) (f2 : Option Nat) (f3 : Int32) (f4 : Nat) (f5 : Int32) : (Int32 → xS → Prop) → Int32 → xS → Prop := fun self12003 w12001 σ12002 =>
  ((f5 ≤ w12001 → (xnn f2 fun b12004 => xsq κ σ12002 b12004 w12001 (some f4) fun σ12005 => K () σ12005.1)) ∧ (¬ f5 ≤ w12001 → (xnn f2 fun b12006 => xaq σ12002 b12006 ((w12001 <<< ((1 : Int32) &&& 31)) + (1 : Int32)) fun v12007 => ((f3 ≤ (((w12001 <<< ((1 : Int32) &&& 31)) + (1 : Int32)) + (1 : Int32)) → (xrc σ12002 f4 14 ∧ xcall (fun τ L => P_J23_compareTo κ f4 v12007 τ L) σ12002 fun v12008 σ12009 => ((0 < v12008 → (xsq κ σ12009 b12006 w12001 v12007 fun σ12010 => self12003 ((w12001 <<< ((1 : Int32) &&& 31)) + (1 : Int32)) σ12010)) ∧ (¬ 0 < v12008 → (xsq κ σ12009 b12006 w12001 (some f4) fun σ12011 => K () σ12011.1))))) ∧ (¬ f3 ≤ (((w12001 <<< ((1 : Int32) &&& 31)) + (1 : Int32)) + (1 : Int32)) → (xnn v12007 fun b12012 => xrc σ12002 b12012 14 ∧ xaq σ12002 b12006 (((w12001 <<< ((1 : Int32) &&& 31)) + (1 : Int32)) + (1 : Int32)) fun v12013 => xrc σ12002 b12012 14 ∧ xcall (fun τ L => P_J23_compareTo κ b12012 v12013 τ L) σ12002 fun v12014 σ12015 => ((v12014 ≤ 0 → (xrc σ12015 f4 14 ∧ xcall (fun τ L => P_J23_compareTo κ f4 (some b12012) τ L) σ12015 fun v12016 σ12017 => ((0 < v12016 → (xsq κ σ12017 b12006 w12001 (some b12012) fun σ12018 => self12003 ((w12001 <<< ((1 : Int32) &&& 31)) + (1 : Int32)) σ12018)) ∧ (¬ 0 < v12016 → (xsq κ σ12017 b12006 w12001 (some f4) fun σ12019 => K () σ12019.1))))) ∧ (¬ v12014 ≤ 0 → (xaq σ12015 b12006 (((w12001 <<< ((1 : Int32) &&& 31)) + (1 : Int32)) + (1 : Int32)) fun v12020 => xrc σ12015 f4 14 ∧ xcall (fun τ L => P_J23_compareTo κ f4 v12020 τ L) σ12015 fun v12021 σ12022 => ((0 < v12021 → (xsq κ σ12022 b12006 w12001 v12020 fun σ12023 => self12003 (((w12001 <<< ((1 : Int32) &&& 31)) + (1 : Int32)) + (1 : Int32)) σ12023)) ∧ (¬ 0 < v12021 → (xsq κ σ12022 b12006 w12001 (some f4) fun σ12024 => K () σ12024.1))))))))))))
def P_J42_siftDownComparable (κ : Nat → Nat) (x0 : Int32) (x1 : Option Nat) (x2 : Option Nat) (x3 : Int32) (σ : xS) (K : Unit → xH → Prop) : Prop :=
  xnn x1 fun b1 => xrc σ b1 14 ∧ xwhile (B_J42_siftDownComparable_11 κ K x2 x3 b1 ((x3.toUInt32 >>> ((1 : Int32).toUInt32 &&& Int32.toUInt32 31)).toInt32)) x0 σ
theorem mdJ42_siftDownComparable : yJ42_siftDownComparable.cls ≠ "java/lang/invoke/MethodHandle" ∧ yJ42_siftDownComparable.cls ≠ "java/lang/invoke/VarHandle" ∧ (parseMethodDescriptor yJ42_siftDownComparable.desc).map (fun d => d.parameters.length) = some 4 := by decide +kernel
set_option maxHeartbeats 4000000 in
set_option maxRecDepth 100000 in
theorem R_J42_siftDownComparable (l : Launch) (hl : l.stackTraces = false) (G : xG) (hG : G.1.2 = x_cl) (x0 : Int32) (x1 : Option Nat) (x2 : Option Nat) (x3 : Int32) (σ : xS) (K : Unit → xH → Prop) (hp : P_J42_siftDownComparable G.2 x0 x1 x2 x3 σ K) : xM l yJ42_siftDownComparable cJ42_siftDownComparable 9 (Option.none : Option Jvm.ClassFile.FieldType) 3 63 G [.int x0, va_rf x1, va_rf x2, .int x3] σ (xlift emV K) := by
  refine x_entry (by decide) (by simp [lg_sl, x_catq, x_cati, x_catr, x_catn]) ?_
  intro p e s m args below meth c X hr hin
  have X : xX p s m args meth c G cJ42_siftDownComparable 9 RJ42 := X
  have hx := X.1
  have hb := X.2.1
  have hts := X.2.2.2.2.1
  have hown := X.2.2.2.1
  unfold P_J42_siftDownComparable at hp
  refine x_same (lo' := [(0, .int x0), (1, va_rf x1), (2, va_rf x2), (3, .int x3)]) (by simp [lv_args, x_catq, x_cati, x_catr, x_catn]) ?_
  refine x_up (pc' := 1) (fun _ _ _ _ _ L => lv_aloadq_n hx hb dJ42_siftDownComparable_0 rfl (lv_at L 1 rfl)) ?_
  obtain ⟨b1, rfl, hp1⟩ := hp
  refine x_castY X (kJ23 hG) q2375 q1405 hp1.1 dJ42_siftDownComparable_1 ?_
  have hp2 := hp1.2
  refine x_pc (pc' := 4) rfl ?_
  refine x_upL (pc' := 6) (lo' := [(4, .ref b1), (0, .int x0), (1, .ref b1), (2, va_rf x2), (3, .int x3)]) (fun _ _ _ _ _ L => lv_astore hx hb dJ42_siftDownComparable_4 L (by decide) rfl) ?_
  refine x_up (pc' := 7) (fun _ _ _ _ _ L => lv_iload_n hx hb dJ42_siftDownComparable_6 rfl (lv_at L 4 rfl)) ?_
  refine x_up (pc' := 8) (fun _ _ _ _ _ L => lv_iconst (v := (1 : Int32)) hx hb dJ42_siftDownComparable_7 (by decide)) ?_
  refine x_up (pc' := 9) (fun _ _ _ _ _ L => lv_iushr hx hb dJ42_siftDownComparable_8 rfl) ?_
  refine x_upL (pc' := 11) (lo' := [(5, .int ((x3.toUInt32 >>> ((1 : Int32).toUInt32 &&& Int32.toUInt32 31)).toInt32)), (4, .ref b1), (0, .int x0), (1, .ref b1), (2, va_rf x2), (3, .int x3)]) (fun _ _ _ _ _ L => lv_istore hx hb dJ42_siftDownComparable_9 L (by decide) rfl) ?_
  refine x_lo (lo' := [(0, .int x0), (2, va_rf x2), (3, .int x3), (4, .ref b1), (5, .int ((x3.toUInt32 >>> ((1 : Int32).toUInt32 &&& Int32.toUInt32 31)).toInt32))]) [2, 4, 5, 1, 0] rfl ?_
  refine x_while (v0 := x0) (fun w2 => [(0, .int w2), (2, va_rf x2), (3, .int x3), (4, .ref b1), (5, .int ((x3.toUInt32 >>> ((1 : Int32).toUInt32 &&& Int32.toUInt32 31)).toInt32))]) hp2 (fun self3 hself4 => ?_)
  rintro y6 σ5 hp3
  unfold B_J42_siftDownComparable_11 at hp3
  refine x_same (lo' := [(0, .int y6), (2, va_rf x2), (3, .int x3), (4, .ref b1), (5, .int ((x3.toUInt32 >>> ((1 : Int32).toUInt32 &&& Int32.toUInt32 31)).toInt32))]) rfl ?_
  refine x_up (pc' := 12) (fun _ _ _ _ _ L => lv_iload_n hx hb dJ42_siftDownComparable_11 rfl (lv_at L 0 rfl)) ?_
  refine x_up (pc' := 14) (fun _ _ _ _ _ L => lv_iload hx hb dJ42_siftDownComparable_12 (lv_at L 4 rfl)) ?_
  refine x_if (C := ((x3.toUInt32 >>> ((1 : Int32).toUInt32 &&& Int32.toUInt32 31)).toInt32) ≤ y6) (pt := 94) (pc' := 17) (fun _ _ _ _ _ => lv_icmp_ge (tgt := 94) hx hb dJ42_siftDownComparable_14 (by decide)) (fun c14 => ?_) (fun c14 => ?_)
  · have hp4 := hp3.1 c14
    refine x_up (pc' := 95) (fun _ _ _ _ _ L => lv_aloadq_n hx hb dJ42_siftDownComparable_94 rfl (lv_at L 1 rfl)) ?_
    refine x_up (pc' := 96) (fun _ _ _ _ _ L => lv_iload_n hx hb dJ42_siftDownComparable_95 rfl (lv_at L 0 rfl)) ?_
    refine x_up (pc' := 98) (fun _ _ _ _ _ L => lv_aload hx hb dJ42_siftDownComparable_96 (lv_at L 3 rfl)) ?_
    obtain ⟨b7, rfl, hp5⟩ := hp4
    refine x_aast X hG (some b1) dJ42_siftDownComparable_98 hp5 (fun σ8 hp6 => ?_)
    refine x_pc (pc' := 99) rfl ?_
    exact x_vret X hr dJ42_siftDownComparable_99 hp6
  · have hp7 := hp3.2 c14
    refine x_up (pc' := 18) (fun _ _ _ _ _ L => lv_iload_n hx hb dJ42_siftDownComparable_17 rfl (lv_at L 0 rfl)) ?_
    refine x_up (pc' := 19) (fun _ _ _ _ _ L => lv_iconst (v := (1 : Int32)) hx hb dJ42_siftDownComparable_18 (by decide)) ?_
    refine x_up (pc' := 20) (fun _ _ _ _ _ L => lv_ishl hx hb dJ42_siftDownComparable_19) ?_
    refine x_up (pc' := 21) (fun _ _ _ _ _ L => lv_iconst (v := (1 : Int32)) hx hb dJ42_siftDownComparable_20 (by decide)) ?_
    refine x_up (pc' := 22) (fun _ _ _ _ _ L => lv_iadd hx hb dJ42_siftDownComparable_21) ?_
    refine x_upL (pc' := 24) (lo' := [(6, .int ((y6 <<< ((1 : Int32) &&& 31)) + (1 : Int32))), (0, .int y6), (2, va_rf x2), (3, .int x3), (4, .ref b1), (5, .int ((x3.toUInt32 >>> ((1 : Int32).toUInt32 &&& Int32.toUInt32 31)).toInt32))]) (fun _ _ _ _ _ L => lv_istore hx hb dJ42_siftDownComparable_22 L (by decide) rfl) ?_
    refine x_up (pc' := 25) (fun _ _ _ _ _ L => lv_aloadq_n hx hb dJ42_siftDownComparable_24 rfl (lv_at L 2 rfl)) ?_
    refine x_up (pc' := 27) (fun _ _ _ _ _ L => lv_iload hx hb dJ42_siftDownComparable_25 (lv_at L 0 rfl)) ?_
    obtain ⟨b9, rfl, hp8⟩ := hp7
    refine x_aald X dJ42_siftDownComparable_27 hp8 (fun v10 hp9 => ?_)
    refine x_pc (pc' := 28) rfl ?_
    refine x_upL (pc' := 30) (lo' := [(7, va_rf v10), (6, .int ((y6 <<< ((1 : Int32) &&& 31)) + (1 : Int32))), (0, .int y6), (2, .ref b9), (3, .int x3), (4, .ref b1), (5, .int ((x3.toUInt32 >>> ((1 : Int32).toUInt32 &&& Int32.toUInt32 31)).toInt32))]) (fun _ _ _ _ _ L => lv_astoreq hx hb dJ42_siftDownComparable_28 L (by decide) rfl) ?_
    refine x_up (pc' := 32) (fun _ _ _ _ _ L => lv_iload hx hb dJ42_siftDownComparable_30 (lv_at L 1 rfl)) ?_
    refine x_up (pc' := 33) (fun _ _ _ _ _ L => lv_iconst (v := (1 : Int32)) hx hb dJ42_siftDownComparable_32 (by decide)) ?_
    refine x_up (pc' := 34) (fun _ _ _ _ _ L => lv_iadd hx hb dJ42_siftDownComparable_33) ?_
    refine x_st (pc' := 36) ([(8, .int (((y6 <<< ((1 : Int32) &&& 31)) + (1 : Int32)) + (1 : Int32))), (7, va_rf v10), (6, .int ((y6 <<< ((1 : Int32) &&& 31)) + (1 : Int32))), (0, .int y6), (2, .ref b9), (3, .int x3), (4, .ref b1), (5, .int ((x3.toUInt32 >>> ((1 : Int32).toUInt32 &&& Int32.toUInt32 31)).toInt32))]) rfl (by simp [x_catq, x_cati, x_catr, x_catn]) (fun _ _ _ _ _ L => lv_istore hx hb dJ42_siftDownComparable_34 L (by decide) rfl) ?_
    refine x_up (pc' := 38) (fun _ _ _ _ _ L => lv_iload hx hb dJ42_siftDownComparable_36 (lv_at L 0 rfl)) ?_
    refine x_up (pc' := 39) (fun _ _ _ _ _ L => lv_iload_n hx hb dJ42_siftDownComparable_38 rfl (lv_at L 5 rfl)) ?_
    refine x_if (C := x3 ≤ (((y6 <<< ((1 : Int32) &&& 31)) + (1 : Int32)) + (1 : Int32))) (pt := 68) (pc' := 42) (fun _ _ _ _ _ => lv_icmp_ge (tgt := 68) hx hb dJ42_siftDownComparable_39 (by decide)) (fun c39 => ?_) (fun c39 => ?_)
    · have hp10 := hp9.1 c39
      refine x_up (pc' := 70) (fun _ _ _ _ _ L => lv_aload hx hb dJ42_siftDownComparable_68 (lv_at L 6 rfl)) ?_
      refine x_up (pc' := 72) (fun _ _ _ _ _ L => lv_aloadq hx hb dJ42_siftDownComparable_70 (lv_at L 1 rfl)) ?_
      refine x_callF (x := ⟨"java/lang/Comparable", "compareTo", "(Ljava/lang/Object;)I"⟩) (em := emI) (fun r st => .int r :: st) (fun _ _ => rfl) 1 X (kJ23 hG) (fun σ' KK h => R_J23_compareTo l hl G hG b1 v10 σ' KK h) q2377 q1406 q1408 q128 q1410 ⟨⟨q1404, q1403, q1409, q1407, q1405⟩, by decide, by decide⟩ (by decide +kernel) ⟨Nat.le_of_ble_eq_true rfl, Nat.le_of_ble_eq_true rfl⟩ rfl rfl (Nat.le_of_ble_eq_true rfl) dJ42_siftDownComparable_72 hp10.1 hp10.2 (fun v11 σ12 hp11 => ?_)
      refine x_pc (pc' := 77) rfl ?_
      refine x_if (C := 0 < v11) (pt := 83) (pc' := 80) (fun _ _ _ _ _ => lv_if_gt (tgt := 83) hx hb dJ42_siftDownComparable_77 (by decide)) (fun c77 => ?_) (fun c77 => ?_)
      · have hp12 := hp11.1 c77
        refine x_up (pc' := 84) (fun _ _ _ _ _ L => lv_aload_n hx hb dJ42_siftDownComparable_83 rfl (lv_at L 4 rfl)) ?_
        refine x_up (pc' := 85) (fun _ _ _ _ _ L => lv_iload_n hx hb dJ42_siftDownComparable_84 rfl (lv_at L 3 rfl)) ?_
        refine x_up (pc' := 87) (fun _ _ _ _ _ L => lv_aloadq hx hb dJ42_siftDownComparable_85 (lv_at L 1 rfl)) ?_
        refine x_aast X hG v10 dJ42_siftDownComparable_87 hp12 (fun σ13 hp13 => ?_)
        refine x_pc (pc' := 88) rfl ?_
        refine x_up (pc' := 90) (fun _ _ _ _ _ L => lv_iload hx hb dJ42_siftDownComparable_88 (lv_at L 2 rfl)) ?_
        refine x_upL (pc' := 91) (lo' := [(0, .int ((y6 <<< ((1 : Int32) &&& 31)) + (1 : Int32))), (8, .int (((y6 <<< ((1 : Int32) &&& 31)) + (1 : Int32)) + (1 : Int32))), (7, va_rf v10), (6, .int ((y6 <<< ((1 : Int32) &&& 31)) + (1 : Int32))), (2, .ref b9), (3, .int x3), (4, .ref b1), (5, .int ((x3.toUInt32 >>> ((1 : Int32).toUInt32 &&& Int32.toUInt32 31)).toInt32))]) (fun _ _ _ _ _ L => lv_istore_n hx hb dJ42_siftDownComparable_90 rfl L (by decide) rfl) ?_
        refine x_up (pc' := 11) (fun _ _ _ _ _ L => lv_goto (tgt := 11) hx hb dJ42_siftDownComparable_91 (by decide)) ?_
        refine x_lo (lo' := [(0, .int ((y6 <<< ((1 : Int32) &&& 31)) + (1 : Int32))), (2, .ref b9), (3, .int x3), (4, .ref b1), (5, .int ((x3.toUInt32 >>> ((1 : Int32).toUInt32 &&& Int32.toUInt32 31)).toInt32))]) [0, 4, 5, 6, 7] rfl ?_
        exact hself4 ((y6 <<< ((1 : Int32) &&& 31)) + (1 : Int32)) σ13 hp13
      · have hp14 := hp11.2 c77
        refine x_up (pc' := 94) (fun _ _ _ _ _ L => lv_goto (tgt := 94) hx hb dJ42_siftDownComparable_80 (by decide)) ?_
        refine x_up (pc' := 95) (fun _ _ _ _ _ L => lv_aload_n hx hb dJ42_siftDownComparable_94 rfl (lv_at L 4 rfl)) ?_
        refine x_up (pc' := 96) (fun _ _ _ _ _ L => lv_iload_n hx hb dJ42_siftDownComparable_95 rfl (lv_at L 3 rfl)) ?_
        refine x_up (pc' := 98) (fun _ _ _ _ _ L => lv_aload hx hb dJ42_siftDownComparable_96 (lv_at L 6 rfl)) ?_
        refine x_aast X hG (some b1) dJ42_siftDownComparable_98 hp14 (fun σ14 hp15 => ?_)
        refine x_pc (pc' := 99) rfl ?_
        exact x_vret X hr dJ42_siftDownComparable_99 hp15
    · have hp16 := hp9.2 c39
      refine x_up (pc' := 44) (fun _ _ _ _ _ L => lv_aloadq hx hb dJ42_siftDownComparable_42 (lv_at L 1 rfl)) ?_
      obtain ⟨b15, rfl, hp17⟩ := hp16
      refine x_castY X (kJ23 hG) q2375 q1405 hp17.1 dJ42_siftDownComparable_44 ?_
      have hp18 := hp17.2
      refine x_pc (pc' := 47) rfl ?_
      refine x_up (pc' := 48) (fun _ _ _ _ _ L => lv_aload_n hx hb dJ42_siftDownComparable_47 rfl (lv_at L 4 rfl)) ?_
      refine x_up (pc' := 50) (fun _ _ _ _ _ L => lv_iload hx hb dJ42_siftDownComparable_48 (lv_at L 0 rfl)) ?_
      refine x_aald X dJ42_siftDownComparable_50 hp18 (fun v16 hp19 => ?_)
      refine x_pc (pc' := 51) rfl ?_
      refine x_callF (x := ⟨"java/lang/Comparable", "compareTo", "(Ljava/lang/Object;)I"⟩) (em := emI) (fun r st => .int r :: st) (fun _ _ => rfl) 1 X (kJ23 hG) (fun σ' KK h => R_J23_compareTo l hl G hG b15 v16 σ' KK h) q2377 q1406 q1408 q128 q1410 ⟨⟨q1404, q1403, q1409, q1407, q1405⟩, by decide, by decide⟩ (by decide +kernel) ⟨Nat.le_of_ble_eq_true rfl, Nat.le_of_ble_eq_true rfl⟩ rfl rfl (Nat.le_of_ble_eq_true rfl) dJ42_siftDownComparable_51 hp19.1 hp19.2 (fun v17 σ18 hp20 => ?_)
      refine x_pc (pc' := 56) rfl ?_
      refine x_if (C := v17 ≤ 0) (pt := 68) (pc' := 59) (fun _ _ _ _ _ => lv_if_le (tgt := 68) hx hb dJ42_siftDownComparable_56 (by decide)) (fun c56 => ?_) (fun c56 => ?_)
      · have hp21 := hp20.1 c56
        refine x_up (pc' := 70) (fun _ _ _ _ _ L => lv_aload hx hb dJ42_siftDownComparable_68 (lv_at L 6 rfl)) ?_
        refine x_up (pc' := 72) (fun _ _ _ _ _ L => lv_aload hx hb dJ42_siftDownComparable_70 (lv_at L 1 rfl)) ?_
        refine x_callF (x := ⟨"java/lang/Comparable", "compareTo", "(Ljava/lang/Object;)I"⟩) (em := emI) (fun r st => .int r :: st) (fun _ _ => rfl) 1 X (kJ23 hG) (fun σ' KK h => R_J23_compareTo l hl G hG b1 (some b15) σ' KK h) q2377 q1406 q1408 q128 q1410 ⟨⟨q1404, q1403, q1409, q1407, q1405⟩, by decide, by decide⟩ (by decide +kernel) ⟨Nat.le_of_ble_eq_true rfl, Nat.le_of_ble_eq_true rfl⟩ rfl rfl (Nat.le_of_ble_eq_true rfl) dJ42_siftDownComparable_72 hp21.1 hp21.2 (fun v19 σ20 hp22 => ?_)
        refine x_pc (pc' := 77) rfl ?_
        refine x_if (C := 0 < v19) (pt := 83) (pc' := 80) (fun _ _ _ _ _ => lv_if_gt (tgt := 83) hx hb dJ42_siftDownComparable_77 (by decide)) (fun c77 => ?_) (fun c77 => ?_)
        · have hp23 := hp22.1 c77
          refine x_up (pc' := 84) (fun _ _ _ _ _ L => lv_aload_n hx hb dJ42_siftDownComparable_83 rfl (lv_at L 4 rfl)) ?_
          refine x_up (pc' := 85) (fun _ _ _ _ _ L => lv_iload_n hx hb dJ42_siftDownComparable_84 rfl (lv_at L 3 rfl)) ?_
          refine x_up (pc' := 87) (fun _ _ _ _ _ L => lv_aload hx hb dJ42_siftDownComparable_85 (lv_at L 1 rfl)) ?_
          refine x_aast X hG (some b15) dJ42_siftDownComparable_87 hp23 (fun σ21 hp24 => ?_)
          refine x_pc (pc' := 88) rfl ?_
          refine x_up (pc' := 90) (fun _ _ _ _ _ L => lv_iload hx hb dJ42_siftDownComparable_88 (lv_at L 2 rfl)) ?_
          refine x_upL (pc' := 91) (lo' := [(0, .int ((y6 <<< ((1 : Int32) &&& 31)) + (1 : Int32))), (8, .int (((y6 <<< ((1 : Int32) &&& 31)) + (1 : Int32)) + (1 : Int32))), (7, .ref b15), (6, .int ((y6 <<< ((1 : Int32) &&& 31)) + (1 : Int32))), (2, .ref b9), (3, .int x3), (4, .ref b1), (5, .int ((x3.toUInt32 >>> ((1 : Int32).toUInt32 &&& Int32.toUInt32 31)).toInt32))]) (fun _ _ _ _ _ L => lv_istore_n hx hb dJ42_siftDownComparable_90 rfl L (by decide) rfl) ?_
          refine x_up (pc' := 11) (fun _ _ _ _ _ L => lv_goto (tgt := 11) hx hb dJ42_siftDownComparable_91 (by decide)) ?_
          refine x_lo (lo' := [(0, .int ((y6 <<< ((1 : Int32) &&& 31)) + (1 : Int32))), (2, .ref b9), (3, .int x3), (4, .ref b1), (5, .int ((x3.toUInt32 >>> ((1 : Int32).toUInt32 &&& Int32.toUInt32 31)).toInt32))]) [0, 4, 5, 6, 7] rfl ?_
          exact hself4 ((y6 <<< ((1 : Int32) &&& 31)) + (1 : Int32)) σ21 hp24
        · have hp25 := hp22.2 c77
          refine x_up (pc' := 94) (fun _ _ _ _ _ L => lv_goto (tgt := 94) hx hb dJ42_siftDownComparable_80 (by decide)) ?_
          refine x_up (pc' := 95) (fun _ _ _ _ _ L => lv_aload_n hx hb dJ42_siftDownComparable_94 rfl (lv_at L 4 rfl)) ?_
          refine x_up (pc' := 96) (fun _ _ _ _ _ L => lv_iload_n hx hb dJ42_siftDownComparable_95 rfl (lv_at L 3 rfl)) ?_
          refine x_up (pc' := 98) (fun _ _ _ _ _ L => lv_aload hx hb dJ42_siftDownComparable_96 (lv_at L 6 rfl)) ?_
          refine x_aast X hG (some b1) dJ42_siftDownComparable_98 hp25 (fun σ22 hp26 => ?_)
          refine x_pc (pc' := 99) rfl ?_
          exact x_vret X hr dJ42_siftDownComparable_99 hp26
      · have hp27 := hp20.2 c56
        refine x_up (pc' := 60) (fun _ _ _ _ _ L => lv_aload_n hx hb dJ42_siftDownComparable_59 rfl (lv_at L 4 rfl)) ?_
        refine x_up (pc' := 62) (fun _ _ _ _ _ L => lv_iload hx hb dJ42_siftDownComparable_60 (lv_at L 0 rfl)) ?_
        refine x_up (pc' := 63) (fun _ _ _ _ _ L => lv_dup hx hb dJ42_siftDownComparable_62 rfl) ?_
        refine x_upL (pc' := 65) (lo' := [(6, .int (((y6 <<< ((1 : Int32) &&& 31)) + (1 : Int32)) + (1 : Int32))), (8, .int (((y6 <<< ((1 : Int32) &&& 31)) + (1 : Int32)) + (1 : Int32))), (7, .ref b15), (0, .int y6), (2, .ref b9), (3, .int x3), (4, .ref b1), (5, .int ((x3.toUInt32 >>> ((1 : Int32).toUInt32 &&& Int32.toUInt32 31)).toInt32))]) (fun _ _ _ _ _ L => lv_istore hx hb dJ42_siftDownComparable_63 L (by decide) rfl) ?_
        refine x_aald X dJ42_siftDownComparable_65 hp27 (fun v23 hp28 => ?_)
        refine x_pc (pc' := 66) rfl ?_
        refine x_upL (pc' := 68) (lo' := [(7, va_rf v23), (6, .int (((y6 <<< ((1 : Int32) &&& 31)) + (1 : Int32)) + (1 : Int32))), (8, .int (((y6 <<< ((1 : Int32) &&& 31)) + (1 : Int32)) + (1 : Int32))), (0, .int y6), (2, .ref b9), (3, .int x3), (4, .ref b1), (5, .int ((x3.toUInt32 >>> ((1 : Int32).toUInt32 &&& Int32.toUInt32 31)).toInt32))]) (fun _ _ _ _ _ L => lv_astoreq hx hb dJ42_siftDownComparable_66 L (by decide) rfl) ?_
        refine x_up (pc' := 70) (fun _ _ _ _ _ L => lv_aload hx hb dJ42_siftDownComparable_68 (lv_at L 6 rfl)) ?_
        refine x_up (pc' := 72) (fun _ _ _ _ _ L => lv_aloadq hx hb dJ42_siftDownComparable_70 (lv_at L 0 rfl)) ?_
        refine x_callF (x := ⟨"java/lang/Comparable", "compareTo", "(Ljava/lang/Object;)I"⟩) (em := emI) (fun r st => .int r :: st) (fun _ _ => rfl) 1 X (kJ23 hG) (fun σ' KK h => R_J23_compareTo l hl G hG b1 v23 σ' KK h) q2377 q1406 q1408 q128 q1410 ⟨⟨q1404, q1403, q1409, q1407, q1405⟩, by decide, by decide⟩ (by decide +kernel) ⟨Nat.le_of_ble_eq_true rfl, Nat.le_of_ble_eq_true rfl⟩ rfl rfl (Nat.le_of_ble_eq_true rfl) dJ42_siftDownComparable_72 hp28.1 hp28.2 (fun v24 σ25 hp29 => ?_)
        refine x_pc (pc' := 77) rfl ?_
        refine x_if (C := 0 < v24) (pt := 83) (pc' := 80) (fun _ _ _ _ _ => lv_if_gt (tgt := 83) hx hb dJ42_siftDownComparable_77 (by decide)) (fun c77 => ?_) (fun c77 => ?_)
        · have hp30 := hp29.1 c77
          refine x_up (pc' := 84) (fun _ _ _ _ _ L => lv_aload_n hx hb dJ42_siftDownComparable_83 rfl (lv_at L 4 rfl)) ?_
          refine x_up (pc' := 85) (fun _ _ _ _ _ L => lv_iload_n hx hb dJ42_siftDownComparable_84 rfl (lv_at L 3 rfl)) ?_
          refine x_up (pc' := 87) (fun _ _ _ _ _ L => lv_aloadq hx hb dJ42_siftDownComparable_85 (lv_at L 0 rfl)) ?_
          refine x_aast X hG v23 dJ42_siftDownComparable_87 hp30 (fun σ26 hp31 => ?_)
          refine x_pc (pc' := 88) rfl ?_
          refine x_up (pc' := 90) (fun _ _ _ _ _ L => lv_iload hx hb dJ42_siftDownComparable_88 (lv_at L 1 rfl)) ?_
          refine x_upL (pc' := 91) (lo' := [(0, .int (((y6 <<< ((1 : Int32) &&& 31)) + (1 : Int32)) + (1 : Int32))), (7, va_rf v23), (6, .int (((y6 <<< ((1 : Int32) &&& 31)) + (1 : Int32)) + (1 : Int32))), (8, .int (((y6 <<< ((1 : Int32) &&& 31)) + (1 : Int32)) + (1 : Int32))), (2, .ref b9), (3, .int x3), (4, .ref b1), (5, .int ((x3.toUInt32 >>> ((1 : Int32).toUInt32 &&& Int32.toUInt32 31)).toInt32))]) (fun _ _ _ _ _ L => lv_istore_n hx hb dJ42_siftDownComparable_90 rfl L (by decide) rfl) ?_
          refine x_up (pc' := 11) (fun _ _ _ _ _ L => lv_goto (tgt := 11) hx hb dJ42_siftDownComparable_91 (by decide)) ?_
          refine x_lo (lo' := [(0, .int (((y6 <<< ((1 : Int32) &&& 31)) + (1 : Int32)) + (1 : Int32))), (2, .ref b9), (3, .int x3), (4, .ref b1), (5, .int ((x3.toUInt32 >>> ((1 : Int32).toUInt32 &&& Int32.toUInt32 31)).toInt32))]) [0, 4, 5, 6, 7] rfl ?_
          exact hself4 (((y6 <<< ((1 : Int32) &&& 31)) + (1 : Int32)) + (1 : Int32)) σ26 hp31
        · have hp32 := hp29.2 c77
          refine x_up (pc' := 94) (fun _ _ _ _ _ L => lv_goto (tgt := 94) hx hb dJ42_siftDownComparable_80 (by decide)) ?_
          refine x_up (pc' := 95) (fun _ _ _ _ _ L => lv_aload_n hx hb dJ42_siftDownComparable_94 rfl (lv_at L 4 rfl)) ?_
          refine x_up (pc' := 96) (fun _ _ _ _ _ L => lv_iload_n hx hb dJ42_siftDownComparable_95 rfl (lv_at L 3 rfl)) ?_
          refine x_up (pc' := 98) (fun _ _ _ _ _ L => lv_aload hx hb dJ42_siftDownComparable_96 (lv_at L 6 rfl)) ?_
          refine x_aast X hG (some b1) dJ42_siftDownComparable_98 hp32 (fun σ27 hp33 => ?_)
          refine x_pc (pc' := 99) rfl ?_
          exact x_vret X hr dJ42_siftDownComparable_99 hp33
-- J42_siftDownUsingComparator
def B_J42_siftDownUsingComparator_5 (κ : Nat → Nat) (K : Unit → xH → Prop) (f1 : Option Nat) (f2 : Option Nat) (f3 : Int32) (f4 : Option Nat) (f5 : Int32) : (Int32 → xS → Prop) → Int32 → xS → Prop := fun self6003 w6001 σ6002 =>
  ((f5 ≤ w6001 → (xnn f2 fun b6004 => xsq κ σ6002 b6004 w6001 f1 fun σ6005 => K () σ6005.1)) ∧ (¬ f5 ≤ w6001 → (xnn f2 fun b6006 => xaq σ6002 b6006 ((w6001 <<< ((1 : Int32) &&& 31)) + (1 : Int32)) fun v6007 => ((f3 ≤ (((w6001 <<< ((1 : Int32) &&& 31)) + (1 : Int32)) + (1 : Int32)) → (xnn f4 fun b6008 => xcall (fun τ L => ((xrc τ b6008 28 ∧ P_X7_compare_2 κ b6008 f1 v6007 τ L) ∨ ((xrc τ b6008 29 ∧ P_X8_compare κ b6008 f1 v6007 τ L) ∨ ((xrc τ b6008 30 ∧ P_X9_compare κ b6008 f1 v6007 τ L) ∨ ((xrc τ b6008 31 ∧ P_X10_compare κ b6008 f1 v6007 τ L) ∨ (xrc τ b6008 34 ∧ P_X11_compare κ b6008 f1 v6007 τ L)))))) σ6002 fun v6009 σ6010 => ((0 < v6009 → (xsq κ σ6010 b6006 w6001 v6007 fun σ6011 => self6003 ((w6001 <<< ((1 : Int32) &&& 31)) + (1 : Int32)) σ6011)) ∧ (¬ 0 < v6009 → (xsq κ σ6010 b6006 w6001 f1 fun σ6012 => K () σ6012.1))))) ∧ (¬ f3 ≤ (((w6001 <<< ((1 : Int32) &&& 31)) + (1 : Int32)) + (1 : Int32)) → (xaq σ6002 b6006 (((w6001 <<< ((1 : Int32) &&& 31)) + (1 : Int32)) + (1 : Int32)) fun v6013 => xnn f4 fun b6014 => xcall (fun τ L => ((xrc τ b6014 28 ∧ P_X7_compare_2 κ b6014 v6007 v6013 τ L) ∨ ((xrc τ b6014 29 ∧ P_X8_compare κ b6014 v6007 v6013 τ L) ∨ ((xrc τ b6014 30 ∧ P_X9_compare κ b6014 v6007 v6013 τ L) ∨ ((xrc τ b6014 31 ∧ P_X10_compare κ b6014 v6007 v6013 τ L) ∨ (xrc τ b6014 34 ∧ P_X11_compare κ b6014 v6007 v6013 τ L)))))) σ6002 fun v6015 σ6016 => ((v6015 ≤ 0 → (xcall (fun τ L => ((xrc τ b6014 28 ∧ P_X7_compare_2 κ b6014 f1 v6007 τ L) ∨ ((xrc τ b6014 29 ∧ P_X8_compare κ b6014 f1 v6007 τ L) ∨ ((xrc τ b6014 30 ∧ P_X9_compare κ b6014 f1 v6007 τ L) ∨ ((xrc τ b6014 31 ∧ P_X10_compare κ b6014 f1 v6007 τ L) ∨ (xrc τ b6014 34 ∧ P_X11_compare κ b6014 f1 v6007 τ L)))))) σ6016 fun v6017 σ6018 => ((0 < v6017 → (xsq κ σ6018 b6006 w6001 v6007 fun σ6019 => self6003 ((w6001 <<< ((1 : Int32) &&& 31)) + (1 : Int32)) σ6019)) ∧ (¬ 0 < v6017 → (xsq κ σ6018 b6006 w6001 f1 fun σ6020 => K () σ6020.1))))) ∧ (¬ v6015 ≤ 0 → (xaq σ6016 b6006 (((w6001 <<< ((1 : Int32) &&& 31)) + (1 : Int32)) + (1 : Int32)) fun v6021 => xcall (fun τ L => ((xrc τ b6014 28 ∧ P_X7_compare_2 κ b6014 f1 v6021 τ L) ∨ ((xrc τ b6014 29 ∧ P_X8_compare κ b6014 f1 v6021 τ L) ∨ ((xrc τ b6014 30 ∧ P_X9_compare κ b6014 f1 v6021 τ L) ∨ ((xrc τ b6014 31 ∧ P_X10_compare κ b6014 f1 v6021 τ L) ∨ (xrc τ b6014 34 ∧ P_X11_compare κ b6014 f1 v6021 τ L)))))) σ6016 fun v6022 σ6023 => ((0 < v6022 → (xsq κ σ6023 b6006 w6001 v6021 fun σ6024 => self6003 (((w6001 <<< ((1 : Int32) &&& 31)) + (1 : Int32)) + (1 : Int32)) σ6024)) ∧ (¬ 0 < v6022 → (xsq κ σ6023 b6006 w6001 f1 fun σ6025 => K () σ6025.1))))))))))))
def P_J42_siftDownUsingComparator (κ : Nat → Nat) (x0 : Int32) (x1 : Option Nat) (x2 : Option Nat) (x3 : Int32) (x4 : Option Nat) (σ : xS) (K : Unit → xH → Prop) : Prop :=
  xwhile (B_J42_siftDownUsingComparator_5 κ K x1 x2 x3 x4 ((x3.toUInt32 >>> ((1 : Int32).toUInt32 &&& Int32.toUInt32 31)).toInt32)) x0 σ
theorem mdJ42_siftDownUsingComparator : yJ42_siftDownUsingComparator.cls ≠ "java/lang/invoke/MethodHandle" ∧ yJ42_siftDownUsingComparator.cls ≠ "java/lang/invoke/VarHandle" ∧ (parseMethodDescriptor yJ42_siftDownUsingComparator.desc).map (fun d => d.parameters.length) = some 5 := by decide +kernel
set_option maxHeartbeats 4000000 in
set_option maxRecDepth 100000 in
theorem R_J42_siftDownUsingComparator (l : Launch) (hl : l.stackTraces = false) (G : xG) (hG : G.1.2 = x_cl) (x0 : Int32) (x1 : Option Nat) (x2 : Option Nat) (x3 : Int32) (x4 : Option Nat) (σ : xS) (K : Unit → xH → Prop) (hp : P_J42_siftDownUsingComparator G.2 x0 x1 x2 x3 x4 σ K) : xM l yJ42_siftDownUsingComparator cJ42_siftDownUsingComparator 9 (Option.none : Option Jvm.ClassFile.FieldType) 4 87 G [.int x0, va_rf x1, va_rf x2, .int x3, va_rf x4] σ (xlift emV K) := by
  refine x_entry (by decide) (by simp [lg_sl, x_catq, x_cati, x_catr, x_catn]) ?_
  intro p e s m args below meth c X hr hin
  have X : xX p s m args meth c G cJ42_siftDownUsingComparator 9 RJ42 := X
  have hx := X.1
  have hb := X.2.1
  have hts := X.2.2.2.2.1
  have hown := X.2.2.2.1
  unfold P_J42_siftDownUsingComparator at hp
  refine x_same (lo' := [(0, .int x0), (1, va_rf x1), (2, va_rf x2), (3, .int x3), (4, va_rf x4)]) (by simp [lv_args, x_catq, x_cati, x_catr, x_catn]) ?_
  refine x_up (pc' := 1) (fun _ _ _ _ _ L => lv_iload_n hx hb dJ42_siftDownUsingComparator_0 rfl (lv_at L 3 rfl)) ?_
  refine x_up (pc' := 2) (fun _ _ _ _ _ L => lv_iconst (v := (1 : Int32)) hx hb dJ42_siftDownUsingComparator_1 (by decide)) ?_
  refine x_up (pc' := 3) (fun _ _ _ _ _ L => lv_iushr hx hb dJ42_siftDownUsingComparator_2 rfl) ?_
  refine x_st (pc' := 5) ([(5, .int ((x3.toUInt32 >>> ((1 : Int32).toUInt32 &&& Int32.toUInt32 31)).toInt32)), (0, .int x0), (1, va_rf x1), (2, va_rf x2), (3, .int x3), (4, va_rf x4)]) rfl (by simp [x_catq, x_cati, x_catr, x_catn]) (fun _ _ _ _ _ L => lv_istore hx hb dJ42_siftDownUsingComparator_3 L (by decide) rfl) ?_
  refine x_lo (lo' := [(0, .int x0), (1, va_rf x1), (2, va_rf x2), (3, .int x3), (4, va_rf x4), (5, .int ((x3.toUInt32 >>> ((1 : Int32).toUInt32 &&& Int32.toUInt32 31)).toInt32))]) [1, 2, 3, 4, 5, 0] rfl ?_
  refine x_while (v0 := x0) (fun w1 => [(0, .int w1), (1, va_rf x1), (2, va_rf x2), (3, .int x3), (4, va_rf x4), (5, .int ((x3.toUInt32 >>> ((1 : Int32).toUInt32 &&& Int32.toUInt32 31)).toInt32))]) hp (fun self2 hself3 => ?_)
  rintro y5 σ4 hp1
  unfold B_J42_siftDownUsingComparator_5 at hp1
  refine x_same (lo' := [(0, .int y5), (1, va_rf x1), (2, va_rf x2), (3, .int x3), (4, va_rf x4), (5, .int ((x3.toUInt32 >>> ((1 : Int32).toUInt32 &&& Int32.toUInt32 31)).toInt32))]) rfl ?_
  refine x_up (pc' := 6) (fun _ _ _ _ _ L => lv_iload_n hx hb dJ42_siftDownUsingComparator_5 rfl (lv_at L 0 rfl)) ?_
  refine x_up (pc' := 8) (fun _ _ _ _ _ L => lv_iload hx hb dJ42_siftDownUsingComparator_6 (lv_at L 5 rfl)) ?_
  refine x_if (C := ((x3.toUInt32 >>> ((1 : Int32).toUInt32 &&& Int32.toUInt32 31)).toInt32) ≤ y5) (pt := 88) (pc' := 11) (fun _ _ _ _ _ => lv_icmp_ge (tgt := 88) hx hb dJ42_siftDownUsingComparator_8 (by decide)) (fun c8 => ?_) (fun c8 => ?_)
  · have hp2 := hp1.1 c8
    refine x_up (pc' := 89) (fun _ _ _ _ _ L => lv_aloadq_n hx hb dJ42_siftDownUsingComparator_88 rfl (lv_at L 2 rfl)) ?_
    refine x_up (pc' := 90) (fun _ _ _ _ _ L => lv_iload_n hx hb dJ42_siftDownUsingComparator_89 rfl (lv_at L 0 rfl)) ?_
    refine x_up (pc' := 91) (fun _ _ _ _ _ L => lv_aloadq_n hx hb dJ42_siftDownUsingComparator_90 rfl (lv_at L 1 rfl)) ?_
    obtain ⟨b6, rfl, hp3⟩ := hp2
    refine x_aast X hG x1 dJ42_siftDownUsingComparator_91 hp3 (fun σ7 hp4 => ?_)
    refine x_pc (pc' := 92) rfl ?_
    exact x_vret X hr dJ42_siftDownUsingComparator_92 hp4
  · have hp5 := hp1.2 c8
    refine x_up (pc' := 12) (fun _ _ _ _ _ L => lv_iload_n hx hb dJ42_siftDownUsingComparator_11 rfl (lv_at L 0 rfl)) ?_
    refine x_up (pc' := 13) (fun _ _ _ _ _ L => lv_iconst (v := (1 : Int32)) hx hb dJ42_siftDownUsingComparator_12 (by decide)) ?_
    refine x_up (pc' := 14) (fun _ _ _ _ _ L => lv_ishl hx hb dJ42_siftDownUsingComparator_13) ?_
    refine x_up (pc' := 15) (fun _ _ _ _ _ L => lv_iconst (v := (1 : Int32)) hx hb dJ42_siftDownUsingComparator_14 (by decide)) ?_
    refine x_up (pc' := 16) (fun _ _ _ _ _ L => lv_iadd hx hb dJ42_siftDownUsingComparator_15) ?_
    refine x_upL (pc' := 18) (lo' := [(6, .int ((y5 <<< ((1 : Int32) &&& 31)) + (1 : Int32))), (0, .int y5), (1, va_rf x1), (2, va_rf x2), (3, .int x3), (4, va_rf x4), (5, .int ((x3.toUInt32 >>> ((1 : Int32).toUInt32 &&& Int32.toUInt32 31)).toInt32))]) (fun _ _ _ _ _ L => lv_istore hx hb dJ42_siftDownUsingComparator_16 L (by decide) rfl) ?_
    refine x_up (pc' := 19) (fun _ _ _ _ _ L => lv_aloadq_n hx hb dJ42_siftDownUsingComparator_18 rfl (lv_at L 3 rfl)) ?_
    refine x_up (pc' := 21) (fun _ _ _ _ _ L => lv_iload hx hb dJ42_siftDownUsingComparator_19 (lv_at L 0 rfl)) ?_
    obtain ⟨b8, rfl, hp6⟩ := hp5
    refine x_aald X dJ42_siftDownUsingComparator_21 hp6 (fun v9 hp7 => ?_)
    refine x_pc (pc' := 22) rfl ?_
    refine x_upL (pc' := 24) (lo' := [(7, va_rf v9), (6, .int ((y5 <<< ((1 : Int32) &&& 31)) + (1 : Int32))), (0, .int y5), (1, va_rf x1), (2, .ref b8), (3, .int x3), (4, va_rf x4), (5, .int ((x3.toUInt32 >>> ((1 : Int32).toUInt32 &&& Int32.toUInt32 31)).toInt32))]) (fun _ _ _ _ _ L => lv_astoreq hx hb dJ42_siftDownUsingComparator_22 L (by decide) rfl) ?_
    refine x_up (pc' := 26) (fun _ _ _ _ _ L => lv_iload hx hb dJ42_siftDownUsingComparator_24 (lv_at L 1 rfl)) ?_
    refine x_up (pc' := 27) (fun _ _ _ _ _ L => lv_iconst (v := (1 : Int32)) hx hb dJ42_siftDownUsingComparator_26 (by decide)) ?_
    refine x_up (pc' := 28) (fun _ _ _ _ _ L => lv_iadd hx hb dJ42_siftDownUsingComparator_27) ?_
    refine x_st (pc' := 30) ([(8, .int (((y5 <<< ((1 : Int32) &&& 31)) + (1 : Int32)) + (1 : Int32))), (7, va_rf v9), (6, .int ((y5 <<< ((1 : Int32) &&& 31)) + (1 : Int32))), (0, .int y5), (1, va_rf x1), (2, .ref b8), (3, .int x3), (4, va_rf x4), (5, .int ((x3.toUInt32 >>> ((1 : Int32).toUInt32 &&& Int32.toUInt32 31)).toInt32))]) rfl (by simp [x_catq, x_cati, x_catr, x_catn]) (fun _ _ _ _ _ L => lv_istore hx hb dJ42_siftDownUsingComparator_28 L (by decide) rfl) ?_
    refine x_up (pc' := 32) (fun _ _ _ _ _ L => lv_iload hx hb dJ42_siftDownUsingComparator_30 (lv_at L 0 rfl)) ?_
    refine x_up (pc' := 33) (fun _ _ _ _ _ L => lv_iload_n hx hb dJ42_siftDownUsingComparator_32 rfl (lv_at L 6 rfl)) ?_
    refine x_if (C := x3 ≤ (((y5 <<< ((1 : Int32) &&& 31)) + (1 : Int32)) + (1 : Int32))) (pt := 61) (pc' := 36) (fun _ _ _ _ _ => lv_icmp_ge (tgt := 61) hx hb dJ42_siftDownUsingComparator_33 (by decide)) (fun c33 => ?_) (fun c33 => ?_)
    · have hp8 := hp7.1 c33
      refine x_up (pc' := 63) (fun _ _ _ _ _ L => lv_aloadq hx hb dJ42_siftDownUsingComparator_61 (lv_at L 7 rfl)) ?_
      refine x_up (pc' := 64) (fun _ _ _ _ _ L => lv_aloadq_n hx hb dJ42_siftDownUsingComparator_63 rfl (lv_at L 4 rfl)) ?_
      refine x_up (pc' := 66) (fun _ _ _ _ _ L => lv_aloadq hx hb dJ42_siftDownUsingComparator_64 (lv_at L 1 rfl)) ?_
      obtain ⟨b10, rfl, hp9⟩ := hp8
      refine x_kk (A := (fun r σ' => xW p l e ({ frames := 4, cells := σ.2.1, slots := σ.2.2, locals := 87 } : Room) s m args below meth c G 9 (MQ below (xQ G (xlift emV K)) args s σ.2.1 σ.2.2 (xA G)) σ' 71 [(8, .int (((y5 <<< ((1 : Int32) &&& 31)) + (1 : Int32)) + (1 : Int32))), (7, va_rf v9), (6, .int ((y5 <<< ((1 : Int32) &&& 31)) + (1 : Int32))), (0, .int y5), (1, va_rf x1), (2, .ref b8), (3, .int x3), (4, .ref b10), (5, .int ((x3.toUInt32 >>> ((1 : Int32).toUInt32 &&& Int32.toUInt32 31)).toInt32))] [.int r])) hp9 (fun v11 σ12 hpK66 => ?_) (fun hd66 kk66 => ?_)
      rotate_left
      · refine x_or hd66 (fun h1 => ?_) (fun h2_0 => ?_)
        · obtain ⟨hr, h1⟩ := x_and h1
          exact x_callF (x := ⟨"java/util/Comparator", "compare", "(Ljava/lang/Object;Ljava/lang/Object;)I"⟩) (em := emI) (fun r st => .int r :: st) (fun _ _ => rfl) 2 X (kX7 hG) (fun σ' KK h => R_X7_compare_2 l hl G hG b10 x1 v9 σ' KK h) q2371 q1655 q1657 q151 q1659 ⟨⟨q1596, q1595, q1658, q1656, q1654⟩, by decide, by decide⟩ (by decide +kernel) ⟨Nat.le_of_ble_eq_true rfl, Nat.le_of_ble_eq_true rfl⟩ rfl rfl (Nat.le_of_ble_eq_true rfl) dJ42_siftDownUsingComparator_66 hr h1 kk66
        refine x_or h2_0 (fun h1 => ?_) (fun h2_1 => ?_)
        · obtain ⟨hr, h1⟩ := x_and h1
          exact x_callF (x := ⟨"java/util/Comparator", "compare", "(Ljava/lang/Object;Ljava/lang/Object;)I"⟩) (em := emI) (fun r st => .int r :: st) (fun _ _ => rfl) 2 X (kX8 hG) (fun σ' KK h => R_X8_compare l hl G hG b10 x1 v9 σ' KK h) q2371 q1609 q1611 q152 q1613 ⟨⟨q1596, q1595, q1612, q1610, q1608⟩, by decide, by decide⟩ (by decide +kernel) ⟨Nat.le_of_ble_eq_true rfl, Nat.le_of_ble_eq_true rfl⟩ rfl rfl (Nat.le_of_ble_eq_true rfl) dJ42_siftDownUsingComparator_66 hr h1 kk66
        refine x_or h2_1 (fun h1 => ?_) (fun h2_2 => ?_)
        · obtain ⟨hr, h1⟩ := x_and h1
          exact x_callF (x := ⟨"java/util/Comparator", "compare", "(Ljava/lang/Object;Ljava/lang/Object;)I"⟩) (em := emI) (fun r st => .int r :: st) (fun _ _ => rfl) 2 X (kX9 hG) (fun σ' KK h => R_X9_compare l hl G hG b10 x1 v9 σ' KK h) q2371 q1620 q1622 q153 q1624 ⟨⟨q1596, q1595, q1623, q1621, q1619⟩, by decide, by decide⟩ (by decide +kernel) ⟨Nat.le_of_ble_eq_true rfl, Nat.le_of_ble_eq_true rfl⟩ rfl rfl (Nat.le_of_ble_eq_true rfl) dJ42_siftDownUsingComparator_66 hr h1 kk66
        refine x_or h2_2 (fun h1 => ?_) (fun h2_3 => ?_)
        · obtain ⟨hr, h1⟩ := x_and h1
          exact x_callF (x := ⟨"java/util/Comparator", "compare", "(Ljava/lang/Object;Ljava/lang/Object;)I"⟩) (em := emI) (fun r st => .int r :: st) (fun _ _ => rfl) 2 X (kX10 hG) (fun σ' KK h => R_X10_compare l hl G hG b10 x1 v9 σ' KK h) q2371 q1635 q1637 q154 q1639 ⟨⟨q1596, q1595, q1638, q1636, q1634⟩, by decide, by decide⟩ (by decide +kernel) ⟨Nat.le_of_ble_eq_true rfl, Nat.le_of_ble_eq_true rfl⟩ rfl rfl (Nat.le_of_ble_eq_true rfl) dJ42_siftDownUsingComparator_66 hr h1 kk66
        obtain ⟨hr, h1⟩ := x_and h2_3
        exact x_callF (x := ⟨"java/util/Comparator", "compare", "(Ljava/lang/Object;Ljava/lang/Object;)I"⟩) (em := emI) (fun r st => .int r :: st) (fun _ _ => rfl) 2 X (kX11 hG) (fun σ' KK h => R_X11_compare l hl G hG b10 x1 v9 σ' KK h) q2371 q1598 q1600 q158 q1602 ⟨⟨q1596, q1595, q1601, q1599, q1597⟩, by decide, by decide⟩ (by decide +kernel) ⟨Nat.le_of_ble_eq_true rfl, Nat.le_of_ble_eq_true rfl⟩ rfl rfl (Nat.le_of_ble_eq_true rfl) dJ42_siftDownUsingComparator_66 hr h1 kk66
      have hp10 := hpK66
      refine x_if (C := 0 < v11) (pt := 77) (pc' := 74) (fun _ _ _ _ _ => lv_if_gt (tgt := 77) hx hb dJ42_siftDownUsingComparator_71 (by decide)) (fun c71 => ?_) (fun c71 => ?_)
      · have hp11 := hp10.1 c71
        refine x_up (pc' := 78) (fun _ _ _ _ _ L => lv_aload_n hx hb dJ42_siftDownUsingComparator_77 rfl (lv_at L 5 rfl)) ?_
        refine x_up (pc' := 79) (fun _ _ _ _ _ L => lv_iload_n hx hb dJ42_siftDownUsingComparator_78 rfl (lv_at L 3 rfl)) ?_
        refine x_up (pc' := 81) (fun _ _ _ _ _ L => lv_aloadq hx hb dJ42_siftDownUsingComparator_79 (lv_at L 1 rfl)) ?_
        refine x_aast X hG v9 dJ42_siftDownUsingComparator_81 hp11 (fun σ13 hp12 => ?_)
        refine x_pc (pc' := 82) rfl ?_
        refine x_up (pc' := 84) (fun _ _ _ _ _ L => lv_iload hx hb dJ42_siftDownUsingComparator_82 (lv_at L 2 rfl)) ?_
        refine x_upL (pc' := 85) (lo' := [(0, .int ((y5 <<< ((1 : Int32) &&& 31)) + (1 : Int32))), (8, .int (((y5 <<< ((1 : Int32) &&& 31)) + (1 : Int32)) + (1 : Int32))), (7, va_rf v9), (6, .int ((y5 <<< ((1 : Int32) &&& 31)) + (1 : Int32))), (1, va_rf x1), (2, .ref b8), (3, .int x3), (4, .ref b10), (5, .int ((x3.toUInt32 >>> ((1 : Int32).toUInt32 &&& Int32.toUInt32 31)).toInt32))]) (fun _ _ _ _ _ L => lv_istore_n hx hb dJ42_siftDownUsingComparator_84 rfl L (by decide) rfl) ?_
        refine x_up (pc' := 5) (fun _ _ _ _ _ L => lv_goto (tgt := 5) hx hb dJ42_siftDownUsingComparator_85 (by decide)) ?_
        refine x_lo (lo' := [(0, .int ((y5 <<< ((1 : Int32) &&& 31)) + (1 : Int32))), (1, va_rf x1), (2, .ref b8), (3, .int x3), (4, .ref b10), (5, .int ((x3.toUInt32 >>> ((1 : Int32).toUInt32 &&& Int32.toUInt32 31)).toInt32))]) [0, 4, 5, 6, 7, 8] rfl ?_
        exact hself3 ((y5 <<< ((1 : Int32) &&& 31)) + (1 : Int32)) σ13 hp12
      · have hp13 := hp10.2 c71
        refine x_up (pc' := 88) (fun _ _ _ _ _ L => lv_goto (tgt := 88) hx hb dJ42_siftDownUsingComparator_74 (by decide)) ?_
        refine x_up (pc' := 89) (fun _ _ _ _ _ L => lv_aload_n hx hb dJ42_siftDownUsingComparator_88 rfl (lv_at L 5 rfl)) ?_
        refine x_up (pc' := 90) (fun _ _ _ _ _ L => lv_iload_n hx hb dJ42_siftDownUsingComparator_89 rfl (lv_at L 3 rfl)) ?_
        refine x_up (pc' := 91) (fun _ _ _ _ _ L => lv_aloadq_n hx hb dJ42_siftDownUsingComparator_90 rfl (lv_at L 4 rfl)) ?_
        refine x_aast X hG x1 dJ42_siftDownUsingComparator_91 hp13 (fun σ14 hp14 => ?_)
        refine x_pc (pc' := 92) rfl ?_
        exact x_vret X hr dJ42_siftDownUsingComparator_92 hp14
    · have hp15 := hp7.2 c33
      refine x_up (pc' := 38) (fun _ _ _ _ _ L => lv_aloadq hx hb dJ42_siftDownUsingComparator_36 (lv_at L 7 rfl)) ?_
      refine x_up (pc' := 40) (fun _ _ _ _ _ L => lv_aloadq hx hb dJ42_siftDownUsingComparator_38 (lv_at L 1 rfl)) ?_
      refine x_up (pc' := 41) (fun _ _ _ _ _ L => lv_aload_n hx hb dJ42_siftDownUsingComparator_40 rfl (lv_at L 5 rfl)) ?_
      refine x_up (pc' := 43) (fun _ _ _ _ _ L => lv_iload hx hb dJ42_siftDownUsingComparator_41 (lv_at L 0 rfl)) ?_
      refine x_aald X dJ42_siftDownUsingComparator_43 hp15 (fun v15 hp16 => ?_)
      refine x_pc (pc' := 44) rfl ?_
      obtain ⟨b16, rfl, hp17⟩ := hp16
      refine x_kk (A := (fun r σ' => xW p l e ({ frames := 4, cells := σ.2.1, slots := σ.2.2, locals := 87 } : Room) s m args below meth c G 9 (MQ below (xQ G (xlift emV K)) args s σ.2.1 σ.2.2 (xA G)) σ' 49 [(8, .int (((y5 <<< ((1 : Int32) &&& 31)) + (1 : Int32)) + (1 : Int32))), (7, va_rf v9), (6, .int ((y5 <<< ((1 : Int32) &&& 31)) + (1 : Int32))), (0, .int y5), (1, va_rf x1), (2, .ref b8), (3, .int x3), (4, .ref b16), (5, .int ((x3.toUInt32 >>> ((1 : Int32).toUInt32 &&& Int32.toUInt32 31)).toInt32))] [.int r])) hp17 (fun v17 σ18 hpK44 => ?_) (fun hd44 kk44 => ?_)
      rotate_left
      · refine x_or hd44 (fun h1 => ?_) (fun h2_0 => ?_)
        · obtain ⟨hr, h1⟩ := x_and h1
          exact x_callF (x := ⟨"java/util/Comparator", "compare", "(Ljava/lang/Object;Ljava/lang/Object;)I"⟩) (em := emI) (fun r st => .int r :: st) (fun _ _ => rfl) 2 X (kX7 hG) (fun σ' KK h => R_X7_compare_2 l hl G hG b16 v9 v15 σ' KK h) q2371 q1655 q1657 q151 q1659 ⟨⟨q1596, q1595, q1658, q1656, q1654⟩, by decide, by decide⟩ (by decide +kernel) ⟨Nat.le_of_ble_eq_true rfl, Nat.le_of_ble_eq_true rfl⟩ rfl rfl (Nat.le_of_ble_eq_true rfl) dJ42_siftDownUsingComparator_44 hr h1 kk44
        refine x_or h2_0 (fun h1 => ?_) (fun h2_1 => ?_)
        · obtain ⟨hr, h1⟩ := x_and h1
          exact x_callF (x := ⟨"java/util/Comparator", "compare", "(Ljava/lang/Object;Ljava/lang/Object;)I"⟩) (em := emI) (fun r st => .int r :: st) (fun _ _ => rfl) 2 X (kX8 hG) (fun σ' KK h => R_X8_compare l hl G hG b16 v9 v15 σ' KK h) q2371 q1609 q1611 q152 q1613 ⟨⟨q1596, q1595, q1612, q1610, q1608⟩, by decide, by decide⟩ (by decide +kernel) ⟨Nat.le_of_ble_eq_true rfl, Nat.le_of_ble_eq_true rfl⟩ rfl rfl (Nat.le_of_ble_eq_true rfl) dJ42_siftDownUsingComparator_44 hr h1 kk44
        refine x_or h2_1 (fun h1 => ?_) (fun h2_2 => ?_)
        · obtain ⟨hr, h1⟩ := x_and h1
          exact x_callF (x := ⟨"java/util/Comparator", "compare", "(Ljava/lang/Object;Ljava/lang/Object;)I"⟩) (em := emI) (fun r st => .int r :: st) (fun _ _ => rfl) 2 X (kX9 hG) (fun σ' KK h => R_X9_compare l hl G hG b16 v9 v15 σ' KK h) q2371 q1620 q1622 q153 q1624 ⟨⟨q1596, q1595, q1623, q1621, q1619⟩, by decide, by decide⟩ (by decide +kernel) ⟨Nat.le_of_ble_eq_true rfl, Nat.le_of_ble_eq_true rfl⟩ rfl rfl (Nat.le_of_ble_eq_true rfl) dJ42_siftDownUsingComparator_44 hr h1 kk44
        refine x_or h2_2 (fun h1 => ?_) (fun h2_3 => ?_)
        · obtain ⟨hr, h1⟩ := x_and h1
          exact x_callF (x := ⟨"java/util/Comparator", "compare", "(Ljava/lang/Object;Ljava/lang/Object;)I"⟩) (em := emI) (fun r st => .int r :: st) (fun _ _ => rfl) 2 X (kX10 hG) (fun σ' KK h => R_X10_compare l hl G hG b16 v9 v15 σ' KK h) q2371 q1635 q1637 q154 q1639 ⟨⟨q1596, q1595, q1638, q1636, q1634⟩, by decide, by decide⟩ (by decide +kernel) ⟨Nat.le_of_ble_eq_true rfl, Nat.le_of_ble_eq_true rfl⟩ rfl rfl (Nat.le_of_ble_eq_true rfl) dJ42_siftDownUsingComparator_44 hr h1 kk44
        obtain ⟨hr, h1⟩ := x_and h2_3
        exact x_callF (x := ⟨"java/util/Comparator", "compare", "(Ljava/lang/Object;Ljava/lang/Object;)I"⟩) (em := emI) (fun r st => .int r :: st) (fun _ _ => rfl) 2 X (kX11 hG) (fun σ' KK h => R_X11_compare l hl G hG b16 v9 v15 σ' KK h) q2371 q1598 q1600 q158 q1602 ⟨⟨q1596, q1595, q1601, q1599, q1597⟩, by decide, by decide⟩ (by decide +kernel) ⟨Nat.le_of_ble_eq_true rfl, Nat.le_of_ble_eq_true rfl⟩ rfl rfl (Nat.le_of_ble_eq_true rfl) dJ42_siftDownUsingComparator_44 hr h1 kk44
      have hp18 := hpK44
      refine x_if (C := v17 ≤ 0) (pt := 61) (pc' := 52) (fun _ _ _ _ _ => lv_if_le (tgt := 61) hx hb dJ42_siftDownUsingComparator_49 (by decide)) (fun c49 => ?_) (fun c49 => ?_)
      · have hp19 := hp18.1 c49
        refine x_up (pc' := 63) (fun _ _ _ _ _ L => lv_aload hx hb dJ42_siftDownUsingComparator_61 (lv_at L 7 rfl)) ?_
        refine x_up (pc' := 64) (fun _ _ _ _ _ L => lv_aloadq_n hx hb dJ42_siftDownUsingComparator_63 rfl (lv_at L 4 rfl)) ?_
        refine x_up (pc' := 66) (fun _ _ _ _ _ L => lv_aloadq hx hb dJ42_siftDownUsingComparator_64 (lv_at L 1 rfl)) ?_
        refine x_kk (A := (fun r σ' => xW p l e ({ frames := 4, cells := σ.2.1, slots := σ.2.2, locals := 87 } : Room) s m args below meth c G 9 (MQ below (xQ G (xlift emV K)) args s σ.2.1 σ.2.2 (xA G)) σ' 71 [(8, .int (((y5 <<< ((1 : Int32) &&& 31)) + (1 : Int32)) + (1 : Int32))), (7, va_rf v9), (6, .int ((y5 <<< ((1 : Int32) &&& 31)) + (1 : Int32))), (0, .int y5), (1, va_rf x1), (2, .ref b8), (3, .int x3), (4, .ref b16), (5, .int ((x3.toUInt32 >>> ((1 : Int32).toUInt32 &&& Int32.toUInt32 31)).toInt32))] [.int r])) hp19 (fun v19 σ20 hpK66 => ?_) (fun hd66 kk66 => ?_)
        rotate_left
        · refine x_or hd66 (fun h1 => ?_) (fun h2_0 => ?_)
          · obtain ⟨hr, h1⟩ := x_and h1
            exact x_callF (x := ⟨"java/util/Comparator", "compare", "(Ljava/lang/Object;Ljava/lang/Object;)I"⟩) (em := emI) (fun r st => .int r :: st) (fun _ _ => rfl) 2 X (kX7 hG) (fun σ' KK h => R_X7_compare_2 l hl G hG b16 x1 v9 σ' KK h) q2371 q1655 q1657 q151 q1659 ⟨⟨q1596, q1595, q1658, q1656, q1654⟩, by decide, by decide⟩ (by decide +kernel) ⟨Nat.le_of_ble_eq_true rfl, Nat.le_of_ble_eq_true rfl⟩ rfl rfl (Nat.le_of_ble_eq_true rfl) dJ42_siftDownUsingComparator_66 hr h1 kk66
          refine x_or h2_0 (fun h1 => ?_) (fun h2_1 => ?_)
          · obtain ⟨hr, h1⟩ := x_and h1
            exact x_callF (x := ⟨"java/util/Comparator", "compare", "(Ljava/lang/Object;Ljava/lang/Object;)I"⟩) (em := emI) (fun r st => .int r :: st) (fun _ _ => rfl) 2 X (kX8 hG) (fun σ' KK h => R_X8_compare l hl G hG b16 x1 v9 σ' KK h) q2371 q1609 q1611 q152 q1613 ⟨⟨q1596, q1595, q1612, q1610, q1608⟩, by decide, by decide⟩ (by decide +kernel) ⟨Nat.le_of_ble_eq_true rfl, Nat.le_of_ble_eq_true rfl⟩ rfl rfl (Nat.le_of_ble_eq_true rfl) dJ42_siftDownUsingComparator_66 hr h1 kk66
          refine x_or h2_1 (fun h1 => ?_) (fun h2_2 => ?_)
          · obtain ⟨hr, h1⟩ := x_and h1
            exact x_callF (x := ⟨"java/util/Comparator", "compare", "(Ljava/lang/Object;Ljava/lang/Object;)I"⟩) (em := emI) (fun r st => .int r :: st) (fun _ _ => rfl) 2 X (kX9 hG) (fun σ' KK h => R_X9_compare l hl G hG b16 x1 v9 σ' KK h) q2371 q1620 q1622 q153 q1624 ⟨⟨q1596, q1595, q1623, q1621, q1619⟩, by decide, by decide⟩ (by decide +kernel) ⟨Nat.le_of_ble_eq_true rfl, Nat.le_of_ble_eq_true rfl⟩ rfl rfl (Nat.le_of_ble_eq_true rfl) dJ42_siftDownUsingComparator_66 hr h1 kk66
          refine x_or h2_2 (fun h1 => ?_) (fun h2_3 => ?_)
          · obtain ⟨hr, h1⟩ := x_and h1
            exact x_callF (x := ⟨"java/util/Comparator", "compare", "(Ljava/lang/Object;Ljava/lang/Object;)I"⟩) (em := emI) (fun r st => .int r :: st) (fun _ _ => rfl) 2 X (kX10 hG) (fun σ' KK h => R_X10_compare l hl G hG b16 x1 v9 σ' KK h) q2371 q1635 q1637 q154 q1639 ⟨⟨q1596, q1595, q1638, q1636, q1634⟩, by decide, by decide⟩ (by decide +kernel) ⟨Nat.le_of_ble_eq_true rfl, Nat.le_of_ble_eq_true rfl⟩ rfl rfl (Nat.le_of_ble_eq_true rfl) dJ42_siftDownUsingComparator_66 hr h1 kk66
          obtain ⟨hr, h1⟩ := x_and h2_3
          exact x_callF (x := ⟨"java/util/Comparator", "compare", "(Ljava/lang/Object;Ljava/lang/Object;)I"⟩) (em := emI) (fun r st => .int r :: st) (fun _ _ => rfl) 2 X (kX11 hG) (fun σ' KK h => R_X11_compare l hl G hG b16 x1 v9 σ' KK h) q2371 q1598 q1600 q158 q1602 ⟨⟨q1596, q1595, q1601, q1599, q1597⟩, by decide, by decide⟩ (by decide +kernel) ⟨Nat.le_of_ble_eq_true rfl, Nat.le_of_ble_eq_true rfl⟩ rfl rfl (Nat.le_of_ble_eq_true rfl) dJ42_siftDownUsingComparator_66 hr h1 kk66
        have hp20 := hpK66
        refine x_if (C := 0 < v19) (pt := 77) (pc' := 74) (fun _ _ _ _ _ => lv_if_gt (tgt := 77) hx hb dJ42_siftDownUsingComparator_71 (by decide)) (fun c71 => ?_) (fun c71 => ?_)
        · have hp21 := hp20.1 c71
          refine x_up (pc' := 78) (fun _ _ _ _ _ L => lv_aload_n hx hb dJ42_siftDownUsingComparator_77 rfl (lv_at L 5 rfl)) ?_
          refine x_up (pc' := 79) (fun _ _ _ _ _ L => lv_iload_n hx hb dJ42_siftDownUsingComparator_78 rfl (lv_at L 3 rfl)) ?_
          refine x_up (pc' := 81) (fun _ _ _ _ _ L => lv_aloadq hx hb dJ42_siftDownUsingComparator_79 (lv_at L 1 rfl)) ?_
          refine x_aast X hG v9 dJ42_siftDownUsingComparator_81 hp21 (fun σ21 hp22 => ?_)
          refine x_pc (pc' := 82) rfl ?_
          refine x_up (pc' := 84) (fun _ _ _ _ _ L => lv_iload hx hb dJ42_siftDownUsingComparator_82 (lv_at L 2 rfl)) ?_
          refine x_upL (pc' := 85) (lo' := [(0, .int ((y5 <<< ((1 : Int32) &&& 31)) + (1 : Int32))), (8, .int (((y5 <<< ((1 : Int32) &&& 31)) + (1 : Int32)) + (1 : Int32))), (7, va_rf v9), (6, .int ((y5 <<< ((1 : Int32) &&& 31)) + (1 : Int32))), (1, va_rf x1), (2, .ref b8), (3, .int x3), (4, .ref b16), (5, .int ((x3.toUInt32 >>> ((1 : Int32).toUInt32 &&& Int32.toUInt32 31)).toInt32))]) (fun _ _ _ _ _ L => lv_istore_n hx hb dJ42_siftDownUsingComparator_84 rfl L (by decide) rfl) ?_
          refine x_up (pc' := 5) (fun _ _ _ _ _ L => lv_goto (tgt := 5) hx hb dJ42_siftDownUsingComparator_85 (by decide)) ?_
          refine x_lo (lo' := [(0, .int ((y5 <<< ((1 : Int32) &&& 31)) + (1 : Int32))), (1, va_rf x1), (2, .ref b8), (3, .int x3), (4, .ref b16), (5, .int ((x3.toUInt32 >>> ((1 : Int32).toUInt32 &&& Int32.toUInt32 31)).toInt32))]) [0, 4, 5, 6, 7, 8] rfl ?_
          exact hself3 ((y5 <<< ((1 : Int32) &&& 31)) + (1 : Int32)) σ21 hp22
        · have hp23 := hp20.2 c71
          refine x_up (pc' := 88) (fun _ _ _ _ _ L => lv_goto (tgt := 88) hx hb dJ42_siftDownUsingComparator_74 (by decide)) ?_
          refine x_up (pc' := 89) (fun _ _ _ _ _ L => lv_aload_n hx hb dJ42_siftDownUsingComparator_88 rfl (lv_at L 5 rfl)) ?_
          refine x_up (pc' := 90) (fun _ _ _ _ _ L => lv_iload_n hx hb dJ42_siftDownUsingComparator_89 rfl (lv_at L 3 rfl)) ?_
          refine x_up (pc' := 91) (fun _ _ _ _ _ L => lv_aloadq_n hx hb dJ42_siftDownUsingComparator_90 rfl (lv_at L 4 rfl)) ?_
          refine x_aast X hG x1 dJ42_siftDownUsingComparator_91 hp23 (fun σ22 hp24 => ?_)
          refine x_pc (pc' := 92) rfl ?_
          exact x_vret X hr dJ42_siftDownUsingComparator_92 hp24
      · have hp25 := hp18.2 c49
        refine x_up (pc' := 53) (fun _ _ _ _ _ L => lv_aload_n hx hb dJ42_siftDownUsingComparator_52 rfl (lv_at L 5 rfl)) ?_
        refine x_up (pc' := 55) (fun _ _ _ _ _ L => lv_iload hx hb dJ42_siftDownUsingComparator_53 (lv_at L 0 rfl)) ?_
        refine x_up (pc' := 56) (fun _ _ _ _ _ L => lv_dup hx hb dJ42_siftDownUsingComparator_55 rfl) ?_
        refine x_upL (pc' := 58) (lo' := [(6, .int (((y5 <<< ((1 : Int32) &&& 31)) + (1 : Int32)) + (1 : Int32))), (8, .int (((y5 <<< ((1 : Int32) &&& 31)) + (1 : Int32)) + (1 : Int32))), (7, va_rf v9), (0, .int y5), (1, va_rf x1), (2, .ref b8), (3, .int x3), (4, .ref b16), (5, .int ((x3.toUInt32 >>> ((1 : Int32).toUInt32 &&& Int32.toUInt32 31)).toInt32))]) (fun _ _ _ _ _ L => lv_istore hx hb dJ42_siftDownUsingComparator_56 L (by decide) rfl) ?_
        refine x_aald X dJ42_siftDownUsingComparator_58 hp25 (fun v23 hp26 => ?_)
        refine x_pc (pc' := 59) rfl ?_
        refine x_upL (pc' := 61) (lo' := [(7, va_rf v23), (6, .int (((y5 <<< ((1 : Int32) &&& 31)) + (1 : Int32)) + (1 : Int32))), (8, .int (((y5 <<< ((1 : Int32) &&& 31)) + (1 : Int32)) + (1 : Int32))), (0, .int y5), (1, va_rf x1), (2, .ref b8), (3, .int x3), (4, .ref b16), (5, .int ((x3.toUInt32 >>> ((1 : Int32).toUInt32 &&& Int32.toUInt32 31)).toInt32))]) (fun _ _ _ _ _ L => lv_astoreq hx hb dJ42_siftDownUsingComparator_59 L (by decide) rfl) ?_
        refine x_up (pc' := 63) (fun _ _ _ _ _ L => lv_aload hx hb dJ42_siftDownUsingComparator_61 (lv_at L 7 rfl)) ?_
        refine x_up (pc' := 64) (fun _ _ _ _ _ L => lv_aloadq_n hx hb dJ42_siftDownUsingComparator_63 rfl (lv_at L 4 rfl)) ?_
        refine x_up (pc' := 66) (fun _ _ _ _ _ L => lv_aloadq hx hb dJ42_siftDownUsingComparator_64 (lv_at L 0 rfl)) ?_
        refine x_kk (A := (fun r σ' => xW p l e ({ frames := 4, cells := σ.2.1, slots := σ.2.2, locals := 87 } : Room) s m args below meth c G 9 (MQ below (xQ G (xlift emV K)) args s σ.2.1 σ.2.2 (xA G)) σ' 71 [(7, va_rf v23), (6, .int (((y5 <<< ((1 : Int32) &&& 31)) + (1 : Int32)) + (1 : Int32))), (8, .int (((y5 <<< ((1 : Int32) &&& 31)) + (1 : Int32)) + (1 : Int32))), (0, .int y5), (1, va_rf x1), (2, .ref b8), (3, .int x3), (4, .ref b16), (5, .int ((x3.toUInt32 >>> ((1 : Int32).toUInt32 &&& Int32.toUInt32 31)).toInt32))] [.int r])) hp26 (fun v24 σ25 hpK66 => ?_) (fun hd66 kk66 => ?_)
        rotate_left
        · refine x_or hd66 (fun h1 => ?_) (fun h2_0 => ?_)
          · obtain ⟨hr, h1⟩ := x_and h1
            exact x_callF (x := ⟨"java/util/Comparator", "compare", "(Ljava/lang/Object;Ljava/lang/Object;)I"⟩) (em := emI) (fun r st => .int r :: st) (fun _ _ => rfl) 2 X (kX7 hG) (fun σ' KK h => R_X7_compare_2 l hl G hG b16 x1 v23 σ' KK h) q2371 q1655 q1657 q151 q1659 ⟨⟨q1596, q1595, q1658, q1656, q1654⟩, by decide, by decide⟩ (by decide +kernel) ⟨Nat.le_of_ble_eq_true rfl, Nat.le_of_ble_eq_true rfl⟩ rfl rfl (Nat.le_of_ble_eq_true rfl) dJ42_siftDownUsingComparator_66 hr h1 kk66
          refine x_or h2_0 (fun h1 => ?_) (fun h2_1 => ?_)
          · obtain ⟨hr, h1⟩ := x_and h1
            exact x_callF (x := ⟨"java/util/Comparator", "compare", "(Ljava/lang/Object;Ljava/lang/Object;)I"⟩) (em := emI) (fun r st => .int r :: st) (fun _ _ => rfl) 2 X (kX8 hG) (fun σ' KK h => R_X8_compare l hl G hG b16 x1 v23 σ' KK h) q2371 q1609 q1611 q152 q1613 ⟨⟨q1596, q1595, q1612, q1610, q1608⟩, by decide, by decide⟩ (by decide +kernel) ⟨Nat.le_of_ble_eq_true rfl, Nat.le_of_ble_eq_true rfl⟩ rfl rfl (Nat.le_of_ble_eq_true rfl) dJ42_siftDownUsingComparator_66 hr h1 kk66
          refine x_or h2_1 (fun h1 => ?_) (fun h2_2 => ?_)
          · obtain ⟨hr, h1⟩ := x_and h1
            exact x_callF (x := ⟨"java/util/Comparator", "compare", "(Ljava/lang/Object;Ljava/lang/Object;)I"⟩) (em := emI) (fun r st => .int r :: st) (fun _ _ => rfl) 2 X (kX9 hG) (fun σ' KK h => R_X9_compare l hl G hG b16 x1 v23 σ' KK h) q2371 q1620 q1622 q153 q1624 ⟨⟨q1596, q1595, q1623, q1621, q1619⟩, by decide, by decide⟩ (by decide +kernel) ⟨Nat.le_of_ble_eq_true rfl, Nat.le_of_ble_eq_true rfl⟩ rfl rfl (Nat.le_of_ble_eq_true rfl) dJ42_siftDownUsingComparator_66 hr h1 kk66
          refine x_or h2_2 (fun h1 => ?_) (fun h2_3 => ?_)
          · obtain ⟨hr, h1⟩ := x_and h1
            exact x_callF (x := ⟨"java/util/Comparator", "compare", "(Ljava/lang/Object;Ljava/lang/Object;)I"⟩) (em := emI) (fun r st => .int r :: st) (fun _ _ => rfl) 2 X (kX10 hG) (fun σ' KK h => R_X10_compare l hl G hG b16 x1 v23 σ' KK h) q2371 q1635 q1637 q154 q1639 ⟨⟨q1596, q1595, q1638, q1636, q1634⟩, by decide, by decide⟩ (by decide +kernel) ⟨Nat.le_of_ble_eq_true rfl, Nat.le_of_ble_eq_true rfl⟩ rfl rfl (Nat.le_of_ble_eq_true rfl) dJ42_siftDownUsingComparator_66 hr h1 kk66
          obtain ⟨hr, h1⟩ := x_and h2_3
          exact x_callF (x := ⟨"java/util/Comparator", "compare", "(Ljava/lang/Object;Ljava/lang/Object;)I"⟩) (em := emI) (fun r st => .int r :: st) (fun _ _ => rfl) 2 X (kX11 hG) (fun σ' KK h => R_X11_compare l hl G hG b16 x1 v23 σ' KK h) q2371 q1598 q1600 q158 q1602 ⟨⟨q1596, q1595, q1601, q1599, q1597⟩, by decide, by decide⟩ (by decide +kernel) ⟨Nat.le_of_ble_eq_true rfl, Nat.le_of_ble_eq_true rfl⟩ rfl rfl (Nat.le_of_ble_eq_true rfl) dJ42_siftDownUsingComparator_66 hr h1 kk66
        have hp27 := hpK66
        refine x_if (C := 0 < v24) (pt := 77) (pc' := 74) (fun _ _ _ _ _ => lv_if_gt (tgt := 77) hx hb dJ42_siftDownUsingComparator_71 (by decide)) (fun c71 => ?_) (fun c71 => ?_)
        · have hp28 := hp27.1 c71
          refine x_up (pc' := 78) (fun _ _ _ _ _ L => lv_aload_n hx hb dJ42_siftDownUsingComparator_77 rfl (lv_at L 5 rfl)) ?_
          refine x_up (pc' := 79) (fun _ _ _ _ _ L => lv_iload_n hx hb dJ42_siftDownUsingComparator_78 rfl (lv_at L 3 rfl)) ?_
          refine x_up (pc' := 81) (fun _ _ _ _ _ L => lv_aloadq hx hb dJ42_siftDownUsingComparator_79 (lv_at L 0 rfl)) ?_
          refine x_aast X hG v23 dJ42_siftDownUsingComparator_81 hp28 (fun σ26 hp29 => ?_)
          refine x_pc (pc' := 82) rfl ?_
          refine x_up (pc' := 84) (fun _ _ _ _ _ L => lv_iload hx hb dJ42_siftDownUsingComparator_82 (lv_at L 1 rfl)) ?_
          refine x_upL (pc' := 85) (lo' := [(0, .int (((y5 <<< ((1 : Int32) &&& 31)) + (1 : Int32)) + (1 : Int32))), (7, va_rf v23), (6, .int (((y5 <<< ((1 : Int32) &&& 31)) + (1 : Int32)) + (1 : Int32))), (8, .int (((y5 <<< ((1 : Int32) &&& 31)) + (1 : Int32)) + (1 : Int32))), (1, va_rf x1), (2, .ref b8), (3, .int x3), (4, .ref b16), (5, .int ((x3.toUInt32 >>> ((1 : Int32).toUInt32 &&& Int32.toUInt32 31)).toInt32))]) (fun _ _ _ _ _ L => lv_istore_n hx hb dJ42_siftDownUsingComparator_84 rfl L (by decide) rfl) ?_
          refine x_up (pc' := 5) (fun _ _ _ _ _ L => lv_goto (tgt := 5) hx hb dJ42_siftDownUsingComparator_85 (by decide)) ?_
          refine x_lo (lo' := [(0, .int (((y5 <<< ((1 : Int32) &&& 31)) + (1 : Int32)) + (1 : Int32))), (1, va_rf x1), (2, .ref b8), (3, .int x3), (4, .ref b16), (5, .int ((x3.toUInt32 >>> ((1 : Int32).toUInt32 &&& Int32.toUInt32 31)).toInt32))]) [0, 4, 5, 6, 7, 8] rfl ?_
          exact hself3 (((y5 <<< ((1 : Int32) &&& 31)) + (1 : Int32)) + (1 : Int32)) σ26 hp29
        · have hp30 := hp27.2 c71
          refine x_up (pc' := 88) (fun _ _ _ _ _ L => lv_goto (tgt := 88) hx hb dJ42_siftDownUsingComparator_74 (by decide)) ?_
          refine x_up (pc' := 89) (fun _ _ _ _ _ L => lv_aload_n hx hb dJ42_siftDownUsingComparator_88 rfl (lv_at L 5 rfl)) ?_
          refine x_up (pc' := 90) (fun _ _ _ _ _ L => lv_iload_n hx hb dJ42_siftDownUsingComparator_89 rfl (lv_at L 3 rfl)) ?_
          refine x_up (pc' := 91) (fun _ _ _ _ _ L => lv_aloadq_n hx hb dJ42_siftDownUsingComparator_90 rfl (lv_at L 4 rfl)) ?_
          refine x_aast X hG x1 dJ42_siftDownUsingComparator_91 hp30 (fun σ27 hp31 => ?_)
          refine x_pc (pc' := 92) rfl ?_
          exact x_vret X hr dJ42_siftDownUsingComparator_92 hp31
-- J42_poll
def P_J42_poll (κ : Nat → Nat) (a0 : Nat) (σ : xS) (K : Option Nat → xH → Prop) : Prop :=
  xgq σ a0 27 0 fun v1 => xnn v1 fun b2 => xaq σ b2 (0 : Int32) fun v3 => ((v3 = none → (K none σ.1)) ∧ (∀ b4 : Nat, v3 = some b4 → (xgi σ a0 27 3 fun v5 => xpi κ σ a0 27 3 (v5 + (1 : Int32)) fun σ6 => xgi σ6 a0 27 1 fun v7 => xpi κ σ6 a0 27 1 (v7 - (1 : Int32)) fun σ8 => xaq σ8 b2 (v7 - (1 : Int32)) fun v9 => xsq κ σ8 b2 (v7 - (1 : Int32)) none fun σ10 => (((v7 - (1 : Int32)) ≤ 0 → (K (some b4) σ10.1)) ∧ (¬ (v7 - (1 : Int32)) ≤ 0 → (xgq σ10 a0 27 2 fun v11 => ((v11 = none → (xcall (fun τ L => P_J42_siftDownComparable κ (0 : Int32) v9 (some b2) (v7 - (1 : Int32)) τ L) σ10 fun _ σ13 => K (some b4) σ13.1)) ∧ (∀ b12 : Nat, v11 = some b12 → (xcall (fun τ L => P_J42_siftDownUsingComparator κ (0 : Int32) v9 (some b2) (v7 - (1 : Int32)) (some b12) τ L) σ10 fun _ σ14 => K (some b4) σ14.1)))))))))
theorem mdJ42_poll : yJ42_poll.cls ≠ "java/lang/invoke/MethodHandle" ∧ yJ42_poll.cls ≠ "java/lang/invoke/VarHandle" ∧ (parseMethodDescriptor yJ42_poll.desc).map (fun d => d.parameters.length) = some 0 := by decide +kernel
set_option maxHeartbeats 4000000 in
set_option maxRecDepth 100000 in
theorem R_J42_poll (l : Launch) (hl : l.stackTraces = false) (G : xG) (hG : G.1.2 = x_cl) (a0 : Nat) (σ : xS) (K : Option Nat → xH → Prop) (hp : P_J42_poll G.2 a0 σ K) : xM l yJ42_poll cJ42_poll 6 (Option.some (Jvm.ClassFile.FieldType.object "java/lang/Object")) 5 115 G [(.ref a0)] σ (xlift emQ K) := by
  refine x_entry (by decide) (Nat.le_of_ble_eq_true rfl) ?_
  intro p e s m args below meth c X hr hin
  have X : xX p s m args meth c G cJ42_poll 6 RJ42 := X
  have hx := X.1
  have hb := X.2.1
  have hts := X.2.2.2.2.1
  have hown := X.2.2.2.1
  unfold P_J42_poll at hp
  refine x_same (lo' := [(0, .ref a0)]) rfl ?_
  refine x_up (pc' := 1) (fun _ _ _ _ _ L => lv_aload_n hx hb dJ42_poll_0 rfl (lv_at L 0 rfl)) ?_
  refine x_gq X (kJ42 hG) 0 (by decide) q2330 (fun _ h => h) dJ42_poll_1 hp (fun v1 hp1 => ?_)
  refine x_pc (pc' := 4) rfl ?_
  refine x_up (pc' := 5) (fun _ _ _ _ _ L => lv_dup hx hb dJ42_poll_4 (x_catq _)) ?_
  refine x_upL (pc' := 6) (lo' := [(1, va_rf v1), (0, .ref a0)]) (fun _ _ _ _ _ L => lv_astoreq_n hx hb dJ42_poll_5 rfl L (by decide) rfl) ?_
  refine x_up (pc' := 7) (fun _ _ _ _ _ L => lv_iconst (v := (0 : Int32)) hx hb dJ42_poll_6 (by decide)) ?_
  obtain ⟨b2, rfl, hp2⟩ := hp1
  refine x_aald X dJ42_poll_7 hp2 (fun v3 hp3 => ?_)
  refine x_pc (pc' := 8) rfl ?_
  refine x_up (pc' := 9) (fun _ _ _ _ _ L => lv_dup hx hb dJ42_poll_8 (x_catq _)) ?_
  refine x_upL (pc' := 10) (lo' := [(2, va_rf v3), (1, .ref b2), (0, .ref a0)]) (fun _ _ _ _ _ L => lv_astoreq_n hx hb dJ42_poll_9 rfl L (by decide) rfl) ?_
  rcases v3 with _ | b4
  · have hp4 := hp3.1 rfl
    refine x_up (pc' := 79) (fun _ _ _ _ _ L => lv_ifnullN (tgt := 79) hx hb dJ42_poll_10 (by decide)) ?_
    refine x_up (pc' := 80) (fun _ _ _ _ _ L => lv_aload_nN hx hb dJ42_poll_79 rfl (lv_at L 0 rfl)) ?_
    exact x_aret X hr (Or.inl ⟨_, rfl⟩) dJ42_poll_80 none hp4
  · have hp5 := hp3.2 _ rfl
    refine x_up (pc' := 13) (fun _ _ _ _ _ L => lv_ifnull hx hb dJ42_poll_10) ?_
    refine x_up (pc' := 14) (fun _ _ _ _ _ L => lv_aload_n hx hb dJ42_poll_13 rfl (lv_at L 2 rfl)) ?_
    refine x_up (pc' := 15) (fun _ _ _ _ _ L => lv_dup hx hb dJ42_poll_14 rfl) ?_
    refine x_gi X (kJ42 hG) 3 (by decide) q2335 (fun _ h => h) dJ42_poll_15 hp5 (fun v5 hp6 => ?_)
    refine x_pc (pc' := 18) rfl ?_
    refine x_up (pc' := 19) (fun _ _ _ _ _ L => lv_iconst (v := (1 : Int32)) hx hb dJ42_poll_18 (by decide)) ?_
    refine x_up (pc' := 20) (fun _ _ _ _ _ L => lv_iadd hx hb dJ42_poll_19) ?_
    refine x_pi X (kJ42 hG) 3 (by decide) q2335 (fun _ h => h) rfl rfl rfl dJ42_poll_20 hp6 (fun σ6 hp7 => ?_)
    refine x_pc (pc' := 23) rfl ?_
    refine x_up (pc' := 24) (fun _ _ _ _ _ L => lv_aload_n hx hb dJ42_poll_23 rfl (lv_at L 1 rfl)) ?_
    refine x_up (pc' := 25) (fun _ _ _ _ _ L => lv_aload_n hx hb dJ42_poll_24 rfl (lv_at L 2 rfl)) ?_
    refine x_up (pc' := 26) (fun _ _ _ _ _ L => lv_dup hx hb dJ42_poll_25 rfl) ?_
    refine x_gi X (kJ42 hG) 1 (by decide) q2332 (fun _ h => h) dJ42_poll_26 hp7 (fun v7 hp8 => ?_)
    refine x_pc (pc' := 29) rfl ?_
    refine x_up (pc' := 30) (fun _ _ _ _ _ L => lv_iconst (v := (1 : Int32)) hx hb dJ42_poll_29 (by decide)) ?_
    refine x_up (pc' := 31) (fun _ _ _ _ _ L => lv_isub hx hb dJ42_poll_30) ?_
    refine x_up (pc' := 32) (fun _ _ _ _ _ L => lv_dup_x1 hx hb dJ42_poll_31 rfl rfl) ?_
    refine x_pi X (kJ42 hG) 1 (by decide) q2332 (fun _ h => h) rfl rfl rfl dJ42_poll_32 hp8 (fun σ8 hp9 => ?_)
    refine x_pc (pc' := 35) rfl ?_
    refine x_up (pc' := 36) (fun _ _ _ _ _ L => lv_dup hx hb dJ42_poll_35 rfl) ?_
    refine x_upL (pc' := 37) (lo' := [(3, .int (v7 - (1 : Int32))), (2, .ref b4), (1, .ref b2), (0, .ref a0)]) (fun _ _ _ _ _ L => lv_istore_n hx hb dJ42_poll_36 rfl L (by decide) rfl) ?_
    refine x_aald X dJ42_poll_37 hp9 (fun v9 hp10 => ?_)
    refine x_pc (pc' := 38) rfl ?_
    refine x_upL (pc' := 40) (lo' := [(4, va_rf v9), (3, .int (v7 - (1 : Int32))), (2, .ref b4), (1, .ref b2), (0, .ref a0)]) (fun _ _ _ _ _ L => lv_astoreq hx hb dJ42_poll_38 L (by decide) rfl) ?_
    refine x_up (pc' := 41) (fun _ _ _ _ _ L => lv_aload_n hx hb dJ42_poll_40 rfl (lv_at L 3 rfl)) ?_
    refine x_up (pc' := 42) (fun _ _ _ _ _ L => lv_iload_n hx hb dJ42_poll_41 rfl (lv_at L 1 rfl)) ?_
    refine x_up (pc' := 43) (fun _ _ _ _ _ L => lv_null hx hb dJ42_poll_42) ?_
    refine x_aast X hG none dJ42_poll_43 hp10 (fun σ10 hp11 => ?_)
    refine x_pc (pc' := 44) rfl ?_
    refine x_up (pc' := 45) (fun _ _ _ _ _ L => lv_iload_n hx hb dJ42_poll_44 rfl (lv_at L 1 rfl)) ?_
    refine x_if (C := (v7 - (1 : Int32)) ≤ 0) (pt := 79) (pc' := 48) (fun _ _ _ _ _ => lv_if_le (tgt := 79) hx hb dJ42_poll_45 (by decide)) (fun c45 => ?_) (fun c45 => ?_)
    · have hp12 := hp11.1 c45
      refine x_up (pc' := 80) (fun _ _ _ _ _ L => lv_aload_n hx hb dJ42_poll_79 rfl (lv_at L 2 rfl)) ?_
      exact x_aret X hr (Or.inl ⟨_, rfl⟩) dJ42_poll_80 (some b4) hp12
    · have hp13 := hp11.2 c45
      refine x_up (pc' := 49) (fun _ _ _ _ _ L => lv_aload_n hx hb dJ42_poll_48 rfl (lv_at L 4 rfl)) ?_
      refine x_gq X (kJ42 hG) 2 (by decide) q2333 (fun _ h => h) dJ42_poll_49 hp13 (fun v11 hp14 => ?_)
      refine x_pc (pc' := 52) rfl ?_
      refine x_up (pc' := 53) (fun _ _ _ _ _ L => lv_dup hx hb dJ42_poll_52 (x_catq _)) ?_
      refine x_st (pc' := 55) ([(5, va_rf v11), (4, va_rf v9), (3, .int (v7 - (1 : Int32))), (2, .ref b4), (1, .ref b2), (0, .ref a0)]) rfl (by simp [x_catq, x_cati, x_catr, x_catn]) (fun _ _ _ _ _ L => lv_astoreq hx hb dJ42_poll_53 L (by decide) rfl) ?_
      rcases v11 with _ | b12
      · have hp15 := hp14.1 rfl
        refine x_up (pc' := 58) (fun _ _ _ _ _ L => lv_ifnonnullN hx hb dJ42_poll_55) ?_
        refine x_up (pc' := 59) (fun _ _ _ _ _ L => lv_iconst (v := (0 : Int32)) hx hb dJ42_poll_58 (by decide)) ?_
        refine x_up (pc' := 61) (fun _ _ _ _ _ L => lv_aloadq hx hb dJ42_poll_59 (lv_at L 1 rfl)) ?_
        refine x_up (pc' := 62) (fun _ _ _ _ _ L => lv_aload_n hx hb dJ42_poll_61 rfl (lv_at L 4 rfl)) ?_
        refine x_up (pc' := 63) (fun _ _ _ _ _ L => lv_iload_n hx hb dJ42_poll_62 rfl (lv_at L 2 rfl)) ?_
        refine x_callS (em := emV) (fun r st => st) (fun _ _ => rfl) 4 X (fun σ' KK h => R_J42_siftDownComparable l hl G hG (0 : Int32) v9 (some b2) (v7 - (1 : Int32)) σ' KK h) (lw_S q2395 q2396 q150 q2397) mdJ42_siftDownComparable ⟨Nat.le_of_ble_eq_true rfl, Nat.le_of_ble_eq_true rfl⟩ rfl rfl (Nat.le_of_ble_eq_true rfl) dJ42_poll_63 hp15 (fun _ σ13 hp16 => ?_)
        refine x_pc (pc' := 66) rfl ?_
        refine x_up (pc' := 79) (fun _ _ _ _ _ L => lv_goto (tgt := 79) hx hb dJ42_poll_66 (by decide)) ?_
        refine x_up (pc' := 80) (fun _ _ _ _ _ L => lv_aload_n hx hb dJ42_poll_79 rfl (lv_at L 3 rfl)) ?_
        exact x_aret X hr (Or.inl ⟨_, rfl⟩) dJ42_poll_80 (some b4) hp16
      · have hp17 := hp14.2 _ rfl
        refine x_up (pc' := 69) (fun _ _ _ _ _ L => lv_ifnonnull (tgt := 69) hx hb dJ42_poll_55 (by decide)) ?_
        refine x_up (pc' := 70) (fun _ _ _ _ _ L => lv_iconst (v := (0 : Int32)) hx hb dJ42_poll_69 (by decide)) ?_
        refine x_up (pc' := 72) (fun _ _ _ _ _ L => lv_aloadq hx hb dJ42_poll_70 (lv_at L 1 rfl)) ?_
        refine x_up (pc' := 73) (fun _ _ _ _ _ L => lv_aload_n hx hb dJ42_poll_72 rfl (lv_at L 4 rfl)) ?_
        refine x_up (pc' := 74) (fun _ _ _ _ _ L => lv_iload_n hx hb dJ42_poll_73 rfl (lv_at L 2 rfl)) ?_
        refine x_up (pc' := 76) (fun _ _ _ _ _ L => lv_aload hx hb dJ42_poll_74 (lv_at L 0 rfl)) ?_
        refine x_callS (em := emV) (fun r st => st) (fun _ _ => rfl) 5 X (fun σ' KK h => R_J42_siftDownUsingComparator l hl G hG (0 : Int32) v9 (some b2) (v7 - (1 : Int32)) (some b12) σ' KK h) (lw_S q2398 q2399 q150 q2400) mdJ42_siftDownUsingComparator ⟨Nat.le_of_ble_eq_true rfl, Nat.le_of_ble_eq_true rfl⟩ rfl rfl (Nat.le_of_ble_eq_true rfl) dJ42_poll_76 hp17 (fun _ σ14 hp18 => ?_)
        refine x_pc (pc' := 79) rfl ?_
        refine x_up (pc' := 80) (fun _ _ _ _ _ L => lv_aload_n hx hb dJ42_poll_79 rfl (lv_at L 3 rfl)) ?_
        exact x_aret X hr (Or.inl ⟨_, rfl⟩) dJ42_poll_80 (some b4) hp18
-- J41_remove
def P_J41_remove (κ : Nat → Nat) (a0 : Nat) (σ : xS) (K : Option Nat → xH → Prop) : Prop :=
  xrc σ a0 27 ∧ xcall (fun τ L => P_J42_poll κ a0 τ L) σ fun v1 σ2 => ((v1 = none → (False)) ∧ (∀ b3 : Nat, v1 = some b3 → (K (some b3) σ2.1)))
theorem mdJ41_remove : yJ41_remove.cls ≠ "java/lang/invoke/MethodHandle" ∧ yJ41_remove.cls ≠ "java/lang/invoke/VarHandle" ∧ (parseMethodDescriptor yJ41_remove.desc).map (fun d => d.parameters.length) = some 0 := by decide +kernel
set_option maxHeartbeats 4000000 in
set_option maxRecDepth 100000 in
theorem R_J41_remove (l : Launch) (hl : l.stackTraces = false) (G : xG) (hG : G.1.2 = x_cl) (a0 : Nat) (σ : xS) (K : Option Nat → xH → Prop) (hp : P_J41_remove G.2 a0 σ K) : xM l yJ41_remove cJ41_remove 2 (Option.some (Jvm.ClassFile.FieldType.object "java/lang/Object")) 6 140 G [(.ref a0)] σ (xlift emQ K) := by
  refine x_entry (by decide) (Nat.le_of_ble_eq_true rfl) ?_
  intro p e s m args below meth c X hr hin
  have X : xX p s m args meth c G cJ41_remove 2 RJ41 := X
  have hx := X.1
  have hb := X.2.1
  have hts := X.2.2.2.2.1
  have hown := X.2.2.2.1
  unfold P_J41_remove at hp
  refine x_same (lo' := [(0, .ref a0)]) rfl ?_
  refine x_up (pc' := 1) (fun _ _ _ _ _ L => lv_aload_n hx hb dJ41_remove_0 rfl (lv_at L 0 rfl)) ?_
  refine x_callO (x := ⟨"java/util/AbstractQueue", "poll", "()Ljava/lang/Object;"⟩) (owner := "java/util/Queue") (em := emQ) (fun r st => va_rf r :: st) (fun _ _ => rfl) 0 X (kJ42 hG) (fun σ' KK h => R_J42_poll l hl G hG a0 σ' KK h) (x_dwX X (by simp [x_dw, RJ41])) (x_dwX X (by simp [x_dw])) (x_dcl X q2391) (x_selPoll X q2392) q2393 q150 q2394 (by decide +kernel) ⟨Nat.le_of_ble_eq_true rfl, Nat.le_of_ble_eq_true rfl⟩ rfl rfl (Nat.le_of_ble_eq_true rfl) dJ41_remove_1 hp.1 hp.2 (fun v1 σ2 hp1 => ?_)
  refine x_pc (pc' := 4) rfl ?_
  refine x_upL (pc' := 5) (lo' := [(1, va_rf v1), (0, .ref a0)]) (fun _ _ _ _ _ L => lv_astoreq_n hx hb dJ41_remove_4 rfl L (by decide) rfl) ?_
  refine x_up (pc' := 6) (fun _ _ _ _ _ L => lv_aloadq_n hx hb dJ41_remove_5 rfl (lv_at L 0 rfl)) ?_
  rcases v1 with _ | b3
  · have hp2 := hp1.1 rfl
    refine x_up (pc' := 11) (fun _ _ _ _ _ L => lv_ifnullN (tgt := 11) hx hb dJ41_remove_6 (by decide)) ?_
    exact hp2.elim
  · have hp3 := hp1.2 _ rfl
    refine x_up (pc' := 9) (fun _ _ _ _ _ L => lv_ifnull hx hb dJ41_remove_6) ?_
    refine x_up (pc' := 10) (fun _ _ _ _ _ L => lv_aload_n hx hb dJ41_remove_9 rfl (lv_at L 0 rfl)) ?_
    exact x_aret X hr (Or.inl ⟨_, rfl⟩) dJ41_remove_10 (some b3) hp3
-- X2_giving
def B_X2_giving_34 (κ : Nat → Nat) (kx35004 : Unit → xS → Prop) (f2 : Nat) (f3 : Option Nat) : (Unit → xS → Prop) → Unit → xS → Prop := fun self35003 w35001 σ35002 =>
  xnn f3 fun b35005 => xrc σ35002 b35005 21 ∧ xcall (fun τ L => P_J35_hasNext κ b35005 τ L) σ35002 fun v35006 σ35007 => ((v35006 = 0 → (kx35004 () σ35007)) ∧ (¬ v35006 = 0 → (xrc σ35007 b35005 21 ∧ xcall (fun τ L => P_J35_next κ b35005 τ L) σ35007 fun v35008 σ35009 => xnn v35008 fun b35010 => xrc σ35009 b35010 5 ∧ xrc σ35009 b35010 5 ∧ xcall (fun τ L => P_X3_mayGive κ b35010 τ L) σ35009 fun v35011 σ35012 => ((v35011 = 0 → (self35003 () σ35012)) ∧ (¬ v35011 = 0 → (xrc σ35012 f2 27 ∧ xcall (fun τ L => P_J42_add κ f2 (some b35010) τ L) σ35012 fun v35013 σ35014 => self35003 () σ35014))))))
def B_X2_giving_80 (κ : Nat → Nat) (K : Option Nat → xH → Prop) (f2 : Nat) (f3 : Nat) : (Unit → xS → Prop) → Unit → xS → Prop := fun self81003 w81001 σ81002 =>
  xrc σ81002 f2 27 ∧ xcall (fun τ L => P_J2_isEmpty κ f2 τ L) σ81002 fun v81004 σ81005 => ((v81004 = 0 → (xrc σ81005 f2 27 ∧ xcall (fun τ L => P_J41_remove κ f2 τ L) σ81005 fun v81006 σ81007 => xnn v81006 fun b81008 => xrc σ81007 b81008 5 ∧ xrc σ81007 f3 3 ∧ xcall (fun τ L => P_J4_add κ f3 (some b81008) τ L) σ81007 fun v81009 σ81010 => self81003 () σ81010)) ∧ (¬ v81004 = 0 → (K (some f3) σ81005.1)))
def P_X2_giving (κ : Nat → Nat) (a0 : Nat) (x1 : Int32) (σ : xS) (K : Option Nat → xH → Prop) : Prop :=
  xnew κ σ 27 4 [va_rf none, .int 0, va_rf none, .int 0] fun q1 σ2 => xgi σ2 a0 1 11 fun v3 => xcall (fun τ L => P_X1_byRule κ v3 τ L) σ2 fun v4 σ5 => xcall (fun τ L => P_J42_init κ q1 v4 τ L) σ5 fun _ σ6 => xgq σ6 a0 1 2 fun v7 => xnn v7 fun b8 => xrc σ6 b8 3 ∧ xcall (fun τ L => P_J4_get κ b8 x1 τ L) σ6 fun v9 σ10 => xnn v9 fun b11 => xrc σ10 b11 3 ∧ xrc σ10 b11 3 ∧ xcall (fun τ L => P_J4_iterator κ b11 τ L) σ10 fun v12 σ13 => xwhile (B_X2_giving_34 κ (fun e14 σ15 => xnew κ σ15 3 3 [.int 0, va_rf none, .int 0] fun q16 σ17 => xcall (fun τ L => P_J4_init κ q16 τ L) σ17 fun _ σ18 => xwhile (B_X2_giving_80 κ K q1 q16) () σ18) q1 v12) () σ13
theorem mdX2_giving : yX2_giving.cls ≠ "java/lang/invoke/MethodHandle" ∧ yX2_giving.cls ≠ "java/lang/invoke/VarHandle" ∧ (parseMethodDescriptor yX2_giving.desc).map (fun d => d.parameters.length) = some 1 := by decide +kernel
set_option maxHeartbeats 4000000 in
set_option maxRecDepth 100000 in
theorem R_X2_giving (l : Launch) (hl : l.stackTraces = false) (G : xG) (hG : G.1.2 = x_cl) (a0 : Nat) (x1 : Int32) (σ : xS) (K : Option Nat → xH → Prop) (hp : P_X2_giving G.2 a0 x1 σ K) : xM l yX2_giving cX2_giving 5 (Option.some (Jvm.ClassFile.FieldType.object "java/util/List")) 8 191 G [(.ref a0), .int x1] σ (xlift emQ K) := by
  refine x_entry (by decide) (Nat.le_of_ble_eq_true rfl) ?_
  intro p e s m args below meth c X hr hin
  have X : xX p s m args meth c G cX2_giving 5 RX2 := X
  have hx := X.1
  have hb := X.2.1
  have hts := X.2.2.2.2.1
  have hown := X.2.2.2.1
  unfold P_X2_giving at hp
  refine x_same (lo' := [(0, .ref a0), (1, .int x1)]) rfl ?_
  refine x_new X (kJ42 hG) q2282 q2283 q150 (fs := [va_rf none, .int 0, va_rf none, .int 0]) x_dflt_J42 dX2_giving_0 hp (fun q1 σ2 hp1 => ?_)
  refine x_pc (pc' := 3) rfl ?_
  refine x_up (pc' := 4) (fun _ _ _ _ _ L => lv_dup hx hb dX2_giving_3 rfl) ?_
  refine x_up (pc' := 5) (fun _ _ _ _ _ L => lv_aload_n hx hb dX2_giving_4 rfl (lv_at L 0 rfl)) ?_
  refine x_gi X (kX2 hG) 11 (by decide) q477 (fun _ h => h) dX2_giving_5 hp1 (fun v3 hp2 => ?_)
  refine x_pc (pc' := 8) rfl ?_
  refine x_callSN (host := "WordCache") (em := emQ) (fun r st => va_rf r :: st) (fun _ _ => rfl) 1 X (fun σ' KK h => R_X1_byRule l hl G hG v3 σ' KK h) q2284 q2285 q99 (lw_meth q2286) mdX1_byRule ⟨Nat.le_of_ble_eq_true rfl, Nat.le_of_ble_eq_true rfl⟩ rfl rfl (Nat.le_of_ble_eq_true rfl) dX2_giving_8 hp2 (fun v4 σ5 hp3 => ?_)
  refine x_pc (pc' := 11) rfl ?_
  refine x_callI 1 X (fun σ' KK h => R_J42_init l hl G hG q1 v4 σ' KK h) (lw_meth q2315) q150 q2313 q2314 rfl mdJ42_init ⟨Nat.le_of_ble_eq_true rfl, Nat.le_of_ble_eq_true rfl⟩ rfl rfl (Nat.le_of_ble_eq_true rfl) dX2_giving_11 hp3 (fun σ6 hp4 => ?_)
  refine x_pc (pc' := 14) rfl ?_
  refine x_upL (pc' := 15) (lo' := [(2, .ref q1), (0, .ref a0), (1, .int x1)]) (fun _ _ _ _ _ L => lv_astore_n hx hb dX2_giving_14 rfl L (by decide) rfl) ?_
  refine x_up (pc' := 16) (fun _ _ _ _ _ L => lv_aload_n hx hb dX2_giving_15 rfl (lv_at L 1 rfl)) ?_
  refine x_gq X (kX2 hG) 2 (by decide) q462 (fun _ h => h) dX2_giving_16 hp4 (fun v7 hp5 => ?_)
  refine x_pc (pc' := 19) rfl ?_
  refine x_up (pc' := 20) (fun _ _ _ _ _ L => lv_iload_n hx hb dX2_giving_19 rfl (lv_at L 2 rfl)) ?_
  obtain ⟨b8, rfl, hp6⟩ := hp5
  refine x_callF (x := ⟨"java/util/List", "get", "(I)Ljava/lang/Object;"⟩) (em := emQ) (fun r st => va_rf r :: st) (fun _ _ => rfl) 1 X (kJ4 hG) (fun σ' KK h => R_J4_get l hl G hG b8 x1 σ' KK h) q2083 q2086 q784 q105 q785 ⟨⟨q2085, q2084, q2088, q2087, q275⟩, by decide, by decide⟩ (by decide +kernel) ⟨Nat.le_of_ble_eq_true rfl, Nat.le_of_ble_eq_true rfl⟩ rfl rfl (Nat.le_of_ble_eq_true rfl) dX2_giving_20 hp6.1 hp6.2 (fun v9 σ10 hp7 => ?_)
  refine x_pc (pc' := 25) rfl ?_
  obtain ⟨b11, rfl, hp8⟩ := hp7
  refine x_castY X (kJ4 hG) q1814 q275 hp8.1 dX2_giving_25 ?_
  have hp9 := hp8.2
  refine x_pc (pc' := 28) rfl ?_
  refine x_callF (x := ⟨"java/util/List", "iterator", "()Ljava/util/Iterator;"⟩) (em := emQ) (fun r st => va_rf r :: st) (fun _ _ => rfl) 0 X (kJ4 hG) (fun σ' KK h => R_J4_iterator l hl G hG b11 σ' KK h) q1698 q1701 q1703 q105 q1705 ⟨⟨q1700, q1699, q1704, q1702, q275⟩, by decide, by decide⟩ (by decide +kernel) ⟨Nat.le_of_ble_eq_true rfl, Nat.le_of_ble_eq_true rfl⟩ rfl rfl (Nat.le_of_ble_eq_true rfl) dX2_giving_28 hp9.1 hp9.2 (fun v12 σ13 hp10 => ?_)
  refine x_pc (pc' := 33) rfl ?_
  refine x_upL (pc' := 34) (lo' := [(3, va_rf v12), (2, .ref q1), (0, .ref a0), (1, .int x1)]) (fun _ _ _ _ _ L => lv_astoreq_n hx hb dX2_giving_33 rfl L (by decide) rfl) ?_
  refine x_lo (lo' := [(2, .ref q1), (3, va_rf v12)]) [1, 0] rfl ?_
  refine x_while (v0 := ()) (fun _ => [(2, .ref q1), (3, va_rf v12)]) hp10 (fun self15 hself16 => ?_)
  rintro ⟨⟩ σ17 hp11
  unfold B_X2_giving_34 at hp11
  refine x_same (lo' := [(2, .ref q1), (3, va_rf v12)]) rfl ?_
  refine x_up (pc' := 35) (fun _ _ _ _ _ L => lv_aloadq_n hx hb dX2_giving_34 rfl (lv_at L 1 rfl)) ?_
  obtain ⟨b18, rfl, hp12⟩ := hp11
  refine x_callF (x := ⟨"java/util/Iterator", "hasNext", "()Z"⟩) (em := emI) (fun r st => .int r :: st) (fun _ _ => rfl) 0 X (kJ35 hG) (fun σ' KK h => R_J35_hasNext l hl G hG b18 σ' KK h) q1811 q1351 q1353 q141 q1355 ⟨⟨q1331, q1330, q1354, q1352, q1198⟩, by decide, by decide⟩ (by decide +kernel) ⟨Nat.le_of_ble_eq_true rfl, Nat.le_of_ble_eq_true rfl⟩ rfl rfl (Nat.le_of_ble_eq_true rfl) dX2_giving_35 hp12.1 hp12.2 (fun v19 σ20 hp13 => ?_)
  refine x_pc (pc' := 40) rfl ?_
  refine x_if (C := v19 = 0) (pt := 72) (pc' := 43) (fun _ _ _ _ _ => lv_if_eq (tgt := 72) hx hb dX2_giving_40 (by decide)) (fun c40 => ?_) (fun c40 => ?_)
  · have hp14 := hp13.1 c40
    refine x_same (lo' := [(2, .ref q1), (3, va_rf (some b18))]) rfl ?_
    refine x_new X (kJ4 hG) q213 q214 q105 (fs := [.int 0, va_rf none, .int 0]) x_dflt_J4 dX2_giving_72 hp14 (fun q21 σ22 hp15 => ?_)
    refine x_pc (pc' := 75) rfl ?_
    refine x_up (pc' := 76) (fun _ _ _ _ _ L => lv_dup hx hb dX2_giving_75 rfl) ?_
    refine x_callI 0 X (fun σ' KK h => R_J4_init l hl G hG q21 σ' KK h) (lw_meth q217) q105 q215 q216 rfl mdJ4_init ⟨Nat.le_of_ble_eq_true rfl, Nat.le_of_ble_eq_true rfl⟩ rfl rfl (Nat.le_of_ble_eq_true rfl) dX2_giving_76 hp15 (fun σ23 hp16 => ?_)
    refine x_pc (pc' := 79) rfl ?_
    refine x_upL (pc' := 80) (lo' := [(3, .ref q21), (2, .ref q1)]) (fun _ _ _ _ _ L => lv_astore_n hx hb dX2_giving_79 rfl L (by decide) rfl) ?_
    refine x_lo (lo' := [(2, .ref q1), (3, .ref q21)]) [1, 0] rfl ?_
    refine x_while (v0 := ()) (fun _ => [(2, .ref q1), (3, .ref q21)]) hp16 (fun self25 hself26 => ?_)
    rintro ⟨⟩ σ27 hp17
    unfold B_X2_giving_80 at hp17
    refine x_same (lo' := [(2, .ref q1), (3, .ref q21)]) rfl ?_
    refine x_up (pc' := 81) (fun _ _ _ _ _ L => lv_aload_n hx hb dX2_giving_80 rfl (lv_at L 0 rfl)) ?_
    refine x_callO (x := ⟨"java/util/PriorityQueue", "isEmpty", "()Z"⟩) (owner := "java/util/AbstractCollection") (em := emI) (fun r st => .int r :: st) (fun _ _ => rfl) 0 X (kJ42 hG) (fun σ' KK h => R_J2_isEmpty l hl G hG q1 σ' KK h) (hts _ q2378) (hts _ q2379) (x_dcl X q2380) (hts _ q2381) q2382 q103 q2383 (by decide +kernel) ⟨Nat.le_of_ble_eq_true rfl, Nat.le_of_ble_eq_true rfl⟩ rfl rfl (Nat.le_of_ble_eq_true rfl) dX2_giving_81 hp17.1 hp17.2 (fun v28 σ29 hp18 => ?_)
    refine x_pc (pc' := 84) rfl ?_
    refine x_ifn (C := v28 = 0) (pt := 104) (pc' := 87) (fun _ _ _ _ _ => lv_if_ne (tgt := 104) hx hb dX2_giving_84 (by decide)) (fun c84 => ?_) (fun c84 => ?_)
    · have hp19 := hp18.1 c84
      refine x_up (pc' := 88) (fun _ _ _ _ _ L => lv_aload_n hx hb dX2_giving_87 rfl (lv_at L 1 rfl)) ?_
      refine x_up (pc' := 89) (fun _ _ _ _ _ L => lv_aload_n hx hb dX2_giving_88 rfl (lv_at L 0 rfl)) ?_
      refine x_callO (x := ⟨"java/util/PriorityQueue", "remove", "()Ljava/lang/Object;"⟩) (owner := "java/util/AbstractQueue") (em := emQ) (fun r st => va_rf r :: st) (fun _ _ => rfl) 0 X (kJ42 hG) (fun σ' KK h => R_J41_remove l hl G hG q1 σ' KK h) (hts _ q2384) (hts _ q2385) (x_dcl X q2386) (hts _ q2387) q2388 q149 q2389 (by decide +kernel) ⟨Nat.le_of_ble_eq_true rfl, Nat.le_of_ble_eq_true rfl⟩ rfl rfl (Nat.le_of_ble_eq_true rfl) dX2_giving_89 hp19.1 hp19.2 (fun v30 σ31 hp20 => ?_)
      refine x_pc (pc' := 92) rfl ?_
      obtain ⟨b32, rfl, hp21⟩ := hp20
      refine x_castS X (kX3 hG) q287 hp21.1 dX2_giving_92 ?_
      have hp22 := hp21.2
      refine x_pc (pc' := 95) rfl ?_
      refine x_callF (x := ⟨"java/util/List", "add", "(Ljava/lang/Object;)Z"⟩) (em := emI) (fun r st => .int r :: st) (fun _ _ => rfl) 1 X (kJ4 hG) (fun σ' KK h => R_J4_add l hl G hG q21 (some b32) σ' KK h) q334 q337 q339 q105 q341 ⟨⟨q336, q335, q340, q338, q275⟩, by decide, by decide⟩ (by decide +kernel) ⟨Nat.le_of_ble_eq_true rfl, Nat.le_of_ble_eq_true rfl⟩ rfl rfl (Nat.le_of_ble_eq_true rfl) dX2_giving_95 hp22.1 hp22.2 (fun v33 σ34 hp23 => ?_)
      refine x_pc (pc' := 100) rfl ?_
      refine x_up (pc' := 101) (fun _ _ _ _ _ L => lv_pop hx hb dX2_giving_100 rfl) ?_
      refine x_up (pc' := 80) (fun _ _ _ _ _ L => lv_goto (tgt := 80) hx hb dX2_giving_101 (by decide)) ?_
      refine x_lo (lo' := [(2, .ref q1), (3, .ref q21)]) [0, 1] rfl ?_
      exact hself26 () σ34 hp23
    · have hp24 := hp18.2 c84
      refine x_up (pc' := 105) (fun _ _ _ _ _ L => lv_aload_n hx hb dX2_giving_104 rfl (lv_at L 1 rfl)) ?_
      exact x_aret X hr (Or.inl ⟨_, rfl⟩) dX2_giving_105 (some q21) hp24
  · have hp25 := hp13.2 c40
    refine x_up (pc' := 44) (fun _ _ _ _ _ L => lv_aload_n hx hb dX2_giving_43 rfl (lv_at L 1 rfl)) ?_
    refine x_callF (x := ⟨"java/util/Iterator", "next", "()Ljava/lang/Object;"⟩) (em := emQ) (fun r st => va_rf r :: st) (fun _ _ => rfl) 0 X (kJ35 hG) (fun σ' KK h => R_J35_next l hl G hG b18 σ' KK h) q1813 q1199 q1201 q141 q1203 ⟨⟨q768, q767, q1202, q1200, q1198⟩, by decide, by decide⟩ (by decide +kernel) ⟨Nat.le_of_ble_eq_true rfl, Nat.le_of_ble_eq_true rfl⟩ rfl rfl (Nat.le_of_ble_eq_true rfl) dX2_giving_44 hp25.1 hp25.2 (fun v35 σ36 hp26 => ?_)
    refine x_pc (pc' := 49) rfl ?_
    obtain ⟨b37, rfl, hp27⟩ := hp26
    refine x_castS X (kX3 hG) q287 hp27.1 dX2_giving_49 ?_
    have hp28 := hp27.2
    refine x_pc (pc' := 52) rfl ?_
    refine x_upL (pc' := 54) (lo' := [(4, .ref b37), (2, .ref q1), (3, .ref b18)]) (fun _ _ _ _ _ L => lv_astore hx hb dX2_giving_52 L (by decide) rfl) ?_
    refine x_up (pc' := 56) (fun _ _ _ _ _ L => lv_aload hx hb dX2_giving_54 (lv_at L 0 rfl)) ?_
    refine x_callV (em := emI) (fun r st => .int r :: st) (fun _ _ => rfl) 0 X (kX3 hG) (fun σ' KK h => R_X3_mayGive l hl G hG b37 σ' KK h) (lw_V q2345 q2346 q2347 q108 q2348) ⟨rfl, mdX3_mayGive⟩ ⟨Nat.le_of_ble_eq_true rfl, Nat.le_of_ble_eq_true rfl⟩ rfl rfl (Nat.le_of_ble_eq_true rfl) dX2_giving_56 hp28.1 hp28.2 (fun v38 σ39 hp29 => ?_)
    refine x_pc (pc' := 59) rfl ?_
    refine x_if (C := v38 = 0) (pt := 69) (pc' := 62) (fun _ _ _ _ _ => lv_if_eq (tgt := 69) hx hb dX2_giving_59 (by decide)) (fun c59 => ?_) (fun c59 => ?_)
    · have hp30 := hp29.1 c59
      refine x_up (pc' := 34) (fun _ _ _ _ _ L => lv_goto (tgt := 34) hx hb dX2_giving_69 (by decide)) ?_
      refine x_lo (lo' := [(2, .ref q1), (3, .ref b18)]) [1, 2] rfl ?_
      exact hself16 () σ39 hp30
    · have hp31 := hp29.2 c59
      refine x_up (pc' := 63) (fun _ _ _ _ _ L => lv_aload_n hx hb dX2_giving_62 rfl (lv_at L 1 rfl)) ?_
      refine x_up (pc' := 65) (fun _ _ _ _ _ L => lv_aload hx hb dX2_giving_63 (lv_at L 0 rfl)) ?_
      refine x_callV (em := emI) (fun r st => .int r :: st) (fun _ _ => rfl) 1 X (kJ42 hG) (fun σ' KK h => R_J42_add l hl G hG q1 (some b37) σ' KK h) (lw_V q2350 q2351 q2352 q150 q2353) ⟨rfl, mdJ42_add⟩ ⟨Nat.le_of_ble_eq_true rfl, Nat.le_of_ble_eq_true rfl⟩ rfl rfl (Nat.le_of_ble_eq_true rfl) dX2_giving_65 hp31.1 hp31.2 (fun v40 σ41 hp32 => ?_)
      refine x_pc (pc' := 68) rfl ?_
      refine x_up (pc' := 69) (fun _ _ _ _ _ L => lv_pop hx hb dX2_giving_68 rfl) ?_
      refine x_up (pc' := 34) (fun _ _ _ _ _ L => lv_goto (tgt := 34) hx hb dX2_giving_69 (by decide)) ?_
      refine x_lo (lo' := [(2, .ref q1), (3, .ref b18)]) [1, 2] rfl ?_
      exact hself16 () σ41 hp32
-- J4_isEmpty
def P_J4_isEmpty (κ : Nat → Nat) (a0 : Nat) (σ : xS) (K : Int32 → xH → Prop) : Prop :=
  xgi σ a0 3 2 fun v1 => ((v1 = 0 → (K (1 : Int32) σ.1)) ∧ (¬ v1 = 0 → (K (0 : Int32) σ.1)))
theorem mdJ4_isEmpty : yJ4_isEmpty.cls ≠ "java/lang/invoke/MethodHandle" ∧ yJ4_isEmpty.cls ≠ "java/lang/invoke/VarHandle" ∧ (parseMethodDescriptor yJ4_isEmpty.desc).map (fun d => d.parameters.length) = some 0 := by decide +kernel
set_option maxHeartbeats 4000000 in
set_option maxRecDepth 100000 in
theorem R_J4_isEmpty (l : Launch) (hl : l.stackTraces = false) (G : xG) (hG : G.1.2 = x_cl) (a0 : Nat) (σ : xS) (K : Int32 → xH → Prop) (hp : P_J4_isEmpty G.2 a0 σ K) : xM l yJ4_isEmpty cJ4_isEmpty 1 (Option.some Jvm.ClassFile.FieldType.boolean) 0 0 G [(.ref a0)] σ (xlift emI K) := by
  refine x_entry (by decide) (Nat.le_of_ble_eq_true rfl) ?_
  intro p e s m args below meth c X hr hin
  have X : xX p s m args meth c G cJ4_isEmpty 1 RJ4 := X
  have hx := X.1
  have hb := X.2.1
  have hts := X.2.2.2.2.1
  have hown := X.2.2.2.1
  unfold P_J4_isEmpty at hp
  refine x_same (lo' := [(0, .ref a0)]) rfl ?_
  refine x_up (pc' := 1) (fun _ _ _ _ _ L => lv_aload_n hx hb dJ4_isEmpty_0 rfl (lv_at L 0 rfl)) ?_
  refine x_gi X (kJ4 hG) 2 (by decide) q230 (fun _ h => h) dJ4_isEmpty_1 hp (fun v1 hp1 => ?_)
  refine x_pc (pc' := 4) rfl ?_
  refine x_ifn (C := v1 = 0) (pt := 11) (pc' := 7) (fun _ _ _ _ _ => lv_if_ne (tgt := 11) hx hb dJ4_isEmpty_4 (by decide)) (fun c4 => ?_) (fun c4 => ?_)
  · have hp2 := hp1.1 c4
    refine x_up (pc' := 8) (fun _ _ _ _ _ L => lv_iconst (v := (1 : Int32)) hx hb dJ4_isEmpty_7 (by decide)) ?_
    refine x_up (pc' := 12) (fun _ _ _ _ _ L => lv_goto (tgt := 12) hx hb dJ4_isEmpty_8 (by decide)) ?_
    exact x_iret X hr rfl dJ4_isEmpty_12 hp2
  · have hp3 := hp1.2 c4
    refine x_up (pc' := 12) (fun _ _ _ _ _ L => lv_iconst (v := (0 : Int32)) hx hb dJ4_isEmpty_11 (by decide)) ?_
    exact x_iret X hr rfl dJ4_isEmpty_12 hp3
-- X2_comesTo
def B_X2_comesTo_23 (κ : Nat → Nat) (K : Option Nat → xH → Prop) (kx24004 : Unit → xS → Prop) (f0 : Nat) (f1 : Int32) (f2 : Option Nat) : (Unit → xS → Prop) → Unit → xS → Prop := fun self24003 w24001 σ24002 =>
  xnn f2 fun b24005 => xrc σ24002 b24005 21 ∧ xcall (fun τ L => P_J35_hasNext κ b24005 τ L) σ24002 fun v24006 σ24007 => ((v24006 = 0 → (kx24004 () σ24007)) ∧ (¬ v24006 = 0 → (xrc σ24007 b24005 21 ∧ xcall (fun τ L => P_J35_next κ b24005 τ L) σ24007 fun v24008 σ24009 => xnn v24008 fun b24010 => xrc σ24009 b24010 5 ∧ xrc σ24009 b24010 5 ∧ xcall (fun τ L => P_X3_isEmpty κ b24010 τ L) σ24009 fun v24011 σ24012 => ((v24011 = 0 → (self24003 () σ24012)) ∧ (¬ v24011 = 0 → (K (some b24010) σ24012.1))))))
def P_X2_comesTo (κ : Nat → Nat) (a0 : Nat) (x1 : Int32) (σ : xS) (K : Option Nat → xH → Prop) : Prop :=
  xgq σ a0 1 2 fun v1 => xrc σ a0 1 ∧ xcall (fun τ L => P_X2_setOf κ a0 x1 τ L) σ fun v2 σ3 => xnn v1 fun b4 => xrc σ3 b4 3 ∧ xcall (fun τ L => P_J4_get κ b4 v2 τ L) σ3 fun v5 σ6 => xnn v5 fun b7 => xrc σ6 b7 3 ∧ xrc σ6 b7 3 ∧ xcall (fun τ L => P_J4_iterator κ b7 τ L) σ6 fun v8 σ9 => xwhile (B_X2_comesTo_23 κ K (fun e10 σ11 => xrc σ11 a0 1 ∧ xcall (fun τ L => P_X2_setOf κ a0 x1 τ L) σ11 fun v12 σ13 => xrc σ13 a0 1 ∧ xcall (fun τ L => P_X2_giving κ a0 v12 τ L) σ13 fun v14 σ15 => xnn v14 fun b16 => xrc σ15 b16 3 ∧ xcall (fun τ L => P_J4_isEmpty κ b16 τ L) σ15 fun v17 σ18 => ((v17 = 0 → (xrc σ18 b16 3 ∧ xcall (fun τ L => P_J4_get κ b16 (0 : Int32) τ L) σ18 fun v19 σ20 => xnn v19 fun b21 => xrc σ20 b21 5 ∧ K (some b21) σ20.1)) ∧ (¬ v17 = 0 → (K none σ18.1)))) a0 x1 v8) () σ9
theorem mdX2_comesTo : yX2_comesTo.cls ≠ "java/lang/invoke/MethodHandle" ∧ yX2_comesTo.cls ≠ "java/lang/invoke/VarHandle" ∧ (parseMethodDescriptor yX2_comesTo.desc).map (fun d => d.parameters.length) = some 1 := by decide +kernel
set_option maxHeartbeats 4000000 in
set_option maxRecDepth 100000 in
theorem R_X2_comesTo (l : Launch) (hl : l.stackTraces = false) (G : xG) (hG : G.1.2 = x_cl) (a0 : Nat) (x1 : Int32) (σ : xS) (K : Option Nat → xH → Prop) (hp : P_X2_comesTo G.2 a0 x1 σ K) : xM l yX2_comesTo cX2_comesTo 4 (Option.some (Jvm.ClassFile.FieldType.object "WordCache$Line")) 9 215 G [(.ref a0), .int x1] σ (xlift emQ K) := by
  refine x_entry (by decide) (Nat.le_of_ble_eq_true rfl) ?_
  intro p e s m args below meth c X hr hin
  have X : xX p s m args meth c G cX2_comesTo 4 RX2 := X
  have hx := X.1
  have hb := X.2.1
  have hts := X.2.2.2.2.1
  have hown := X.2.2.2.1
  unfold P_X2_comesTo at hp
  refine x_same (lo' := [(0, .ref a0), (1, .int x1)]) rfl ?_
  refine x_up (pc' := 1) (fun _ _ _ _ _ L => lv_aload_n hx hb dX2_comesTo_0 rfl (lv_at L 0 rfl)) ?_
  refine x_gq X (kX2 hG) 2 (by decide) q462 (fun _ h => h) dX2_comesTo_1 hp (fun v1 hp1 => ?_)
  refine x_pc (pc' := 4) rfl ?_
  refine x_up (pc' := 5) (fun _ _ _ _ _ L => lv_aload_n hx hb dX2_comesTo_4 rfl (lv_at L 0 rfl)) ?_
  refine x_up (pc' := 6) (fun _ _ _ _ _ L => lv_iload_n hx hb dX2_comesTo_5 rfl (lv_at L 1 rfl)) ?_
  refine x_callV (em := emI) (fun r st => .int r :: st) (fun _ _ => rfl) 1 X (kX2 hG) (fun σ' KK h => R_X2_setOf l hl G hG a0 x1 σ' KK h) (lw_V q2070 q2071 q2072 q100 q2073) ⟨rfl, mdX2_setOf⟩ ⟨Nat.le_of_ble_eq_true rfl, Nat.le_of_ble_eq_true rfl⟩ rfl rfl (by simp only [List.map_cons, List.map_nil, List.sum_cons, List.sum_nil, x_catq, x_cati, x_catr, x_catn] <;> decide) dX2_comesTo_6 hp1.1 hp1.2 (fun v2 σ3 hp2 => ?_)
  refine x_pc (pc' := 9) rfl ?_
  obtain ⟨b4, rfl, hp3⟩ := hp2
  refine x_callF (x := ⟨"java/util/List", "get", "(I)Ljava/lang/Object;"⟩) (em := emQ) (fun r st => va_rf r :: st) (fun _ _ => rfl) 1 X (kJ4 hG) (fun σ' KK h => R_J4_get l hl G hG b4 v2 σ' KK h) q2083 q2086 q784 q105 q785 ⟨⟨q2085, q2084, q2088, q2087, q275⟩, by decide, by decide⟩ (by decide +kernel) ⟨Nat.le_of_ble_eq_true rfl, Nat.le_of_ble_eq_true rfl⟩ rfl rfl (Nat.le_of_ble_eq_true rfl) dX2_comesTo_9 hp3.1 hp3.2 (fun v5 σ6 hp4 => ?_)
  refine x_pc (pc' := 14) rfl ?_
  obtain ⟨b7, rfl, hp5⟩ := hp4
  refine x_castY X (kJ4 hG) q1814 q275 hp5.1 dX2_comesTo_14 ?_
  have hp6 := hp5.2
  refine x_pc (pc' := 17) rfl ?_
  refine x_callF (x := ⟨"java/util/List", "iterator", "()Ljava/util/Iterator;"⟩) (em := emQ) (fun r st => va_rf r :: st) (fun _ _ => rfl) 0 X (kJ4 hG) (fun σ' KK h => R_J4_iterator l hl G hG b7 σ' KK h) q1698 q1701 q1703 q105 q1705 ⟨⟨q1700, q1699, q1704, q1702, q275⟩, by decide, by decide⟩ (by decide +kernel) ⟨Nat.le_of_ble_eq_true rfl, Nat.le_of_ble_eq_true rfl⟩ rfl rfl (Nat.le_of_ble_eq_true rfl) dX2_comesTo_17 hp6.1 hp6.2 (fun v8 σ9 hp7 => ?_)
  refine x_pc (pc' := 22) rfl ?_
  refine x_upL (pc' := 23) (lo' := [(2, va_rf v8), (0, .ref a0), (1, .int x1)]) (fun _ _ _ _ _ L => lv_astoreq_n hx hb dX2_comesTo_22 rfl L (by decide) rfl) ?_
  refine x_lo (lo' := [(0, .ref a0), (1, .int x1), (2, va_rf v8)]) [1, 2, 0] rfl ?_
  refine x_while (v0 := ()) (fun _ => [(0, .ref a0), (1, .int x1), (2, va_rf v8)]) hp7 (fun self11 hself12 => ?_)
  rintro ⟨⟩ σ13 hp8
  unfold B_X2_comesTo_23 at hp8
  refine x_same (lo' := [(0, .ref a0), (1, .int x1), (2, va_rf v8)]) rfl ?_
  refine x_up (pc' := 24) (fun _ _ _ _ _ L => lv_aloadq_n hx hb dX2_comesTo_23 rfl (lv_at L 2 rfl)) ?_
  obtain ⟨b14, rfl, hp9⟩ := hp8
  refine x_callF (x := ⟨"java/util/Iterator", "hasNext", "()Z"⟩) (em := emI) (fun r st => .int r :: st) (fun _ _ => rfl) 0 X (kJ35 hG) (fun σ' KK h => R_J35_hasNext l hl G hG b14 σ' KK h) q1811 q1351 q1353 q141 q1355 ⟨⟨q1331, q1330, q1354, q1352, q1198⟩, by decide, by decide⟩ (by decide +kernel) ⟨Nat.le_of_ble_eq_true rfl, Nat.le_of_ble_eq_true rfl⟩ rfl rfl (Nat.le_of_ble_eq_true rfl) dX2_comesTo_24 hp9.1 hp9.2 (fun v15 σ16 hp10 => ?_)
  refine x_pc (pc' := 29) rfl ?_
  refine x_if (C := v15 = 0) (pt := 54) (pc' := 32) (fun _ _ _ _ _ => lv_if_eq (tgt := 54) hx hb dX2_comesTo_29 (by decide)) (fun c29 => ?_) (fun c29 => ?_)
  · have hp11 := hp10.1 c29
    refine x_same (lo' := [(0, .ref a0), (1, .int x1), (2, va_rf (some b14))]) rfl ?_
    refine x_up (pc' := 55) (fun _ _ _ _ _ L => lv_aload_n hx hb dX2_comesTo_54 rfl (lv_at L 0 rfl)) ?_
    refine x_up (pc' := 56) (fun _ _ _ _ _ L => lv_aload_n hx hb dX2_comesTo_55 rfl (lv_at L 0 rfl)) ?_
    refine x_up (pc' := 57) (fun _ _ _ _ _ L => lv_iload_n hx hb dX2_comesTo_56 rfl (lv_at L 1 rfl)) ?_
    refine x_callV (em := emI) (fun r st => .int r :: st) (fun _ _ => rfl) 1 X (kX2 hG) (fun σ' KK h => R_X2_setOf l hl G hG a0 x1 σ' KK h) (lw_V q2070 q2071 q2072 q100 q2073) ⟨rfl, mdX2_setOf⟩ ⟨Nat.le_of_ble_eq_true rfl, Nat.le_of_ble_eq_true rfl⟩ rfl rfl (Nat.le_of_ble_eq_true rfl) dX2_comesTo_57 hp11.1 hp11.2 (fun v17 σ18 hp12 => ?_)
    refine x_pc (pc' := 60) rfl ?_
    refine x_callV (em := emQ) (fun r st => va_rf r :: st) (fun _ _ => rfl) 1 X (kX2 hG) (fun σ' KK h => R_X2_giving l hl G hG a0 v17 σ' KK h) (lw_V q2278 q2279 q2280 q100 q2281) ⟨rfl, mdX2_giving⟩ ⟨Nat.le_of_ble_eq_true rfl, Nat.le_of_ble_eq_true rfl⟩ rfl rfl (Nat.le_of_ble_eq_true rfl) dX2_comesTo_60 hp12.1 hp12.2 (fun v19 σ20 hp13 => ?_)
    refine x_pc (pc' := 63) rfl ?_
    refine x_upL (pc' := 64) (lo' := [(2, va_rf v19), (0, .ref a0), (1, .int x1)]) (fun _ _ _ _ _ L => lv_astoreq_n hx hb dX2_comesTo_63 rfl L (by decide) rfl) ?_
    refine x_up (pc' := 65) (fun _ _ _ _ _ L => lv_aloadq_n hx hb dX2_comesTo_64 rfl (lv_at L 0 rfl)) ?_
    obtain ⟨b21, rfl, hp14⟩ := hp13
    refine x_callF (x := ⟨"java/util/List", "isEmpty", "()Z"⟩) (em := emI) (fun r st => .int r :: st) (fun _ _ => rfl) 0 X (kJ4 hG) (fun σ' KK h => R_J4_isEmpty l hl G hG b21 σ' KK h) q2404 q2407 q2409 q105 q2411 ⟨⟨q2406, q2405, q2410, q2408, q275⟩, by decide, by decide⟩ (by decide +kernel) ⟨Nat.le_of_ble_eq_true rfl, Nat.le_of_ble_eq_true rfl⟩ rfl rfl (Nat.le_of_ble_eq_true rfl) dX2_comesTo_65 hp14.1 hp14.2 (fun v22 σ23 hp15 => ?_)
    refine x_pc (pc' := 70) rfl ?_
    refine x_if (C := v22 = 0) (pt := 77) (pc' := 73) (fun _ _ _ _ _ => lv_if_eq (tgt := 77) hx hb dX2_comesTo_70 (by decide)) (fun c70 => ?_) (fun c70 => ?_)
    · have hp16 := hp15.1 c70
      refine x_up (pc' := 78) (fun _ _ _ _ _ L => lv_aload_n hx hb dX2_comesTo_77 rfl (lv_at L 0 rfl)) ?_
      refine x_up (pc' := 79) (fun _ _ _ _ _ L => lv_iconst (v := (0 : Int32)) hx hb dX2_comesTo_78 (by decide)) ?_
      refine x_callF (x := ⟨"java/util/List", "get", "(I)Ljava/lang/Object;"⟩) (em := emQ) (fun r st => va_rf r :: st) (fun _ _ => rfl) 1 X (kJ4 hG) (fun σ' KK h => R_J4_get l hl G hG b21 (0 : Int32) σ' KK h) q2083 q2086 q784 q105 q785 ⟨⟨q2085, q2084, q2088, q2087, q275⟩, by decide, by decide⟩ (by decide +kernel) ⟨Nat.le_of_ble_eq_true rfl, Nat.le_of_ble_eq_true rfl⟩ rfl rfl (Nat.le_of_ble_eq_true rfl) dX2_comesTo_79 hp16.1 hp16.2 (fun v24 σ25 hp17 => ?_)
      refine x_pc (pc' := 84) rfl ?_
      obtain ⟨b26, rfl, hp18⟩ := hp17
      refine x_castS X (kX3 hG) q287 hp18.1 dX2_comesTo_84 ?_
      have hp19 := hp18.2
      refine x_pc (pc' := 87) rfl ?_
      exact x_aret X hr (Or.inl ⟨_, rfl⟩) dX2_comesTo_87 (some b26) hp19
    · have hp20 := hp15.2 c70
      refine x_up (pc' := 74) (fun _ _ _ _ _ L => lv_null hx hb dX2_comesTo_73) ?_
      refine x_up (pc' := 87) (fun _ _ _ _ _ L => lv_goto (tgt := 87) hx hb dX2_comesTo_74 (by decide)) ?_
      exact x_aret X hr (Or.inl ⟨_, rfl⟩) dX2_comesTo_87 none hp20
  · have hp21 := hp10.2 c29
    refine x_up (pc' := 33) (fun _ _ _ _ _ L => lv_aload_n hx hb dX2_comesTo_32 rfl (lv_at L 2 rfl)) ?_
    refine x_callF (x := ⟨"java/util/Iterator", "next", "()Ljava/lang/Object;"⟩) (em := emQ) (fun r st => va_rf r :: st) (fun _ _ => rfl) 0 X (kJ35 hG) (fun σ' KK h => R_J35_next l hl G hG b14 σ' KK h) q1813 q1199 q1201 q141 q1203 ⟨⟨q768, q767, q1202, q1200, q1198⟩, by decide, by decide⟩ (by decide +kernel) ⟨Nat.le_of_ble_eq_true rfl, Nat.le_of_ble_eq_true rfl⟩ rfl rfl (Nat.le_of_ble_eq_true rfl) dX2_comesTo_33 hp21.1 hp21.2 (fun v27 σ28 hp22 => ?_)
    refine x_pc (pc' := 38) rfl ?_
    obtain ⟨b29, rfl, hp23⟩ := hp22
    refine x_castS X (kX3 hG) q287 hp23.1 dX2_comesTo_38 ?_
    have hp24 := hp23.2
    refine x_pc (pc' := 41) rfl ?_
    refine x_upL (pc' := 42) (lo' := [(3, .ref b29), (0, .ref a0), (1, .int x1), (2, .ref b14)]) (fun _ _ _ _ _ L => lv_astore_n hx hb dX2_comesTo_41 rfl L (by decide) rfl) ?_
    refine x_up (pc' := 43) (fun _ _ _ _ _ L => lv_aload_n hx hb dX2_comesTo_42 rfl (lv_at L 0 rfl)) ?_
    refine x_callV (em := emI) (fun r st => .int r :: st) (fun _ _ => rfl) 0 X (kX3 hG) (fun σ' KK h => R_X3_isEmpty l hl G hG b29 σ' KK h) (lw_V q2105 q2106 q2107 q108 q2108) ⟨rfl, mdX3_isEmpty⟩ ⟨Nat.le_of_ble_eq_true rfl, Nat.le_of_ble_eq_true rfl⟩ rfl rfl (Nat.le_of_ble_eq_true rfl) dX2_comesTo_43 hp24.1 hp24.2 (fun v30 σ31 hp25 => ?_)
    refine x_pc (pc' := 46) rfl ?_
    refine x_if (C := v30 = 0) (pt := 51) (pc' := 49) (fun _ _ _ _ _ => lv_if_eq (tgt := 51) hx hb dX2_comesTo_46 (by decide)) (fun c46 => ?_) (fun c46 => ?_)
    · have hp26 := hp25.1 c46
      refine x_up (pc' := 23) (fun _ _ _ _ _ L => lv_goto (tgt := 23) hx hb dX2_comesTo_51 (by decide)) ?_
      refine x_lo (lo' := [(0, .ref a0), (1, .int x1), (2, .ref b14)]) [1, 2, 3] rfl ?_
      exact hself12 () σ31 hp26
    · have hp27 := hp25.2 c46
      refine x_up (pc' := 50) (fun _ _ _ _ _ L => lv_aload_n hx hb dX2_comesTo_49 rfl (lv_at L 0 rfl)) ?_
      exact x_aret X hr (Or.inl ⟨_, rfl⟩) dX2_comesTo_50 (some b29) hp27
-- J6_indexOf
def B_J6_indexOf_11 (κ : Nat → Nat) (K : Int32 → xH → Prop) : ((Int32 × Option Nat) → xS → Prop) → (Int32 × Option Nat) → xS → Prop := fun self12003 w12001 σ12002 =>
  ((w12001.2 = none → (K (-1 : Int32) σ12002.1)) ∧ (∀ b12004 : Nat, w12001.2 = some b12004 → (xgq σ12002 b12004 6 0 fun v12005 => ((v12005 = none → (K w12001.1 σ12002.1)) ∧ (∀ b12006 : Nat, v12005 = some b12006 → (xgq σ12002 b12004 6 1 fun v12007 => self12003 ((w12001.1 + (1 : Int32)), v12007) σ12002))))))
def B_J6_indexOf_43 (κ : Nat → Nat) (K : Int32 → xH → Prop) (f1 : Nat) : ((Int32 × Option Nat) → xS → Prop) → (Int32 × Option Nat) → xS → Prop := fun self44003 w44001 σ44002 =>
  ((w44001.2 = none → (K (-1 : Int32) σ44002.1)) ∧ (∀ b44004 : Nat, w44001.2 = some b44004 → (xgq σ44002 b44004 6 0 fun v44005 => xrc σ44002 f1 14 ∧ xcall (fun τ L => P_J23_equals κ f1 v44005 τ L) σ44002 fun v44006 σ44007 => ((v44006 = 0 → (xgq σ44007 b44004 6 1 fun v44008 => self44003 ((w44001.1 + (1 : Int32)), v44008) σ44007)) ∧ (¬ v44006 = 0 → (K w44001.1 σ44007.1))))))
def P_J6_indexOf (κ : Nat → Nat) (a0 : Nat) (x1 : Option Nat) (σ : xS) (K : Int32 → xH → Prop) : Prop :=
  ((x1 = none → (xgq σ a0 4 2 fun v2 => xwhile (B_J6_indexOf_11 κ K) ((0 : Int32), v2) σ)) ∧ (∀ b1 : Nat, x1 = some b1 → (xgq σ a0 4 2 fun v3 => xwhile (B_J6_indexOf_43 κ K b1) ((0 : Int32), v3) σ)))
theorem mdJ6_indexOf : yJ6_indexOf.cls ≠ "java/lang/invoke/MethodHandle" ∧ yJ6_indexOf.cls ≠ "java/lang/invoke/VarHandle" ∧ (parseMethodDescriptor yJ6_indexOf.desc).map (fun d => d.parameters.length) = some 1 := by decide +kernel
set_option maxHeartbeats 4000000 in
set_option maxRecDepth 100000 in
theorem R_J6_indexOf (l : Launch) (hl : l.stackTraces = false) (G : xG) (hG : G.1.2 = x_cl) (a0 : Nat) (x1 : Option Nat) (σ : xS) (K : Int32 → xH → Prop) (hp : P_J6_indexOf G.2 a0 x1 σ K) : xM l yJ6_indexOf cJ6_indexOf 4 (Option.some Jvm.ClassFile.FieldType.int) 2 41 G [(.ref a0), va_rf x1] σ (xlift emI K) := by
  refine x_entry (by decide) (by simp [lg_sl, x_catq, x_cati, x_catr, x_catn]) ?_
  intro p e s m args below meth c X hr hin
  have X : xX p s m args meth c G cJ6_indexOf 4 RJ6 := X
  have hx := X.1
  have hb := X.2.1
  have hts := X.2.2.2.2.1
  have hown := X.2.2.2.1
  unfold P_J6_indexOf at hp
  refine x_same (lo' := [(0, .ref a0), (1, va_rf x1)]) (by simp [lv_args, x_catq, x_cati, x_catr, x_catn]) ?_
  refine x_up (pc' := 1) (fun _ _ _ _ _ L => lv_iconst (v := (0 : Int32)) hx hb dJ6_indexOf_0 (by decide)) ?_
  refine x_st (pc' := 2) ([(2, .int (0 : Int32)), (0, .ref a0), (1, va_rf x1)]) rfl (by simp [x_catq, x_cati, x_catr, x_catn]) (fun _ _ _ _ _ L => lv_istore_n hx hb dJ6_indexOf_1 rfl L (by decide) rfl) ?_
  refine x_up (pc' := 3) (fun _ _ _ _ _ L => lv_aloadq_n hx hb dJ6_indexOf_2 rfl (lv_at L 2 rfl)) ?_
  rcases x1 with _ | b1
  · have hp1 := hp.1 rfl
    refine x_up (pc' := 6) (fun _ _ _ _ _ L => lv_ifnonnullN hx hb dJ6_indexOf_3) ?_
    refine x_up (pc' := 7) (fun _ _ _ _ _ L => lv_aload_n hx hb dJ6_indexOf_6 rfl (lv_at L 1 rfl)) ?_
    refine x_gq X (kJ6 hG) 2 (by decide) q257 (fun _ h => h) dJ6_indexOf_7 hp1 (fun v2 hp2 => ?_)
    refine x_pc (pc' := 10) rfl ?_
    refine x_upL (pc' := 11) (lo' := [(3, va_rf v2), (2, .int (0 : Int32)), (0, .ref a0), (1, .null)]) (fun _ _ _ _ _ L => lv_astoreq_n hx hb dJ6_indexOf_10 rfl L (by decide) rfl) ?_
    refine x_lo (lo' := [(2, .int (0 : Int32)), (3, va_rf v2)]) [1, 0] rfl ?_
    refine x_while (v0 := ((0 : Int32), v2)) (fun w3 => [(2, .int w3.1), (3, va_rf w3.2)]) hp2 (fun self4 hself5 => ?_)
    rintro ⟨y7, y8⟩ σ6 hp3
    unfold B_J6_indexOf_11 at hp3
    refine x_same (lo' := [(2, .int y7), (3, va_rf y8)]) rfl ?_
    refine x_up (pc' := 12) (fun _ _ _ _ _ L => lv_aloadq_n hx hb dJ6_indexOf_11 rfl (lv_at L 1 rfl)) ?_
    rcases y8 with _ | b9
    · have hp4 := hp3.1 rfl
      refine x_up (pc' := 35) (fun _ _ _ _ _ L => lv_ifnullN (tgt := 35) hx hb dJ6_indexOf_12 (by decide)) ?_
      refine x_up (pc' := 71) (fun _ _ _ _ _ L => lv_goto (tgt := 71) hx hb dJ6_indexOf_35 (by decide)) ?_
      refine x_up (pc' := 72) (fun _ _ _ _ _ L => lv_iconst (v := (-1 : Int32)) hx hb dJ6_indexOf_71 (by decide)) ?_
      exact x_iret X hr rfl dJ6_indexOf_72 hp4
    · have hp5 := hp3.2 _ rfl
      refine x_up (pc' := 15) (fun _ _ _ _ _ L => lv_ifnull hx hb dJ6_indexOf_12) ?_
      refine x_up (pc' := 16) (fun _ _ _ _ _ L => lv_aload_n hx hb dJ6_indexOf_15 rfl (lv_at L 1 rfl)) ?_
      refine x_gq X (kJ10 hG) 0 (by decide) q444 (fun _ h => h) dJ6_indexOf_16 hp5 (fun v10 hp6 => ?_)
      refine x_pc (pc' := 19) rfl ?_
      rcases v10 with _ | b11
      · have hp7 := hp6.1 rfl
        refine x_up (pc' := 22) (fun _ _ _ _ _ L => lv_ifnonnullN hx hb dJ6_indexOf_19) ?_
        refine x_up (pc' := 23) (fun _ _ _ _ _ L => lv_iload_n hx hb dJ6_indexOf_22 rfl (lv_at L 0 rfl)) ?_
        exact x_iret X hr rfl dJ6_indexOf_23 hp7
      · have hp8 := hp6.2 _ rfl
        refine x_up (pc' := 24) (fun _ _ _ _ _ L => lv_ifnonnull (tgt := 24) hx hb dJ6_indexOf_19 (by decide)) ?_
        refine x_upL (pc' := 27) (lo' := [(2, .int (y7 + (1 : Int32))), (3, .ref b9)]) (fun _ _ _ _ _ L => lv_iinc (v := y7 + (1 : Int32)) hx hb dJ6_indexOf_24 L (k := 0) rfl rfl (by decide) rfl) ?_
        refine x_up (pc' := 28) (fun _ _ _ _ _ L => lv_aload_n hx hb dJ6_indexOf_27 rfl (lv_at L 1 rfl)) ?_
        refine x_gq X (kJ10 hG) 1 (by decide) q447 (fun _ h => h) dJ6_indexOf_28 hp8 (fun v12 hp9 => ?_)
        refine x_pc (pc' := 31) rfl ?_
        refine x_upL (pc' := 32) (lo' := [(3, va_rf v12), (2, .int (y7 + (1 : Int32)))]) (fun _ _ _ _ _ L => lv_astoreq_n hx hb dJ6_indexOf_31 rfl L (by decide) rfl) ?_
        refine x_up (pc' := 11) (fun _ _ _ _ _ L => lv_goto (tgt := 11) hx hb dJ6_indexOf_32 (by decide)) ?_
        refine x_lo (lo' := [(2, .int (y7 + (1 : Int32))), (3, va_rf v12)]) [1, 0] rfl ?_
        exact hself5 ((y7 + (1 : Int32)), v12) σ6 hp9
  · have hp10 := hp.2 _ rfl
    refine x_up (pc' := 38) (fun _ _ _ _ _ L => lv_ifnonnull (tgt := 38) hx hb dJ6_indexOf_3 (by decide)) ?_
    refine x_up (pc' := 39) (fun _ _ _ _ _ L => lv_aload_n hx hb dJ6_indexOf_38 rfl (lv_at L 1 rfl)) ?_
    refine x_gq X (kJ6 hG) 2 (by decide) q257 (fun _ h => h) dJ6_indexOf_39 hp10 (fun v13 hp11 => ?_)
    refine x_pc (pc' := 42) rfl ?_
    refine x_upL (pc' := 43) (lo' := [(3, va_rf v13), (2, .int (0 : Int32)), (0, .ref a0), (1, .ref b1)]) (fun _ _ _ _ _ L => lv_astoreq_n hx hb dJ6_indexOf_42 rfl L (by decide) rfl) ?_
    refine x_lo (lo' := [(2, .int (0 : Int32)), (3, va_rf v13), (1, .ref b1)]) [1, 0, 3] rfl ?_
    refine x_while (v0 := ((0 : Int32), v13)) (fun w14 => [(2, .int w14.1), (3, va_rf w14.2), (1, .ref b1)]) hp11 (fun self15 hself16 => ?_)
    rintro ⟨y18, y19⟩ σ17 hp12
    unfold B_J6_indexOf_43 at hp12
    refine x_same (lo' := [(2, .int y18), (3, va_rf y19), (1, .ref b1)]) rfl ?_
    refine x_up (pc' := 44) (fun _ _ _ _ _ L => lv_aloadq_n hx hb dJ6_indexOf_43 rfl (lv_at L 1 rfl)) ?_
    rcases y19 with _ | b20
    · have hp13 := hp12.1 rfl
      refine x_up (pc' := 71) (fun _ _ _ _ _ L => lv_ifnullN (tgt := 71) hx hb dJ6_indexOf_44 (by decide)) ?_
      refine x_up (pc' := 72) (fun _ _ _ _ _ L => lv_iconst (v := (-1 : Int32)) hx hb dJ6_indexOf_71 (by decide)) ?_
      exact x_iret X hr rfl dJ6_indexOf_72 hp13
    · have hp14 := hp12.2 _ rfl
      refine x_up (pc' := 47) (fun _ _ _ _ _ L => lv_ifnull hx hb dJ6_indexOf_44) ?_
      refine x_up (pc' := 48) (fun _ _ _ _ _ L => lv_aload_n hx hb dJ6_indexOf_47 rfl (lv_at L 2 rfl)) ?_
      refine x_up (pc' := 49) (fun _ _ _ _ _ L => lv_aload_n hx hb dJ6_indexOf_48 rfl (lv_at L 1 rfl)) ?_
      refine x_gq X (kJ10 hG) 0 (by decide) q444 (fun _ h => h) dJ6_indexOf_49 hp14 (fun v21 hp15 => ?_)
      refine x_pc (pc' := 52) rfl ?_
      refine x_callO (x := ⟨"java/lang/Object", "equals", "(Ljava/lang/Object;)Z"⟩) (owner := "java/lang/Object") (em := emI) (fun r st => .int r :: st) (fun _ _ => rfl) 1 X (kJ23 hG) (fun σ' KK h => R_J23_equals l hl G hG b1 v21 σ' KK h) (hts _ q2447) (hts _ q650) (x_dcl X q647) (hts _ q670) q671 q128 q672 (by decide +kernel) ⟨Nat.le_of_ble_eq_true rfl, Nat.le_of_ble_eq_true rfl⟩ rfl rfl (Nat.le_of_ble_eq_true rfl) dJ6_indexOf_52 hp15.1 hp15.2 (fun v22 σ23 hp16 => ?_)
      refine x_pc (pc' := 55) rfl ?_
      refine x_if (C := v22 = 0) (pt := 60) (pc' := 58) (fun _ _ _ _ _ => lv_if_eq (tgt := 60) hx hb dJ6_indexOf_55 (by decide)) (fun c55 => ?_) (fun c55 => ?_)
      · have hp17 := hp16.1 c55
        refine x_upL (pc' := 63) (lo' := [(2, .int (y18 + (1 : Int32))), (3, .ref b20), (1, .ref b1)]) (fun _ _ _ _ _ L => lv_iinc (v := y18 + (1 : Int32)) hx hb dJ6_indexOf_60 L (k := 0) rfl rfl (by decide) rfl) ?_
        refine x_up (pc' := 64) (fun _ _ _ _ _ L => lv_aload_n hx hb dJ6_indexOf_63 rfl (lv_at L 1 rfl)) ?_
        refine x_gq X (kJ10 hG) 1 (by decide) q447 (fun _ h => h) dJ6_indexOf_64 hp17 (fun v24 hp18 => ?_)
        refine x_pc (pc' := 67) rfl ?_
        refine x_upL (pc' := 68) (lo' := [(3, va_rf v24), (2, .int (y18 + (1 : Int32))), (1, .ref b1)]) (fun _ _ _ _ _ L => lv_astoreq_n hx hb dJ6_indexOf_67 rfl L (by decide) rfl) ?_
        refine x_up (pc' := 43) (fun _ _ _ _ _ L => lv_goto (tgt := 43) hx hb dJ6_indexOf_68 (by decide)) ?_
        refine x_lo (lo' := [(2, .int (y18 + (1 : Int32))), (3, va_rf v24), (1, .ref b1)]) [1, 0, 2] rfl ?_
        exact hself16 ((y18 + (1 : Int32)), v24) σ23 hp18
      · have hp19 := hp16.2 c55
        refine x_up (pc' := 59) (fun _ _ _ _ _ L => lv_iload_n hx hb dJ6_indexOf_58 rfl (lv_at L 0 rfl)) ?_
        exact x_iret X hr rfl dJ6_indexOf_59 hp19
-- X2_causeOf
def P_X2_causeOf (κ : Nat → Nat) (a0 : Nat) (x1 : Int32) (σ : xS) (K : Int32 → xH → Prop) : Prop :=
  xgi σ a0 1 9 fun v1 => ((((v1 >>> (x1 &&& 31)) &&& (1 : Int32)) = 0 → (K (0 : Int32) σ.1)) ∧ (¬ ((v1 >>> (x1 &&& 31)) &&& (1 : Int32)) = 0 → (xgq σ a0 1 3 fun v2 => xcall (fun τ L => P_J23_valueOf κ x1 τ L) σ fun v3 σ4 => xnn v2 fun b5 => xrc σ4 b5 4 ∧ xcall (fun τ L => P_J6_indexOf κ b5 v3 τ L) σ4 fun v6 σ7 => ((v6 = (-1 : Int32) → (K (1 : Int32) σ7.1)) ∧ (¬ v6 = (-1 : Int32) → (xgq σ7 a0 1 2 fun v8 => xnn v8 fun b9 => xrc σ7 b9 3 ∧ xcall (fun τ L => P_J4_size κ b9 τ L) σ7 fun v10 σ11 => xgi σ11 a0 1 8 fun v12 => ((v6 < (v10 * v12) → (K (2 : Int32) σ11.1)) ∧ (¬ v6 < (v10 * v12) → (K (1 : Int32) σ11.1)))))))))
theorem mdX2_causeOf : yX2_causeOf.cls ≠ "java/lang/invoke/MethodHandle" ∧ yX2_causeOf.cls ≠ "java/lang/invoke/VarHandle" ∧ (parseMethodDescriptor yX2_causeOf.desc).map (fun d => d.parameters.length) = some 1 := by decide +kernel
set_option maxHeartbeats 4000000 in
set_option maxRecDepth 100000 in
theorem R_X2_causeOf (l : Launch) (hl : l.stackTraces = false) (G : xG) (hG : G.1.2 = x_cl) (a0 : Nat) (x1 : Int32) (σ : xS) (K : Int32 → xH → Prop) (hp : P_X2_causeOf G.2 a0 x1 σ K) : xM l yX2_causeOf cX2_causeOf 3 (Option.some Jvm.ClassFile.FieldType.int) 4 81 G [(.ref a0), .int x1] σ (xlift emI K) := by
  refine x_entry (by decide) (Nat.le_of_ble_eq_true rfl) ?_
  intro p e s m args below meth c X hr hin
  have X : xX p s m args meth c G cX2_causeOf 3 RX2 := X
  have hx := X.1
  have hb := X.2.1
  have hts := X.2.2.2.2.1
  have hown := X.2.2.2.1
  unfold P_X2_causeOf at hp
  refine x_same (lo' := [(0, .ref a0), (1, .int x1)]) rfl ?_
  refine x_up (pc' := 1) (fun _ _ _ _ _ L => lv_aload_n hx hb dX2_causeOf_0 rfl (lv_at L 0 rfl)) ?_
  refine x_gi X (kX2 hG) 9 (by decide) q474 (fun _ h => h) dX2_causeOf_1 hp (fun v1 hp1 => ?_)
  refine x_pc (pc' := 4) rfl ?_
  refine x_up (pc' := 5) (fun _ _ _ _ _ L => lv_iload_n hx hb dX2_causeOf_4 rfl (lv_at L 1 rfl)) ?_
  refine x_up (pc' := 6) (fun _ _ _ _ _ L => lv_ishr hx hb dX2_causeOf_5) ?_
  refine x_up (pc' := 7) (fun _ _ _ _ _ L => lv_iconst (v := (1 : Int32)) hx hb dX2_causeOf_6 (by decide)) ?_
  refine x_up (pc' := 8) (fun _ _ _ _ _ L => lv_iand hx hb dX2_causeOf_7) ?_
  refine x_ifn (C := ((v1 >>> (x1 &&& 31)) &&& (1 : Int32)) = 0) (pt := 13) (pc' := 11) (fun _ _ _ _ _ => lv_if_ne (tgt := 13) hx hb dX2_causeOf_8 (by decide)) (fun c8 => ?_) (fun c8 => ?_)
  · have hp2 := hp1.1 c8
    refine x_up (pc' := 12) (fun _ _ _ _ _ L => lv_iconst (v := (0 : Int32)) hx hb dX2_causeOf_11 (by decide)) ?_
    exact x_iret X hr rfl dX2_causeOf_12 hp2
  · have hp3 := hp1.2 c8
    refine x_up (pc' := 14) (fun _ _ _ _ _ L => lv_aload_n hx hb dX2_causeOf_13 rfl (lv_at L 0 rfl)) ?_
    refine x_gq X (kX2 hG) 3 (by decide) q464 (fun _ h => h) dX2_causeOf_14 hp3 (fun v2 hp4 => ?_)
    refine x_pc (pc' := 17) rfl ?_
    refine x_up (pc' := 18) (fun _ _ _ _ _ L => lv_iload_n hx hb dX2_causeOf_17 rfl (lv_at L 1 rfl)) ?_
    refine x_callS (em := emQ) (fun r st => va_rf r :: st) (fun _ _ => rfl) 1 X (fun σ' KK h => R_J23_valueOf l hl G hG x1 σ' KK h) (lw_S q2424 q2425 q128 q2426) mdJ23_valueOf ⟨Nat.le_of_ble_eq_true rfl, Nat.le_of_ble_eq_true rfl⟩ rfl rfl (by simp only [List.map_cons, List.map_nil, List.sum_cons, List.sum_nil, x_catq, x_cati, x_catr, x_catn] <;> decide) dX2_causeOf_18 hp4 (fun v3 σ4 hp5 => ?_)
    refine x_pc (pc' := 21) rfl ?_
    obtain ⟨b5, rfl, hp6⟩ := hp5
    refine x_callV (em := emI) (fun r st => .int r :: st) (fun _ _ => rfl) 1 X (kJ6 hG) (fun σ' KK h => R_J6_indexOf l hl G hG b5 v3 σ' KK h) (lw_V q2443 q2444 q2445 q107 q2446) ⟨rfl, mdJ6_indexOf⟩ ⟨Nat.le_of_ble_eq_true rfl, Nat.le_of_ble_eq_true rfl⟩ rfl rfl (Nat.le_of_ble_eq_true rfl) dX2_causeOf_21 hp6.1 hp6.2 (fun v6 σ7 hp7 => ?_)
    refine x_pc (pc' := 24) rfl ?_
    refine x_upL (pc' := 25) (lo' := [(2, .int v6), (0, .ref a0), (1, .int x1)]) (fun _ _ _ _ _ L => lv_istore_n hx hb dX2_causeOf_24 rfl L (by decide) rfl) ?_
    refine x_up (pc' := 26) (fun _ _ _ _ _ L => lv_iload_n hx hb dX2_causeOf_25 rfl (lv_at L 0 rfl)) ?_
    refine x_up (pc' := 27) (fun _ _ _ _ _ L => lv_iconst (v := (-1 : Int32)) hx hb dX2_causeOf_26 (by decide)) ?_
    refine x_if (C := v6 = (-1 : Int32)) (pt := 48) (pc' := 30) (fun _ _ _ _ _ => lv_icmp_eq (tgt := 48) hx hb dX2_causeOf_27 (by decide)) (fun c27 => ?_) (fun c27 => ?_)
    · have hp8 := hp7.1 c27
      refine x_up (pc' := 49) (fun _ _ _ _ _ L => lv_iconst (v := (1 : Int32)) hx hb dX2_causeOf_48 (by decide)) ?_
      refine x_up (pc' := 53) (fun _ _ _ _ _ L => lv_goto (tgt := 53) hx hb dX2_causeOf_49 (by decide)) ?_
      exact x_iret X hr rfl dX2_causeOf_53 hp8
    · have hp9 := hp7.2 c27
      refine x_up (pc' := 31) (fun _ _ _ _ _ L => lv_iload_n hx hb dX2_causeOf_30 rfl (lv_at L 0 rfl)) ?_
      refine x_up (pc' := 32) (fun _ _ _ _ _ L => lv_aload_n hx hb dX2_causeOf_31 rfl (lv_at L 1 rfl)) ?_
      refine x_gq X (kX2 hG) 2 (by decide) q462 (fun _ h => h) dX2_causeOf_32 hp9 (fun v8 hp10 => ?_)
      refine x_pc (pc' := 35) rfl ?_
      obtain ⟨b9, rfl, hp11⟩ := hp10
      refine x_callF (x := ⟨"java/util/List", "size", "()I"⟩) (em := emI) (fun r st => .int r :: st) (fun _ _ => rfl) 0 X (kJ4 hG) (fun σ' KK h => R_J4_size l hl G hG b9 σ' KK h) q2075 q2078 q1341 q105 q1342 ⟨⟨q2077, q2076, q2080, q2079, q275⟩, by decide, by decide⟩ (by decide +kernel) ⟨Nat.le_of_ble_eq_true rfl, Nat.le_of_ble_eq_true rfl⟩ rfl rfl (Nat.le_of_ble_eq_true rfl) dX2_causeOf_35 hp11.1 hp11.2 (fun v10 σ11 hp12 => ?_)
      refine x_pc (pc' := 40) rfl ?_
      refine x_up (pc' := 41) (fun _ _ _ _ _ L => lv_aload_n hx hb dX2_causeOf_40 rfl (lv_at L 1 rfl)) ?_
      refine x_gi X (kX2 hG) 8 (by decide) q472 (fun _ h => h) dX2_causeOf_41 hp12 (fun v12 hp13 => ?_)
      refine x_pc (pc' := 44) rfl ?_
      refine x_up (pc' := 45) (fun _ _ _ _ _ L => lv_imul hx hb dX2_causeOf_44) ?_
      refine x_if (C := v6 < (v10 * v12)) (pt := 52) (pc' := 48) (fun _ _ _ _ _ => lv_icmp_lt (tgt := 52) hx hb dX2_causeOf_45 (by decide)) (fun c45 => ?_) (fun c45 => ?_)
      · have hp14 := hp13.1 c45
        refine x_up (pc' := 53) (fun _ _ _ _ _ L => lv_iconst (v := (2 : Int32)) hx hb dX2_causeOf_52 (by decide)) ?_
        exact x_iret X hr rfl dX2_causeOf_53 hp14
      · have hp15 := hp13.2 c45
        refine x_up (pc' := 49) (fun _ _ _ _ _ L => lv_iconst (v := (1 : Int32)) hx hb dX2_causeOf_48 (by decide)) ?_
        refine x_up (pc' := 53) (fun _ _ _ _ _ L => lv_goto (tgt := 53) hx hb dX2_causeOf_49 (by decide)) ?_
        exact x_iret X hr rfl dX2_causeOf_53 hp15
-- X3_gets
def P_X3_gets (κ : Nat → Nat) (a0 : Nat) (x1 : Int32) (x2 : Int32) (σ : xS) (K : Unit → xH → Prop) : Prop :=
  xpi κ σ a0 5 2 x1 fun σ1 => xpi κ σ1 a0 5 3 (0 : Int32) fun σ2 => xpi κ σ2 a0 5 4 (0 : Int32) fun σ3 => xpi κ σ3 a0 5 6 x2 fun σ4 => xpi κ σ4 a0 5 7 (0 : Int32) fun σ5 => K () σ5.1
theorem mdX3_gets : yX3_gets.cls ≠ "java/lang/invoke/MethodHandle" ∧ yX3_gets.cls ≠ "java/lang/invoke/VarHandle" ∧ (parseMethodDescriptor yX3_gets.desc).map (fun d => d.parameters.length) = some 2 := by decide +kernel
set_option maxHeartbeats 4000000 in
set_option maxRecDepth 100000 in
theorem R_X3_gets (l : Launch) (hl : l.stackTraces = false) (G : xG) (hG : G.1.2 = x_cl) (a0 : Nat) (x1 : Int32) (x2 : Int32) (σ : xS) (K : Unit → xH → Prop) (hp : P_X3_gets G.2 a0 x1 x2 σ K) : xM l yX3_gets cX3_gets 3 (Option.none : Option Jvm.ClassFile.FieldType) 0 0 G [(.ref a0), .int x1, .int x2] σ (xlift emV K) := by
  refine x_entry (by decide) (Nat.le_of_ble_eq_true rfl) ?_
  intro p e s m args below meth c X hr hin
  have X : xX p s m args meth c G cX3_gets 3 RX3 := X
  have hx := X.1
  have hb := X.2.1
  have hts := X.2.2.2.2.1
  have hown := X.2.2.2.1
  unfold P_X3_gets at hp
  refine x_same (lo' := [(0, .ref a0), (1, .int x1), (2, .int x2)]) rfl ?_
  refine x_up (pc' := 1) (fun _ _ _ _ _ L => lv_aload_n hx hb dX3_gets_0 rfl (lv_at L 0 rfl)) ?_
  refine x_up (pc' := 2) (fun _ _ _ _ _ L => lv_iload_n hx hb dX3_gets_1 rfl (lv_at L 1 rfl)) ?_
  refine x_pi X (kX3 hG) 2 (by decide) q298 (fun _ h => h) rfl rfl rfl dX3_gets_2 hp (fun σ1 hp1 => ?_)
  refine x_pc (pc' := 5) rfl ?_
  refine x_up (pc' := 6) (fun _ _ _ _ _ L => lv_aload_n hx hb dX3_gets_5 rfl (lv_at L 0 rfl)) ?_
  refine x_up (pc' := 7) (fun _ _ _ _ _ L => lv_iconst (v := (0 : Int32)) hx hb dX3_gets_6 (by decide)) ?_
  refine x_pi X (kX3 hG) 3 (by decide) q301 (fun _ h => h) rfl rfl rfl dX3_gets_7 hp1 (fun σ2 hp2 => ?_)
  refine x_pc (pc' := 10) rfl ?_
  refine x_up (pc' := 11) (fun _ _ _ _ _ L => lv_aload_n hx hb dX3_gets_10 rfl (lv_at L 0 rfl)) ?_
  refine x_up (pc' := 12) (fun _ _ _ _ _ L => lv_iconst (v := (0 : Int32)) hx hb dX3_gets_11 (by decide)) ?_
  refine x_pi X (kX3 hG) 4 (by decide) q304 (fun _ h => h) rfl rfl rfl dX3_gets_12 hp2 (fun σ3 hp3 => ?_)
  refine x_pc (pc' := 15) rfl ?_
  refine x_up (pc' := 16) (fun _ _ _ _ _ L => lv_aload_n hx hb dX3_gets_15 rfl (lv_at L 0 rfl)) ?_
  refine x_up (pc' := 17) (fun _ _ _ _ _ L => lv_iload_n hx hb dX3_gets_16 rfl (lv_at L 2 rfl)) ?_
  refine x_pi X (kX3 hG) 6 (by decide) q310 (fun _ h => h) rfl rfl rfl dX3_gets_17 hp3 (fun σ4 hp4 => ?_)
  refine x_pc (pc' := 20) rfl ?_
  refine x_up (pc' := 21) (fun _ _ _ _ _ L => lv_aload_n hx hb dX3_gets_20 rfl (lv_at L 0 rfl)) ?_
  refine x_up (pc' := 22) (fun _ _ _ _ _ L => lv_iconst (v := (0 : Int32)) hx hb dX3_gets_21 (by decide)) ?_
  refine x_pi X (kX3 hG) 7 (by decide) q313 (fun _ h => h) rfl rfl rfl dX3_gets_22 hp4 (fun σ5 hp5 => ?_)
  refine x_pc (pc' := 25) rfl ?_
  exact x_vret X hr dX3_gets_25 hp5
-- X2_comes
def P_X2_comes (κ : Nat → Nat) (a0 : Nat) (x1 : Int32) (x2 : Option Nat) (x3 : Int32) (σ : xS) (K : Unit → xH → Prop) : Prop :=
  xgq σ a0 1 7 fun v1 => xrc σ a0 1 ∧ xcall (fun τ L => P_X2_causeOf κ a0 x1 τ L) σ fun v2 σ3 => xnn v1 fun b4 => xai .int σ3 b4 v2 fun v5 => xsi κ .int σ3 b4 v2 (v5 + (1 : Int32)) fun σ6 => xgq σ6 a0 1 6 fun v7 => xnn v7 fun b8 => xai .int σ6 b8 x1 fun v9 => xsi κ .int σ6 b8 x1 (v9 + (1 : Int32)) fun σ10 => xrc σ10 a0 1 ∧ xcall (fun τ L => P_X2_writesBack κ a0 x2 τ L) σ10 fun v11 σ12 => xrc σ12 a0 1 ∧ xcall (fun τ L => P_X2_works κ a0 (x1 - x1 / (4 : Int32) * (4 : Int32)) (5 : Int32) τ L) σ12 fun _ σ13 => xnn x2 fun b14 => xrc σ13 b14 5 ∧ xcall (fun τ L => P_X3_gets κ b14 x1 x3 τ L) σ13 fun _ σ15 => xgq σ15 a0 1 0 fun v16 => xgq σ15 b14 5 1 fun v17 => xnn v17 fun b18 => xnn v16 fun b19 => xcpi κ .int σ15 b19 ((4 : Int32) * x1) b18 (0 : Int32) (4 : Int32) fun σ20 => xgi σ20 a0 1 9 fun v21 => xpi κ σ20 a0 1 9 (v21 ||| ((1 : Int32) <<< (x1 &&& 31))) fun σ22 => K () σ22.1
theorem mdX2_comes : yX2_comes.cls ≠ "java/lang/invoke/MethodHandle" ∧ yX2_comes.cls ≠ "java/lang/invoke/VarHandle" ∧ (parseMethodDescriptor yX2_comes.desc).map (fun d => d.parameters.length) = some 3 := by decide +kernel
set_option maxHeartbeats 4000000 in
set_option maxRecDepth 100000 in
theorem R_X2_comes (l : Launch) (hl : l.stackTraces = false) (G : xG) (hG : G.1.2 = x_cl) (a0 : Nat) (x1 : Int32) (x2 : Option Nat) (x3 : Int32) (σ : xS) (K : Unit → xH → Prop) (hp : P_X2_comes G.2 a0 x1 x2 x3 σ K) : xM l yX2_comes cX2_comes 5 (Option.none : Option Jvm.ClassFile.FieldType) 5 103 G [(.ref a0), .int x1, va_rf x2, .int x3] σ (xlift emV K) := by
  refine x_entry (by decide) (by simp [lg_sl, x_catq, x_cati, x_catr, x_catn]) ?_
  intro p e s m args below meth c X hr hin
  have X : xX p s m args meth c G cX2_comes 5 RX2 := X
  have hx := X.1
  have hb := X.2.1
  have hts := X.2.2.2.2.1
  have hown := X.2.2.2.1
  unfold P_X2_comes at hp
  refine x_same (lo' := [(0, .ref a0), (1, .int x1), (2, va_rf x2), (3, .int x3)]) (by simp [lv_args, x_catq, x_cati, x_catr, x_catn]) ?_
  refine x_up (pc' := 1) (fun _ _ _ _ _ L => lv_aload_n hx hb dX2_comes_0 rfl (lv_at L 0 rfl)) ?_
  refine x_gq X (kX2 hG) 7 (by decide) q470 (fun _ h => h) dX2_comes_1 hp (fun v1 hp1 => ?_)
  refine x_pc (pc' := 4) rfl ?_
  refine x_up (pc' := 5) (fun _ _ _ _ _ L => lv_aload_n hx hb dX2_comes_4 rfl (lv_at L 0 rfl)) ?_
  refine x_up (pc' := 6) (fun _ _ _ _ _ L => lv_iload_n hx hb dX2_comes_5 rfl (lv_at L 1 rfl)) ?_
  refine x_callV (em := emI) (fun r st => .int r :: st) (fun _ _ => rfl) 1 X (kX2 hG) (fun σ' KK h => R_X2_causeOf l hl G hG a0 x1 σ' KK h) (lw_V q2420 q2421 q2422 q100 q2423) ⟨rfl, mdX2_causeOf⟩ ⟨Nat.le_of_ble_eq_true rfl, Nat.le_of_ble_eq_true rfl⟩ rfl rfl (by simp only [List.map_cons, List.map_nil, List.sum_cons, List.sum_nil, x_catq, x_cati, x_catr, x_catn] <;> decide) dX2_comes_6 hp1.1 hp1.2 (fun v2 σ3 hp2 => ?_)
  refine x_pc (pc' := 9) rfl ?_
  refine x_up (pc' := 10) (fun _ _ _ _ _ L => lv_dup2_11 hx hb dX2_comes_9 rfl (x_catq _)) ?_
  obtain ⟨b4, rfl, hp3⟩ := hp2
  refine x_iald X dX2_comes_10 hp3 (fun v5 hp4 => ?_)
  refine x_pc (pc' := 11) rfl ?_
  refine x_up (pc' := 12) (fun _ _ _ _ _ L => lv_iconst (v := (1 : Int32)) hx hb dX2_comes_11 (by decide)) ?_
  refine x_up (pc' := 13) (fun _ _ _ _ _ L => lv_iadd hx hb dX2_comes_12) ?_
  refine x_iast X dX2_comes_13 hp4 (fun σ6 hp5 => ?_)
  refine x_pc (pc' := 14) rfl ?_
  refine x_up (pc' := 15) (fun _ _ _ _ _ L => lv_aload_n hx hb dX2_comes_14 rfl (lv_at L 0 rfl)) ?_
  refine x_gq X (kX2 hG) 6 (by decide) q469 (fun _ h => h) dX2_comes_15 hp5 (fun v7 hp6 => ?_)
  refine x_pc (pc' := 18) rfl ?_
  refine x_up (pc' := 19) (fun _ _ _ _ _ L => lv_iload_n hx hb dX2_comes_18 rfl (lv_at L 1 rfl)) ?_
  refine x_up (pc' := 20) (fun _ _ _ _ _ L => lv_dup2_11 hx hb dX2_comes_19 rfl (x_catq _)) ?_
  obtain ⟨b8, rfl, hp7⟩ := hp6
  refine x_iald X dX2_comes_20 hp7 (fun v9 hp8 => ?_)
  refine x_pc (pc' := 21) rfl ?_
  refine x_up (pc' := 22) (fun _ _ _ _ _ L => lv_iconst (v := (1 : Int32)) hx hb dX2_comes_21 (by decide)) ?_
  refine x_up (pc' := 23) (fun _ _ _ _ _ L => lv_iadd hx hb dX2_comes_22) ?_
  refine x_iast X dX2_comes_23 hp8 (fun σ10 hp9 => ?_)
  refine x_pc (pc' := 24) rfl ?_
  refine x_up (pc' := 25) (fun _ _ _ _ _ L => lv_aload_n hx hb dX2_comes_24 rfl (lv_at L 0 rfl)) ?_
  refine x_up (pc' := 26) (fun _ _ _ _ _ L => lv_aloadq_n hx hb dX2_comes_25 rfl (lv_at L 2 rfl)) ?_
  refine x_callV (em := emI) (fun r st => .int r :: st) (fun _ _ => rfl) 1 X (kX2 hG) (fun σ' KK h => R_X2_writesBack l hl G hG a0 x2 σ' KK h) (lw_V q2448 q2450 qs31 q100 q2451) ⟨rfl, mdX2_writesBack⟩ ⟨Nat.le_of_ble_eq_true rfl, Nat.le_of_ble_eq_true rfl⟩ rfl rfl (Nat.le_of_ble_eq_true rfl) dX2_comes_26 hp9.1 hp9.2 (fun v11 σ12 hp10 => ?_)
  refine x_pc (pc' := 29) rfl ?_
  refine x_upL (pc' := 31) (lo' := [(4, .int v11), (0, .ref a0), (1, .int x1), (2, va_rf x2), (3, .int x3)]) (fun _ _ _ _ _ L => lv_istore hx hb dX2_comes_29 L (by decide) rfl) ?_
  refine x_up (pc' := 32) (fun _ _ _ _ _ L => lv_aload_n hx hb dX2_comes_31 rfl (lv_at L 1 rfl)) ?_
  refine x_up (pc' := 33) (fun _ _ _ _ _ L => lv_iload_n hx hb dX2_comes_32 rfl (lv_at L 2 rfl)) ?_
  refine x_up (pc' := 34) (fun _ _ _ _ _ L => lv_iconst (v := (4 : Int32)) hx hb dX2_comes_33 (by decide)) ?_
  refine x_up (pc' := 35) (fun _ _ _ _ _ L => lv_irem hx hb dX2_comes_34 (by decide)) ?_
  refine x_up (pc' := 36) (fun _ _ _ _ _ L => lv_iconst (v := (5 : Int32)) hx hb dX2_comes_35 (by decide)) ?_
  refine x_callV (em := emV) (fun r st => st) (fun _ _ => rfl) 2 X (kX2 hG) (fun σ' KK h => R_X2_works l hl G hG a0 (x1 - x1 / (4 : Int32) * (4 : Int32)) (5 : Int32) σ' KK h) (lw_V q2456 q2458 qs32 q100 q2459) ⟨rfl, mdX2_works⟩ ⟨Nat.le_of_ble_eq_true rfl, Nat.le_of_ble_eq_true rfl⟩ rfl rfl (Nat.le_of_ble_eq_true rfl) dX2_comes_36 hp10.1 hp10.2 (fun _ σ13 hp11 => ?_)
  refine x_pc (pc' := 39) rfl ?_
  refine x_up (pc' := 40) (fun _ _ _ _ _ L => lv_aloadq_n hx hb dX2_comes_39 rfl (lv_at L 3 rfl)) ?_
  refine x_up (pc' := 41) (fun _ _ _ _ _ L => lv_iload_n hx hb dX2_comes_40 rfl (lv_at L 2 rfl)) ?_
  refine x_up (pc' := 42) (fun _ _ _ _ _ L => lv_iload_n hx hb dX2_comes_41 rfl (lv_at L 4 rfl)) ?_
  obtain ⟨b14, rfl, hp12⟩ := hp11
  refine x_callV (em := emV) (fun r st => st) (fun _ _ => rfl) 2 X (kX3 hG) (fun σ' KK h => R_X3_gets l hl G hG b14 x1 x3 σ' KK h) (lw_V q2469 q2470 q2471 q108 q2472) ⟨rfl, mdX3_gets⟩ ⟨Nat.le_of_ble_eq_true rfl, Nat.le_of_ble_eq_true rfl⟩ rfl rfl (Nat.le_of_ble_eq_true rfl) dX2_comes_42 hp12.1 hp12.2 (fun _ σ15 hp13 => ?_)
  refine x_pc (pc' := 45) rfl ?_
  refine x_up (pc' := 46) (fun _ _ _ _ _ L => lv_aload_n hx hb dX2_comes_45 rfl (lv_at L 1 rfl)) ?_
  refine x_gq X (kX2 hG) 0 (by decide) q458 (fun _ h => h) dX2_comes_46 hp13 (fun v16 hp14 => ?_)
  refine x_pc (pc' := 49) rfl ?_
  refine x_up (pc' := 50) (fun _ _ _ _ _ L => lv_iconst (v := (4 : Int32)) hx hb dX2_comes_49 (by decide)) ?_
  refine x_up (pc' := 51) (fun _ _ _ _ _ L => lv_iload_n hx hb dX2_comes_50 rfl (lv_at L 2 rfl)) ?_
  refine x_up (pc' := 52) (fun _ _ _ _ _ L => lv_imul hx hb dX2_comes_51) ?_
  refine x_up (pc' := 53) (fun _ _ _ _ _ L => lv_aload_n hx hb dX2_comes_52 rfl (lv_at L 3 rfl)) ?_
  refine x_gqN X (kX3 hG) 1 (by decide) q297 (fun _ h => h) dX2_comes_53 hp14 (fun v17 hp15 => ?_)
  refine x_pc (pc' := 56) rfl ?_
  refine x_up (pc' := 57) (fun _ _ _ _ _ L => lv_iconst (v := (0 : Int32)) hx hb dX2_comes_56 (by decide)) ?_
  refine x_up (pc' := 58) (fun _ _ _ _ _ L => lv_iconst (v := (4 : Int32)) hx hb dX2_comes_57 (by decide)) ?_
  obtain ⟨b18, rfl, hp16⟩ := hp15
  obtain ⟨b19, rfl, hp17⟩ := hp16
  refine x_cpi (ty := .int) (fun _ h => nomatch h) X q618 q424 q423 q112 (Nat.le_of_ble_eq_true rfl) ⟨Nat.le_of_ble_eq_true rfl, Nat.le_of_ble_eq_true rfl⟩ dX2_comes_58 hp17 (fun σ20 hp18 => ?_)
  refine x_pc (pc' := 61) rfl ?_
  refine x_up (pc' := 62) (fun _ _ _ _ _ L => lv_aload_n hx hb dX2_comes_61 rfl (lv_at L 1 rfl)) ?_
  refine x_up (pc' := 63) (fun _ _ _ _ _ L => lv_dup hx hb dX2_comes_62 rfl) ?_
  refine x_gi X (kX2 hG) 9 (by decide) q474 (fun _ h => h) dX2_comes_63 hp18 (fun v21 hp19 => ?_)
  refine x_pc (pc' := 66) rfl ?_
  refine x_up (pc' := 67) (fun _ _ _ _ _ L => lv_iconst (v := (1 : Int32)) hx hb dX2_comes_66 (by decide)) ?_
  refine x_up (pc' := 68) (fun _ _ _ _ _ L => lv_iload_n hx hb dX2_comes_67 rfl (lv_at L 2 rfl)) ?_
  refine x_up (pc' := 69) (fun _ _ _ _ _ L => lv_ishl hx hb dX2_comes_68) ?_
  refine x_up (pc' := 70) (fun _ _ _ _ _ L => lv_ior hx hb dX2_comes_69) ?_
  refine x_pi X (kX2 hG) 9 (by decide) q474 (fun _ h => h) rfl rfl rfl dX2_comes_70 hp19 (fun σ22 hp20 => ?_)
  refine x_pc (pc' := 73) rfl ?_
  exact x_vret X hr dX2_comes_73 hp20
-- J6_unlink
def P_J6_unlink (κ : Nat → Nat) (a0 : Nat) (x1 : Option Nat) (σ : xS) (K : Option Nat → xH → Prop) : Prop :=
  xnn x1 fun b1 => xgq σ b1 6 0 fun v2 => xgq σ b1 6 1 fun v3 => xgq σ b1 6 2 fun v4 => ((v4 = none → (xpq κ σ a0 4 2 v3 fun σ6 => ((v3 = none → (xpq κ σ6 a0 4 3 none fun σ8 => xpq κ σ8 b1 6 0 none fun σ9 => xgi σ9 a0 4 1 fun v10 => xpi κ σ9 a0 4 1 (v10 - (1 : Int32)) fun σ11 => xgi σ11 a0 4 0 fun v12 => xpi κ σ11 a0 4 0 (v12 + (1 : Int32)) fun σ13 => K v2 σ13.1)) ∧ (∀ b7 : Nat, v3 = some b7 → (xpq κ σ6 b7 6 2 none fun σ14 => xpq κ σ14 b1 6 1 none fun σ15 => xpq κ σ15 b1 6 0 none fun σ16 => xgi σ16 a0 4 1 fun v17 => xpi κ σ16 a0 4 1 (v17 - (1 : Int32)) fun σ18 => xgi σ18 a0 4 0 fun v19 => xpi κ σ18 a0 4 0 (v19 + (1 : Int32)) fun σ20 => K v2 σ20.1))))) ∧ (∀ b5 : Nat, v4 = some b5 → (xpq κ σ b5 6 1 v3 fun σ21 => xpq κ σ21 b1 6 2 none fun σ22 => ((v3 = none → (xpq κ σ22 a0 4 3 (some b5) fun σ24 => xpq κ σ24 b1 6 0 none fun σ25 => xgi σ25 a0 4 1 fun v26 => xpi κ σ25 a0 4 1 (v26 - (1 : Int32)) fun σ27 => xgi σ27 a0 4 0 fun v28 => xpi κ σ27 a0 4 0 (v28 + (1 : Int32)) fun σ29 => K v2 σ29.1)) ∧ (∀ b23 : Nat, v3 = some b23 → (xpq κ σ22 b23 6 2 (some b5) fun σ30 => xpq κ σ30 b1 6 1 none fun σ31 => xpq κ σ31 b1 6 0 none fun σ32 => xgi σ32 a0 4 1 fun v33 => xpi κ σ32 a0 4 1 (v33 - (1 : Int32)) fun σ34 => xgi σ34 a0 4 0 fun v35 => xpi κ σ34 a0 4 0 (v35 + (1 : Int32)) fun σ36 => K v2 σ36.1))))))
theorem mdJ6_unlink : yJ6_unlink.cls ≠ "java/lang/invoke/MethodHandle" ∧ yJ6_unlink.cls ≠ "java/lang/invoke/VarHandle" ∧ (parseMethodDescriptor yJ6_unlink.desc).map (fun d => d.parameters.length) = some 1 := by decide +kernel
set_option maxHeartbeats 4000000 in
set_option maxRecDepth 100000 in
theorem R_J6_unlink (l : Launch) (hl : l.stackTraces = false) (G : xG) (hG : G.1.2 = x_cl) (a0 : Nat) (x1 : Option Nat) (σ : xS) (K : Option Nat → xH → Prop) (hp : P_J6_unlink G.2 a0 x1 σ K) : xM l yJ6_unlink cJ6_unlink 5 (Option.some (Jvm.ClassFile.FieldType.object "java/lang/Object")) 0 0 G [(.ref a0), va_rf x1] σ (xlift emQ K) := by
  refine x_entry (by decide) (by simp [lg_sl, x_catq, x_cati, x_catr, x_catn]) ?_
  intro p e s m args below meth c X hr hin
  have X : xX p s m args meth c G cJ6_unlink 5 RJ6 := X
  have hx := X.1
  have hb := X.2.1
  have hts := X.2.2.2.2.1
  have hown := X.2.2.2.1
  unfold P_J6_unlink at hp
  refine x_same (lo' := [(0, .ref a0), (1, va_rf x1)]) (by simp [lv_args, x_catq, x_cati, x_catr, x_catn]) ?_
  refine x_up (pc' := 1) (fun _ _ _ _ _ L => lv_aloadq_n hx hb dJ6_unlink_0 rfl (lv_at L 1 rfl)) ?_
  obtain ⟨b1, rfl, hp1⟩ := hp
  refine x_gq X (kJ10 hG) 0 (by decide) q444 (fun _ h => h) dJ6_unlink_1 hp1 (fun v2 hp2 => ?_)
  refine x_pc (pc' := 4) rfl ?_
  refine x_upL (pc' := 5) (lo' := [(2, va_rf v2), (0, .ref a0), (1, .ref b1)]) (fun _ _ _ _ _ L => lv_astoreq_n hx hb dJ6_unlink_4 rfl L (by decide) rfl) ?_
  refine x_up (pc' := 6) (fun _ _ _ _ _ L => lv_aload_n hx hb dJ6_unlink_5 rfl (lv_at L 2 rfl)) ?_
  refine x_gq X (kJ10 hG) 1 (by decide) q447 (fun _ h => h) dJ6_unlink_6 hp2 (fun v3 hp3 => ?_)
  refine x_pc (pc' := 9) rfl ?_
  refine x_st (pc' := 10) ([(3, va_rf v3), (2, va_rf v2), (0, .ref a0), (1, .ref b1)]) rfl (by simp [x_catq, x_cati, x_catr, x_catn]) (fun _ _ _ _ _ L => lv_astoreq_n hx hb dJ6_unlink_9 rfl L (by decide) rfl) ?_
  refine x_up (pc' := 11) (fun _ _ _ _ _ L => lv_aload_n hx hb dJ6_unlink_10 rfl (lv_at L 3 rfl)) ?_
  refine x_gq X (kJ10 hG) 2 (by decide) q449 (fun _ h => h) dJ6_unlink_11 hp3 (fun v4 hp4 => ?_)
  refine x_pc (pc' := 14) rfl ?_
  refine x_st (pc' := 16) ([(4, va_rf v4), (3, va_rf v3), (2, va_rf v2), (0, .ref a0), (1, .ref b1)]) rfl (by simp [x_catq, x_cati, x_catr, x_catn]) (fun _ _ _ _ _ L => lv_astoreq hx hb dJ6_unlink_14 L (by decide) rfl) ?_
  refine x_up (pc' := 18) (fun _ _ _ _ _ L => lv_aloadq hx hb dJ6_unlink_16 (lv_at L 0 rfl)) ?_
  rcases v4 with _ | b5
  · have hp5 := hp4.1 rfl
    refine x_up (pc' := 21) (fun _ _ _ _ _ L => lv_ifnonnullN hx hb dJ6_unlink_18) ?_
    refine x_up (pc' := 22) (fun _ _ _ _ _ L => lv_aload_n hx hb dJ6_unlink_21 rfl (lv_at L 3 rfl)) ?_
    refine x_up (pc' := 23) (fun _ _ _ _ _ L => lv_aloadq_n hx hb dJ6_unlink_22 rfl (lv_at L 1 rfl)) ?_
    refine x_pq X (kJ6 hG) 2 (by decide) q257 (fun _ h => h) rfl v3 (x_nar _ (by decide)) (x_fit _ (by decide)) dJ6_unlink_23 hp5 (fun σ6 hp6 => ?_)
    refine x_pc (pc' := 26) rfl ?_
    refine x_up (pc' := 40) (fun _ _ _ _ _ L => lv_goto (tgt := 40) hx hb dJ6_unlink_26 (by decide)) ?_
    refine x_up (pc' := 41) (fun _ _ _ _ _ L => lv_aloadq_n hx hb dJ6_unlink_40 rfl (lv_at L 1 rfl)) ?_
    rcases v3 with _ | b7
    · have hp7 := hp6.1 rfl
      refine x_up (pc' := 44) (fun _ _ _ _ _ L => lv_ifnonnullN hx hb dJ6_unlink_41) ?_
      refine x_up (pc' := 45) (fun _ _ _ _ _ L => lv_aload_n hx hb dJ6_unlink_44 rfl (lv_at L 3 rfl)) ?_
      refine x_up (pc' := 47) (fun _ _ _ _ _ L => lv_aloadN hx hb dJ6_unlink_45 (lv_at L 0 rfl)) ?_
      refine x_pq X (kJ6 hG) 3 (by decide) q258 (fun _ h => h) rfl none (x_nar _ (by decide)) (x_fit _ (by decide)) dJ6_unlink_47 hp7 (fun σ8 hp8 => ?_)
      refine x_pc (pc' := 50) rfl ?_
      refine x_up (pc' := 64) (fun _ _ _ _ _ L => lv_goto (tgt := 64) hx hb dJ6_unlink_50 (by decide)) ?_
      refine x_up (pc' := 65) (fun _ _ _ _ _ L => lv_aload_n hx hb dJ6_unlink_64 rfl (lv_at L 4 rfl)) ?_
      refine x_up (pc' := 66) (fun _ _ _ _ _ L => lv_null hx hb dJ6_unlink_65) ?_
      refine x_pq X (kJ10 hG) 0 (by decide) q444 (fun _ h => h) rfl none (x_nar _ (by decide)) (x_fit _ (by decide)) dJ6_unlink_66 hp8 (fun σ9 hp9 => ?_)
      refine x_pc (pc' := 69) rfl ?_
      refine x_up (pc' := 70) (fun _ _ _ _ _ L => lv_aload_n hx hb dJ6_unlink_69 rfl (lv_at L 3 rfl)) ?_
      refine x_up (pc' := 71) (fun _ _ _ _ _ L => lv_dup hx hb dJ6_unlink_70 rfl) ?_
      refine x_gi X (kJ6 hG) 1 (by decide) q255 (fun _ h => h) dJ6_unlink_71 hp9 (fun v10 hp10 => ?_)
      refine x_pc (pc' := 74) rfl ?_
      refine x_up (pc' := 75) (fun _ _ _ _ _ L => lv_iconst (v := (1 : Int32)) hx hb dJ6_unlink_74 (by decide)) ?_
      refine x_up (pc' := 76) (fun _ _ _ _ _ L => lv_isub hx hb dJ6_unlink_75) ?_
      refine x_pi X (kJ6 hG) 1 (by decide) q255 (fun _ h => h) rfl rfl rfl dJ6_unlink_76 hp10 (fun σ11 hp11 => ?_)
      refine x_pc (pc' := 79) rfl ?_
      refine x_up (pc' := 80) (fun _ _ _ _ _ L => lv_aload_n hx hb dJ6_unlink_79 rfl (lv_at L 3 rfl)) ?_
      refine x_up (pc' := 81) (fun _ _ _ _ _ L => lv_dup hx hb dJ6_unlink_80 rfl) ?_
      refine x_gi X (kJ6 hG) 0 (by decide) q237 (x_sameF (X.2.2.2.2.1 _ q233)) dJ6_unlink_81 hp11 (fun v12 hp12 => ?_)
      refine x_pc (pc' := 84) rfl ?_
      refine x_up (pc' := 85) (fun _ _ _ _ _ L => lv_iconst (v := (1 : Int32)) hx hb dJ6_unlink_84 (by decide)) ?_
      refine x_up (pc' := 86) (fun _ _ _ _ _ L => lv_iadd hx hb dJ6_unlink_85) ?_
      refine x_pi X (kJ6 hG) 0 (by decide) q237 (x_sameF (X.2.2.2.2.1 _ q233)) rfl rfl rfl dJ6_unlink_86 hp12 (fun σ13 hp13 => ?_)
      refine x_pc (pc' := 89) rfl ?_
      refine x_up (pc' := 90) (fun _ _ _ _ _ L => lv_aloadq_n hx hb dJ6_unlink_89 rfl (lv_at L 2 rfl)) ?_
      exact x_aret X hr (Or.inl ⟨_, rfl⟩) dJ6_unlink_90 v2 hp13
    · have hp14 := hp6.2 _ rfl
      refine x_up (pc' := 53) (fun _ _ _ _ _ L => lv_ifnonnull (tgt := 53) hx hb dJ6_unlink_41 (by decide)) ?_
      refine x_up (pc' := 54) (fun _ _ _ _ _ L => lv_aload_n hx hb dJ6_unlink_53 rfl (lv_at L 1 rfl)) ?_
      refine x_up (pc' := 56) (fun _ _ _ _ _ L => lv_aloadN hx hb dJ6_unlink_54 (lv_at L 0 rfl)) ?_
      refine x_pq X (kJ10 hG) 2 (by decide) q449 (fun _ h => h) rfl none (x_nar _ (by decide)) (x_fit _ (by decide)) dJ6_unlink_56 hp14 (fun σ14 hp15 => ?_)
      refine x_pc (pc' := 59) rfl ?_
      refine x_up (pc' := 60) (fun _ _ _ _ _ L => lv_aload_n hx hb dJ6_unlink_59 rfl (lv_at L 4 rfl)) ?_
      refine x_up (pc' := 61) (fun _ _ _ _ _ L => lv_null hx hb dJ6_unlink_60) ?_
      refine x_pq X (kJ10 hG) 1 (by decide) q447 (fun _ h => h) rfl none (x_nar _ (by decide)) (x_fit _ (by decide)) dJ6_unlink_61 hp15 (fun σ15 hp16 => ?_)
      refine x_pc (pc' := 64) rfl ?_
      refine x_up (pc' := 65) (fun _ _ _ _ _ L => lv_aload_n hx hb dJ6_unlink_64 rfl (lv_at L 4 rfl)) ?_
      refine x_up (pc' := 66) (fun _ _ _ _ _ L => lv_null hx hb dJ6_unlink_65) ?_
      refine x_pq X (kJ10 hG) 0 (by decide) q444 (fun _ h => h) rfl none (x_nar _ (by decide)) (x_fit _ (by decide)) dJ6_unlink_66 hp16 (fun σ16 hp17 => ?_)
      refine x_pc (pc' := 69) rfl ?_
      refine x_up (pc' := 70) (fun _ _ _ _ _ L => lv_aload_n hx hb dJ6_unlink_69 rfl (lv_at L 3 rfl)) ?_
      refine x_up (pc' := 71) (fun _ _ _ _ _ L => lv_dup hx hb dJ6_unlink_70 rfl) ?_
      refine x_gi X (kJ6 hG) 1 (by decide) q255 (fun _ h => h) dJ6_unlink_71 hp17 (fun v17 hp18 => ?_)
      refine x_pc (pc' := 74) rfl ?_
      refine x_up (pc' := 75) (fun _ _ _ _ _ L => lv_iconst (v := (1 : Int32)) hx hb dJ6_unlink_74 (by decide)) ?_
      refine x_up (pc' := 76) (fun _ _ _ _ _ L => lv_isub hx hb dJ6_unlink_75) ?_
      refine x_pi X (kJ6 hG) 1 (by decide) q255 (fun _ h => h) rfl rfl rfl dJ6_unlink_76 hp18 (fun σ18 hp19 => ?_)
      refine x_pc (pc' := 79) rfl ?_
      refine x_up (pc' := 80) (fun _ _ _ _ _ L => lv_aload_n hx hb dJ6_unlink_79 rfl (lv_at L 3 rfl)) ?_
      refine x_up (pc' := 81) (fun _ _ _ _ _ L => lv_dup hx hb dJ6_unlink_80 rfl) ?_
      refine x_gi X (kJ6 hG) 0 (by decide) q237 (x_sameF (X.2.2.2.2.1 _ q233)) dJ6_unlink_81 hp19 (fun v19 hp20 => ?_)
      refine x_pc (pc' := 84) rfl ?_
      refine x_up (pc' := 85) (fun _ _ _ _ _ L => lv_iconst (v := (1 : Int32)) hx hb dJ6_unlink_84 (by decide)) ?_
      refine x_up (pc' := 86) (fun _ _ _ _ _ L => lv_iadd hx hb dJ6_unlink_85) ?_
      refine x_pi X (kJ6 hG) 0 (by decide) q237 (x_sameF (X.2.2.2.2.1 _ q233)) rfl rfl rfl dJ6_unlink_86 hp20 (fun σ20 hp21 => ?_)
      refine x_pc (pc' := 89) rfl ?_
      refine x_up (pc' := 90) (fun _ _ _ _ _ L => lv_aloadq_n hx hb dJ6_unlink_89 rfl (lv_at L 2 rfl)) ?_
      exact x_aret X hr (Or.inl ⟨_, rfl⟩) dJ6_unlink_90 v2 hp21
  · have hp22 := hp4.2 _ rfl
    refine x_up (pc' := 29) (fun _ _ _ _ _ L => lv_ifnonnull (tgt := 29) hx hb dJ6_unlink_18 (by decide)) ?_
    refine x_up (pc' := 31) (fun _ _ _ _ _ L => lv_aload hx hb dJ6_unlink_29 (lv_at L 0 rfl)) ?_
    refine x_up (pc' := 32) (fun _ _ _ _ _ L => lv_aloadq_n hx hb dJ6_unlink_31 rfl (lv_at L 1 rfl)) ?_
    refine x_pq X (kJ10 hG) 1 (by decide) q447 (fun _ h => h) rfl v3 (x_nar _ (by decide)) (x_fit _ (by decide)) dJ6_unlink_32 hp22 (fun σ21 hp23 => ?_)
    refine x_pc (pc' := 35) rfl ?_
    refine x_up (pc' := 36) (fun _ _ _ _ _ L => lv_aload_n hx hb dJ6_unlink_35 rfl (lv_at L 4 rfl)) ?_
    refine x_up (pc' := 37) (fun _ _ _ _ _ L => lv_null hx hb dJ6_unlink_36) ?_
    refine x_pq X (kJ10 hG) 2 (by decide) q449 (fun _ h => h) rfl none (x_nar _ (by decide)) (x_fit _ (by decide)) dJ6_unlink_37 hp23 (fun σ22 hp24 => ?_)
    refine x_pc (pc' := 40) rfl ?_
    refine x_up (pc' := 41) (fun _ _ _ _ _ L => lv_aloadq_n hx hb dJ6_unlink_40 rfl (lv_at L 1 rfl)) ?_
    rcases v3 with _ | b23
    · have hp25 := hp24.1 rfl
      refine x_up (pc' := 44) (fun _ _ _ _ _ L => lv_ifnonnullN hx hb dJ6_unlink_41) ?_
      refine x_up (pc' := 45) (fun _ _ _ _ _ L => lv_aload_n hx hb dJ6_unlink_44 rfl (lv_at L 3 rfl)) ?_
      refine x_up (pc' := 47) (fun _ _ _ _ _ L => lv_aload hx hb dJ6_unlink_45 (lv_at L 0 rfl)) ?_
      refine x_pq X (kJ6 hG) 3 (by decide) q258 (fun _ h => h) rfl (some b5) (x_nar _ (by decide)) (x_fit _ (by decide)) dJ6_unlink_47 hp25 (fun σ24 hp26 => ?_)
      refine x_pc (pc' := 50) rfl ?_
      refine x_up (pc' := 64) (fun _ _ _ _ _ L => lv_goto (tgt := 64) hx hb dJ6_unlink_50 (by decide)) ?_
      refine x_up (pc' := 65) (fun _ _ _ _ _ L => lv_aload_n hx hb dJ6_unlink_64 rfl (lv_at L 4 rfl)) ?_
      refine x_up (pc' := 66) (fun _ _ _ _ _ L => lv_null hx hb dJ6_unlink_65) ?_
      refine x_pq X (kJ10 hG) 0 (by decide) q444 (fun _ h => h) rfl none (x_nar _ (by decide)) (x_fit _ (by decide)) dJ6_unlink_66 hp26 (fun σ25 hp27 => ?_)
      refine x_pc (pc' := 69) rfl ?_
      refine x_up (pc' := 70) (fun _ _ _ _ _ L => lv_aload_n hx hb dJ6_unlink_69 rfl (lv_at L 3 rfl)) ?_
      refine x_up (pc' := 71) (fun _ _ _ _ _ L => lv_dup hx hb dJ6_unlink_70 rfl) ?_
      refine x_gi X (kJ6 hG) 1 (by decide) q255 (fun _ h => h) dJ6_unlink_71 hp27 (fun v26 hp28 => ?_)
      refine x_pc (pc' := 74) rfl ?_
      refine x_up (pc' := 75) (fun _ _ _ _ _ L => lv_iconst (v := (1 : Int32)) hx hb dJ6_unlink_74 (by decide)) ?_
      refine x_up (pc' := 76) (fun _ _ _ _ _ L => lv_isub hx hb dJ6_unlink_75) ?_
      refine x_pi X (kJ6 hG) 1 (by decide) q255 (fun _ h => h) rfl rfl rfl dJ6_unlink_76 hp28 (fun σ27 hp29 => ?_)
      refine x_pc (pc' := 79) rfl ?_
      refine x_up (pc' := 80) (fun _ _ _ _ _ L => lv_aload_n hx hb dJ6_unlink_79 rfl (lv_at L 3 rfl)) ?_
      refine x_up (pc' := 81) (fun _ _ _ _ _ L => lv_dup hx hb dJ6_unlink_80 rfl) ?_
      refine x_gi X (kJ6 hG) 0 (by decide) q237 (x_sameF (X.2.2.2.2.1 _ q233)) dJ6_unlink_81 hp29 (fun v28 hp30 => ?_)
      refine x_pc (pc' := 84) rfl ?_
      refine x_up (pc' := 85) (fun _ _ _ _ _ L => lv_iconst (v := (1 : Int32)) hx hb dJ6_unlink_84 (by decide)) ?_
      refine x_up (pc' := 86) (fun _ _ _ _ _ L => lv_iadd hx hb dJ6_unlink_85) ?_
      refine x_pi X (kJ6 hG) 0 (by decide) q237 (x_sameF (X.2.2.2.2.1 _ q233)) rfl rfl rfl dJ6_unlink_86 hp30 (fun σ29 hp31 => ?_)
      refine x_pc (pc' := 89) rfl ?_
      refine x_up (pc' := 90) (fun _ _ _ _ _ L => lv_aloadq_n hx hb dJ6_unlink_89 rfl (lv_at L 2 rfl)) ?_
      exact x_aret X hr (Or.inl ⟨_, rfl⟩) dJ6_unlink_90 v2 hp31
    · have hp32 := hp24.2 _ rfl
      refine x_up (pc' := 53) (fun _ _ _ _ _ L => lv_ifnonnull (tgt := 53) hx hb dJ6_unlink_41 (by decide)) ?_
      refine x_up (pc' := 54) (fun _ _ _ _ _ L => lv_aload_n hx hb dJ6_unlink_53 rfl (lv_at L 1 rfl)) ?_
      refine x_up (pc' := 56) (fun _ _ _ _ _ L => lv_aload hx hb dJ6_unlink_54 (lv_at L 0 rfl)) ?_
      refine x_pq X (kJ10 hG) 2 (by decide) q449 (fun _ h => h) rfl (some b5) (x_nar _ (by decide)) (x_fit _ (by decide)) dJ6_unlink_56 hp32 (fun σ30 hp33 => ?_)
      refine x_pc (pc' := 59) rfl ?_
      refine x_up (pc' := 60) (fun _ _ _ _ _ L => lv_aload_n hx hb dJ6_unlink_59 rfl (lv_at L 4 rfl)) ?_
      refine x_up (pc' := 61) (fun _ _ _ _ _ L => lv_null hx hb dJ6_unlink_60) ?_
      refine x_pq X (kJ10 hG) 1 (by decide) q447 (fun _ h => h) rfl none (x_nar _ (by decide)) (x_fit _ (by decide)) dJ6_unlink_61 hp33 (fun σ31 hp34 => ?_)
      refine x_pc (pc' := 64) rfl ?_
      refine x_up (pc' := 65) (fun _ _ _ _ _ L => lv_aload_n hx hb dJ6_unlink_64 rfl (lv_at L 4 rfl)) ?_
      refine x_up (pc' := 66) (fun _ _ _ _ _ L => lv_null hx hb dJ6_unlink_65) ?_
      refine x_pq X (kJ10 hG) 0 (by decide) q444 (fun _ h => h) rfl none (x_nar _ (by decide)) (x_fit _ (by decide)) dJ6_unlink_66 hp34 (fun σ32 hp35 => ?_)
      refine x_pc (pc' := 69) rfl ?_
      refine x_up (pc' := 70) (fun _ _ _ _ _ L => lv_aload_n hx hb dJ6_unlink_69 rfl (lv_at L 3 rfl)) ?_
      refine x_up (pc' := 71) (fun _ _ _ _ _ L => lv_dup hx hb dJ6_unlink_70 rfl) ?_
      refine x_gi X (kJ6 hG) 1 (by decide) q255 (fun _ h => h) dJ6_unlink_71 hp35 (fun v33 hp36 => ?_)
      refine x_pc (pc' := 74) rfl ?_
      refine x_up (pc' := 75) (fun _ _ _ _ _ L => lv_iconst (v := (1 : Int32)) hx hb dJ6_unlink_74 (by decide)) ?_
      refine x_up (pc' := 76) (fun _ _ _ _ _ L => lv_isub hx hb dJ6_unlink_75) ?_
      refine x_pi X (kJ6 hG) 1 (by decide) q255 (fun _ h => h) rfl rfl rfl dJ6_unlink_76 hp36 (fun σ34 hp37 => ?_)
      refine x_pc (pc' := 79) rfl ?_
      refine x_up (pc' := 80) (fun _ _ _ _ _ L => lv_aload_n hx hb dJ6_unlink_79 rfl (lv_at L 3 rfl)) ?_
      refine x_up (pc' := 81) (fun _ _ _ _ _ L => lv_dup hx hb dJ6_unlink_80 rfl) ?_
      refine x_gi X (kJ6 hG) 0 (by decide) q237 (x_sameF (X.2.2.2.2.1 _ q233)) dJ6_unlink_81 hp37 (fun v35 hp38 => ?_)
      refine x_pc (pc' := 84) rfl ?_
      refine x_up (pc' := 85) (fun _ _ _ _ _ L => lv_iconst (v := (1 : Int32)) hx hb dJ6_unlink_84 (by decide)) ?_
      refine x_up (pc' := 86) (fun _ _ _ _ _ L => lv_iadd hx hb dJ6_unlink_85) ?_
      refine x_pi X (kJ6 hG) 0 (by decide) q237 (x_sameF (X.2.2.2.2.1 _ q233)) rfl rfl rfl dJ6_unlink_86 hp38 (fun σ36 hp39 => ?_)
      refine x_pc (pc' := 89) rfl ?_
      refine x_up (pc' := 90) (fun _ _ _ _ _ L => lv_aloadq_n hx hb dJ6_unlink_89 rfl (lv_at L 2 rfl)) ?_
      exact x_aret X hr (Or.inl ⟨_, rfl⟩) dJ6_unlink_90 v2 hp39
-- J6_remove
def B_J6_remove_9 (κ : Nat → Nat) (K : Int32 → xH → Prop) (f0 : Nat) : ((Option Nat) → xS → Prop) → (Option Nat) → xS → Prop := fun self10003 w10001 σ10002 =>
  ((w10001 = none → (K (0 : Int32) σ10002.1)) ∧ (∀ b10004 : Nat, w10001 = some b10004 → (xgq σ10002 b10004 6 0 fun v10005 => ((v10005 = none → (xrc σ10002 f0 4 ∧ xcall (fun τ L => P_J6_unlink κ f0 (some b10004) τ L) σ10002 fun v10007 σ10008 => K (1 : Int32) σ10008.1)) ∧ (∀ b10006 : Nat, v10005 = some b10006 → (xgq σ10002 b10004 6 1 fun v10009 => self10003 v10009 σ10002))))))
def B_J6_remove_44 (κ : Nat → Nat) (K : Int32 → xH → Prop) (f0 : Nat) (f1 : Nat) : ((Option Nat) → xS → Prop) → (Option Nat) → xS → Prop := fun self45003 w45001 σ45002 =>
  ((w45001 = none → (K (0 : Int32) σ45002.1)) ∧ (∀ b45004 : Nat, w45001 = some b45004 → (xgq σ45002 b45004 6 0 fun v45005 => xrc σ45002 f1 14 ∧ xcall (fun τ L => P_J23_equals κ f1 v45005 τ L) σ45002 fun v45006 σ45007 => ((v45006 = 0 → (xgq σ45007 b45004 6 1 fun v45008 => self45003 v45008 σ45007)) ∧ (¬ v45006 = 0 → (xrc σ45007 f0 4 ∧ xcall (fun τ L => P_J6_unlink κ f0 (some b45004) τ L) σ45007 fun v45009 σ45010 => K (1 : Int32) σ45010.1))))))
def P_J6_remove (κ : Nat → Nat) (a0 : Nat) (x1 : Option Nat) (σ : xS) (K : Int32 → xH → Prop) : Prop :=
  ((x1 = none → (xgq σ a0 4 2 fun v2 => xwhile (B_J6_remove_9 κ K a0) v2 σ)) ∧ (∀ b1 : Nat, x1 = some b1 → (xgq σ a0 4 2 fun v3 => xwhile (B_J6_remove_44 κ K a0 b1) v3 σ)))
theorem mdJ6_remove : yJ6_remove.cls ≠ "java/lang/invoke/MethodHandle" ∧ yJ6_remove.cls ≠ "java/lang/invoke/VarHandle" ∧ (parseMethodDescriptor yJ6_remove.desc).map (fun d => d.parameters.length) = some 1 := by decide +kernel
set_option maxHeartbeats 4000000 in
set_option maxRecDepth 100000 in
theorem R_J6_remove (l : Launch) (hl : l.stackTraces = false) (G : xG) (hG : G.1.2 = x_cl) (a0 : Nat) (x1 : Option Nat) (σ : xS) (K : Int32 → xH → Prop) (hp : P_J6_remove G.2 a0 x1 σ K) : xM l yJ6_remove cJ6_remove 3 (Option.some Jvm.ClassFile.FieldType.boolean) 2 41 G [(.ref a0), va_rf x1] σ (xlift emI K) := by
  refine x_entry (by decide) (by simp [lg_sl, x_catq, x_cati, x_catr, x_catn]) ?_
  intro p e s m args below meth c X hr hin
  have X : xX p s m args meth c G cJ6_remove 3 RJ6 := X
  have hx := X.1
  have hb := X.2.1
  have hts := X.2.2.2.2.1
  have hown := X.2.2.2.1
  unfold P_J6_remove at hp
  refine x_same (lo' := [(0, .ref a0), (1, va_rf x1)]) (by simp [lv_args, x_catq, x_cati, x_catr, x_catn]) ?_
  refine x_up (pc' := 1) (fun _ _ _ _ _ L => lv_aloadq_n hx hb dJ6_remove_0 rfl (lv_at L 1 rfl)) ?_
  rcases x1 with _ | b1
  · have hp1 := hp.1 rfl
    refine x_up (pc' := 4) (fun _ _ _ _ _ L => lv_ifnonnullN hx hb dJ6_remove_1) ?_
    refine x_up (pc' := 5) (fun _ _ _ _ _ L => lv_aload_n hx hb dJ6_remove_4 rfl (lv_at L 0 rfl)) ?_
    refine x_gq X (kJ6 hG) 2 (by decide) q257 (fun _ h => h) dJ6_remove_5 hp1 (fun v2 hp2 => ?_)
    refine x_pc (pc' := 8) rfl ?_
    refine x_upL (pc' := 9) (lo' := [(2, va_rf v2), (0, .ref a0), (1, .null)]) (fun _ _ _ _ _ L => lv_astoreq_n hx hb dJ6_remove_8 rfl L (by decide) rfl) ?_
    refine x_lo (lo' := [(2, va_rf v2), (0, .ref a0)]) [0, 1] rfl ?_
    refine x_while (v0 := v2) (fun w3 => [(2, va_rf w3), (0, .ref a0)]) hp2 (fun self4 hself5 => ?_)
    rintro y7 σ6 hp3
    unfold B_J6_remove_9 at hp3
    refine x_same (lo' := [(2, va_rf y7), (0, .ref a0)]) rfl ?_
    refine x_up (pc' := 10) (fun _ _ _ _ _ L => lv_aloadq_n hx hb dJ6_remove_9 rfl (lv_at L 0 rfl)) ?_
    rcases y7 with _ | b8
    · have hp4 := hp3.1 rfl
      refine x_up (pc' := 36) (fun _ _ _ _ _ L => lv_ifnullN (tgt := 36) hx hb dJ6_remove_10 (by decide)) ?_
      refine x_up (pc' := 75) (fun _ _ _ _ _ L => lv_goto (tgt := 75) hx hb dJ6_remove_36 (by decide)) ?_
      refine x_up (pc' := 76) (fun _ _ _ _ _ L => lv_iconst (v := (0 : Int32)) hx hb dJ6_remove_75 (by decide)) ?_
      exact x_iret X hr rfl dJ6_remove_76 hp4
    · have hp5 := hp3.2 _ rfl
      refine x_up (pc' := 13) (fun _ _ _ _ _ L => lv_ifnull hx hb dJ6_remove_10) ?_
      refine x_up (pc' := 14) (fun _ _ _ _ _ L => lv_aload_n hx hb dJ6_remove_13 rfl (lv_at L 0 rfl)) ?_
      refine x_gq X (kJ10 hG) 0 (by decide) q444 (fun _ h => h) dJ6_remove_14 hp5 (fun v9 hp6 => ?_)
      refine x_pc (pc' := 17) rfl ?_
      rcases v9 with _ | b10
      · have hp7 := hp6.1 rfl
        refine x_up (pc' := 20) (fun _ _ _ _ _ L => lv_ifnonnullN hx hb dJ6_remove_17) ?_
        refine x_up (pc' := 21) (fun _ _ _ _ _ L => lv_aload_n hx hb dJ6_remove_20 rfl (lv_at L 1 rfl)) ?_
        refine x_up (pc' := 22) (fun _ _ _ _ _ L => lv_aload_n hx hb dJ6_remove_21 rfl (lv_at L 0 rfl)) ?_
        refine x_callV (em := emQ) (fun r st => va_rf r :: st) (fun _ _ => rfl) 1 X (kJ6 hG) (fun σ' KK h => R_J6_unlink l hl G hG a0 (some b8) σ' KK h) (lw_V q2481 q2482 q2483 q107 q2484) ⟨rfl, mdJ6_unlink⟩ ⟨Nat.le_of_ble_eq_true rfl, Nat.le_of_ble_eq_true rfl⟩ rfl rfl (Nat.le_of_ble_eq_true rfl) dJ6_remove_22 hp7.1 hp7.2 (fun v11 σ12 hp8 => ?_)
        refine x_pc (pc' := 25) rfl ?_
        refine x_up (pc' := 26) (fun _ _ _ _ _ L => lv_pop hx hb dJ6_remove_25 (x_catq _)) ?_
        refine x_up (pc' := 27) (fun _ _ _ _ _ L => lv_iconst (v := (1 : Int32)) hx hb dJ6_remove_26 (by decide)) ?_
        exact x_iret X hr rfl dJ6_remove_27 hp8
      · have hp9 := hp6.2 _ rfl
        refine x_up (pc' := 28) (fun _ _ _ _ _ L => lv_ifnonnull (tgt := 28) hx hb dJ6_remove_17 (by decide)) ?_
        refine x_up (pc' := 29) (fun _ _ _ _ _ L => lv_aload_n hx hb dJ6_remove_28 rfl (lv_at L 0 rfl)) ?_
        refine x_gq X (kJ10 hG) 1 (by decide) q447 (fun _ h => h) dJ6_remove_29 hp9 (fun v13 hp10 => ?_)
        refine x_pc (pc' := 32) rfl ?_
        refine x_upL (pc' := 33) (lo' := [(2, va_rf v13), (0, .ref a0)]) (fun _ _ _ _ _ L => lv_astoreq_n hx hb dJ6_remove_32 rfl L (by decide) rfl) ?_
        refine x_up (pc' := 9) (fun _ _ _ _ _ L => lv_goto (tgt := 9) hx hb dJ6_remove_33 (by decide)) ?_
        refine x_lo (lo' := [(2, va_rf v13), (0, .ref a0)]) [0, 1] rfl ?_
        exact hself5 v13 σ6 hp10
  · have hp11 := hp.2 _ rfl
    refine x_up (pc' := 39) (fun _ _ _ _ _ L => lv_ifnonnull (tgt := 39) hx hb dJ6_remove_1 (by decide)) ?_
    refine x_up (pc' := 40) (fun _ _ _ _ _ L => lv_aload_n hx hb dJ6_remove_39 rfl (lv_at L 0 rfl)) ?_
    refine x_gq X (kJ6 hG) 2 (by decide) q257 (fun _ h => h) dJ6_remove_40 hp11 (fun v14 hp12 => ?_)
    refine x_pc (pc' := 43) rfl ?_
    refine x_upL (pc' := 44) (lo' := [(2, va_rf v14), (0, .ref a0), (1, .ref b1)]) (fun _ _ _ _ _ L => lv_astoreq_n hx hb dJ6_remove_43 rfl L (by decide) rfl) ?_
    refine x_lo (lo' := [(2, va_rf v14), (0, .ref a0), (1, .ref b1)]) [0, 1, 2] rfl ?_
    refine x_while (v0 := v14) (fun w15 => [(2, va_rf w15), (0, .ref a0), (1, .ref b1)]) hp12 (fun self16 hself17 => ?_)
    rintro y19 σ18 hp13
    unfold B_J6_remove_44 at hp13
    refine x_same (lo' := [(2, va_rf y19), (0, .ref a0), (1, .ref b1)]) rfl ?_
    refine x_up (pc' := 45) (fun _ _ _ _ _ L => lv_aloadq_n hx hb dJ6_remove_44 rfl (lv_at L 0 rfl)) ?_
    rcases y19 with _ | b20
    · have hp14 := hp13.1 rfl
      refine x_up (pc' := 75) (fun _ _ _ _ _ L => lv_ifnullN (tgt := 75) hx hb dJ6_remove_45 (by decide)) ?_
      refine x_up (pc' := 76) (fun _ _ _ _ _ L => lv_iconst (v := (0 : Int32)) hx hb dJ6_remove_75 (by decide)) ?_
      exact x_iret X hr rfl dJ6_remove_76 hp14
    · have hp15 := hp13.2 _ rfl
      refine x_up (pc' := 48) (fun _ _ _ _ _ L => lv_ifnull hx hb dJ6_remove_45) ?_
      refine x_up (pc' := 49) (fun _ _ _ _ _ L => lv_aload_n hx hb dJ6_remove_48 rfl (lv_at L 2 rfl)) ?_
      refine x_up (pc' := 50) (fun _ _ _ _ _ L => lv_aload_n hx hb dJ6_remove_49 rfl (lv_at L 0 rfl)) ?_
      refine x_gq X (kJ10 hG) 0 (by decide) q444 (fun _ h => h) dJ6_remove_50 hp15 (fun v21 hp16 => ?_)
      refine x_pc (pc' := 53) rfl ?_
      refine x_callO (x := ⟨"java/lang/Object", "equals", "(Ljava/lang/Object;)Z"⟩) (owner := "java/lang/Object") (em := emI) (fun r st => .int r :: st) (fun _ _ => rfl) 1 X (kJ23 hG) (fun σ' KK h => R_J23_equals l hl G hG b1 v21 σ' KK h) (hts _ q2447) (hts _ q650) (x_dcl X q647) (hts _ q670) q671 q128 q672 (by decide +kernel) ⟨Nat.le_of_ble_eq_true rfl, Nat.le_of_ble_eq_true rfl⟩ rfl rfl (Nat.le_of_ble_eq_true rfl) dJ6_remove_53 hp16.1 hp16.2 (fun v22 σ23 hp17 => ?_)
      refine x_pc (pc' := 56) rfl ?_
      refine x_if (C := v22 = 0) (pt := 67) (pc' := 59) (fun _ _ _ _ _ => lv_if_eq (tgt := 67) hx hb dJ6_remove_56 (by decide)) (fun c56 => ?_) (fun c56 => ?_)
      · have hp18 := hp17.1 c56
        refine x_up (pc' := 68) (fun _ _ _ _ _ L => lv_aload_n hx hb dJ6_remove_67 rfl (lv_at L 0 rfl)) ?_
        refine x_gq X (kJ10 hG) 1 (by decide) q447 (fun _ h => h) dJ6_remove_68 hp18 (fun v24 hp19 => ?_)
        refine x_pc (pc' := 71) rfl ?_
        refine x_upL (pc' := 72) (lo' := [(2, va_rf v24), (0, .ref a0), (1, .ref b1)]) (fun _ _ _ _ _ L => lv_astoreq_n hx hb dJ6_remove_71 rfl L (by decide) rfl) ?_
        refine x_up (pc' := 44) (fun _ _ _ _ _ L => lv_goto (tgt := 44) hx hb dJ6_remove_72 (by decide)) ?_
        refine x_lo (lo' := [(2, va_rf v24), (0, .ref a0), (1, .ref b1)]) [0, 1, 2] rfl ?_
        exact hself17 v24 σ23 hp19
      · have hp20 := hp17.2 c56
        refine x_up (pc' := 60) (fun _ _ _ _ _ L => lv_aload_n hx hb dJ6_remove_59 rfl (lv_at L 1 rfl)) ?_
        refine x_up (pc' := 61) (fun _ _ _ _ _ L => lv_aload_n hx hb dJ6_remove_60 rfl (lv_at L 0 rfl)) ?_
        refine x_callV (em := emQ) (fun r st => va_rf r :: st) (fun _ _ => rfl) 1 X (kJ6 hG) (fun σ' KK h => R_J6_unlink l hl G hG a0 (some b20) σ' KK h) (lw_V q2481 q2482 q2483 q107 q2484) ⟨rfl, mdJ6_unlink⟩ ⟨Nat.le_of_ble_eq_true rfl, Nat.le_of_ble_eq_true rfl⟩ rfl rfl (Nat.le_of_ble_eq_true rfl) dJ6_remove_61 hp20.1 hp20.2 (fun v25 σ26 hp21 => ?_)
        refine x_pc (pc' := 64) rfl ?_
        refine x_up (pc' := 65) (fun _ _ _ _ _ L => lv_pop hx hb dJ6_remove_64 (x_catq _)) ?_
        refine x_up (pc' := 66) (fun _ _ _ _ _ L => lv_iconst (v := (1 : Int32)) hx hb dJ6_remove_65 (by decide)) ?_
        exact x_iret X hr rfl dJ6_remove_66 hp21
-- J6_linkFirst
def P_J6_linkFirst (κ : Nat → Nat) (a0 : Nat) (x1 : Option Nat) (σ : xS) (K : Unit → xH → Prop) : Prop :=
  xgq σ a0 4 2 fun v1 => xnew κ σ 6 3 [va_rf none, va_rf none, va_rf none] fun q2 σ3 => xcall (fun τ L => P_J10_init κ q2 none x1 v1 τ L) σ3 fun _ σ4 => xpq κ σ4 a0 4 2 (some q2) fun σ5 => ((v1 = none → (xpq κ σ5 a0 4 3 (some q2) fun σ7 => xgi σ7 a0 4 1 fun v8 => xpi κ σ7 a0 4 1 (v8 + (1 : Int32)) fun σ9 => xgi σ9 a0 4 0 fun v10 => xpi κ σ9 a0 4 0 (v10 + (1 : Int32)) fun σ11 => K () σ11.1)) ∧ (∀ b6 : Nat, v1 = some b6 → (xpq κ σ5 b6 6 2 (some q2) fun σ12 => xgi σ12 a0 4 1 fun v13 => xpi κ σ12 a0 4 1 (v13 + (1 : Int32)) fun σ14 => xgi σ14 a0 4 0 fun v15 => xpi κ σ14 a0 4 0 (v15 + (1 : Int32)) fun σ16 => K () σ16.1)))
theorem mdJ6_linkFirst : yJ6_linkFirst.cls ≠ "java/lang/invoke/MethodHandle" ∧ yJ6_linkFirst.cls ≠ "java/lang/invoke/VarHandle" ∧ (parseMethodDescriptor yJ6_linkFirst.desc).map (fun d => d.parameters.length) = some 1 := by decide +kernel
set_option maxHeartbeats 4000000 in
set_option maxRecDepth 100000 in
theorem R_J6_linkFirst (l : Launch) (hl : l.stackTraces = false) (G : xG) (hG : G.1.2 = x_cl) (a0 : Nat) (x1 : Option Nat) (σ : xS) (K : Unit → xH → Prop) (hp : P_J6_linkFirst G.2 a0 x1 σ K) : xM l yJ6_linkFirst cJ6_linkFirst 4 (Option.none : Option Jvm.ClassFile.FieldType) 2 43 G [(.ref a0), va_rf x1] σ (xlift emV K) := by
  refine x_entry (by decide) (by simp [lg_sl, x_catq, x_cati, x_catr, x_catn]) ?_
  intro p e s m args below meth c X hr hin
  have X : xX p s m args meth c G cJ6_linkFirst 4 RJ6 := X
  have hx := X.1
  have hb := X.2.1
  have hts := X.2.2.2.2.1
  have hown := X.2.2.2.1
  unfold P_J6_linkFirst at hp
  refine x_same (lo' := [(0, .ref a0), (1, va_rf x1)]) (by simp [lv_args, x_catq, x_cati, x_catr, x_catn]) ?_
  refine x_up (pc' := 1) (fun _ _ _ _ _ L => lv_aload_n hx hb dJ6_linkFirst_0 rfl (lv_at L 0 rfl)) ?_
  refine x_gq X (kJ6 hG) 2 (by decide) q257 (fun _ h => h) dJ6_linkFirst_1 hp (fun v1 hp1 => ?_)
  refine x_pc (pc' := 4) rfl ?_
  refine x_st (pc' := 5) ([(2, va_rf v1), (0, .ref a0), (1, va_rf x1)]) rfl (by simp [x_catq, x_cati, x_catr, x_catn]) (fun _ _ _ _ _ L => lv_astoreq_n hx hb dJ6_linkFirst_4 rfl L (by decide) rfl) ?_
  refine x_new X (kJ10 hG) q436 q437 q113 (fs := [va_rf none, va_rf none, va_rf none]) x_dflt_J10 dJ6_linkFirst_5 hp1 (fun q2 σ3 hp2 => ?_)
  refine x_pc (pc' := 8) rfl ?_
  refine x_up (pc' := 9) (fun _ _ _ _ _ L => lv_dup hx hb dJ6_linkFirst_8 rfl) ?_
  refine x_up (pc' := 10) (fun _ _ _ _ _ L => lv_null hx hb dJ6_linkFirst_9) ?_
  refine x_up (pc' := 11) (fun _ _ _ _ _ L => lv_aloadq_n hx hb dJ6_linkFirst_10 rfl (lv_at L 2 rfl)) ?_
  refine x_up (pc' := 12) (fun _ _ _ _ _ L => lv_aloadq_n hx hb dJ6_linkFirst_11 rfl (lv_at L 0 rfl)) ?_
  refine x_callI 3 X (fun σ' KK h => R_J10_init l hl G hG q2 none x1 v1 σ' KK h) (lw_meth q440) q113 q438 q439 rfl mdJ10_init ⟨Nat.le_of_ble_eq_true rfl, Nat.le_of_ble_eq_true rfl⟩ rfl rfl (Nat.le_of_ble_eq_true rfl) dJ6_linkFirst_12 hp2 (fun σ4 hp3 => ?_)
  refine x_pc (pc' := 15) rfl ?_
  refine x_st (pc' := 16) ([(3, .ref q2), (2, va_rf v1), (0, .ref a0), (1, va_rf x1)]) rfl (by simp [x_catq, x_cati, x_catr, x_catn]) (fun _ _ _ _ _ L => lv_astore_n hx hb dJ6_linkFirst_15 rfl L (by decide) rfl) ?_
  refine x_up (pc' := 17) (fun _ _ _ _ _ L => lv_aload_n hx hb dJ6_linkFirst_16 rfl (lv_at L 2 rfl)) ?_
  refine x_up (pc' := 18) (fun _ _ _ _ _ L => lv_aload_n hx hb dJ6_linkFirst_17 rfl (lv_at L 0 rfl)) ?_
  refine x_pq X (kJ6 hG) 2 (by decide) q257 (fun _ h => h) rfl (some q2) (x_nar _ (by decide)) (x_fit _ (by decide)) dJ6_linkFirst_18 hp3 (fun σ5 hp4 => ?_)
  refine x_pc (pc' := 21) rfl ?_
  refine x_up (pc' := 22) (fun _ _ _ _ _ L => lv_aloadq_n hx hb dJ6_linkFirst_21 rfl (lv_at L 1 rfl)) ?_
  rcases v1 with _ | b6
  · have hp5 := hp4.1 rfl
    refine x_up (pc' := 25) (fun _ _ _ _ _ L => lv_ifnonnullN hx hb dJ6_linkFirst_22) ?_
    refine x_up (pc' := 26) (fun _ _ _ _ _ L => lv_aload_n hx hb dJ6_linkFirst_25 rfl (lv_at L 2 rfl)) ?_
    refine x_up (pc' := 27) (fun _ _ _ _ _ L => lv_aload_n hx hb dJ6_linkFirst_26 rfl (lv_at L 0 rfl)) ?_
    refine x_pq X (kJ6 hG) 3 (by decide) q258 (fun _ h => h) rfl (some q2) (x_nar _ (by decide)) (x_fit _ (by decide)) dJ6_linkFirst_27 hp5 (fun σ7 hp6 => ?_)
    refine x_pc (pc' := 30) rfl ?_
    refine x_up (pc' := 38) (fun _ _ _ _ _ L => lv_goto (tgt := 38) hx hb dJ6_linkFirst_30 (by decide)) ?_
    refine x_up (pc' := 39) (fun _ _ _ _ _ L => lv_aload_n hx hb dJ6_linkFirst_38 rfl (lv_at L 2 rfl)) ?_
    refine x_up (pc' := 40) (fun _ _ _ _ _ L => lv_dup hx hb dJ6_linkFirst_39 rfl) ?_
    refine x_gi X (kJ6 hG) 1 (by decide) q255 (fun _ h => h) dJ6_linkFirst_40 hp6 (fun v8 hp7 => ?_)
    refine x_pc (pc' := 43) rfl ?_
    refine x_up (pc' := 44) (fun _ _ _ _ _ L => lv_iconst (v := (1 : Int32)) hx hb dJ6_linkFirst_43 (by decide)) ?_
    refine x_up (pc' := 45) (fun _ _ _ _ _ L => lv_iadd hx hb dJ6_linkFirst_44) ?_
    refine x_pi X (kJ6 hG) 1 (by decide) q255 (fun _ h => h) rfl rfl rfl dJ6_linkFirst_45 hp7 (fun σ9 hp8 => ?_)
    refine x_pc (pc' := 48) rfl ?_
    refine x_up (pc' := 49) (fun _ _ _ _ _ L => lv_aload_n hx hb dJ6_linkFirst_48 rfl (lv_at L 2 rfl)) ?_
    refine x_up (pc' := 50) (fun _ _ _ _ _ L => lv_dup hx hb dJ6_linkFirst_49 rfl) ?_
    refine x_gi X (kJ6 hG) 0 (by decide) q237 (x_sameF (X.2.2.2.2.1 _ q233)) dJ6_linkFirst_50 hp8 (fun v10 hp9 => ?_)
    refine x_pc (pc' := 53) rfl ?_
    refine x_up (pc' := 54) (fun _ _ _ _ _ L => lv_iconst (v := (1 : Int32)) hx hb dJ6_linkFirst_53 (by decide)) ?_
    refine x_up (pc' := 55) (fun _ _ _ _ _ L => lv_iadd hx hb dJ6_linkFirst_54) ?_
    refine x_pi X (kJ6 hG) 0 (by decide) q237 (x_sameF (X.2.2.2.2.1 _ q233)) rfl rfl rfl dJ6_linkFirst_55 hp9 (fun σ11 hp10 => ?_)
    refine x_pc (pc' := 58) rfl ?_
    exact x_vret X hr dJ6_linkFirst_58 hp10
  · have hp11 := hp4.2 _ rfl
    refine x_up (pc' := 33) (fun _ _ _ _ _ L => lv_ifnonnull (tgt := 33) hx hb dJ6_linkFirst_22 (by decide)) ?_
    refine x_up (pc' := 34) (fun _ _ _ _ _ L => lv_aload_n hx hb dJ6_linkFirst_33 rfl (lv_at L 1 rfl)) ?_
    refine x_up (pc' := 35) (fun _ _ _ _ _ L => lv_aload_n hx hb dJ6_linkFirst_34 rfl (lv_at L 0 rfl)) ?_
    refine x_pq X (kJ10 hG) 2 (by decide) q449 (fun _ h => h) rfl (some q2) (x_nar _ (by decide)) (x_fit _ (by decide)) dJ6_linkFirst_35 hp11 (fun σ12 hp12 => ?_)
    refine x_pc (pc' := 38) rfl ?_
    refine x_up (pc' := 39) (fun _ _ _ _ _ L => lv_aload_n hx hb dJ6_linkFirst_38 rfl (lv_at L 2 rfl)) ?_
    refine x_up (pc' := 40) (fun _ _ _ _ _ L => lv_dup hx hb dJ6_linkFirst_39 rfl) ?_
    refine x_gi X (kJ6 hG) 1 (by decide) q255 (fun _ h => h) dJ6_linkFirst_40 hp12 (fun v13 hp13 => ?_)
    refine x_pc (pc' := 43) rfl ?_
    refine x_up (pc' := 44) (fun _ _ _ _ _ L => lv_iconst (v := (1 : Int32)) hx hb dJ6_linkFirst_43 (by decide)) ?_
    refine x_up (pc' := 45) (fun _ _ _ _ _ L => lv_iadd hx hb dJ6_linkFirst_44) ?_
    refine x_pi X (kJ6 hG) 1 (by decide) q255 (fun _ h => h) rfl rfl rfl dJ6_linkFirst_45 hp13 (fun σ14 hp14 => ?_)
    refine x_pc (pc' := 48) rfl ?_
    refine x_up (pc' := 49) (fun _ _ _ _ _ L => lv_aload_n hx hb dJ6_linkFirst_48 rfl (lv_at L 2 rfl)) ?_
    refine x_up (pc' := 50) (fun _ _ _ _ _ L => lv_dup hx hb dJ6_linkFirst_49 rfl) ?_
    refine x_gi X (kJ6 hG) 0 (by decide) q237 (x_sameF (X.2.2.2.2.1 _ q233)) dJ6_linkFirst_50 hp14 (fun v15 hp15 => ?_)
    refine x_pc (pc' := 53) rfl ?_
    refine x_up (pc' := 54) (fun _ _ _ _ _ L => lv_iconst (v := (1 : Int32)) hx hb dJ6_linkFirst_53 (by decide)) ?_
    refine x_up (pc' := 55) (fun _ _ _ _ _ L => lv_iadd hx hb dJ6_linkFirst_54) ?_
    refine x_pi X (kJ6 hG) 0 (by decide) q237 (x_sameF (X.2.2.2.2.1 _ q233)) rfl rfl rfl dJ6_linkFirst_55 hp15 (fun σ16 hp16 => ?_)
    refine x_pc (pc' := 58) rfl ?_
    exact x_vret X hr dJ6_linkFirst_58 hp16
-- J6_addFirst
def P_J6_addFirst (κ : Nat → Nat) (a0 : Nat) (x1 : Option Nat) (σ : xS) (K : Unit → xH → Prop) : Prop :=
  xrc σ a0 4 ∧ xcall (fun τ L => P_J6_linkFirst κ a0 x1 τ L) σ fun _ σ1 => K () σ1.1
theorem mdJ6_addFirst : yJ6_addFirst.cls ≠ "java/lang/invoke/MethodHandle" ∧ yJ6_addFirst.cls ≠ "java/lang/invoke/VarHandle" ∧ (parseMethodDescriptor yJ6_addFirst.desc).map (fun d => d.parameters.length) = some 1 := by decide +kernel
set_option maxHeartbeats 4000000 in
set_option maxRecDepth 100000 in
theorem R_J6_addFirst (l : Launch) (hl : l.stackTraces = false) (G : xG) (hG : G.1.2 = x_cl) (a0 : Nat) (x1 : Option Nat) (σ : xS) (K : Unit → xH → Prop) (hp : P_J6_addFirst G.2 a0 x1 σ K) : xM l yJ6_addFirst cJ6_addFirst 2 (Option.none : Option Jvm.ClassFile.FieldType) 3 66 G [(.ref a0), va_rf x1] σ (xlift emV K) := by
  refine x_entry (by decide) (by simp [lg_sl, x_catq, x_cati, x_catr, x_catn]) ?_
  intro p e s m args below meth c X hr hin
  have X : xX p s m args meth c G cJ6_addFirst 2 RJ6 := X
  have hx := X.1
  have hb := X.2.1
  have hts := X.2.2.2.2.1
  have hown := X.2.2.2.1
  unfold P_J6_addFirst at hp
  refine x_same (lo' := [(0, .ref a0), (1, va_rf x1)]) (by simp [lv_args, x_catq, x_cati, x_catr, x_catn]) ?_
  refine x_up (pc' := 1) (fun _ _ _ _ _ L => lv_aload_n hx hb dJ6_addFirst_0 rfl (lv_at L 0 rfl)) ?_
  refine x_up (pc' := 2) (fun _ _ _ _ _ L => lv_aloadq_n hx hb dJ6_addFirst_1 rfl (lv_at L 1 rfl)) ?_
  refine x_callV (em := emV) (fun r st => st) (fun _ _ => rfl) 1 X (kJ6 hG) (fun σ' KK h => R_J6_linkFirst l hl G hG a0 x1 σ' KK h) (lw_V q2489 q2491 qs36 q107 q2492) ⟨rfl, mdJ6_linkFirst⟩ ⟨Nat.le_of_ble_eq_true rfl, Nat.le_of_ble_eq_true rfl⟩ rfl rfl (Nat.le_of_ble_eq_true rfl) dJ6_addFirst_2 hp.1 hp.2 (fun _ σ1 hp1 => ?_)
  refine x_pc (pc' := 5) rfl ?_
  exact x_vret X hr dJ6_addFirst_5 hp1
-- X2_counts
def P_X2_counts (κ : Nat → Nat) (a0 : Nat) (x1 : Int32) (σ : xS) (K : Unit → xH → Prop) : Prop :=
  xgq σ a0 1 3 fun v1 => xcall (fun τ L => P_J23_valueOf κ x1 τ L) σ fun v2 σ3 => xnn v1 fun b4 => xrc σ3 b4 4 ∧ xcall (fun τ L => P_J6_remove κ b4 v2 τ L) σ3 fun v5 σ6 => xgq σ6 a0 1 3 fun v7 => xcall (fun τ L => P_J23_valueOf κ x1 τ L) σ6 fun v8 σ9 => xnn v7 fun b10 => xrc σ9 b10 4 ∧ xcall (fun τ L => P_J6_addFirst κ b10 v8 τ L) σ9 fun _ σ11 => xgq σ11 a0 1 5 fun v12 => xnn v12 fun b13 => xai .int σ11 b13 x1 fun v14 => xsi κ .int σ11 b13 x1 (v14 + (1 : Int32)) fun σ15 => K () σ15.1
theorem mdX2_counts : yX2_counts.cls ≠ "java/lang/invoke/MethodHandle" ∧ yX2_counts.cls ≠ "java/lang/invoke/VarHandle" ∧ (parseMethodDescriptor yX2_counts.desc).map (fun d => d.parameters.length) = some 1 := by decide +kernel
set_option maxHeartbeats 4000000 in
set_option maxRecDepth 100000 in
theorem R_X2_counts (l : Launch) (hl : l.stackTraces = false) (G : xG) (hG : G.1.2 = x_cl) (a0 : Nat) (x1 : Int32) (σ : xS) (K : Unit → xH → Prop) (hp : P_X2_counts G.2 a0 x1 σ K) : xM l yX2_counts cX2_counts 2 (Option.none : Option Jvm.ClassFile.FieldType) 4 87 G [(.ref a0), .int x1] σ (xlift emV K) := by
  refine x_entry (by decide) (Nat.le_of_ble_eq_true rfl) ?_
  intro p e s m args below meth c X hr hin
  have X : xX p s m args meth c G cX2_counts 2 RX2 := X
  have hx := X.1
  have hb := X.2.1
  have hts := X.2.2.2.2.1
  have hown := X.2.2.2.1
  unfold P_X2_counts at hp
  refine x_same (lo' := [(0, .ref a0), (1, .int x1)]) rfl ?_
  refine x_up (pc' := 1) (fun _ _ _ _ _ L => lv_aload_n hx hb dX2_counts_0 rfl (lv_at L 0 rfl)) ?_
  refine x_gq X (kX2 hG) 3 (by decide) q464 (fun _ h => h) dX2_counts_1 hp (fun v1 hp1 => ?_)
  refine x_pc (pc' := 4) rfl ?_
  refine x_up (pc' := 5) (fun _ _ _ _ _ L => lv_iload_n hx hb dX2_counts_4 rfl (lv_at L 1 rfl)) ?_
  refine x_callS (em := emQ) (fun r st => va_rf r :: st) (fun _ _ => rfl) 1 X (fun σ' KK h => R_J23_valueOf l hl G hG x1 σ' KK h) (lw_S q2424 q2425 q128 q2426) mdJ23_valueOf ⟨Nat.le_of_ble_eq_true rfl, Nat.le_of_ble_eq_true rfl⟩ rfl rfl (by simp only [List.map_cons, List.map_nil, List.sum_cons, List.sum_nil, x_catq, x_cati, x_catr, x_catn] <;> decide) dX2_counts_5 hp1 (fun v2 σ3 hp2 => ?_)
  refine x_pc (pc' := 8) rfl ?_
  obtain ⟨b4, rfl, hp3⟩ := hp2
  refine x_callV (em := emI) (fun r st => .int r :: st) (fun _ _ => rfl) 1 X (kJ6 hG) (fun σ' KK h => R_J6_remove l hl G hG b4 v2 σ' KK h) (lw_V q2477 q2478 q2479 q107 q2480) ⟨rfl, mdJ6_remove⟩ ⟨Nat.le_of_ble_eq_true rfl, Nat.le_of_ble_eq_true rfl⟩ rfl rfl (Nat.le_of_ble_eq_true rfl) dX2_counts_8 hp3.1 hp3.2 (fun v5 σ6 hp4 => ?_)
  refine x_pc (pc' := 11) rfl ?_
  refine x_up (pc' := 12) (fun _ _ _ _ _ L => lv_pop hx hb dX2_counts_11 rfl) ?_
  refine x_up (pc' := 13) (fun _ _ _ _ _ L => lv_aload_n hx hb dX2_counts_12 rfl (lv_at L 0 rfl)) ?_
  refine x_gq X (kX2 hG) 3 (by decide) q464 (fun _ h => h) dX2_counts_13 hp4 (fun v7 hp5 => ?_)
  refine x_pc (pc' := 16) rfl ?_
  refine x_up (pc' := 17) (fun _ _ _ _ _ L => lv_iload_n hx hb dX2_counts_16 rfl (lv_at L 1 rfl)) ?_
  refine x_callS (em := emQ) (fun r st => va_rf r :: st) (fun _ _ => rfl) 1 X (fun σ' KK h => R_J23_valueOf l hl G hG x1 σ' KK h) (lw_S q2424 q2425 q128 q2426) mdJ23_valueOf ⟨Nat.le_of_ble_eq_true rfl, Nat.le_of_ble_eq_true rfl⟩ rfl rfl (by simp only [List.map_cons, List.map_nil, List.sum_cons, List.sum_nil, x_catq, x_cati, x_catr, x_catn] <;> decide) dX2_counts_17 hp5 (fun v8 σ9 hp6 => ?_)
  refine x_pc (pc' := 20) rfl ?_
  obtain ⟨b10, rfl, hp7⟩ := hp6
  refine x_callV (em := emV) (fun r st => st) (fun _ _ => rfl) 1 X (kJ6 hG) (fun σ' KK h => R_J6_addFirst l hl G hG b10 v8 σ' KK h) (lw_V q2485 q2486 q2487 q107 q2488) ⟨rfl, mdJ6_addFirst⟩ ⟨Nat.le_of_ble_eq_true rfl, Nat.le_of_ble_eq_true rfl⟩ rfl rfl (Nat.le_of_ble_eq_true rfl) dX2_counts_20 hp7.1 hp7.2 (fun _ σ11 hp8 => ?_)
  refine x_pc (pc' := 23) rfl ?_
  refine x_up (pc' := 24) (fun _ _ _ _ _ L => lv_aload_n hx hb dX2_counts_23 rfl (lv_at L 0 rfl)) ?_
  refine x_gq X (kX2 hG) 5 (by decide) q468 (fun _ h => h) dX2_counts_24 hp8 (fun v12 hp9 => ?_)
  refine x_pc (pc' := 27) rfl ?_
  refine x_up (pc' := 28) (fun _ _ _ _ _ L => lv_iload_n hx hb dX2_counts_27 rfl (lv_at L 1 rfl)) ?_
  refine x_up (pc' := 29) (fun _ _ _ _ _ L => lv_dup2_11 hx hb dX2_counts_28 rfl (x_catq _)) ?_
  obtain ⟨b13, rfl, hp10⟩ := hp9
  refine x_iald X dX2_counts_29 hp10 (fun v14 hp11 => ?_)
  refine x_pc (pc' := 30) rfl ?_
  refine x_up (pc' := 31) (fun _ _ _ _ _ L => lv_iconst (v := (1 : Int32)) hx hb dX2_counts_30 (by decide)) ?_
  refine x_up (pc' := 32) (fun _ _ _ _ _ L => lv_iadd hx hb dX2_counts_31) ?_
  refine x_iast X dX2_counts_32 hp11 (fun σ15 hp12 => ?_)
  refine x_pc (pc' := 33) rfl ?_
  exact x_vret X hr dX2_counts_33 hp12
-- X3_isAccessed
def P_X3_isAccessed (κ : Nat → Nat) (a0 : Nat) (x1 : Int32) (σ : xS) (K : Unit → xH → Prop) : Prop :=
  xpi κ σ a0 5 5 x1 fun σ1 => xgi σ1 a0 5 7 fun v2 => xpi κ σ1 a0 5 7 (v2 + (1 : Int32)) fun σ3 => K () σ3.1
theorem mdX3_isAccessed : yX3_isAccessed.cls ≠ "java/lang/invoke/MethodHandle" ∧ yX3_isAccessed.cls ≠ "java/lang/invoke/VarHandle" ∧ (parseMethodDescriptor yX3_isAccessed.desc).map (fun d => d.parameters.length) = some 1 := by decide +kernel
set_option maxHeartbeats 4000000 in
set_option maxRecDepth 100000 in
theorem R_X3_isAccessed (l : Launch) (hl : l.stackTraces = false) (G : xG) (hG : G.1.2 = x_cl) (a0 : Nat) (x1 : Int32) (σ : xS) (K : Unit → xH → Prop) (hp : P_X3_isAccessed G.2 a0 x1 σ K) : xM l yX3_isAccessed cX3_isAccessed 2 (Option.none : Option Jvm.ClassFile.FieldType) 0 0 G [(.ref a0), .int x1] σ (xlift emV K) := by
  refine x_entry (by decide) (Nat.le_of_ble_eq_true rfl) ?_
  intro p e s m args below meth c X hr hin
  have X : xX p s m args meth c G cX3_isAccessed 2 RX3 := X
  have hx := X.1
  have hb := X.2.1
  have hts := X.2.2.2.2.1
  have hown := X.2.2.2.1
  unfold P_X3_isAccessed at hp
  refine x_same (lo' := [(0, .ref a0), (1, .int x1)]) rfl ?_
  refine x_up (pc' := 1) (fun _ _ _ _ _ L => lv_aload_n hx hb dX3_isAccessed_0 rfl (lv_at L 0 rfl)) ?_
  refine x_up (pc' := 2) (fun _ _ _ _ _ L => lv_iload_n hx hb dX3_isAccessed_1 rfl (lv_at L 1 rfl)) ?_
  refine x_pi X (kX3 hG) 5 (by decide) q307 (fun _ h => h) rfl rfl rfl dX3_isAccessed_2 hp (fun σ1 hp1 => ?_)
  refine x_pc (pc' := 5) rfl ?_
  refine x_up (pc' := 6) (fun _ _ _ _ _ L => lv_aload_n hx hb dX3_isAccessed_5 rfl (lv_at L 0 rfl)) ?_
  refine x_up (pc' := 7) (fun _ _ _ _ _ L => lv_dup hx hb dX3_isAccessed_6 rfl) ?_
  refine x_gi X (kX3 hG) 7 (by decide) q313 (fun _ h => h) dX3_isAccessed_7 hp1 (fun v2 hp2 => ?_)
  refine x_pc (pc' := 10) rfl ?_
  refine x_up (pc' := 11) (fun _ _ _ _ _ L => lv_iconst (v := (1 : Int32)) hx hb dX3_isAccessed_10 (by decide)) ?_
  refine x_up (pc' := 12) (fun _ _ _ _ _ L => lv_iadd hx hb dX3_isAccessed_11) ?_
  refine x_pi X (kX3 hG) 7 (by decide) q313 (fun _ h => h) rfl rfl rfl dX3_isAccessed_12 hp2 (fun σ3 hp3 => ?_)
  refine x_pc (pc' := 15) rfl ?_
  exact x_vret X hr dX3_isAccessed_15 hp3
-- X2_accesses
def P_X2_accesses (κ : Nat → Nat) (a0 : Nat) (x1 : Int32) (σ : xS) (K : Option Nat → xH → Prop) (KX : Nat → xH → Prop) : Prop :=
  xgi σ a0 1 10 fun v1 => xrc σ a0 1 ∧ xcall (fun τ L => P_X2_holder κ a0 x1 τ L) σ fun v2 σ3 => ((v2 = none → (xrc σ3 a0 1 ∧ xcall (fun τ L => P_X2_comesTo κ a0 x1 τ L) σ3 fun v5 σ6 => ((v5 = none → (xrc σ6 a0 1 ∧ xcall (fun τ L => P_X2_setOf κ a0 x1 τ L) σ6 fun v8 σ9 => xcallX (fun τ L LX => P_X1_check κ (0 : Int32) (2 : Int32) v8 τ L LX) σ9 (fun _ σ10 => xrc σ10 a0 1 ∧ xcall (fun τ L => P_X2_comes κ a0 x1 none v1 τ L) σ10 fun _ σ13 => xrc σ13 a0 1 ∧ xcall (fun τ L => P_X2_counts κ a0 x1 τ L) σ13 fun _ σ14 => False) (fun q11 σ12 => κ 0 ≤ q11 ∧ ((xrc σ12 q11 26 ∧ (KX q11 σ12.1)))))) ∧ (∀ b7 : Nat, v5 = some b7 → (xrc σ6 a0 1 ∧ xcall (fun τ L => P_X2_setOf κ a0 x1 τ L) σ6 fun v15 σ16 => xcallX (fun τ L LX => P_X1_check κ (1 : Int32) (2 : Int32) v15 τ L LX) σ16 (fun _ σ17 => xrc σ17 a0 1 ∧ xcall (fun τ L => P_X2_comes κ a0 x1 (some b7) v1 τ L) σ17 fun _ σ20 => xrc σ20 a0 1 ∧ xcall (fun τ L => P_X2_counts κ a0 x1 τ L) σ20 fun _ σ21 => xrc σ21 b7 5 ∧ xcall (fun τ L => P_X3_isAccessed κ b7 v1 τ L) σ21 fun _ σ22 => K (some b7) σ22.1) (fun q18 σ19 => κ 0 ≤ q18 ∧ ((xrc σ19 q18 26 ∧ (KX q18 σ19.1))))))))) ∧ (∀ b4 : Nat, v2 = some b4 → (xgi σ3 a0 1 15 fun v23 => xpi κ σ3 a0 1 15 (v23 + (1 : Int32)) fun σ24 => xgi σ24 a0 1 10 fun v25 => xpi κ σ24 a0 1 10 (v25 + (1 : Int32)) fun σ26 => xrc σ26 a0 1 ∧ xcall (fun τ L => P_X2_counts κ a0 x1 τ L) σ26 fun _ σ27 => xrc σ27 b4 5 ∧ xcall (fun τ L => P_X3_isAccessed κ b4 v1 τ L) σ27 fun _ σ28 => K (some b4) σ28.1)))
theorem mdX2_accesses : yX2_accesses.cls ≠ "java/lang/invoke/MethodHandle" ∧ yX2_accesses.cls ≠ "java/lang/invoke/VarHandle" ∧ (parseMethodDescriptor yX2_accesses.desc).map (fun d => d.parameters.length) = some 1 := by decide +kernel
set_option maxHeartbeats 4000000 in
set_option maxRecDepth 100000 in
theorem R_X2_accesses (l : Launch) (hl : l.stackTraces = false) (G : xG) (hG : G.1.2 = x_cl) (a0 : Nat) (x1 : Int32) (σ : xS) (K : Option Nat → xH → Prop) (KX : Nat → xH → Prop) (hp : P_X2_accesses G.2 a0 x1 σ K KX) : xMX l yX2_accesses cX2_accesses 4 (Option.some (Jvm.ClassFile.FieldType.object "WordCache$Line")) 10 238 G [(.ref a0), .int x1] σ (xlift emQ K) KX := by
  refine x_entryX (by decide) (Nat.le_of_ble_eq_true rfl) ?_
  intro p e s m args below meth c X hr hin hno
  have X : xX p s m args meth c G cX2_accesses 4 RX2 := X
  have hx := X.1
  have hb := X.2.1
  have hts := X.2.2.2.2.1
  have hown := X.2.2.2.1
  have hout : ∀ pc, ∀ x ∈ c.exceptionTable.toList, covers x pc = false := fun _ x hx => (hno x hx).elim
  unfold P_X2_accesses at hp
  refine x_same (lo' := [(0, .ref a0), (1, .int x1)]) rfl ?_
  refine x_up (pc' := 1) (fun _ _ _ _ _ L => lv_aload_n hx hb dX2_accesses_0 rfl (lv_at L 0 rfl)) ?_
  refine x_gi X (kX2 hG) 10 (by decide) q475 (fun _ h => h) dX2_accesses_1 hp (fun v1 hp1 => ?_)
  refine x_pc (pc' := 4) rfl ?_
  refine x_upL (pc' := 5) (lo' := [(2, .int v1), (0, .ref a0), (1, .int x1)]) (fun _ _ _ _ _ L => lv_istore_n hx hb dX2_accesses_4 rfl L (by decide) rfl) ?_
  refine x_up (pc' := 6) (fun _ _ _ _ _ L => lv_aload_n hx hb dX2_accesses_5 rfl (lv_at L 1 rfl)) ?_
  refine x_up (pc' := 7) (fun _ _ _ _ _ L => lv_iload_n hx hb dX2_accesses_6 rfl (lv_at L 2 rfl)) ?_
  refine x_callV (em := emQ) (fun r st => va_rf r :: st) (fun _ _ => rfl) 1 X (kX2 hG) (fun σ' KK h => R_X2_holder l hl G hG a0 x1 σ' KK h) (lw_V q2066 q2067 q2068 q100 q2069) ⟨rfl, mdX2_holder⟩ ⟨Nat.le_of_ble_eq_true rfl, Nat.le_of_ble_eq_true rfl⟩ rfl rfl (Nat.le_of_ble_eq_true rfl) dX2_accesses_7 hp1.1 hp1.2 (fun v2 σ3 hp2 => ?_)
  refine x_pc (pc' := 10) rfl ?_
  refine x_upL (pc' := 11) (lo' := [(3, va_rf v2), (2, .int v1), (0, .ref a0), (1, .int x1)]) (fun _ _ _ _ _ L => lv_astoreq_n hx hb dX2_accesses_10 rfl L (by decide) rfl) ?_
  refine x_up (pc' := 12) (fun _ _ _ _ _ L => lv_aloadq_n hx hb dX2_accesses_11 rfl (lv_at L 0 rfl)) ?_
  rcases v2 with _ | b4
  · have hp3 := hp2.1 rfl
    refine x_up (pc' := 15) (fun _ _ _ _ _ L => lv_ifnonnullN hx hb dX2_accesses_12) ?_
    refine x_up (pc' := 16) (fun _ _ _ _ _ L => lv_aload_n hx hb dX2_accesses_15 rfl (lv_at L 2 rfl)) ?_
    refine x_up (pc' := 17) (fun _ _ _ _ _ L => lv_iload_n hx hb dX2_accesses_16 rfl (lv_at L 3 rfl)) ?_
    refine x_callV (em := emQ) (fun r st => va_rf r :: st) (fun _ _ => rfl) 1 X (kX2 hG) (fun σ' KK h => R_X2_comesTo l hl G hG a0 x1 σ' KK h) (lw_V q2274 q2275 q2276 q100 q2277) ⟨rfl, mdX2_comesTo⟩ ⟨Nat.le_of_ble_eq_true rfl, Nat.le_of_ble_eq_true rfl⟩ rfl rfl (Nat.le_of_ble_eq_true rfl) dX2_accesses_17 hp3.1 hp3.2 (fun v5 σ6 hp4 => ?_)
    refine x_pc (pc' := 20) rfl ?_
    refine x_upL (pc' := 21) (lo' := [(3, va_rf v5), (2, .int v1), (0, .ref a0), (1, .int x1)]) (fun _ _ _ _ _ L => lv_astoreq_n hx hb dX2_accesses_20 rfl L (by decide) rfl) ?_
    refine x_up (pc' := 22) (fun _ _ _ _ _ L => lv_aloadq_n hx hb dX2_accesses_21 rfl (lv_at L 0 rfl)) ?_
    rcases v5 with _ | b7
    · have hp5 := hp4.1 rfl
      refine x_up (pc' := 29) (fun _ _ _ _ _ L => lv_ifnullN (tgt := 29) hx hb dX2_accesses_22 (by decide)) ?_
      refine x_up (pc' := 30) (fun _ _ _ _ _ L => lv_iconst (v := (0 : Int32)) hx hb dX2_accesses_29 (by decide)) ?_
      refine x_up (pc' := 31) (fun _ _ _ _ _ L => lv_iconst (v := (2 : Int32)) hx hb dX2_accesses_30 (by decide)) ?_
      refine x_up (pc' := 32) (fun _ _ _ _ _ L => lv_aload_n hx hb dX2_accesses_31 rfl (lv_at L 2 rfl)) ?_
      refine x_up (pc' := 33) (fun _ _ _ _ _ L => lv_iload_n hx hb dX2_accesses_32 rfl (lv_at L 3 rfl)) ?_
      refine x_callV (em := emI) (fun r st => .int r :: st) (fun _ _ => rfl) 1 X (kX2 hG) (fun σ' KK h => R_X2_setOf l hl G hG a0 x1 σ' KK h) (lw_V q2070 q2071 q2072 q100 q2073) ⟨rfl, mdX2_setOf⟩ ⟨Nat.le_of_ble_eq_true rfl, Nat.le_of_ble_eq_true rfl⟩ rfl rfl (Nat.le_of_ble_eq_true rfl) dX2_accesses_33 hp5.1 hp5.2 (fun v8 σ9 hp6 => ?_)
      refine x_pc (pc' := 36) rfl ?_
      refine x_callSNX (host := "WordCache") (em := emV) (fun r st => st) (fun _ _ => rfl) 3 X (fun σ' KK KX h => R_X1_check l hl G hG (0 : Int32) (2 : Int32) v8 σ' KK KX h) q2415 q2239 q99 (lw_meth q2240) mdX1_check ⟨Nat.le_of_ble_eq_true rfl, Nat.le_of_ble_eq_true rfl⟩ rfl rfl (Nat.le_of_ble_eq_true rfl) dX2_accesses_36 hp6 (fun _ σ10 hpA36 => ?_) (fun q11 σ12 hpB36 => ?_)
      · have hp7 := hpA36
        refine x_pc (pc' := 39) rfl ?_
        refine x_up (pc' := 40) (fun _ _ _ _ _ L => lv_aload_n hx hb dX2_accesses_39 rfl (lv_at L 2 rfl)) ?_
        refine x_up (pc' := 41) (fun _ _ _ _ _ L => lv_iload_n hx hb dX2_accesses_40 rfl (lv_at L 3 rfl)) ?_
        refine x_up (pc' := 42) (fun _ _ _ _ _ L => lv_aload_nN hx hb dX2_accesses_41 rfl (lv_at L 0 rfl)) ?_
        refine x_up (pc' := 43) (fun _ _ _ _ _ L => lv_iload_n hx hb dX2_accesses_42 rfl (lv_at L 1 rfl)) ?_
        refine x_callV (em := emV) (fun r st => st) (fun _ _ => rfl) 3 X (kX2 hG) (fun σ' KK h => R_X2_comes l hl G hG a0 x1 none v1 σ' KK h) (lw_V q2416 q2418 qs30 q100 q2419) ⟨rfl, mdX2_comes⟩ ⟨Nat.le_of_ble_eq_true rfl, Nat.le_of_ble_eq_true rfl⟩ rfl rfl (Nat.le_of_ble_eq_true rfl) dX2_accesses_43 hp7.1 hp7.2 (fun _ σ13 hp8 => ?_)
        refine x_pc (pc' := 46) rfl ?_
        refine x_up (pc' := 69) (fun _ _ _ _ _ L => lv_goto (tgt := 69) hx hb dX2_accesses_46 (by decide)) ?_
        refine x_up (pc' := 70) (fun _ _ _ _ _ L => lv_aload_n hx hb dX2_accesses_69 rfl (lv_at L 2 rfl)) ?_
        refine x_up (pc' := 71) (fun _ _ _ _ _ L => lv_iload_n hx hb dX2_accesses_70 rfl (lv_at L 3 rfl)) ?_
        refine x_callV (em := emV) (fun r st => st) (fun _ _ => rfl) 1 X (kX2 hG) (fun σ' KK h => R_X2_counts l hl G hG a0 x1 σ' KK h) (lw_V q2473 q2475 qs35 q100 q2476) ⟨rfl, mdX2_counts⟩ ⟨Nat.le_of_ble_eq_true rfl, Nat.le_of_ble_eq_true rfl⟩ rfl rfl (Nat.le_of_ble_eq_true rfl) dX2_accesses_71 hp8.1 hp8.2 (fun _ σ14 hp9 => ?_)
        refine x_pc (pc' := 74) rfl ?_
        refine x_up (pc' := 75) (fun _ _ _ _ _ L => lv_aload_nN hx hb dX2_accesses_74 rfl (lv_at L 0 rfl)) ?_
        refine x_up (pc' := 76) (fun _ _ _ _ _ L => lv_iload_n hx hb dX2_accesses_75 rfl (lv_at L 1 rfl)) ?_
        exact hp9.elim
      · have hp10 := hpB36
        obtain ⟨hq36, hp11⟩ := hp10
        obtain ⟨hr36, hp12⟩ := hp11
        exact x_out X (kX6 hG) (hout 36) hr36 hq36 hp12
    · have hp13 := hp4.2 _ rfl
      refine x_up (pc' := 25) (fun _ _ _ _ _ L => lv_ifnull hx hb dX2_accesses_22) ?_
      refine x_up (pc' := 26) (fun _ _ _ _ _ L => lv_iconst (v := (1 : Int32)) hx hb dX2_accesses_25 (by decide)) ?_
      refine x_up (pc' := 30) (fun _ _ _ _ _ L => lv_goto (tgt := 30) hx hb dX2_accesses_26 (by decide)) ?_
      refine x_up (pc' := 31) (fun _ _ _ _ _ L => lv_iconst (v := (2 : Int32)) hx hb dX2_accesses_30 (by decide)) ?_
      refine x_up (pc' := 32) (fun _ _ _ _ _ L => lv_aload_n hx hb dX2_accesses_31 rfl (lv_at L 2 rfl)) ?_
      refine x_up (pc' := 33) (fun _ _ _ _ _ L => lv_iload_n hx hb dX2_accesses_32 rfl (lv_at L 3 rfl)) ?_
      refine x_callV (em := emI) (fun r st => .int r :: st) (fun _ _ => rfl) 1 X (kX2 hG) (fun σ' KK h => R_X2_setOf l hl G hG a0 x1 σ' KK h) (lw_V q2070 q2071 q2072 q100 q2073) ⟨rfl, mdX2_setOf⟩ ⟨Nat.le_of_ble_eq_true rfl, Nat.le_of_ble_eq_true rfl⟩ rfl rfl (Nat.le_of_ble_eq_true rfl) dX2_accesses_33 hp13.1 hp13.2 (fun v15 σ16 hp14 => ?_)
      refine x_pc (pc' := 36) rfl ?_
      refine x_callSNX (host := "WordCache") (em := emV) (fun r st => st) (fun _ _ => rfl) 3 X (fun σ' KK KX h => R_X1_check l hl G hG (1 : Int32) (2 : Int32) v15 σ' KK KX h) q2415 q2239 q99 (lw_meth q2240) mdX1_check ⟨Nat.le_of_ble_eq_true rfl, Nat.le_of_ble_eq_true rfl⟩ rfl rfl (Nat.le_of_ble_eq_true rfl) dX2_accesses_36 hp14 (fun _ σ17 hpA36 => ?_) (fun q18 σ19 hpB36 => ?_)
      · have hp15 := hpA36
        refine x_pc (pc' := 39) rfl ?_
        refine x_up (pc' := 40) (fun _ _ _ _ _ L => lv_aload_n hx hb dX2_accesses_39 rfl (lv_at L 2 rfl)) ?_
        refine x_up (pc' := 41) (fun _ _ _ _ _ L => lv_iload_n hx hb dX2_accesses_40 rfl (lv_at L 3 rfl)) ?_
        refine x_up (pc' := 42) (fun _ _ _ _ _ L => lv_aload_n hx hb dX2_accesses_41 rfl (lv_at L 0 rfl)) ?_
        refine x_up (pc' := 43) (fun _ _ _ _ _ L => lv_iload_n hx hb dX2_accesses_42 rfl (lv_at L 1 rfl)) ?_
        refine x_callV (em := emV) (fun r st => st) (fun _ _ => rfl) 3 X (kX2 hG) (fun σ' KK h => R_X2_comes l hl G hG a0 x1 (some b7) v1 σ' KK h) (lw_V q2416 q2418 qs30 q100 q2419) ⟨rfl, mdX2_comes⟩ ⟨Nat.le_of_ble_eq_true rfl, Nat.le_of_ble_eq_true rfl⟩ rfl rfl (Nat.le_of_ble_eq_true rfl) dX2_accesses_43 hp15.1 hp15.2 (fun _ σ20 hp16 => ?_)
        refine x_pc (pc' := 46) rfl ?_
        refine x_up (pc' := 69) (fun _ _ _ _ _ L => lv_goto (tgt := 69) hx hb dX2_accesses_46 (by decide)) ?_
        refine x_up (pc' := 70) (fun _ _ _ _ _ L => lv_aload_n hx hb dX2_accesses_69 rfl (lv_at L 2 rfl)) ?_
        refine x_up (pc' := 71) (fun _ _ _ _ _ L => lv_iload_n hx hb dX2_accesses_70 rfl (lv_at L 3 rfl)) ?_
        refine x_callV (em := emV) (fun r st => st) (fun _ _ => rfl) 1 X (kX2 hG) (fun σ' KK h => R_X2_counts l hl G hG a0 x1 σ' KK h) (lw_V q2473 q2475 qs35 q100 q2476) ⟨rfl, mdX2_counts⟩ ⟨Nat.le_of_ble_eq_true rfl, Nat.le_of_ble_eq_true rfl⟩ rfl rfl (Nat.le_of_ble_eq_true rfl) dX2_accesses_71 hp16.1 hp16.2 (fun _ σ21 hp17 => ?_)
        refine x_pc (pc' := 74) rfl ?_
        refine x_up (pc' := 75) (fun _ _ _ _ _ L => lv_aload_n hx hb dX2_accesses_74 rfl (lv_at L 0 rfl)) ?_
        refine x_up (pc' := 76) (fun _ _ _ _ _ L => lv_iload_n hx hb dX2_accesses_75 rfl (lv_at L 1 rfl)) ?_
        refine x_callV (em := emV) (fun r st => st) (fun _ _ => rfl) 1 X (kX3 hG) (fun σ' KK h => R_X3_isAccessed l hl G hG b7 v1 σ' KK h) (lw_V q2493 q2494 q2495 q108 q2496) ⟨rfl, mdX3_isAccessed⟩ ⟨Nat.le_of_ble_eq_true rfl, Nat.le_of_ble_eq_true rfl⟩ rfl rfl (Nat.le_of_ble_eq_true rfl) dX2_accesses_76 hp17.1 hp17.2 (fun _ σ22 hp18 => ?_)
        refine x_pc (pc' := 79) rfl ?_
        refine x_up (pc' := 80) (fun _ _ _ _ _ L => lv_aload_n hx hb dX2_accesses_79 rfl (lv_at L 0 rfl)) ?_
        refine x_vx ?_; exact x_aret X hr (Or.inl ⟨_, rfl⟩) dX2_accesses_80 (some b7) hp18
      · have hp19 := hpB36
        obtain ⟨hq36, hp20⟩ := hp19
        obtain ⟨hr36, hp21⟩ := hp20
        exact x_out X (kX6 hG) (hout 36) hr36 hq36 hp21
  · have hp22 := hp2.2 _ rfl
    refine x_up (pc' := 49) (fun _ _ _ _ _ L => lv_ifnonnull (tgt := 49) hx hb dX2_accesses_12 (by decide)) ?_
    refine x_up (pc' := 50) (fun _ _ _ _ _ L => lv_aload_n hx hb dX2_accesses_49 rfl (lv_at L 2 rfl)) ?_
    refine x_up (pc' := 51) (fun _ _ _ _ _ L => lv_dup hx hb dX2_accesses_50 rfl) ?_
    refine x_gi X (kX2 hG) 15 (by decide) q485 (fun _ h => h) dX2_accesses_51 hp22 (fun v23 hp23 => ?_)
    refine x_pc (pc' := 54) rfl ?_
    refine x_up (pc' := 55) (fun _ _ _ _ _ L => lv_iconst (v := (1 : Int32)) hx hb dX2_accesses_54 (by decide)) ?_
    refine x_up (pc' := 56) (fun _ _ _ _ _ L => lv_iadd hx hb dX2_accesses_55) ?_
    refine x_pi X (kX2 hG) 15 (by decide) q485 (fun _ h => h) rfl rfl rfl dX2_accesses_56 hp23 (fun σ24 hp24 => ?_)
    refine x_pc (pc' := 59) rfl ?_
    refine x_up (pc' := 60) (fun _ _ _ _ _ L => lv_aload_n hx hb dX2_accesses_59 rfl (lv_at L 2 rfl)) ?_
    refine x_up (pc' := 61) (fun _ _ _ _ _ L => lv_dup hx hb dX2_accesses_60 rfl) ?_
    refine x_gi X (kX2 hG) 10 (by decide) q475 (fun _ h => h) dX2_accesses_61 hp24 (fun v25 hp25 => ?_)
    refine x_pc (pc' := 64) rfl ?_
    refine x_up (pc' := 65) (fun _ _ _ _ _ L => lv_iconst (v := (1 : Int32)) hx hb dX2_accesses_64 (by decide)) ?_
    refine x_up (pc' := 66) (fun _ _ _ _ _ L => lv_iadd hx hb dX2_accesses_65) ?_
    refine x_pi X (kX2 hG) 10 (by decide) q475 (fun _ h => h) rfl rfl rfl dX2_accesses_66 hp25 (fun σ26 hp26 => ?_)
    refine x_pc (pc' := 69) rfl ?_
    refine x_up (pc' := 70) (fun _ _ _ _ _ L => lv_aload_n hx hb dX2_accesses_69 rfl (lv_at L 2 rfl)) ?_
    refine x_up (pc' := 71) (fun _ _ _ _ _ L => lv_iload_n hx hb dX2_accesses_70 rfl (lv_at L 3 rfl)) ?_
    refine x_callV (em := emV) (fun r st => st) (fun _ _ => rfl) 1 X (kX2 hG) (fun σ' KK h => R_X2_counts l hl G hG a0 x1 σ' KK h) (lw_V q2473 q2475 qs35 q100 q2476) ⟨rfl, mdX2_counts⟩ ⟨Nat.le_of_ble_eq_true rfl, Nat.le_of_ble_eq_true rfl⟩ rfl rfl (Nat.le_of_ble_eq_true rfl) dX2_accesses_71 hp26.1 hp26.2 (fun _ σ27 hp27 => ?_)
    refine x_pc (pc' := 74) rfl ?_
    refine x_up (pc' := 75) (fun _ _ _ _ _ L => lv_aload_n hx hb dX2_accesses_74 rfl (lv_at L 0 rfl)) ?_
    refine x_up (pc' := 76) (fun _ _ _ _ _ L => lv_iload_n hx hb dX2_accesses_75 rfl (lv_at L 1 rfl)) ?_
    refine x_callV (em := emV) (fun r st => st) (fun _ _ => rfl) 1 X (kX3 hG) (fun σ' KK h => R_X3_isAccessed l hl G hG b4 v1 σ' KK h) (lw_V q2493 q2494 q2495 q108 q2496) ⟨rfl, mdX3_isAccessed⟩ ⟨Nat.le_of_ble_eq_true rfl, Nat.le_of_ble_eq_true rfl⟩ rfl rfl (Nat.le_of_ble_eq_true rfl) dX2_accesses_76 hp27.1 hp27.2 (fun _ σ28 hp28 => ?_)
    refine x_pc (pc' := 79) rfl ?_
    refine x_up (pc' := 80) (fun _ _ _ _ _ L => lv_aload_n hx hb dX2_accesses_79 rfl (lv_at L 0 rfl)) ?_
    refine x_vx ?_; exact x_aret X hr (Or.inl ⟨_, rfl⟩) dX2_accesses_80 (some b4) hp28
-- X3_takes
def P_X3_takes (κ : Nat → Nat) (a0 : Nat) (x1 : Int32) (x2 : Int32) (x3 : Int32) (σ : xS) (K : Unit → xH → Prop) : Prop :=
  xgq σ a0 5 1 fun v1 => xnn v1 fun b2 => xsi κ .int σ b2 x1 x2 fun σ3 => ((x3 = 0 → (xgi σ3 a0 5 3 fun v4 => xpi κ σ3 a0 5 3 (v4 &&& (((1 : Int32) <<< (x1 &&& 31)) ^^^ (-1 : Int32))) fun σ5 => K () σ5.1)) ∧ (¬ x3 = 0 → (xgi σ3 a0 5 3 fun v6 => xpi κ σ3 a0 5 3 (v6 ||| ((1 : Int32) <<< (x1 &&& 31))) fun σ7 => K () σ7.1)))
theorem mdX3_takes : yX3_takes.cls ≠ "java/lang/invoke/MethodHandle" ∧ yX3_takes.cls ≠ "java/lang/invoke/VarHandle" ∧ (parseMethodDescriptor yX3_takes.desc).map (fun d => d.parameters.length) = some 3 := by decide +kernel
set_option maxHeartbeats 4000000 in
set_option maxRecDepth 100000 in
theorem R_X3_takes (l : Launch) (hl : l.stackTraces = false) (G : xG) (hG : G.1.2 = x_cl) (a0 : Nat) (x1 : Int32) (x2 : Int32) (x3 : Int32) (σ : xS) (K : Unit → xH → Prop) (hp : P_X3_takes G.2 a0 x1 x2 x3 σ K) : xM l yX3_takes cX3_takes 4 (Option.none : Option Jvm.ClassFile.FieldType) 0 0 G [(.ref a0), .int x1, .int x2, .int x3] σ (xlift emV K) := by
  refine x_entry (by decide) (Nat.le_of_ble_eq_true rfl) ?_
  intro p e s m args below meth c X hr hin
  have X : xX p s m args meth c G cX3_takes 4 RX3 := X
  have hx := X.1
  have hb := X.2.1
  have hts := X.2.2.2.2.1
  have hown := X.2.2.2.1
  unfold P_X3_takes at hp
  refine x_same (lo' := [(0, .ref a0), (1, .int x1), (2, .int x2), (3, .int x3)]) rfl ?_
  refine x_up (pc' := 1) (fun _ _ _ _ _ L => lv_aload_n hx hb dX3_takes_0 rfl (lv_at L 0 rfl)) ?_
  refine x_gq X (kX3 hG) 1 (by decide) q296 (fun _ h => h) dX3_takes_1 hp (fun v1 hp1 => ?_)
  refine x_pc (pc' := 4) rfl ?_
  refine x_up (pc' := 5) (fun _ _ _ _ _ L => lv_iload_n hx hb dX3_takes_4 rfl (lv_at L 1 rfl)) ?_
  refine x_up (pc' := 6) (fun _ _ _ _ _ L => lv_iload_n hx hb dX3_takes_5 rfl (lv_at L 2 rfl)) ?_
  obtain ⟨b2, rfl, hp2⟩ := hp1
  refine x_iast X dX3_takes_6 hp2 (fun σ3 hp3 => ?_)
  refine x_pc (pc' := 7) rfl ?_
  refine x_up (pc' := 8) (fun _ _ _ _ _ L => lv_aload_n hx hb dX3_takes_7 rfl (lv_at L 0 rfl)) ?_
  refine x_up (pc' := 9) (fun _ _ _ _ _ L => lv_iload_n hx hb dX3_takes_8 rfl (lv_at L 3 rfl)) ?_
  refine x_if (C := x3 = 0) (pt := 23) (pc' := 12) (fun _ _ _ _ _ => lv_if_eq (tgt := 23) hx hb dX3_takes_9 (by decide)) (fun c9 => ?_) (fun c9 => ?_)
  · have hp4 := hp3.1 c9
    refine x_up (pc' := 24) (fun _ _ _ _ _ L => lv_aload_n hx hb dX3_takes_23 rfl (lv_at L 0 rfl)) ?_
    refine x_gi X (kX3 hG) 3 (by decide) q301 (fun _ h => h) dX3_takes_24 hp4 (fun v4 hp5 => ?_)
    refine x_pc (pc' := 27) rfl ?_
    refine x_up (pc' := 28) (fun _ _ _ _ _ L => lv_iconst (v := (1 : Int32)) hx hb dX3_takes_27 (by decide)) ?_
    refine x_up (pc' := 29) (fun _ _ _ _ _ L => lv_iload_n hx hb dX3_takes_28 rfl (lv_at L 1 rfl)) ?_
    refine x_up (pc' := 30) (fun _ _ _ _ _ L => lv_ishl hx hb dX3_takes_29) ?_
    refine x_up (pc' := 31) (fun _ _ _ _ _ L => lv_iconst (v := (-1 : Int32)) hx hb dX3_takes_30 (by decide)) ?_
    refine x_up (pc' := 32) (fun _ _ _ _ _ L => lv_ixor hx hb dX3_takes_31) ?_
    refine x_up (pc' := 33) (fun _ _ _ _ _ L => lv_iand hx hb dX3_takes_32) ?_
    refine x_pi X (kX3 hG) 3 (by decide) q301 (fun _ h => h) rfl rfl rfl dX3_takes_33 hp5 (fun σ5 hp6 => ?_)
    refine x_pc (pc' := 36) rfl ?_
    exact x_vret X hr dX3_takes_36 hp6
  · have hp7 := hp3.2 c9
    refine x_up (pc' := 13) (fun _ _ _ _ _ L => lv_aload_n hx hb dX3_takes_12 rfl (lv_at L 0 rfl)) ?_
    refine x_gi X (kX3 hG) 3 (by decide) q301 (fun _ h => h) dX3_takes_13 hp7 (fun v6 hp8 => ?_)
    refine x_pc (pc' := 16) rfl ?_
    refine x_up (pc' := 17) (fun _ _ _ _ _ L => lv_iconst (v := (1 : Int32)) hx hb dX3_takes_16 (by decide)) ?_
    refine x_up (pc' := 18) (fun _ _ _ _ _ L => lv_iload_n hx hb dX3_takes_17 rfl (lv_at L 1 rfl)) ?_
    refine x_up (pc' := 19) (fun _ _ _ _ _ L => lv_ishl hx hb dX3_takes_18) ?_
    refine x_up (pc' := 20) (fun _ _ _ _ _ L => lv_ior hx hb dX3_takes_19) ?_
    refine x_up (pc' := 33) (fun _ _ _ _ _ L => lv_goto (tgt := 33) hx hb dX3_takes_20 (by decide)) ?_
    refine x_pi X (kX3 hG) 3 (by decide) q301 (fun _ h => h) rfl rfl rfl dX3_takes_33 hp8 (fun σ7 hp9 => ?_)
    refine x_pc (pc' := 36) rfl ?_
    exact x_vret X hr dX3_takes_36 hp9
-- X2_writesWord
def P_X2_writesWord (κ : Nat → Nat) (a0 : Nat) (x1 : Int32) (x2 : Int32) (σ : xS) (K : Int32 → xH → Prop) (KX : Nat → xH → Prop) : Prop :=
  xcallX (fun τ L LX => P_X1_checkAddress κ x1 τ L LX) σ (fun _ σ1 => xcallX (fun τ L LX => P_X1_checkWord κ x2 τ L LX) σ1 (fun _ σ4 => xgi σ4 a0 1 10 fun v7 => xrc σ4 a0 1 ∧ xcallX (fun τ L LX => P_X2_accesses κ a0 (x1 / (4 : Int32)) τ L LX) σ4 (fun v8 σ9 => xgi σ9 a0 1 14 fun v12 => xpi κ σ9 a0 1 14 (v12 + (1 : Int32)) fun σ13 => xgi σ13 a0 1 12 fun v14 => ((v14 = 0 → (xnn v8 fun b15 => xrc σ13 b15 5 ∧ xcall (fun τ L => P_X3_takes κ b15 (x1 - x1 / (4 : Int32) * (4 : Int32)) x2 (1 : Int32) τ L) σ13 fun _ σ16 => xgi σ16 a0 1 12 fun v17 => ((v17 = 0 → (xgq σ16 a0 1 1 fun v18 => xcall (fun τ L => P_J23_valueOf κ x1 τ L) σ16 fun v19 σ20 => xcall (fun τ L => P_J23_valueOf κ x2 τ L) σ20 fun v21 σ22 => xnn v18 fun b23 => xrc σ22 b23 2 ∧ xcall (fun τ L => P_J1_put κ b23 v19 v21 τ L) σ22 fun v24 σ25 => xgi σ25 a0 1 10 fun v26 => K (v26 - v7) σ25.1)) ∧ (¬ v17 = 0 → (xrc σ16 b15 5 ∧ xcall (fun τ L => P_X3_bank κ b15 τ L) σ16 fun v27 σ28 => xrc σ28 a0 1 ∧ xcall (fun τ L => P_X2_works κ a0 v27 (1 : Int32) τ L) σ28 fun _ σ29 => xgq σ29 a0 1 0 fun v30 => xnn v30 fun b31 => xsi κ .int σ29 b31 x1 x2 fun σ32 => xgi σ32 a0 1 17 fun v33 => xpi κ σ32 a0 1 17 (v33 + (1 : Int32)) fun σ34 => xgq σ34 a0 1 1 fun v35 => xcall (fun τ L => P_J23_valueOf κ x1 τ L) σ34 fun v36 σ37 => xcall (fun τ L => P_J23_valueOf κ x2 τ L) σ37 fun v38 σ39 => xnn v35 fun b40 => xrc σ39 b40 2 ∧ xcall (fun τ L => P_J1_put κ b40 v36 v38 τ L) σ39 fun v41 σ42 => xgi σ42 a0 1 10 fun v43 => K (v43 - v7) σ42.1))))) ∧ (¬ v14 = 0 → (xnn v8 fun b44 => xrc σ13 b44 5 ∧ xcall (fun τ L => P_X3_takes κ b44 (x1 - x1 / (4 : Int32) * (4 : Int32)) x2 (0 : Int32) τ L) σ13 fun _ σ45 => xgi σ45 a0 1 12 fun v46 => ((v46 = 0 → (xgq σ45 a0 1 1 fun v47 => xcall (fun τ L => P_J23_valueOf κ x1 τ L) σ45 fun v48 σ49 => xcall (fun τ L => P_J23_valueOf κ x2 τ L) σ49 fun v50 σ51 => xnn v47 fun b52 => xrc σ51 b52 2 ∧ xcall (fun τ L => P_J1_put κ b52 v48 v50 τ L) σ51 fun v53 σ54 => xgi σ54 a0 1 10 fun v55 => K (v55 - v7) σ54.1)) ∧ (¬ v46 = 0 → (xrc σ45 b44 5 ∧ xcall (fun τ L => P_X3_bank κ b44 τ L) σ45 fun v56 σ57 => xrc σ57 a0 1 ∧ xcall (fun τ L => P_X2_works κ a0 v56 (1 : Int32) τ L) σ57 fun _ σ58 => xgq σ58 a0 1 0 fun v59 => xnn v59 fun b60 => xsi κ .int σ58 b60 x1 x2 fun σ61 => xgi σ61 a0 1 17 fun v62 => xpi κ σ61 a0 1 17 (v62 + (1 : Int32)) fun σ63 => xgq σ63 a0 1 1 fun v64 => xcall (fun τ L => P_J23_valueOf κ x1 τ L) σ63 fun v65 σ66 => xcall (fun τ L => P_J23_valueOf κ x2 τ L) σ66 fun v67 σ68 => xnn v64 fun b69 => xrc σ68 b69 2 ∧ xcall (fun τ L => P_J1_put κ b69 v65 v67 τ L) σ68 fun v70 σ71 => xgi σ71 a0 1 10 fun v72 => K (v72 - v7) σ71.1))))))) (fun q10 σ11 => κ 0 ≤ q10 ∧ ((xrc σ11 q10 26 ∧ (KX q10 σ11.1))))) (fun q5 σ6 => κ 0 ≤ q5 ∧ ((xrc σ6 q5 26 ∧ (KX q5 σ6.1))))) (fun q2 σ3 => κ 0 ≤ q2 ∧ ((xrc σ3 q2 26 ∧ (KX q2 σ3.1))))
theorem mdX2_writesWord : yX2_writesWord.cls ≠ "java/lang/invoke/MethodHandle" ∧ yX2_writesWord.cls ≠ "java/lang/invoke/VarHandle" ∧ (parseMethodDescriptor yX2_writesWord.desc).map (fun d => d.parameters.length) = some 2 := by decide +kernel
set_option maxHeartbeats 4000000 in
set_option maxRecDepth 100000 in
theorem R_X2_writesWord (l : Launch) (hl : l.stackTraces = false) (G : xG) (hG : G.1.2 = x_cl) (a0 : Nat) (x1 : Int32) (x2 : Int32) (σ : xS) (K : Int32 → xH → Prop) (KX : Nat → xH → Prop) (hp : P_X2_writesWord G.2 a0 x1 x2 σ K KX) : xMX l yX2_writesWord cX2_writesWord 5 (Option.some Jvm.ClassFile.FieldType.int) 11 261 G [(.ref a0), .int x1, .int x2] σ (xlift emI K) KX := by
  refine x_entryX (by decide) (Nat.le_of_ble_eq_true rfl) ?_
  intro p e s m args below meth c X hr hin hno
  have X : xX p s m args meth c G cX2_writesWord 5 RX2 := X
  have hx := X.1
  have hb := X.2.1
  have hts := X.2.2.2.2.1
  have hown := X.2.2.2.1
  have hout : ∀ pc, ∀ x ∈ c.exceptionTable.toList, covers x pc = false := fun _ x hx => (hno x hx).elim
  unfold P_X2_writesWord at hp
  refine x_same (lo' := [(0, .ref a0), (1, .int x1), (2, .int x2)]) rfl ?_
  refine x_up (pc' := 1) (fun _ _ _ _ _ L => lv_iload_n hx hb dX2_writesWord_0 rfl (lv_at L 1 rfl)) ?_
  refine x_callSNX (host := "WordCache") (em := emV) (fun r st => st) (fun _ _ => rfl) 1 X (fun σ' KK KX h => R_X1_checkAddress l hl G hG x1 σ' KK KX h) q2229 q2230 q99 (lw_meth q2231) mdX1_checkAddress ⟨Nat.le_of_ble_eq_true rfl, Nat.le_of_ble_eq_true rfl⟩ rfl rfl (Nat.le_of_ble_eq_true rfl) dX2_writesWord_1 hp (fun _ σ1 hpA1 => ?_) (fun q2 σ3 hpB1 => ?_)
  · have hp1 := hpA1
    refine x_pc (pc' := 4) rfl ?_
    refine x_up (pc' := 5) (fun _ _ _ _ _ L => lv_iload_n hx hb dX2_writesWord_4 rfl (lv_at L 2 rfl)) ?_
    refine x_callSNX (host := "WordCache") (em := emV) (fun r st => st) (fun _ _ => rfl) 1 X (fun σ' KK KX h => R_X1_checkWord l hl G hG x2 σ' KK KX h) q2501 q2502 q99 (lw_meth q2503) mdX1_checkWord ⟨Nat.le_of_ble_eq_true rfl, Nat.le_of_ble_eq_true rfl⟩ rfl rfl (Nat.le_of_ble_eq_true rfl) dX2_writesWord_5 hp1 (fun _ σ4 hpA5 => ?_) (fun q5 σ6 hpB5 => ?_)
    · have hp2 := hpA5
      refine x_pc (pc' := 8) rfl ?_
      refine x_up (pc' := 9) (fun _ _ _ _ _ L => lv_aload_n hx hb dX2_writesWord_8 rfl (lv_at L 0 rfl)) ?_
      refine x_gi X (kX2 hG) 10 (by decide) q475 (fun _ h => h) dX2_writesWord_9 hp2 (fun v7 hp3 => ?_)
      refine x_pc (pc' := 12) rfl ?_
      refine x_upL (pc' := 13) (lo' := [(3, .int v7), (0, .ref a0), (1, .int x1), (2, .int x2)]) (fun _ _ _ _ _ L => lv_istore_n hx hb dX2_writesWord_12 rfl L (by decide) rfl) ?_
      refine x_up (pc' := 14) (fun _ _ _ _ _ L => lv_aload_n hx hb dX2_writesWord_13 rfl (lv_at L 1 rfl)) ?_
      refine x_up (pc' := 15) (fun _ _ _ _ _ L => lv_iload_n hx hb dX2_writesWord_14 rfl (lv_at L 2 rfl)) ?_
      refine x_up (pc' := 16) (fun _ _ _ _ _ L => lv_iconst (v := (4 : Int32)) hx hb dX2_writesWord_15 (by decide)) ?_
      refine x_up (pc' := 17) (fun _ _ _ _ _ L => lv_idiv hx hb dX2_writesWord_16 (by decide)) ?_
      refine x_callVX (em := emQ) (fun r st => va_rf r :: st) (fun _ _ => rfl) 1 X (kX2 hG) (fun σ' KK KX h => R_X2_accesses l hl G hG a0 (x1 / (4 : Int32)) σ' KK KX h) (lw_V q2270 q2272 qs27 q100 q2273) ⟨rfl, mdX2_accesses⟩ ⟨Nat.le_of_ble_eq_true rfl, Nat.le_of_ble_eq_true rfl⟩ rfl rfl (Nat.le_of_ble_eq_true rfl) dX2_writesWord_17 hp3.1 hp3.2 (fun v8 σ9 hpA17 => ?_) (fun q10 σ11 hpB17 => ?_)
      · have hp4 := hpA17
        refine x_pc (pc' := 20) rfl ?_
        refine x_upL (pc' := 22) (lo' := [(4, va_rf v8), (3, .int v7), (0, .ref a0), (1, .int x1), (2, .int x2)]) (fun _ _ _ _ _ L => lv_astoreq hx hb dX2_writesWord_20 L (by decide) rfl) ?_
        refine x_up (pc' := 23) (fun _ _ _ _ _ L => lv_aload_n hx hb dX2_writesWord_22 rfl (lv_at L 2 rfl)) ?_
        refine x_up (pc' := 24) (fun _ _ _ _ _ L => lv_dup hx hb dX2_writesWord_23 rfl) ?_
        refine x_gi X (kX2 hG) 14 (by decide) q483 (fun _ h => h) dX2_writesWord_24 hp4 (fun v12 hp5 => ?_)
        refine x_pc (pc' := 27) rfl ?_
        refine x_up (pc' := 28) (fun _ _ _ _ _ L => lv_iconst (v := (1 : Int32)) hx hb dX2_writesWord_27 (by decide)) ?_
        refine x_up (pc' := 29) (fun _ _ _ _ _ L => lv_iadd hx hb dX2_writesWord_28) ?_
        refine x_pi X (kX2 hG) 14 (by decide) q483 (fun _ h => h) rfl rfl rfl dX2_writesWord_29 hp5 (fun σ13 hp6 => ?_)
        refine x_pc (pc' := 32) rfl ?_
        refine x_up (pc' := 34) (fun _ _ _ _ _ L => lv_aloadq hx hb dX2_writesWord_32 (lv_at L 0 rfl)) ?_
        refine x_up (pc' := 35) (fun _ _ _ _ _ L => lv_iload_n hx hb dX2_writesWord_34 rfl (lv_at L 3 rfl)) ?_
        refine x_up (pc' := 36) (fun _ _ _ _ _ L => lv_iconst (v := (4 : Int32)) hx hb dX2_writesWord_35 (by decide)) ?_
        refine x_up (pc' := 37) (fun _ _ _ _ _ L => lv_irem hx hb dX2_writesWord_36 (by decide)) ?_
        refine x_up (pc' := 38) (fun _ _ _ _ _ L => lv_iload_n hx hb dX2_writesWord_37 rfl (lv_at L 4 rfl)) ?_
        refine x_up (pc' := 39) (fun _ _ _ _ _ L => lv_aload_n hx hb dX2_writesWord_38 rfl (lv_at L 2 rfl)) ?_
        refine x_gi X (kX2 hG) 12 (by decide) q479 (fun _ h => h) dX2_writesWord_39 hp6 (fun v14 hp7 => ?_)
        refine x_pc (pc' := 42) rfl ?_
        refine x_ifn (C := v14 = 0) (pt := 49) (pc' := 45) (fun _ _ _ _ _ => lv_if_ne (tgt := 49) hx hb dX2_writesWord_42 (by decide)) (fun c42 => ?_) (fun c42 => ?_)
        · have hp8 := hp7.1 c42
          refine x_up (pc' := 46) (fun _ _ _ _ _ L => lv_iconst (v := (1 : Int32)) hx hb dX2_writesWord_45 (by decide)) ?_
          refine x_up (pc' := 50) (fun _ _ _ _ _ L => lv_goto (tgt := 50) hx hb dX2_writesWord_46 (by decide)) ?_
          obtain ⟨b15, rfl, hp9⟩ := hp8
          refine x_callV (em := emV) (fun r st => st) (fun _ _ => rfl) 3 X (kX3 hG) (fun σ' KK h => R_X3_takes l hl G hG b15 (x1 - x1 / (4 : Int32) * (4 : Int32)) x2 (1 : Int32) σ' KK h) (lw_V q2504 q2505 q2506 q108 q2507) ⟨rfl, mdX3_takes⟩ ⟨Nat.le_of_ble_eq_true rfl, Nat.le_of_ble_eq_true rfl⟩ rfl rfl (Nat.le_of_ble_eq_true rfl) dX2_writesWord_50 hp9.1 hp9.2 (fun _ σ16 hp10 => ?_)
          refine x_pc (pc' := 53) rfl ?_
          refine x_up (pc' := 54) (fun _ _ _ _ _ L => lv_aload_n hx hb dX2_writesWord_53 rfl (lv_at L 2 rfl)) ?_
          refine x_gi X (kX2 hG) 12 (by decide) q479 (fun _ h => h) dX2_writesWord_54 hp10 (fun v17 hp11 => ?_)
          refine x_pc (pc' := 57) rfl ?_
          refine x_if (C := v17 = 0) (pt := 87) (pc' := 60) (fun _ _ _ _ _ => lv_if_eq (tgt := 87) hx hb dX2_writesWord_57 (by decide)) (fun c57 => ?_) (fun c57 => ?_)
          · have hp12 := hp11.1 c57
            refine x_up (pc' := 88) (fun _ _ _ _ _ L => lv_aload_n hx hb dX2_writesWord_87 rfl (lv_at L 2 rfl)) ?_
            refine x_gq X (kX2 hG) 1 (by decide) q460 (fun _ h => h) dX2_writesWord_88 hp12 (fun v18 hp13 => ?_)
            refine x_pc (pc' := 91) rfl ?_
            refine x_up (pc' := 92) (fun _ _ _ _ _ L => lv_iload_n hx hb dX2_writesWord_91 rfl (lv_at L 3 rfl)) ?_
            refine x_callS (em := emQ) (fun r st => va_rf r :: st) (fun _ _ => rfl) 1 X (fun σ' KK h => R_J23_valueOf l hl G hG x1 σ' KK h) (lw_S q2424 q2425 q128 q2426) mdJ23_valueOf ⟨Nat.le_of_ble_eq_true rfl, Nat.le_of_ble_eq_true rfl⟩ rfl rfl (by simp only [List.map_cons, List.map_nil, List.sum_cons, List.sum_nil, x_catq, x_cati, x_catr, x_catn] <;> decide) dX2_writesWord_92 hp13 (fun v19 σ20 hp14 => ?_)
            refine x_pc (pc' := 95) rfl ?_
            refine x_up (pc' := 96) (fun _ _ _ _ _ L => lv_iload_n hx hb dX2_writesWord_95 rfl (lv_at L 4 rfl)) ?_
            refine x_callS (em := emQ) (fun r st => va_rf r :: st) (fun _ _ => rfl) 1 X (fun σ' KK h => R_J23_valueOf l hl G hG x2 σ' KK h) (lw_S q2424 q2425 q128 q2426) mdJ23_valueOf ⟨Nat.le_of_ble_eq_true rfl, Nat.le_of_ble_eq_true rfl⟩ rfl rfl (by simp only [List.map_cons, List.map_nil, List.sum_cons, List.sum_nil, x_catq, x_cati, x_catr, x_catn] <;> decide) dX2_writesWord_96 hp14 (fun v21 σ22 hp15 => ?_)
            refine x_pc (pc' := 99) rfl ?_
            obtain ⟨b23, rfl, hp16⟩ := hp15
            refine x_callV (em := emQ) (fun r st => va_rf r :: st) (fun _ _ => rfl) 2 X (kJ1 hG) (fun σ' KK h => R_J1_put l hl G hG b23 v19 v21 σ' KK h) (lw_V q2508 q1386 q3699 q102 q1387) ⟨rfl, mdJ1_put⟩ ⟨Nat.le_of_ble_eq_true rfl, Nat.le_of_ble_eq_true rfl⟩ rfl rfl (Nat.le_of_ble_eq_true rfl) dX2_writesWord_99 hp16.1 hp16.2 (fun v24 σ25 hp17 => ?_)
            refine x_pc (pc' := 102) rfl ?_
            refine x_up (pc' := 103) (fun _ _ _ _ _ L => lv_pop hx hb dX2_writesWord_102 (x_catq _)) ?_
            refine x_up (pc' := 104) (fun _ _ _ _ _ L => lv_aload_n hx hb dX2_writesWord_103 rfl (lv_at L 2 rfl)) ?_
            refine x_gi X (kX2 hG) 10 (by decide) q475 (fun _ h => h) dX2_writesWord_104 hp17 (fun v26 hp18 => ?_)
            refine x_pc (pc' := 107) rfl ?_
            refine x_up (pc' := 108) (fun _ _ _ _ _ L => lv_iload_n hx hb dX2_writesWord_107 rfl (lv_at L 1 rfl)) ?_
            refine x_up (pc' := 109) (fun _ _ _ _ _ L => lv_isub hx hb dX2_writesWord_108) ?_
            refine x_vx ?_; exact x_iret X hr rfl dX2_writesWord_109 hp18
          · have hp19 := hp11.2 c57
            refine x_up (pc' := 61) (fun _ _ _ _ _ L => lv_aload_n hx hb dX2_writesWord_60 rfl (lv_at L 2 rfl)) ?_
            refine x_up (pc' := 63) (fun _ _ _ _ _ L => lv_aload hx hb dX2_writesWord_61 (lv_at L 0 rfl)) ?_
            refine x_callV (em := emI) (fun r st => .int r :: st) (fun _ _ => rfl) 0 X (kX3 hG) (fun σ' KK h => R_X3_bank l hl G hG b15 σ' KK h) (lw_V q2452 q2453 q2454 q108 q2455) ⟨rfl, mdX3_bank⟩ ⟨Nat.le_of_ble_eq_true rfl, Nat.le_of_ble_eq_true rfl⟩ rfl rfl (Nat.le_of_ble_eq_true rfl) dX2_writesWord_63 hp19.1 hp19.2 (fun v27 σ28 hp20 => ?_)
            refine x_pc (pc' := 66) rfl ?_
            refine x_up (pc' := 67) (fun _ _ _ _ _ L => lv_iconst (v := (1 : Int32)) hx hb dX2_writesWord_66 (by decide)) ?_
            refine x_callV (em := emV) (fun r st => st) (fun _ _ => rfl) 2 X (kX2 hG) (fun σ' KK h => R_X2_works l hl G hG a0 v27 (1 : Int32) σ' KK h) (lw_V q2456 q2458 qs32 q100 q2459) ⟨rfl, mdX2_works⟩ ⟨Nat.le_of_ble_eq_true rfl, Nat.le_of_ble_eq_true rfl⟩ rfl rfl (Nat.le_of_ble_eq_true rfl) dX2_writesWord_67 hp20.1 hp20.2 (fun _ σ29 hp21 => ?_)
            refine x_pc (pc' := 70) rfl ?_
            refine x_up (pc' := 71) (fun _ _ _ _ _ L => lv_aload_n hx hb dX2_writesWord_70 rfl (lv_at L 2 rfl)) ?_
            refine x_gq X (kX2 hG) 0 (by decide) q458 (fun _ h => h) dX2_writesWord_71 hp21 (fun v30 hp22 => ?_)
            refine x_pc (pc' := 74) rfl ?_
            refine x_up (pc' := 75) (fun _ _ _ _ _ L => lv_iload_n hx hb dX2_writesWord_74 rfl (lv_at L 3 rfl)) ?_
            refine x_up (pc' := 76) (fun _ _ _ _ _ L => lv_iload_n hx hb dX2_writesWord_75 rfl (lv_at L 4 rfl)) ?_
            obtain ⟨b31, rfl, hp23⟩ := hp22
            refine x_iast X dX2_writesWord_76 hp23 (fun σ32 hp24 => ?_)
            refine x_pc (pc' := 77) rfl ?_
            refine x_up (pc' := 78) (fun _ _ _ _ _ L => lv_aload_n hx hb dX2_writesWord_77 rfl (lv_at L 2 rfl)) ?_
            refine x_up (pc' := 79) (fun _ _ _ _ _ L => lv_dup hx hb dX2_writesWord_78 rfl) ?_
            refine x_gi X (kX2 hG) 17 (by decide) q489 (fun _ h => h) dX2_writesWord_79 hp24 (fun v33 hp25 => ?_)
            refine x_pc (pc' := 82) rfl ?_
            refine x_up (pc' := 83) (fun _ _ _ _ _ L => lv_iconst (v := (1 : Int32)) hx hb dX2_writesWord_82 (by decide)) ?_
            refine x_up (pc' := 84) (fun _ _ _ _ _ L => lv_iadd hx hb dX2_writesWord_83) ?_
            refine x_pi X (kX2 hG) 17 (by decide) q489 (fun _ h => h) rfl rfl rfl dX2_writesWord_84 hp25 (fun σ34 hp26 => ?_)
            refine x_pc (pc' := 87) rfl ?_
            refine x_up (pc' := 88) (fun _ _ _ _ _ L => lv_aload_n hx hb dX2_writesWord_87 rfl (lv_at L 2 rfl)) ?_
            refine x_gq X (kX2 hG) 1 (by decide) q460 (fun _ h => h) dX2_writesWord_88 hp26 (fun v35 hp27 => ?_)
            refine x_pc (pc' := 91) rfl ?_
            refine x_up (pc' := 92) (fun _ _ _ _ _ L => lv_iload_n hx hb dX2_writesWord_91 rfl (lv_at L 3 rfl)) ?_
            refine x_callS (em := emQ) (fun r st => va_rf r :: st) (fun _ _ => rfl) 1 X (fun σ' KK h => R_J23_valueOf l hl G hG x1 σ' KK h) (lw_S q2424 q2425 q128 q2426) mdJ23_valueOf ⟨Nat.le_of_ble_eq_true rfl, Nat.le_of_ble_eq_true rfl⟩ rfl rfl (by simp only [List.map_cons, List.map_nil, List.sum_cons, List.sum_nil, x_catq, x_cati, x_catr, x_catn] <;> decide) dX2_writesWord_92 hp27 (fun v36 σ37 hp28 => ?_)
            refine x_pc (pc' := 95) rfl ?_
            refine x_up (pc' := 96) (fun _ _ _ _ _ L => lv_iload_n hx hb dX2_writesWord_95 rfl (lv_at L 4 rfl)) ?_
            refine x_callS (em := emQ) (fun r st => va_rf r :: st) (fun _ _ => rfl) 1 X (fun σ' KK h => R_J23_valueOf l hl G hG x2 σ' KK h) (lw_S q2424 q2425 q128 q2426) mdJ23_valueOf ⟨Nat.le_of_ble_eq_true rfl, Nat.le_of_ble_eq_true rfl⟩ rfl rfl (by simp only [List.map_cons, List.map_nil, List.sum_cons, List.sum_nil, x_catq, x_cati, x_catr, x_catn] <;> decide) dX2_writesWord_96 hp28 (fun v38 σ39 hp29 => ?_)
            refine x_pc (pc' := 99) rfl ?_
            obtain ⟨b40, rfl, hp30⟩ := hp29
            refine x_callV (em := emQ) (fun r st => va_rf r :: st) (fun _ _ => rfl) 2 X (kJ1 hG) (fun σ' KK h => R_J1_put l hl G hG b40 v36 v38 σ' KK h) (lw_V q2508 q1386 q3699 q102 q1387) ⟨rfl, mdJ1_put⟩ ⟨Nat.le_of_ble_eq_true rfl, Nat.le_of_ble_eq_true rfl⟩ rfl rfl (Nat.le_of_ble_eq_true rfl) dX2_writesWord_99 hp30.1 hp30.2 (fun v41 σ42 hp31 => ?_)
            refine x_pc (pc' := 102) rfl ?_
            refine x_up (pc' := 103) (fun _ _ _ _ _ L => lv_pop hx hb dX2_writesWord_102 (x_catq _)) ?_
            refine x_up (pc' := 104) (fun _ _ _ _ _ L => lv_aload_n hx hb dX2_writesWord_103 rfl (lv_at L 2 rfl)) ?_
            refine x_gi X (kX2 hG) 10 (by decide) q475 (fun _ h => h) dX2_writesWord_104 hp31 (fun v43 hp32 => ?_)
            refine x_pc (pc' := 107) rfl ?_
            refine x_up (pc' := 108) (fun _ _ _ _ _ L => lv_iload_n hx hb dX2_writesWord_107 rfl (lv_at L 1 rfl)) ?_
            refine x_up (pc' := 109) (fun _ _ _ _ _ L => lv_isub hx hb dX2_writesWord_108) ?_
            refine x_vx ?_; exact x_iret X hr rfl dX2_writesWord_109 hp32
        · have hp33 := hp7.2 c42
          refine x_up (pc' := 50) (fun _ _ _ _ _ L => lv_iconst (v := (0 : Int32)) hx hb dX2_writesWord_49 (by decide)) ?_
          obtain ⟨b44, rfl, hp34⟩ := hp33
          refine x_callV (em := emV) (fun r st => st) (fun _ _ => rfl) 3 X (kX3 hG) (fun σ' KK h => R_X3_takes l hl G hG b44 (x1 - x1 / (4 : Int32) * (4 : Int32)) x2 (0 : Int32) σ' KK h) (lw_V q2504 q2505 q2506 q108 q2507) ⟨rfl, mdX3_takes⟩ ⟨Nat.le_of_ble_eq_true rfl, Nat.le_of_ble_eq_true rfl⟩ rfl rfl (Nat.le_of_ble_eq_true rfl) dX2_writesWord_50 hp34.1 hp34.2 (fun _ σ45 hp35 => ?_)
          refine x_pc (pc' := 53) rfl ?_
          refine x_up (pc' := 54) (fun _ _ _ _ _ L => lv_aload_n hx hb dX2_writesWord_53 rfl (lv_at L 2 rfl)) ?_
          refine x_gi X (kX2 hG) 12 (by decide) q479 (fun _ h => h) dX2_writesWord_54 hp35 (fun v46 hp36 => ?_)
          refine x_pc (pc' := 57) rfl ?_
          refine x_if (C := v46 = 0) (pt := 87) (pc' := 60) (fun _ _ _ _ _ => lv_if_eq (tgt := 87) hx hb dX2_writesWord_57 (by decide)) (fun c57 => ?_) (fun c57 => ?_)
          · have hp37 := hp36.1 c57
            refine x_up (pc' := 88) (fun _ _ _ _ _ L => lv_aload_n hx hb dX2_writesWord_87 rfl (lv_at L 2 rfl)) ?_
            refine x_gq X (kX2 hG) 1 (by decide) q460 (fun _ h => h) dX2_writesWord_88 hp37 (fun v47 hp38 => ?_)
            refine x_pc (pc' := 91) rfl ?_
            refine x_up (pc' := 92) (fun _ _ _ _ _ L => lv_iload_n hx hb dX2_writesWord_91 rfl (lv_at L 3 rfl)) ?_
            refine x_callS (em := emQ) (fun r st => va_rf r :: st) (fun _ _ => rfl) 1 X (fun σ' KK h => R_J23_valueOf l hl G hG x1 σ' KK h) (lw_S q2424 q2425 q128 q2426) mdJ23_valueOf ⟨Nat.le_of_ble_eq_true rfl, Nat.le_of_ble_eq_true rfl⟩ rfl rfl (by simp only [List.map_cons, List.map_nil, List.sum_cons, List.sum_nil, x_catq, x_cati, x_catr, x_catn] <;> decide) dX2_writesWord_92 hp38 (fun v48 σ49 hp39 => ?_)
            refine x_pc (pc' := 95) rfl ?_
            refine x_up (pc' := 96) (fun _ _ _ _ _ L => lv_iload_n hx hb dX2_writesWord_95 rfl (lv_at L 4 rfl)) ?_
            refine x_callS (em := emQ) (fun r st => va_rf r :: st) (fun _ _ => rfl) 1 X (fun σ' KK h => R_J23_valueOf l hl G hG x2 σ' KK h) (lw_S q2424 q2425 q128 q2426) mdJ23_valueOf ⟨Nat.le_of_ble_eq_true rfl, Nat.le_of_ble_eq_true rfl⟩ rfl rfl (by simp only [List.map_cons, List.map_nil, List.sum_cons, List.sum_nil, x_catq, x_cati, x_catr, x_catn] <;> decide) dX2_writesWord_96 hp39 (fun v50 σ51 hp40 => ?_)
            refine x_pc (pc' := 99) rfl ?_
            obtain ⟨b52, rfl, hp41⟩ := hp40
            refine x_callV (em := emQ) (fun r st => va_rf r :: st) (fun _ _ => rfl) 2 X (kJ1 hG) (fun σ' KK h => R_J1_put l hl G hG b52 v48 v50 σ' KK h) (lw_V q2508 q1386 q3699 q102 q1387) ⟨rfl, mdJ1_put⟩ ⟨Nat.le_of_ble_eq_true rfl, Nat.le_of_ble_eq_true rfl⟩ rfl rfl (Nat.le_of_ble_eq_true rfl) dX2_writesWord_99 hp41.1 hp41.2 (fun v53 σ54 hp42 => ?_)
            refine x_pc (pc' := 102) rfl ?_
            refine x_up (pc' := 103) (fun _ _ _ _ _ L => lv_pop hx hb dX2_writesWord_102 (x_catq _)) ?_
            refine x_up (pc' := 104) (fun _ _ _ _ _ L => lv_aload_n hx hb dX2_writesWord_103 rfl (lv_at L 2 rfl)) ?_
            refine x_gi X (kX2 hG) 10 (by decide) q475 (fun _ h => h) dX2_writesWord_104 hp42 (fun v55 hp43 => ?_)
            refine x_pc (pc' := 107) rfl ?_
            refine x_up (pc' := 108) (fun _ _ _ _ _ L => lv_iload_n hx hb dX2_writesWord_107 rfl (lv_at L 1 rfl)) ?_
            refine x_up (pc' := 109) (fun _ _ _ _ _ L => lv_isub hx hb dX2_writesWord_108) ?_
            refine x_vx ?_; exact x_iret X hr rfl dX2_writesWord_109 hp43
          · have hp44 := hp36.2 c57
            refine x_up (pc' := 61) (fun _ _ _ _ _ L => lv_aload_n hx hb dX2_writesWord_60 rfl (lv_at L 2 rfl)) ?_
            refine x_up (pc' := 63) (fun _ _ _ _ _ L => lv_aload hx hb dX2_writesWord_61 (lv_at L 0 rfl)) ?_
            refine x_callV (em := emI) (fun r st => .int r :: st) (fun _ _ => rfl) 0 X (kX3 hG) (fun σ' KK h => R_X3_bank l hl G hG b44 σ' KK h) (lw_V q2452 q2453 q2454 q108 q2455) ⟨rfl, mdX3_bank⟩ ⟨Nat.le_of_ble_eq_true rfl, Nat.le_of_ble_eq_true rfl⟩ rfl rfl (Nat.le_of_ble_eq_true rfl) dX2_writesWord_63 hp44.1 hp44.2 (fun v56 σ57 hp45 => ?_)
            refine x_pc (pc' := 66) rfl ?_
            refine x_up (pc' := 67) (fun _ _ _ _ _ L => lv_iconst (v := (1 : Int32)) hx hb dX2_writesWord_66 (by decide)) ?_
            refine x_callV (em := emV) (fun r st => st) (fun _ _ => rfl) 2 X (kX2 hG) (fun σ' KK h => R_X2_works l hl G hG a0 v56 (1 : Int32) σ' KK h) (lw_V q2456 q2458 qs32 q100 q2459) ⟨rfl, mdX2_works⟩ ⟨Nat.le_of_ble_eq_true rfl, Nat.le_of_ble_eq_true rfl⟩ rfl rfl (Nat.le_of_ble_eq_true rfl) dX2_writesWord_67 hp45.1 hp45.2 (fun _ σ58 hp46 => ?_)
            refine x_pc (pc' := 70) rfl ?_
            refine x_up (pc' := 71) (fun _ _ _ _ _ L => lv_aload_n hx hb dX2_writesWord_70 rfl (lv_at L 2 rfl)) ?_
            refine x_gq X (kX2 hG) 0 (by decide) q458 (fun _ h => h) dX2_writesWord_71 hp46 (fun v59 hp47 => ?_)
            refine x_pc (pc' := 74) rfl ?_
            refine x_up (pc' := 75) (fun _ _ _ _ _ L => lv_iload_n hx hb dX2_writesWord_74 rfl (lv_at L 3 rfl)) ?_
            refine x_up (pc' := 76) (fun _ _ _ _ _ L => lv_iload_n hx hb dX2_writesWord_75 rfl (lv_at L 4 rfl)) ?_
            obtain ⟨b60, rfl, hp48⟩ := hp47
            refine x_iast X dX2_writesWord_76 hp48 (fun σ61 hp49 => ?_)
            refine x_pc (pc' := 77) rfl ?_
            refine x_up (pc' := 78) (fun _ _ _ _ _ L => lv_aload_n hx hb dX2_writesWord_77 rfl (lv_at L 2 rfl)) ?_
            refine x_up (pc' := 79) (fun _ _ _ _ _ L => lv_dup hx hb dX2_writesWord_78 rfl) ?_
            refine x_gi X (kX2 hG) 17 (by decide) q489 (fun _ h => h) dX2_writesWord_79 hp49 (fun v62 hp50 => ?_)
            refine x_pc (pc' := 82) rfl ?_
            refine x_up (pc' := 83) (fun _ _ _ _ _ L => lv_iconst (v := (1 : Int32)) hx hb dX2_writesWord_82 (by decide)) ?_
            refine x_up (pc' := 84) (fun _ _ _ _ _ L => lv_iadd hx hb dX2_writesWord_83) ?_
            refine x_pi X (kX2 hG) 17 (by decide) q489 (fun _ h => h) rfl rfl rfl dX2_writesWord_84 hp50 (fun σ63 hp51 => ?_)
            refine x_pc (pc' := 87) rfl ?_
            refine x_up (pc' := 88) (fun _ _ _ _ _ L => lv_aload_n hx hb dX2_writesWord_87 rfl (lv_at L 2 rfl)) ?_
            refine x_gq X (kX2 hG) 1 (by decide) q460 (fun _ h => h) dX2_writesWord_88 hp51 (fun v64 hp52 => ?_)
            refine x_pc (pc' := 91) rfl ?_
            refine x_up (pc' := 92) (fun _ _ _ _ _ L => lv_iload_n hx hb dX2_writesWord_91 rfl (lv_at L 3 rfl)) ?_
            refine x_callS (em := emQ) (fun r st => va_rf r :: st) (fun _ _ => rfl) 1 X (fun σ' KK h => R_J23_valueOf l hl G hG x1 σ' KK h) (lw_S q2424 q2425 q128 q2426) mdJ23_valueOf ⟨Nat.le_of_ble_eq_true rfl, Nat.le_of_ble_eq_true rfl⟩ rfl rfl (by simp only [List.map_cons, List.map_nil, List.sum_cons, List.sum_nil, x_catq, x_cati, x_catr, x_catn] <;> decide) dX2_writesWord_92 hp52 (fun v65 σ66 hp53 => ?_)
            refine x_pc (pc' := 95) rfl ?_
            refine x_up (pc' := 96) (fun _ _ _ _ _ L => lv_iload_n hx hb dX2_writesWord_95 rfl (lv_at L 4 rfl)) ?_
            refine x_callS (em := emQ) (fun r st => va_rf r :: st) (fun _ _ => rfl) 1 X (fun σ' KK h => R_J23_valueOf l hl G hG x2 σ' KK h) (lw_S q2424 q2425 q128 q2426) mdJ23_valueOf ⟨Nat.le_of_ble_eq_true rfl, Nat.le_of_ble_eq_true rfl⟩ rfl rfl (by simp only [List.map_cons, List.map_nil, List.sum_cons, List.sum_nil, x_catq, x_cati, x_catr, x_catn] <;> decide) dX2_writesWord_96 hp53 (fun v67 σ68 hp54 => ?_)
            refine x_pc (pc' := 99) rfl ?_
            obtain ⟨b69, rfl, hp55⟩ := hp54
            refine x_callV (em := emQ) (fun r st => va_rf r :: st) (fun _ _ => rfl) 2 X (kJ1 hG) (fun σ' KK h => R_J1_put l hl G hG b69 v65 v67 σ' KK h) (lw_V q2508 q1386 q3699 q102 q1387) ⟨rfl, mdJ1_put⟩ ⟨Nat.le_of_ble_eq_true rfl, Nat.le_of_ble_eq_true rfl⟩ rfl rfl (Nat.le_of_ble_eq_true rfl) dX2_writesWord_99 hp55.1 hp55.2 (fun v70 σ71 hp56 => ?_)
            refine x_pc (pc' := 102) rfl ?_
            refine x_up (pc' := 103) (fun _ _ _ _ _ L => lv_pop hx hb dX2_writesWord_102 (x_catq _)) ?_
            refine x_up (pc' := 104) (fun _ _ _ _ _ L => lv_aload_n hx hb dX2_writesWord_103 rfl (lv_at L 2 rfl)) ?_
            refine x_gi X (kX2 hG) 10 (by decide) q475 (fun _ h => h) dX2_writesWord_104 hp56 (fun v72 hp57 => ?_)
            refine x_pc (pc' := 107) rfl ?_
            refine x_up (pc' := 108) (fun _ _ _ _ _ L => lv_iload_n hx hb dX2_writesWord_107 rfl (lv_at L 1 rfl)) ?_
            refine x_up (pc' := 109) (fun _ _ _ _ _ L => lv_isub hx hb dX2_writesWord_108) ?_
            refine x_vx ?_; exact x_iret X hr rfl dX2_writesWord_109 hp57
      · have hp58 := hpB17
        obtain ⟨hq17, hp59⟩ := hp58
        obtain ⟨hr17, hp60⟩ := hp59
        exact x_out X (kX6 hG) (hout 17) hr17 hq17 hp60
    · have hp61 := hpB5
      obtain ⟨hq5, hp62⟩ := hp61
      obtain ⟨hr5, hp63⟩ := hp62
      exact x_out X (kX6 hG) (hout 5) hr5 hq5 hp63
  · have hp64 := hpB1
    obtain ⟨hq1, hp65⟩ := hp64
    obtain ⟨hr1, hp66⟩ := hp65
    exact x_out X (kX6 hG) (hout 1) hr1 hq1 hp66
-- X2_readsWord
def P_X2_readsWord (κ : Nat → Nat) (a0 : Nat) (x1 : Int32) (σ : xS) (K : Int32 → xH → Prop) (KX : Nat → xH → Prop) : Prop :=
  xcallX (fun τ L LX => P_X1_checkAddress κ x1 τ L LX) σ (fun _ σ1 => xrc σ1 a0 1 ∧ xcallX (fun τ L LX => P_X2_accesses κ a0 (x1 / (4 : Int32)) τ L LX) σ1 (fun v4 σ5 => xgi σ5 a0 1 13 fun v8 => xpi κ σ5 a0 1 13 (v8 + (1 : Int32)) fun σ9 => xnn v4 fun b10 => xgq σ9 b10 5 1 fun v11 => xnn v11 fun b12 => xai .int σ9 b12 (x1 - x1 / (4 : Int32) * (4 : Int32)) fun v13 => K v13 σ9.1) (fun q6 σ7 => κ 0 ≤ q6 ∧ ((xrc σ7 q6 26 ∧ (KX q6 σ7.1))))) (fun q2 σ3 => κ 0 ≤ q2 ∧ ((xrc σ3 q2 26 ∧ (KX q2 σ3.1))))
theorem mdX2_readsWord : yX2_readsWord.cls ≠ "java/lang/invoke/MethodHandle" ∧ yX2_readsWord.cls ≠ "java/lang/invoke/VarHandle" ∧ (parseMethodDescriptor yX2_readsWord.desc).map (fun d => d.parameters.length) = some 1 := by decide +kernel
set_option maxHeartbeats 4000000 in
set_option maxRecDepth 100000 in
theorem R_X2_readsWord (l : Launch) (hl : l.stackTraces = false) (G : xG) (hG : G.1.2 = x_cl) (a0 : Nat) (x1 : Int32) (σ : xS) (K : Int32 → xH → Prop) (KX : Nat → xH → Prop) (hp : P_X2_readsWord G.2 a0 x1 σ K KX) : xMX l yX2_readsWord cX2_readsWord 3 (Option.some Jvm.ClassFile.FieldType.int) 11 261 G [(.ref a0), .int x1] σ (xlift emI K) KX := by
  refine x_entryX (by decide) (Nat.le_of_ble_eq_true rfl) ?_
  intro p e s m args below meth c X hr hin hno
  have X : xX p s m args meth c G cX2_readsWord 3 RX2 := X
  have hx := X.1
  have hb := X.2.1
  have hts := X.2.2.2.2.1
  have hown := X.2.2.2.1
  have hout : ∀ pc, ∀ x ∈ c.exceptionTable.toList, covers x pc = false := fun _ x hx => (hno x hx).elim
  unfold P_X2_readsWord at hp
  refine x_same (lo' := [(0, .ref a0), (1, .int x1)]) rfl ?_
  refine x_up (pc' := 1) (fun _ _ _ _ _ L => lv_iload_n hx hb dX2_readsWord_0 rfl (lv_at L 1 rfl)) ?_
  refine x_callSNX (host := "WordCache") (em := emV) (fun r st => st) (fun _ _ => rfl) 1 X (fun σ' KK KX h => R_X1_checkAddress l hl G hG x1 σ' KK KX h) q2229 q2230 q99 (lw_meth q2231) mdX1_checkAddress ⟨Nat.le_of_ble_eq_true rfl, Nat.le_of_ble_eq_true rfl⟩ rfl rfl (Nat.le_of_ble_eq_true rfl) dX2_readsWord_1 hp (fun _ σ1 hpA1 => ?_) (fun q2 σ3 hpB1 => ?_)
  · have hp1 := hpA1
    refine x_pc (pc' := 4) rfl ?_
    refine x_up (pc' := 5) (fun _ _ _ _ _ L => lv_aload_n hx hb dX2_readsWord_4 rfl (lv_at L 0 rfl)) ?_
    refine x_up (pc' := 6) (fun _ _ _ _ _ L => lv_iload_n hx hb dX2_readsWord_5 rfl (lv_at L 1 rfl)) ?_
    refine x_up (pc' := 7) (fun _ _ _ _ _ L => lv_iconst (v := (4 : Int32)) hx hb dX2_readsWord_6 (by decide)) ?_
    refine x_up (pc' := 8) (fun _ _ _ _ _ L => lv_idiv hx hb dX2_readsWord_7 (by decide)) ?_
    refine x_callVX (em := emQ) (fun r st => va_rf r :: st) (fun _ _ => rfl) 1 X (kX2 hG) (fun σ' KK KX h => R_X2_accesses l hl G hG a0 (x1 / (4 : Int32)) σ' KK KX h) (lw_V q2270 q2272 qs27 q100 q2273) ⟨rfl, mdX2_accesses⟩ ⟨Nat.le_of_ble_eq_true rfl, Nat.le_of_ble_eq_true rfl⟩ rfl rfl (Nat.le_of_ble_eq_true rfl) dX2_readsWord_8 hp1.1 hp1.2 (fun v4 σ5 hpA8 => ?_) (fun q6 σ7 hpB8 => ?_)
    · have hp2 := hpA8
      refine x_pc (pc' := 11) rfl ?_
      refine x_upL (pc' := 12) (lo' := [(2, va_rf v4), (0, .ref a0), (1, .int x1)]) (fun _ _ _ _ _ L => lv_astoreq_n hx hb dX2_readsWord_11 rfl L (by decide) rfl) ?_
      refine x_up (pc' := 13) (fun _ _ _ _ _ L => lv_aload_n hx hb dX2_readsWord_12 rfl (lv_at L 1 rfl)) ?_
      refine x_up (pc' := 14) (fun _ _ _ _ _ L => lv_dup hx hb dX2_readsWord_13 rfl) ?_
      refine x_gi X (kX2 hG) 13 (by decide) q481 (fun _ h => h) dX2_readsWord_14 hp2 (fun v8 hp3 => ?_)
      refine x_pc (pc' := 17) rfl ?_
      refine x_up (pc' := 18) (fun _ _ _ _ _ L => lv_iconst (v := (1 : Int32)) hx hb dX2_readsWord_17 (by decide)) ?_
      refine x_up (pc' := 19) (fun _ _ _ _ _ L => lv_iadd hx hb dX2_readsWord_18) ?_
      refine x_pi X (kX2 hG) 13 (by decide) q481 (fun _ h => h) rfl rfl rfl dX2_readsWord_19 hp3 (fun σ9 hp4 => ?_)
      refine x_pc (pc' := 22) rfl ?_
      refine x_up (pc' := 23) (fun _ _ _ _ _ L => lv_aloadq_n hx hb dX2_readsWord_22 rfl (lv_at L 0 rfl)) ?_
      obtain ⟨b10, rfl, hp5⟩ := hp4
      refine x_gqN X (kX3 hG) 1 (by decide) q297 (fun _ h => h) dX2_readsWord_23 hp5 (fun v11 hp6 => ?_)
      refine x_pc (pc' := 26) rfl ?_
      refine x_up (pc' := 27) (fun _ _ _ _ _ L => lv_iload_n hx hb dX2_readsWord_26 rfl (lv_at L 2 rfl)) ?_
      refine x_up (pc' := 28) (fun _ _ _ _ _ L => lv_iconst (v := (4 : Int32)) hx hb dX2_readsWord_27 (by decide)) ?_
      refine x_up (pc' := 29) (fun _ _ _ _ _ L => lv_irem hx hb dX2_readsWord_28 (by decide)) ?_
      obtain ⟨b12, rfl, hp7⟩ := hp6
      refine x_iald X dX2_readsWord_29 hp7 (fun v13 hp8 => ?_)
      refine x_pc (pc' := 30) rfl ?_
      refine x_vx ?_; exact x_iret X hr rfl dX2_readsWord_30 hp8
    · have hp9 := hpB8
      obtain ⟨hq8, hp10⟩ := hp9
      obtain ⟨hr8, hp11⟩ := hp10
      exact x_out X (kX6 hG) (hout 8) hr8 hq8 hp11
  · have hp12 := hpB1
    obtain ⟨hq1, hp13⟩ := hp12
    obtain ⟨hr1, hp14⟩ := hp13
    exact x_out X (kX6 hG) (hout 1) hr1 hq1 hp14
-- J17_equals
def B_J17_equals_9 (κ : Nat → Nat) (K : Int32 → xH → Prop) (f0 : Nat) (f1 : Nat) : (Int32 → xS → Prop) → Int32 → xS → Prop := fun self10003 w10001 σ10002 =>
  xan σ10002 f0 fun v10004 => ((v10004 ≤ w10001 → (K (1 : Int32) σ10002.1)) ∧ (¬ v10004 ≤ w10001 → (xai .byte σ10002 f0 w10001 fun v10005 => xai .byte σ10002 f1 w10001 fun v10006 => ((v10005 = v10006 → (self10003 (w10001 + (1 : Int32)) σ10002)) ∧ (¬ v10005 = v10006 → (K (0 : Int32) σ10002.1))))))
def P_J17_equals (κ : Nat → Nat) (x0 : Option Nat) (x1 : Option Nat) (σ : xS) (K : Int32 → xH → Prop) : Prop :=
  xnn x0 fun b1 => xan σ b1 fun v2 => xnn x1 fun b3 => xan σ b3 fun v4 => ((v2 = v4 → (xwhile (B_J17_equals_9 κ K b1 b3) (0 : Int32) σ)) ∧ (¬ v2 = v4 → (K (0 : Int32) σ.1)))
theorem mdJ17_equals : yJ17_equals.cls ≠ "java/lang/invoke/MethodHandle" ∧ yJ17_equals.cls ≠ "java/lang/invoke/VarHandle" ∧ (parseMethodDescriptor yJ17_equals.desc).map (fun d => d.parameters.length) = some 2 := by decide +kernel
set_option maxHeartbeats 4000000 in
set_option maxRecDepth 100000 in
theorem R_J17_equals (l : Launch) (hl : l.stackTraces = false) (G : xG) (hG : G.1.2 = x_cl) (x0 : Option Nat) (x1 : Option Nat) (σ : xS) (K : Int32 → xH → Prop) (hp : P_J17_equals G.2 x0 x1 σ K) : xM l yJ17_equals cJ17_equals 3 (Option.some Jvm.ClassFile.FieldType.boolean) 0 0 G [va_rf x0, va_rf x1] σ (xlift emI K) := by
  refine x_entry (by decide) (by simp [lg_sl, x_catq, x_cati, x_catr, x_catn]) ?_
  intro p e s m args below meth c X hr hin
  have X : xX p s m args meth c G cJ17_equals 3 RJ17 := X
  have hx := X.1
  have hb := X.2.1
  have hts := X.2.2.2.2.1
  have hown := X.2.2.2.1
  unfold P_J17_equals at hp
  refine x_same (lo' := [(0, va_rf x0), (1, va_rf x1)]) (by simp [lv_args, x_catq, x_cati, x_catr, x_catn]) ?_
  refine x_up (pc' := 1) (fun _ _ _ _ _ L => lv_aloadq_n hx hb dJ17_equals_0 rfl (lv_at L 0 rfl)) ?_
  obtain ⟨b1, rfl, hp1⟩ := hp
  refine x_alen X dJ17_equals_1 hp1 (fun v2 hp2 => ?_)
  refine x_pc (pc' := 2) rfl ?_
  refine x_up (pc' := 3) (fun _ _ _ _ _ L => lv_aloadq_n hx hb dJ17_equals_2 rfl (lv_at L 1 rfl)) ?_
  obtain ⟨b3, rfl, hp3⟩ := hp2
  refine x_alen X dJ17_equals_3 hp3 (fun v4 hp4 => ?_)
  refine x_pc (pc' := 4) rfl ?_
  refine x_ifn (C := v2 = v4) (pt := 34) (pc' := 7) (fun _ _ _ _ _ => lv_icmp_ne (tgt := 34) hx hb dJ17_equals_4 (by decide)) (fun c4 => ?_) (fun c4 => ?_)
  · have hp5 := hp4.1 c4
    refine x_up (pc' := 8) (fun _ _ _ _ _ L => lv_iconst (v := (0 : Int32)) hx hb dJ17_equals_7 (by decide)) ?_
    refine x_upL (pc' := 9) (lo' := [(2, .int (0 : Int32)), (0, .ref b1), (1, .ref b3)]) (fun _ _ _ _ _ L => lv_istore_n hx hb dJ17_equals_8 rfl L (by decide) rfl) ?_
    refine x_lo (lo' := [(2, .int (0 : Int32)), (0, .ref b1), (1, .ref b3)]) [0, 1, 2] rfl ?_
    refine x_while (v0 := (0 : Int32)) (fun w5 => [(2, .int w5), (0, .ref b1), (1, .ref b3)]) hp5 (fun self6 hself7 => ?_)
    rintro y9 σ8 hp6
    unfold B_J17_equals_9 at hp6
    refine x_same (lo' := [(2, .int y9), (0, .ref b1), (1, .ref b3)]) rfl ?_
    refine x_up (pc' := 10) (fun _ _ _ _ _ L => lv_iload_n hx hb dJ17_equals_9 rfl (lv_at L 0 rfl)) ?_
    refine x_up (pc' := 11) (fun _ _ _ _ _ L => lv_aload_n hx hb dJ17_equals_10 rfl (lv_at L 1 rfl)) ?_
    refine x_alen X dJ17_equals_11 hp6 (fun v10 hp7 => ?_)
    refine x_pc (pc' := 12) rfl ?_
    refine x_if (C := v10 ≤ y9) (pt := 32) (pc' := 15) (fun _ _ _ _ _ => lv_icmp_ge (tgt := 32) hx hb dJ17_equals_12 (by decide)) (fun c12 => ?_) (fun c12 => ?_)
    · have hp8 := hp7.1 c12
      refine x_up (pc' := 33) (fun _ _ _ _ _ L => lv_iconst (v := (1 : Int32)) hx hb dJ17_equals_32 (by decide)) ?_
      exact x_iret X hr rfl dJ17_equals_33 hp8
    · have hp9 := hp7.2 c12
      refine x_up (pc' := 16) (fun _ _ _ _ _ L => lv_aload_n hx hb dJ17_equals_15 rfl (lv_at L 1 rfl)) ?_
      refine x_up (pc' := 17) (fun _ _ _ _ _ L => lv_iload_n hx hb dJ17_equals_16 rfl (lv_at L 0 rfl)) ?_
      refine x_bald X dJ17_equals_17 hp9 (fun v11 hp10 => ?_)
      refine x_pc (pc' := 18) rfl ?_
      refine x_up (pc' := 19) (fun _ _ _ _ _ L => lv_aload_n hx hb dJ17_equals_18 rfl (lv_at L 2 rfl)) ?_
      refine x_up (pc' := 20) (fun _ _ _ _ _ L => lv_iload_n hx hb dJ17_equals_19 rfl (lv_at L 0 rfl)) ?_
      refine x_bald X dJ17_equals_20 hp10 (fun v12 hp11 => ?_)
      refine x_pc (pc' := 21) rfl ?_
      refine x_if (C := v11 = v12) (pt := 26) (pc' := 24) (fun _ _ _ _ _ => lv_icmp_eq (tgt := 26) hx hb dJ17_equals_21 (by decide)) (fun c21 => ?_) (fun c21 => ?_)
      · have hp12 := hp11.1 c21
        refine x_upL (pc' := 29) (lo' := [(2, .int (y9 + (1 : Int32))), (0, .ref b1), (1, .ref b3)]) (fun _ _ _ _ _ L => lv_iinc (v := y9 + (1 : Int32)) hx hb dJ17_equals_26 L (k := 0) rfl rfl (by decide) rfl) ?_
        refine x_up (pc' := 9) (fun _ _ _ _ _ L => lv_goto (tgt := 9) hx hb dJ17_equals_29 (by decide)) ?_
        refine x_lo (lo' := [(2, .int (y9 + (1 : Int32))), (0, .ref b1), (1, .ref b3)]) [0, 1, 2] rfl ?_
        exact hself7 (y9 + (1 : Int32)) σ8 hp12
      · have hp13 := hp11.2 c21
        refine x_up (pc' := 25) (fun _ _ _ _ _ L => lv_iconst (v := (0 : Int32)) hx hb dJ17_equals_24 (by decide)) ?_
        exact x_iret X hr rfl dJ17_equals_25 hp13
  · have hp14 := hp4.2 c4
    refine x_up (pc' := 35) (fun _ _ _ _ _ L => lv_iconst (v := (0 : Int32)) hx hb dJ17_equals_34 (by decide)) ?_
    exact x_iret X hr rfl dJ17_equals_35 hp14
-- J14_equals
def P_J14_equals (κ : Nat → Nat) (a0 : Nat) (x1 : Option Nat) (σ : xS) (K : Int32 → xH → Prop) : Prop :=
  (((some a0) = x1 → (K (1 : Int32) σ.1)) ∧ (¬ (some a0) = x1 → (xnn x1 fun b1 => xrc σ b1 9 ∧ (((1 : Int32) = 0 → (K (0 : Int32) σ.1)) ∧ (¬ (1 : Int32) = 0 → (xrc σ b1 9 ∧ (((1 : Int32) = 0 → (xgq σ a0 9 0 fun v2 => xgq σ b1 9 0 fun v3 => xcall (fun τ L => P_J17_equals κ v2 v3 τ L) σ fun v4 σ5 => ((v4 = 0 → (K (0 : Int32) σ5.1)) ∧ (¬ v4 = 0 → (K (1 : Int32) σ5.1))))) ∧ (¬ (1 : Int32) = 0 → (xgi σ a0 9 1 fun v6 => xgi σ b1 9 1 fun v7 => ((v6 = v7 → (xgq σ a0 9 0 fun v8 => xgq σ b1 9 0 fun v9 => xcall (fun τ L => P_J17_equals κ v8 v9 τ L) σ fun v10 σ11 => ((v10 = 0 → (K (0 : Int32) σ11.1)) ∧ (¬ v10 = 0 → (K (1 : Int32) σ11.1))))) ∧ (¬ v6 = v7 → (K (0 : Int32) σ.1))))))))))))
theorem mdJ14_equals : yJ14_equals.cls ≠ "java/lang/invoke/MethodHandle" ∧ yJ14_equals.cls ≠ "java/lang/invoke/VarHandle" ∧ (parseMethodDescriptor yJ14_equals.desc).map (fun d => d.parameters.length) = some 1 := by decide +kernel
set_option maxHeartbeats 4000000 in
set_option maxRecDepth 100000 in
theorem R_J14_equals (l : Launch) (hl : l.stackTraces = false) (G : xG) (hG : G.1.2 = x_cl) (a0 : Nat) (x1 : Option Nat) (σ : xS) (K : Int32 → xH → Prop) (hp : P_J14_equals G.2 a0 x1 σ K) : xM l yJ14_equals cJ14_equals 3 (Option.some Jvm.ClassFile.FieldType.boolean) 1 22 G [(.ref a0), va_rf x1] σ (xlift emI K) := by
  refine x_entry (by decide) (by simp [lg_sl, x_catq, x_cati, x_catr, x_catn]) ?_
  intro p e s m args below meth c X hr hin
  have X : xX p s m args meth c G cJ14_equals 3 RJ14 := X
  have hx := X.1
  have hb := X.2.1
  have hts := X.2.2.2.2.1
  have hown := X.2.2.2.1
  unfold P_J14_equals at hp
  refine x_same (lo' := [(0, .ref a0), (1, va_rf x1)]) (by simp [lv_args, x_catq, x_cati, x_catr, x_catn]) ?_
  refine x_up (pc' := 1) (fun _ _ _ _ _ L => lv_aload_n hx hb dJ14_equals_0 rfl (lv_at L 0 rfl)) ?_
  refine x_up (pc' := 2) (fun _ _ _ _ _ L => lv_aloadq_n hx hb dJ14_equals_1 rfl (lv_at L 1 rfl)) ?_
  refine x_ifn (C := (some a0) = x1) (pt := 7) (pc' := 5) (fun _ _ _ _ _ => lv_acmp_ne (rx := (some a0)) (ry := x1) (tgt := 7) hx hb dJ14_equals_2 (by decide)) (fun c2 => ?_) (fun c2 => ?_)
  · have hp1 := hp.1 c2
    refine x_up (pc' := 6) (fun _ _ _ _ _ L => lv_iconst (v := (1 : Int32)) hx hb dJ14_equals_5 (by decide)) ?_
    exact x_iret X hr rfl dJ14_equals_6 hp1
  · have hp2 := hp.2 c2
    refine x_up (pc' := 8) (fun _ _ _ _ _ L => lv_aloadq_n hx hb dJ14_equals_7 rfl (lv_at L 1 rfl)) ?_
    obtain ⟨b1, rfl, hp3⟩ := hp2
    refine x_instS X (kJ14 hG) q681 hp3.1 dJ14_equals_8 ?_
    have hp4 := hp3.2
    refine x_pc (pc' := 11) rfl ?_
    refine x_if (C := (1 : Int32) = 0) (pt := 54) (pc' := 14) (fun _ _ _ _ _ => lv_if_eq (tgt := 54) hx hb dJ14_equals_11 (by decide)) (fun c11 => ?_) (fun c11 => ?_)
    · have hp5 := hp4.1 c11
      refine x_up (pc' := 55) (fun _ _ _ _ _ L => lv_iconst (v := (0 : Int32)) hx hb dJ14_equals_54 (by decide)) ?_
      exact x_iret X hr rfl dJ14_equals_55 hp5
    · have hp6 := hp4.2 c11
      refine x_up (pc' := 15) (fun _ _ _ _ _ L => lv_aload_n hx hb dJ14_equals_14 rfl (lv_at L 1 rfl)) ?_
      refine x_castS X (kJ14 hG) q681 hp6.1 dJ14_equals_15 ?_
      have hp7 := hp6.2
      refine x_pc (pc' := 18) rfl ?_
      refine x_upL (pc' := 19) (lo' := [(2, .ref b1), (0, .ref a0), (1, .ref b1)]) (fun _ _ _ _ _ L => lv_astore_n hx hb dJ14_equals_18 rfl L (by decide) rfl) ?_
      refine x_gets (C := "java/lang/String") (n := "COMPACT_STRINGS") (d := "Z") (v := .int (1 : Int32)) X (by simp [x_sts]) q682 (fun _ h => h) dJ14_equals_19 ?_
      refine x_pc (pc' := 22) rfl ?_
      refine x_if (C := (1 : Int32) = 0) (pt := 36) (pc' := 25) (fun _ _ _ _ _ => lv_if_eq (tgt := 36) hx hb dJ14_equals_22 (by decide)) (fun c22 => ?_) (fun c22 => ?_)
      · have hp8 := hp7.1 c22
        refine x_up (pc' := 37) (fun _ _ _ _ _ L => lv_aload_n hx hb dJ14_equals_36 rfl (lv_at L 1 rfl)) ?_
        refine x_gq X (kJ14 hG) 0 (by decide) q1081 (fun _ h => h) dJ14_equals_37 hp8 (fun v2 hp9 => ?_)
        refine x_pc (pc' := 40) rfl ?_
        refine x_up (pc' := 41) (fun _ _ _ _ _ L => lv_aload_n hx hb dJ14_equals_40 rfl (lv_at L 0 rfl)) ?_
        refine x_gq X (kJ14 hG) 0 (by decide) q1081 (fun _ h => h) dJ14_equals_41 hp9 (fun v3 hp10 => ?_)
        refine x_pc (pc' := 44) rfl ?_
        refine x_callS (em := emI) (fun r st => .int r :: st) (fun _ _ => rfl) 2 X (fun σ' KK h => R_J17_equals l hl G hG v2 v3 σ' KK h) (lw_S q683 q684 q122 q685) mdJ17_equals ⟨Nat.le_of_ble_eq_true rfl, Nat.le_of_ble_eq_true rfl⟩ rfl rfl (Nat.le_of_ble_eq_true rfl) dJ14_equals_44 hp10 (fun v4 σ5 hp11 => ?_)
        refine x_pc (pc' := 47) rfl ?_
        refine x_if (C := v4 = 0) (pt := 54) (pc' := 50) (fun _ _ _ _ _ => lv_if_eq (tgt := 54) hx hb dJ14_equals_47 (by decide)) (fun c47 => ?_) (fun c47 => ?_)
        · have hp12 := hp11.1 c47
          refine x_up (pc' := 55) (fun _ _ _ _ _ L => lv_iconst (v := (0 : Int32)) hx hb dJ14_equals_54 (by decide)) ?_
          exact x_iret X hr rfl dJ14_equals_55 hp12
        · have hp13 := hp11.2 c47
          refine x_up (pc' := 51) (fun _ _ _ _ _ L => lv_iconst (v := (1 : Int32)) hx hb dJ14_equals_50 (by decide)) ?_
          refine x_up (pc' := 55) (fun _ _ _ _ _ L => lv_goto (tgt := 55) hx hb dJ14_equals_51 (by decide)) ?_
          exact x_iret X hr rfl dJ14_equals_55 hp13
      · have hp14 := hp7.2 c22
        refine x_up (pc' := 26) (fun _ _ _ _ _ L => lv_aload_n hx hb dJ14_equals_25 rfl (lv_at L 1 rfl)) ?_
        refine x_gi X (kJ14 hG) 1 (by decide) q1082 (fun _ h => h) dJ14_equals_26 hp14 (fun v6 hp15 => ?_)
        refine x_pc (pc' := 29) rfl ?_
        refine x_up (pc' := 30) (fun _ _ _ _ _ L => lv_aload_n hx hb dJ14_equals_29 rfl (lv_at L 0 rfl)) ?_
        refine x_gi X (kJ14 hG) 1 (by decide) q1082 (fun _ h => h) dJ14_equals_30 hp15 (fun v7 hp16 => ?_)
        refine x_pc (pc' := 33) rfl ?_
        refine x_ifn (C := v6 = v7) (pt := 54) (pc' := 36) (fun _ _ _ _ _ => lv_icmp_ne (tgt := 54) hx hb dJ14_equals_33 (by decide)) (fun c33 => ?_) (fun c33 => ?_)
        · have hp17 := hp16.1 c33
          refine x_up (pc' := 37) (fun _ _ _ _ _ L => lv_aload_n hx hb dJ14_equals_36 rfl (lv_at L 1 rfl)) ?_
          refine x_gq X (kJ14 hG) 0 (by decide) q1081 (fun _ h => h) dJ14_equals_37 hp17 (fun v8 hp18 => ?_)
          refine x_pc (pc' := 40) rfl ?_
          refine x_up (pc' := 41) (fun _ _ _ _ _ L => lv_aload_n hx hb dJ14_equals_40 rfl (lv_at L 0 rfl)) ?_
          refine x_gq X (kJ14 hG) 0 (by decide) q1081 (fun _ h => h) dJ14_equals_41 hp18 (fun v9 hp19 => ?_)
          refine x_pc (pc' := 44) rfl ?_
          refine x_callS (em := emI) (fun r st => .int r :: st) (fun _ _ => rfl) 2 X (fun σ' KK h => R_J17_equals l hl G hG v8 v9 σ' KK h) (lw_S q683 q684 q122 q685) mdJ17_equals ⟨Nat.le_of_ble_eq_true rfl, Nat.le_of_ble_eq_true rfl⟩ rfl rfl (Nat.le_of_ble_eq_true rfl) dJ14_equals_44 hp19 (fun v10 σ11 hp20 => ?_)
          refine x_pc (pc' := 47) rfl ?_
          refine x_if (C := v10 = 0) (pt := 54) (pc' := 50) (fun _ _ _ _ _ => lv_if_eq (tgt := 54) hx hb dJ14_equals_47 (by decide)) (fun c47 => ?_) (fun c47 => ?_)
          · have hp21 := hp20.1 c47
            refine x_up (pc' := 55) (fun _ _ _ _ _ L => lv_iconst (v := (0 : Int32)) hx hb dJ14_equals_54 (by decide)) ?_
            exact x_iret X hr rfl dJ14_equals_55 hp21
          · have hp22 := hp20.2 c47
            refine x_up (pc' := 51) (fun _ _ _ _ _ L => lv_iconst (v := (1 : Int32)) hx hb dJ14_equals_50 (by decide)) ?_
            refine x_up (pc' := 55) (fun _ _ _ _ _ L => lv_goto (tgt := 55) hx hb dJ14_equals_51 (by decide)) ?_
            exact x_iret X hr rfl dJ14_equals_55 hp22
        · have hp23 := hp16.2 c33
          refine x_up (pc' := 55) (fun _ _ _ _ _ L => lv_iconst (v := (0 : Int32)) hx hb dJ14_equals_54 (by decide)) ?_
          exact x_iret X hr rfl dJ14_equals_55 hp23
