-- X4_emptiesLine
def B_X4_emptiesLine_64 (κ : Nat → Nat) (K : Unit → xH → Prop) (f0 : Nat) (f1 : Int32) : (Int32 → xS → Prop) → Int32 → xS → Prop := fun self65003 w65001 σ65002 =>
  (((4 : Int32) ≤ w65001 → (K () σ65002.1)) ∧ (¬ (4 : Int32) ≤ w65001 → (xgq σ65002 f0 10 0 fun v65004 => xnn v65004 fun b65005 => xsi κ .int σ65002 b65005 (((169 : Int32) + ((4 : Int32) * f1)) + w65001) (0 : Int32) fun σ65006 => self65003 (w65001 + (1 : Int32)) σ65006)))
def P_X4_emptiesLine (κ : Nat → Nat) (a0 : Nat) (x1 : Int32) (σ : xS) (K : Unit → xH → Prop) : Prop :=
  xgq σ a0 10 0 fun v1 => xnn v1 fun b2 => xsi κ .int σ b2 ((73 : Int32) + x1) (-1 : Int32) fun σ3 => xgq σ3 a0 10 0 fun v4 => xnn v4 fun b5 => xsi κ .int σ3 b5 ((89 : Int32) + x1) (0 : Int32) fun σ6 => xgq σ6 a0 10 0 fun v7 => xnn v7 fun b8 => xsi κ .int σ6 b8 ((105 : Int32) + x1) (0 : Int32) fun σ9 => xgq σ9 a0 10 0 fun v10 => xnn v10 fun b11 => xsi κ .int σ9 b11 ((121 : Int32) + x1) (0 : Int32) fun σ12 => xgq σ12 a0 10 0 fun v13 => xnn v13 fun b14 => xsi κ .int σ12 b14 ((137 : Int32) + x1) (0 : Int32) fun σ15 => xgq σ15 a0 10 0 fun v16 => xnn v16 fun b17 => xsi κ .int σ15 b17 ((153 : Int32) + x1) (0 : Int32) fun σ18 => xwhile (B_X4_emptiesLine_64 κ K a0 x1) (0 : Int32) σ18
theorem mdX4_emptiesLine : yX4_emptiesLine.cls ≠ "java/lang/invoke/MethodHandle" ∧ yX4_emptiesLine.cls ≠ "java/lang/invoke/VarHandle" ∧ (parseMethodDescriptor yX4_emptiesLine.desc).map (fun d => d.parameters.length) = some 1 := by decide +kernel
set_option maxHeartbeats 4000000 in
set_option maxRecDepth 100000 in
theorem R_X4_emptiesLine (l : Launch) (hl : l.stackTraces = false) (G : xG) (hG : G.1.2 = x_cl) (a0 : Nat) (x1 : Int32) (σ : xS) (K : Unit → xH → Prop) (hp : P_X4_emptiesLine G.2 a0 x1 σ K) : xM l yX4_emptiesLine cX4_emptiesLine 3 (Option.none : Option Jvm.ClassFile.FieldType) 0 0 G [(.ref a0), .int x1] σ (xlift emV K) := by
  refine x_entry (by decide) (Nat.le_of_ble_eq_true rfl) ?_
  intro p e s m args below meth c X hr hin
  have X : xX p s m args meth c G cX4_emptiesLine 3 RX4 := X
  have hx := X.1
  have hb := X.2.1
  have hts := X.2.2.2.2.1
  have hown := X.2.2.2.1
  unfold P_X4_emptiesLine at hp
  refine x_same (lo' := [(0, .ref a0), (1, .int x1)]) rfl ?_
  refine x_up (pc' := 1) (fun _ _ _ _ _ L => lv_aload_n hx hb dX4_emptiesLine_0 rfl (lv_at L 0 rfl)) ?_
  refine x_gq X (kX4 hG) 0 (by decide) q3266 (fun _ h => h) dX4_emptiesLine_1 hp (fun v1 hp1 => ?_)
  refine x_pc (pc' := 4) rfl ?_
  refine x_up (pc' := 6) (fun _ _ _ _ _ L => lv_bipush (v := (73 : Int32)) hx hb dX4_emptiesLine_4 (by decide)) ?_
  refine x_up (pc' := 7) (fun _ _ _ _ _ L => lv_iload_n hx hb dX4_emptiesLine_6 rfl (lv_at L 1 rfl)) ?_
  refine x_up (pc' := 8) (fun _ _ _ _ _ L => lv_iadd hx hb dX4_emptiesLine_7) ?_
  refine x_up (pc' := 9) (fun _ _ _ _ _ L => lv_iconst (v := (-1 : Int32)) hx hb dX4_emptiesLine_8 (by decide)) ?_
  obtain ⟨b2, rfl, hp2⟩ := hp1
  refine x_iast X dX4_emptiesLine_9 hp2 (fun σ3 hp3 => ?_)
  refine x_pc (pc' := 10) rfl ?_
  refine x_up (pc' := 11) (fun _ _ _ _ _ L => lv_aload_n hx hb dX4_emptiesLine_10 rfl (lv_at L 0 rfl)) ?_
  refine x_gq X (kX4 hG) 0 (by decide) q3266 (fun _ h => h) dX4_emptiesLine_11 hp3 (fun v4 hp4 => ?_)
  refine x_pc (pc' := 14) rfl ?_
  refine x_up (pc' := 16) (fun _ _ _ _ _ L => lv_bipush (v := (89 : Int32)) hx hb dX4_emptiesLine_14 (by decide)) ?_
  refine x_up (pc' := 17) (fun _ _ _ _ _ L => lv_iload_n hx hb dX4_emptiesLine_16 rfl (lv_at L 1 rfl)) ?_
  refine x_up (pc' := 18) (fun _ _ _ _ _ L => lv_iadd hx hb dX4_emptiesLine_17) ?_
  refine x_up (pc' := 19) (fun _ _ _ _ _ L => lv_iconst (v := (0 : Int32)) hx hb dX4_emptiesLine_18 (by decide)) ?_
  obtain ⟨b5, rfl, hp5⟩ := hp4
  refine x_iast X dX4_emptiesLine_19 hp5 (fun σ6 hp6 => ?_)
  refine x_pc (pc' := 20) rfl ?_
  refine x_up (pc' := 21) (fun _ _ _ _ _ L => lv_aload_n hx hb dX4_emptiesLine_20 rfl (lv_at L 0 rfl)) ?_
  refine x_gq X (kX4 hG) 0 (by decide) q3266 (fun _ h => h) dX4_emptiesLine_21 hp6 (fun v7 hp7 => ?_)
  refine x_pc (pc' := 24) rfl ?_
  refine x_up (pc' := 26) (fun _ _ _ _ _ L => lv_bipush (v := (105 : Int32)) hx hb dX4_emptiesLine_24 (by decide)) ?_
  refine x_up (pc' := 27) (fun _ _ _ _ _ L => lv_iload_n hx hb dX4_emptiesLine_26 rfl (lv_at L 1 rfl)) ?_
  refine x_up (pc' := 28) (fun _ _ _ _ _ L => lv_iadd hx hb dX4_emptiesLine_27) ?_
  refine x_up (pc' := 29) (fun _ _ _ _ _ L => lv_iconst (v := (0 : Int32)) hx hb dX4_emptiesLine_28 (by decide)) ?_
  obtain ⟨b8, rfl, hp8⟩ := hp7
  refine x_iast X dX4_emptiesLine_29 hp8 (fun σ9 hp9 => ?_)
  refine x_pc (pc' := 30) rfl ?_
  refine x_up (pc' := 31) (fun _ _ _ _ _ L => lv_aload_n hx hb dX4_emptiesLine_30 rfl (lv_at L 0 rfl)) ?_
  refine x_gq X (kX4 hG) 0 (by decide) q3266 (fun _ h => h) dX4_emptiesLine_31 hp9 (fun v10 hp10 => ?_)
  refine x_pc (pc' := 34) rfl ?_
  refine x_up (pc' := 36) (fun _ _ _ _ _ L => lv_bipush (v := (121 : Int32)) hx hb dX4_emptiesLine_34 (by decide)) ?_
  refine x_up (pc' := 37) (fun _ _ _ _ _ L => lv_iload_n hx hb dX4_emptiesLine_36 rfl (lv_at L 1 rfl)) ?_
  refine x_up (pc' := 38) (fun _ _ _ _ _ L => lv_iadd hx hb dX4_emptiesLine_37) ?_
  refine x_up (pc' := 39) (fun _ _ _ _ _ L => lv_iconst (v := (0 : Int32)) hx hb dX4_emptiesLine_38 (by decide)) ?_
  obtain ⟨b11, rfl, hp11⟩ := hp10
  refine x_iast X dX4_emptiesLine_39 hp11 (fun σ12 hp12 => ?_)
  refine x_pc (pc' := 40) rfl ?_
  refine x_up (pc' := 41) (fun _ _ _ _ _ L => lv_aload_n hx hb dX4_emptiesLine_40 rfl (lv_at L 0 rfl)) ?_
  refine x_gq X (kX4 hG) 0 (by decide) q3266 (fun _ h => h) dX4_emptiesLine_41 hp12 (fun v13 hp13 => ?_)
  refine x_pc (pc' := 44) rfl ?_
  refine x_up (pc' := 47) (fun _ _ _ _ _ L => lv_sipush (v := (137 : Int32)) hx hb dX4_emptiesLine_44 (by decide)) ?_
  refine x_up (pc' := 48) (fun _ _ _ _ _ L => lv_iload_n hx hb dX4_emptiesLine_47 rfl (lv_at L 1 rfl)) ?_
  refine x_up (pc' := 49) (fun _ _ _ _ _ L => lv_iadd hx hb dX4_emptiesLine_48) ?_
  refine x_up (pc' := 50) (fun _ _ _ _ _ L => lv_iconst (v := (0 : Int32)) hx hb dX4_emptiesLine_49 (by decide)) ?_
  obtain ⟨b14, rfl, hp14⟩ := hp13
  refine x_iast X dX4_emptiesLine_50 hp14 (fun σ15 hp15 => ?_)
  refine x_pc (pc' := 51) rfl ?_
  refine x_up (pc' := 52) (fun _ _ _ _ _ L => lv_aload_n hx hb dX4_emptiesLine_51 rfl (lv_at L 0 rfl)) ?_
  refine x_gq X (kX4 hG) 0 (by decide) q3266 (fun _ h => h) dX4_emptiesLine_52 hp15 (fun v16 hp16 => ?_)
  refine x_pc (pc' := 55) rfl ?_
  refine x_up (pc' := 58) (fun _ _ _ _ _ L => lv_sipush (v := (153 : Int32)) hx hb dX4_emptiesLine_55 (by decide)) ?_
  refine x_up (pc' := 59) (fun _ _ _ _ _ L => lv_iload_n hx hb dX4_emptiesLine_58 rfl (lv_at L 1 rfl)) ?_
  refine x_up (pc' := 60) (fun _ _ _ _ _ L => lv_iadd hx hb dX4_emptiesLine_59) ?_
  refine x_up (pc' := 61) (fun _ _ _ _ _ L => lv_iconst (v := (0 : Int32)) hx hb dX4_emptiesLine_60 (by decide)) ?_
  obtain ⟨b17, rfl, hp17⟩ := hp16
  refine x_iast X dX4_emptiesLine_61 hp17 (fun σ18 hp18 => ?_)
  refine x_pc (pc' := 62) rfl ?_
  refine x_up (pc' := 63) (fun _ _ _ _ _ L => lv_iconst (v := (0 : Int32)) hx hb dX4_emptiesLine_62 (by decide)) ?_
  refine x_upL (pc' := 64) (lo' := [(2, .int (0 : Int32)), (0, .ref a0), (1, .int x1)]) (fun _ _ _ _ _ L => lv_istore_n hx hb dX4_emptiesLine_63 rfl L (by decide) rfl) ?_
  refine x_lo (lo' := [(2, .int (0 : Int32)), (0, .ref a0), (1, .int x1)]) [0, 1, 2] rfl ?_
  refine x_while (v0 := (0 : Int32)) (fun w19 => [(2, .int w19), (0, .ref a0), (1, .int x1)]) hp18 (fun self20 hself21 => ?_)
  rintro y23 σ22 hp19
  unfold B_X4_emptiesLine_64 at hp19
  refine x_same (lo' := [(2, .int y23), (0, .ref a0), (1, .int x1)]) rfl ?_
  refine x_up (pc' := 65) (fun _ _ _ _ _ L => lv_iload_n hx hb dX4_emptiesLine_64 rfl (lv_at L 0 rfl)) ?_
  refine x_up (pc' := 66) (fun _ _ _ _ _ L => lv_iconst (v := (4 : Int32)) hx hb dX4_emptiesLine_65 (by decide)) ?_
  refine x_if (C := (4 : Int32) ≤ y23) (pt := 90) (pc' := 69) (fun _ _ _ _ _ => lv_icmp_ge (tgt := 90) hx hb dX4_emptiesLine_66 (by decide)) (fun c66 => ?_) (fun c66 => ?_)
  · have hp20 := hp19.1 c66
    exact x_vret X hr dX4_emptiesLine_90 hp20
  · have hp21 := hp19.2 c66
    refine x_up (pc' := 70) (fun _ _ _ _ _ L => lv_aload_n hx hb dX4_emptiesLine_69 rfl (lv_at L 1 rfl)) ?_
    refine x_gq X (kX4 hG) 0 (by decide) q3266 (fun _ h => h) dX4_emptiesLine_70 hp21 (fun v24 hp22 => ?_)
    refine x_pc (pc' := 73) rfl ?_
    refine x_up (pc' := 76) (fun _ _ _ _ _ L => lv_sipush (v := (169 : Int32)) hx hb dX4_emptiesLine_73 (by decide)) ?_
    refine x_up (pc' := 77) (fun _ _ _ _ _ L => lv_iconst (v := (4 : Int32)) hx hb dX4_emptiesLine_76 (by decide)) ?_
    refine x_up (pc' := 78) (fun _ _ _ _ _ L => lv_iload_n hx hb dX4_emptiesLine_77 rfl (lv_at L 2 rfl)) ?_
    refine x_up (pc' := 79) (fun _ _ _ _ _ L => lv_imul hx hb dX4_emptiesLine_78) ?_
    refine x_up (pc' := 80) (fun _ _ _ _ _ L => lv_iadd hx hb dX4_emptiesLine_79) ?_
    refine x_up (pc' := 81) (fun _ _ _ _ _ L => lv_iload_n hx hb dX4_emptiesLine_80 rfl (lv_at L 0 rfl)) ?_
    refine x_up (pc' := 82) (fun _ _ _ _ _ L => lv_iadd hx hb dX4_emptiesLine_81) ?_
    refine x_up (pc' := 83) (fun _ _ _ _ _ L => lv_iconst (v := (0 : Int32)) hx hb dX4_emptiesLine_82 (by decide)) ?_
    obtain ⟨b25, rfl, hp23⟩ := hp22
    refine x_iast X dX4_emptiesLine_83 hp23 (fun σ26 hp24 => ?_)
    refine x_pc (pc' := 84) rfl ?_
    refine x_upL (pc' := 87) (lo' := [(2, .int (y23 + (1 : Int32))), (0, .ref a0), (1, .int x1)]) (fun _ _ _ _ _ L => lv_iinc (v := y23 + (1 : Int32)) hx hb dX4_emptiesLine_84 L (k := 0) rfl rfl (by decide) rfl) ?_
    refine x_up (pc' := 64) (fun _ _ _ _ _ L => lv_goto (tgt := 64) hx hb dX4_emptiesLine_87 (by decide)) ?_
    refine x_lo (lo' := [(2, .int (y23 + (1 : Int32))), (0, .ref a0), (1, .int x1)]) [0, 1, 2] rfl ?_
    exact hself21 (y23 + (1 : Int32)) σ26 hp24
-- X4_empties
def B_X4_empties_2 (κ : Nat → Nat) (K : Unit → xH → Prop) (f0 : Nat) : (Int32 → xS → Prop) → Int32 → xS → Prop := fun self3003 w3001 σ3002 =>
  (((16 : Int32) ≤ w3001 → (K () σ3002.1)) ∧ (¬ (16 : Int32) ≤ w3001 → (xrc σ3002 f0 10 ∧ xcall (fun τ L => P_X4_emptiesLine κ f0 w3001 τ L) σ3002 fun _ σ3004 => self3003 (w3001 + (1 : Int32)) σ3004)))
def P_X4_empties (κ : Nat → Nat) (a0 : Nat) (σ : xS) (K : Unit → xH → Prop) : Prop :=
  xwhile (B_X4_empties_2 κ K a0) (0 : Int32) σ
theorem mdX4_empties : yX4_empties.cls ≠ "java/lang/invoke/MethodHandle" ∧ yX4_empties.cls ≠ "java/lang/invoke/VarHandle" ∧ (parseMethodDescriptor yX4_empties.desc).map (fun d => d.parameters.length) = some 0 := by decide +kernel
set_option maxHeartbeats 4000000 in
set_option maxRecDepth 100000 in
theorem R_X4_empties (l : Launch) (hl : l.stackTraces = false) (G : xG) (hG : G.1.2 = x_cl) (a0 : Nat) (σ : xS) (K : Unit → xH → Prop) (hp : P_X4_empties G.2 a0 σ K) : xM l yX4_empties cX4_empties 2 (Option.none : Option Jvm.ClassFile.FieldType) 1 22 G [(.ref a0)] σ (xlift emV K) := by
  refine x_entry (by decide) (Nat.le_of_ble_eq_true rfl) ?_
  intro p e s m args below meth c X hr hin
  have X : xX p s m args meth c G cX4_empties 2 RX4 := X
  have hx := X.1
  have hb := X.2.1
  have hts := X.2.2.2.2.1
  have hown := X.2.2.2.1
  unfold P_X4_empties at hp
  refine x_same (lo' := [(0, .ref a0)]) rfl ?_
  refine x_up (pc' := 1) (fun _ _ _ _ _ L => lv_iconst (v := (0 : Int32)) hx hb dX4_empties_0 (by decide)) ?_
  refine x_upL (pc' := 2) (lo' := [(1, .int (0 : Int32)), (0, .ref a0)]) (fun _ _ _ _ _ L => lv_istore_n hx hb dX4_empties_1 rfl L (by decide) rfl) ?_
  refine x_lo (lo' := [(1, .int (0 : Int32)), (0, .ref a0)]) [0, 1] rfl ?_
  refine x_while (v0 := (0 : Int32)) (fun w1 => [(1, .int w1), (0, .ref a0)]) hp (fun self2 hself3 => ?_)
  rintro y5 σ4 hp1
  unfold B_X4_empties_2 at hp1
  refine x_same (lo' := [(1, .int y5), (0, .ref a0)]) rfl ?_
  refine x_up (pc' := 3) (fun _ _ _ _ _ L => lv_iload_n hx hb dX4_empties_2 rfl (lv_at L 0 rfl)) ?_
  refine x_up (pc' := 5) (fun _ _ _ _ _ L => lv_bipush (v := (16 : Int32)) hx hb dX4_empties_3 (by decide)) ?_
  refine x_if (C := (16 : Int32) ≤ y5) (pt := 19) (pc' := 8) (fun _ _ _ _ _ => lv_icmp_ge (tgt := 19) hx hb dX4_empties_5 (by decide)) (fun c5 => ?_) (fun c5 => ?_)
  · have hp2 := hp1.1 c5
    exact x_vret X hr dX4_empties_19 hp2
  · have hp3 := hp1.2 c5
    refine x_up (pc' := 9) (fun _ _ _ _ _ L => lv_aload_n hx hb dX4_empties_8 rfl (lv_at L 1 rfl)) ?_
    refine x_up (pc' := 10) (fun _ _ _ _ _ L => lv_iload_n hx hb dX4_empties_9 rfl (lv_at L 0 rfl)) ?_
    refine x_callV (em := emV) (fun r st => st) (fun _ _ => rfl) 1 X (kX4 hG) (fun σ' KK h => R_X4_emptiesLine l hl G hG a0 y5 σ' KK h) (lw_V q3262 q3264 qs55 q119 q3265) ⟨rfl, mdX4_emptiesLine⟩ ⟨Nat.le_of_ble_eq_true rfl, Nat.le_of_ble_eq_true rfl⟩ rfl rfl (Nat.le_of_ble_eq_true rfl) dX4_empties_10 hp3.1 hp3.2 (fun _ σ6 hp4 => ?_)
    refine x_pc (pc' := 13) rfl ?_
    refine x_upL (pc' := 16) (lo' := [(1, .int (y5 + (1 : Int32))), (0, .ref a0)]) (fun _ _ _ _ _ L => lv_iinc (v := y5 + (1 : Int32)) hx hb dX4_empties_13 L (k := 0) rfl rfl (by decide) rfl) ?_
    refine x_up (pc' := 2) (fun _ _ _ _ _ L => lv_goto (tgt := 2) hx hb dX4_empties_16 (by decide)) ?_
    refine x_lo (lo' := [(1, .int (y5 + (1 : Int32))), (0, .ref a0)]) [0, 1] rfl ?_
    exact hself3 (y5 + (1 : Int32)) σ6 hp4
-- X4_init
def P_X4_init (κ : Nat → Nat) (a0 : Nat) (σ : xS) (K : Unit → xH → Prop) : Prop :=
  xnea κ σ .int (357 : Int32) (fun N => (N, .inl fun _ => 0)) fun q1 σ2 => xpq κ σ2 a0 10 0 (some q1) fun σ3 => xnea κ σ3 .int (357 : Int32) (fun N => (N, .inl fun _ => 0)) fun q4 σ5 => xpq κ σ5 a0 10 1 (some q4) fun σ6 => xnea κ σ6 .int (2856 : Int32) (fun N => (N, .inl fun _ => 0)) fun q7 σ8 => xpq κ σ8 a0 10 2 (some q7) fun σ9 => xnea κ σ9 .int (357 : Int32) (fun N => (N, .inl fun _ => 0)) fun q10 σ11 => xpq κ σ11 a0 10 4 (some q10) fun σ12 => xnea κ σ12 .int (357 : Int32) (fun N => (N, .inl fun _ => 0)) fun q13 σ14 => xpq κ σ14 a0 10 6 (some q13) fun σ15 => xnea κ σ15 .char (60 : Int32) (fun N => (N, .inl fun _ => 0)) fun q16 σ17 => xpq κ σ17 a0 10 7 (some q16) fun σ18 => xpi κ σ18 a0 10 9 (-1 : Int32) fun σ19 => xnea κ σ19 .char (60 : Int32) (fun N => (N, .inl fun _ => 0)) fun q20 σ21 => xpq κ σ21 a0 10 14 (some q20) fun σ22 => xnea κ σ22 .int (180 : Int32) (fun N => (N, .inl fun _ => 0)) fun q23 σ24 => xpq κ σ24 a0 10 19 (some q23) fun σ25 => xgq σ25 a0 10 0 fun v26 => xnn v26 fun b27 => xsi κ .int σ25 b27 (1 : Int32) (2 : Int32) fun σ28 => xgq σ28 a0 10 0 fun v29 => xnn v29 fun b30 => xsi κ .int σ28 b30 (2 : Int32) (2 : Int32) fun σ31 => xrc σ31 a0 10 ∧ xcall (fun τ L => P_X4_empties κ a0 τ L) σ31 fun _ σ32 => K () σ32.1
theorem mdX4_init : yX4_init.cls ≠ "java/lang/invoke/MethodHandle" ∧ yX4_init.cls ≠ "java/lang/invoke/VarHandle" ∧ (parseMethodDescriptor yX4_init.desc).map (fun d => d.parameters.length) = some 0 := by decide +kernel
set_option maxHeartbeats 4000000 in
set_option maxRecDepth 100000 in
theorem R_X4_init (l : Launch) (hl : l.stackTraces = false) (G : xG) (hG : G.1.2 = x_cl) (a0 : Nat) (σ : xS) (K : Unit → xH → Prop) (hp : P_X4_init G.2 a0 σ K) : xM l yX4_init cX4_init 1 (Option.none : Option Jvm.ClassFile.FieldType) 2 43 G [(.ref a0)] σ (xlift emV K) := by
  refine x_entry (by decide) (Nat.le_of_ble_eq_true rfl) ?_
  intro p e s m args below meth c X hr hin
  have X : xX p s m args meth c G cX4_init 1 RX4 := X
  have hx := X.1
  have hb := X.2.1
  have hts := X.2.2.2.2.1
  have hown := X.2.2.2.1
  unfold P_X4_init at hp
  refine x_same (lo' := [(0, .ref a0)]) rfl ?_
  refine x_up (pc' := 1) (fun _ _ _ _ _ L => lv_aload_n hx hb dX4_init_0 rfl (lv_at L 0 rfl)) ?_
  refine x_objInit X q3257 q170 q171 dX4_init_1 (Nat.le_of_ble_eq_true rfl) ⟨Nat.le_of_ble_eq_true rfl, Nat.le_of_ble_eq_true rfl⟩ ?_
  refine x_pc (pc' := 4) rfl ?_
  refine x_up (pc' := 5) (fun _ _ _ _ _ L => lv_aload_n hx hb dX4_init_4 rfl (lv_at L 0 rfl)) ?_
  refine x_up (pc' := 8) (fun _ _ _ _ _ L => lv_sipush (v := (357 : Int32)) hx hb dX4_init_5 (by decide)) ?_
  refine x_nea .int rfl (fun _ h => nomatch h) X q212 (fun N => (N, .inl fun _ => 0)) (fun _ => rfl) (fun _ _ => rfl) (by decide) dX4_init_8 hp (fun q1 σ2 hp1 => ?_)
  refine x_pc (pc' := 10) rfl ?_
  refine x_pqF X (kX4 hG) 0 (by decide) q3266 (fun _ h => h) rfl hin rfl (some q1) (x_nar _ (by decide)) (x_fit _ (by decide)) dX4_init_10 hp1 (fun σ3 hp2 => ?_)
  refine x_pc (pc' := 13) rfl ?_
  refine x_up (pc' := 14) (fun _ _ _ _ _ L => lv_aload_n hx hb dX4_init_13 rfl (lv_at L 0 rfl)) ?_
  refine x_up (pc' := 17) (fun _ _ _ _ _ L => lv_sipush (v := (357 : Int32)) hx hb dX4_init_14 (by decide)) ?_
  refine x_nea .int rfl (fun _ h => nomatch h) X q212 (fun N => (N, .inl fun _ => 0)) (fun _ => rfl) (fun _ _ => rfl) (by decide) dX4_init_17 hp2 (fun q4 σ5 hp3 => ?_)
  refine x_pc (pc' := 19) rfl ?_
  refine x_pqF X (kX4 hG) 1 (by decide) q3267 (fun _ h => h) rfl hin rfl (some q4) (x_nar _ (by decide)) (x_fit _ (by decide)) dX4_init_19 hp3 (fun σ6 hp4 => ?_)
  refine x_pc (pc' := 22) rfl ?_
  refine x_up (pc' := 23) (fun _ _ _ _ _ L => lv_aload_n hx hb dX4_init_22 rfl (lv_at L 0 rfl)) ?_
  refine x_up (pc' := 26) (fun _ _ _ _ _ L => lv_sipush (v := (2856 : Int32)) hx hb dX4_init_23 (by decide)) ?_
  refine x_nea .int rfl (fun _ h => nomatch h) X q212 (fun N => (N, .inl fun _ => 0)) (fun _ => rfl) (fun _ _ => rfl) (by decide) dX4_init_26 hp4 (fun q7 σ8 hp5 => ?_)
  refine x_pc (pc' := 28) rfl ?_
  refine x_pqF X (kX4 hG) 2 (by decide) q3268 (fun _ h => h) rfl hin rfl (some q7) (x_nar _ (by decide)) (x_fit _ (by decide)) dX4_init_28 hp5 (fun σ9 hp6 => ?_)
  refine x_pc (pc' := 31) rfl ?_
  refine x_up (pc' := 32) (fun _ _ _ _ _ L => lv_aload_n hx hb dX4_init_31 rfl (lv_at L 0 rfl)) ?_
  refine x_up (pc' := 35) (fun _ _ _ _ _ L => lv_sipush (v := (357 : Int32)) hx hb dX4_init_32 (by decide)) ?_
  refine x_nea .int rfl (fun _ h => nomatch h) X q212 (fun N => (N, .inl fun _ => 0)) (fun _ => rfl) (fun _ _ => rfl) (by decide) dX4_init_35 hp6 (fun q10 σ11 hp7 => ?_)
  refine x_pc (pc' := 37) rfl ?_
  refine x_pqF X (kX4 hG) 4 (by decide) q3270 (fun _ h => h) rfl hin rfl (some q10) (x_nar _ (by decide)) (x_fit _ (by decide)) dX4_init_37 hp7 (fun σ12 hp8 => ?_)
  refine x_pc (pc' := 40) rfl ?_
  refine x_up (pc' := 41) (fun _ _ _ _ _ L => lv_aload_n hx hb dX4_init_40 rfl (lv_at L 0 rfl)) ?_
  refine x_up (pc' := 44) (fun _ _ _ _ _ L => lv_sipush (v := (357 : Int32)) hx hb dX4_init_41 (by decide)) ?_
  refine x_nea .int rfl (fun _ h => nomatch h) X q212 (fun N => (N, .inl fun _ => 0)) (fun _ => rfl) (fun _ _ => rfl) (by decide) dX4_init_44 hp8 (fun q13 σ14 hp9 => ?_)
  refine x_pc (pc' := 46) rfl ?_
  refine x_pqF X (kX4 hG) 6 (by decide) q3272 (fun _ h => h) rfl hin rfl (some q13) (x_nar _ (by decide)) (x_fit _ (by decide)) dX4_init_46 hp9 (fun σ15 hp10 => ?_)
  refine x_pc (pc' := 49) rfl ?_
  refine x_up (pc' := 50) (fun _ _ _ _ _ L => lv_aload_n hx hb dX4_init_49 rfl (lv_at L 0 rfl)) ?_
  refine x_up (pc' := 52) (fun _ _ _ _ _ L => lv_bipush (v := (60 : Int32)) hx hb dX4_init_50 (by decide)) ?_
  refine x_nea .char rfl (fun _ h => nomatch h) X q3327 (fun N => (N, .inl fun _ => 0)) (fun _ => rfl) (fun _ _ => rfl) (by decide) dX4_init_52 hp10 (fun q16 σ17 hp11 => ?_)
  refine x_pc (pc' := 54) rfl ?_
  refine x_pqF X (kX4 hG) 7 (by decide) q3273 (fun _ h => h) rfl hin rfl (some q16) (x_nar _ (by decide)) (x_fit _ (by decide)) dX4_init_54 hp11 (fun σ18 hp12 => ?_)
  refine x_pc (pc' := 57) rfl ?_
  refine x_up (pc' := 58) (fun _ _ _ _ _ L => lv_aload_n hx hb dX4_init_57 rfl (lv_at L 0 rfl)) ?_
  refine x_up (pc' := 59) (fun _ _ _ _ _ L => lv_iconst (v := (-1 : Int32)) hx hb dX4_init_58 (by decide)) ?_
  refine x_pi X (kX4 hG) 9 (by decide) q3275 (fun _ h => h) rfl rfl rfl dX4_init_59 hp12 (fun σ19 hp13 => ?_)
  refine x_pc (pc' := 62) rfl ?_
  refine x_up (pc' := 63) (fun _ _ _ _ _ L => lv_aload_n hx hb dX4_init_62 rfl (lv_at L 0 rfl)) ?_
  refine x_up (pc' := 65) (fun _ _ _ _ _ L => lv_bipush (v := (60 : Int32)) hx hb dX4_init_63 (by decide)) ?_
  refine x_nea .char rfl (fun _ h => nomatch h) X q3327 (fun N => (N, .inl fun _ => 0)) (fun _ => rfl) (fun _ _ => rfl) (by decide) dX4_init_65 hp13 (fun q20 σ21 hp14 => ?_)
  refine x_pc (pc' := 67) rfl ?_
  refine x_pqF X (kX4 hG) 14 (by decide) q3280 (fun _ h => h) rfl hin rfl (some q20) (x_nar _ (by decide)) (x_fit _ (by decide)) dX4_init_67 hp14 (fun σ22 hp15 => ?_)
  refine x_pc (pc' := 70) rfl ?_
  refine x_up (pc' := 71) (fun _ _ _ _ _ L => lv_aload_n hx hb dX4_init_70 rfl (lv_at L 0 rfl)) ?_
  refine x_up (pc' := 74) (fun _ _ _ _ _ L => lv_sipush (v := (180 : Int32)) hx hb dX4_init_71 (by decide)) ?_
  refine x_nea .int rfl (fun _ h => nomatch h) X q212 (fun N => (N, .inl fun _ => 0)) (fun _ => rfl) (fun _ _ => rfl) (by decide) dX4_init_74 hp15 (fun q23 σ24 hp16 => ?_)
  refine x_pc (pc' := 76) rfl ?_
  refine x_pqF X (kX4 hG) 19 (by decide) q3285 (fun _ h => h) rfl hin rfl (some q23) (x_nar _ (by decide)) (x_fit _ (by decide)) dX4_init_76 hp16 (fun σ25 hp17 => ?_)
  refine x_pc (pc' := 79) rfl ?_
  refine x_up (pc' := 80) (fun _ _ _ _ _ L => lv_aload_n hx hb dX4_init_79 rfl (lv_at L 0 rfl)) ?_
  refine x_gq X (kX4 hG) 0 (by decide) q3266 (fun _ h => h) dX4_init_80 hp17 (fun v26 hp18 => ?_)
  refine x_pc (pc' := 83) rfl ?_
  refine x_up (pc' := 84) (fun _ _ _ _ _ L => lv_iconst (v := (1 : Int32)) hx hb dX4_init_83 (by decide)) ?_
  refine x_up (pc' := 85) (fun _ _ _ _ _ L => lv_iconst (v := (2 : Int32)) hx hb dX4_init_84 (by decide)) ?_
  obtain ⟨b27, rfl, hp19⟩ := hp18
  refine x_iast X dX4_init_85 hp19 (fun σ28 hp20 => ?_)
  refine x_pc (pc' := 86) rfl ?_
  refine x_up (pc' := 87) (fun _ _ _ _ _ L => lv_aload_n hx hb dX4_init_86 rfl (lv_at L 0 rfl)) ?_
  refine x_gq X (kX4 hG) 0 (by decide) q3266 (fun _ h => h) dX4_init_87 hp20 (fun v29 hp21 => ?_)
  refine x_pc (pc' := 90) rfl ?_
  refine x_up (pc' := 91) (fun _ _ _ _ _ L => lv_iconst (v := (2 : Int32)) hx hb dX4_init_90 (by decide)) ?_
  refine x_up (pc' := 92) (fun _ _ _ _ _ L => lv_iconst (v := (2 : Int32)) hx hb dX4_init_91 (by decide)) ?_
  obtain ⟨b30, rfl, hp22⟩ := hp21
  refine x_iast X dX4_init_92 hp22 (fun σ31 hp23 => ?_)
  refine x_pc (pc' := 93) rfl ?_
  refine x_up (pc' := 94) (fun _ _ _ _ _ L => lv_aload_n hx hb dX4_init_93 rfl (lv_at L 0 rfl)) ?_
  refine x_callV (em := emV) (fun r st => st) (fun _ _ => rfl) 0 X (kX4 hG) (fun σ' KK h => R_X4_empties l hl G hG a0 σ' KK h) (lw_V q3258 q3260 qs54 q119 q3261) ⟨rfl, mdX4_empties⟩ ⟨Nat.le_of_ble_eq_true rfl, Nat.le_of_ble_eq_true rfl⟩ rfl rfl (Nat.le_of_ble_eq_true rfl) dX4_init_94 hp23.1 hp23.2 (fun _ σ32 hp24 => ?_)
  refine x_pc (pc' := 97) rfl ?_
  exact x_vret X hr dX4_init_97 hp24
-- X4_thrown
def P_X4_thrown (κ : Nat → Nat) (a0 : Nat) (σ : xS) (K : Int32 → xH → Prop) : Prop :=
  xgi σ a0 10 16 fun v1 => K v1 σ.1
theorem mdX4_thrown : yX4_thrown.cls ≠ "java/lang/invoke/MethodHandle" ∧ yX4_thrown.cls ≠ "java/lang/invoke/VarHandle" ∧ (parseMethodDescriptor yX4_thrown.desc).map (fun d => d.parameters.length) = some 0 := by decide +kernel
set_option maxHeartbeats 4000000 in
set_option maxRecDepth 100000 in
theorem R_X4_thrown (l : Launch) (hl : l.stackTraces = false) (G : xG) (hG : G.1.2 = x_cl) (a0 : Nat) (σ : xS) (K : Int32 → xH → Prop) (hp : P_X4_thrown G.2 a0 σ K) : xM l yX4_thrown cX4_thrown 1 (Option.some Jvm.ClassFile.FieldType.int) 0 0 G [(.ref a0)] σ (xlift emI K) := by
  refine x_entry (by decide) (Nat.le_of_ble_eq_true rfl) ?_
  intro p e s m args below meth c X hr hin
  have X : xX p s m args meth c G cX4_thrown 1 RX4 := X
  have hx := X.1
  have hb := X.2.1
  have hts := X.2.2.2.2.1
  have hown := X.2.2.2.1
  unfold P_X4_thrown at hp
  refine x_same (lo' := [(0, .ref a0)]) rfl ?_
  refine x_up (pc' := 1) (fun _ _ _ _ _ L => lv_aload_n hx hb dX4_thrown_0 rfl (lv_at L 0 rfl)) ?_
  refine x_gi X (kX4 hG) 16 (by decide) q3282 (fun _ h => h) dX4_thrown_1 hp (fun v1 hp1 => ?_)
  refine x_pc (pc' := 4) rfl ?_
  exact x_iret X hr rfl dX4_thrown_4 hp1
-- X4_copy
def B_X4_copy_3 (κ : Nat → Nat) (K : Unit → xH → Prop) (f0 : Option Nat) (f1 : Int32) (f2 : Option Nat) (f3 : Int32) : (Int32 → xS → Prop) → Int32 → xS → Prop := fun self4003 w4001 σ4002 =>
  (((357 : Int32) ≤ w4001 → (K () σ4002.1)) ∧ (¬ (357 : Int32) ≤ w4001 → (xnn f0 fun b4004 => xai .int σ4002 b4004 (f1 + w4001) fun v4005 => xnn f2 fun b4006 => xsi κ .int σ4002 b4006 (f3 + w4001) v4005 fun σ4007 => self4003 (w4001 + (1 : Int32)) σ4007)))
def P_X4_copy (κ : Nat → Nat) (x0 : Option Nat) (x1 : Int32) (x2 : Option Nat) (x3 : Int32) (σ : xS) (K : Unit → xH → Prop) : Prop :=
  xwhile (B_X4_copy_3 κ K x0 x1 x2 x3) (0 : Int32) σ
theorem mdX4_copy : yX4_copy.cls ≠ "java/lang/invoke/MethodHandle" ∧ yX4_copy.cls ≠ "java/lang/invoke/VarHandle" ∧ (parseMethodDescriptor yX4_copy.desc).map (fun d => d.parameters.length) = some 4 := by decide +kernel
set_option maxHeartbeats 4000000 in
set_option maxRecDepth 100000 in
theorem R_X4_copy (l : Launch) (hl : l.stackTraces = false) (G : xG) (hG : G.1.2 = x_cl) (x0 : Option Nat) (x1 : Int32) (x2 : Option Nat) (x3 : Int32) (σ : xS) (K : Unit → xH → Prop) (hp : P_X4_copy G.2 x0 x1 x2 x3 σ K) : xM l yX4_copy cX4_copy 5 (Option.none : Option Jvm.ClassFile.FieldType) 0 0 G [va_rf x0, .int x1, va_rf x2, .int x3] σ (xlift emV K) := by
  refine x_entry (by decide) (by simp [lg_sl, x_catq, x_cati, x_catr, x_catn]) ?_
  intro p e s m args below meth c X hr hin
  have X : xX p s m args meth c G cX4_copy 5 RX4 := X
  have hx := X.1
  have hb := X.2.1
  have hts := X.2.2.2.2.1
  have hown := X.2.2.2.1
  unfold P_X4_copy at hp
  refine x_same (lo' := [(0, va_rf x0), (1, .int x1), (2, va_rf x2), (3, .int x3)]) (by simp [lv_args, x_catq, x_cati, x_catr, x_catn]) ?_
  refine x_up (pc' := 1) (fun _ _ _ _ _ L => lv_iconst (v := (0 : Int32)) hx hb dX4_copy_0 (by decide)) ?_
  refine x_upL (pc' := 3) (lo' := [(4, .int (0 : Int32)), (0, va_rf x0), (1, .int x1), (2, va_rf x2), (3, .int x3)]) (fun _ _ _ _ _ L => lv_istore hx hb dX4_copy_1 L (by decide) rfl) ?_
  refine x_lo (lo' := [(4, .int (0 : Int32)), (0, va_rf x0), (1, .int x1), (2, va_rf x2), (3, .int x3)]) [0, 1, 2, 3, 4] rfl ?_
  refine x_while (v0 := (0 : Int32)) (fun w1 => [(4, .int w1), (0, va_rf x0), (1, .int x1), (2, va_rf x2), (3, .int x3)]) hp (fun self2 hself3 => ?_)
  rintro y5 σ4 hp1
  unfold B_X4_copy_3 at hp1
  refine x_same (lo' := [(4, .int y5), (0, va_rf x0), (1, .int x1), (2, va_rf x2), (3, .int x3)]) rfl ?_
  refine x_up (pc' := 5) (fun _ _ _ _ _ L => lv_iload hx hb dX4_copy_3 (lv_at L 0 rfl)) ?_
  refine x_up (pc' := 8) (fun _ _ _ _ _ L => lv_sipush (v := (357 : Int32)) hx hb dX4_copy_5 (by decide)) ?_
  refine x_if (C := (357 : Int32) ≤ y5) (pt := 29) (pc' := 11) (fun _ _ _ _ _ => lv_icmp_ge (tgt := 29) hx hb dX4_copy_8 (by decide)) (fun c8 => ?_) (fun c8 => ?_)
  · have hp2 := hp1.1 c8
    exact x_vret X hr dX4_copy_29 hp2
  · have hp3 := hp1.2 c8
    refine x_up (pc' := 12) (fun _ _ _ _ _ L => lv_aloadq_n hx hb dX4_copy_11 rfl (lv_at L 3 rfl)) ?_
    refine x_up (pc' := 13) (fun _ _ _ _ _ L => lv_iload_n hx hb dX4_copy_12 rfl (lv_at L 4 rfl)) ?_
    refine x_up (pc' := 15) (fun _ _ _ _ _ L => lv_iload hx hb dX4_copy_13 (lv_at L 0 rfl)) ?_
    refine x_up (pc' := 16) (fun _ _ _ _ _ L => lv_iadd hx hb dX4_copy_15) ?_
    refine x_up (pc' := 17) (fun _ _ _ _ _ L => lv_aloadq_n hx hb dX4_copy_16 rfl (lv_at L 1 rfl)) ?_
    refine x_up (pc' := 18) (fun _ _ _ _ _ L => lv_iload_n hx hb dX4_copy_17 rfl (lv_at L 2 rfl)) ?_
    refine x_up (pc' := 20) (fun _ _ _ _ _ L => lv_iload hx hb dX4_copy_18 (lv_at L 0 rfl)) ?_
    refine x_up (pc' := 21) (fun _ _ _ _ _ L => lv_iadd hx hb dX4_copy_20) ?_
    obtain ⟨b6, rfl, hp4⟩ := hp3
    refine x_iald X dX4_copy_21 hp4 (fun v7 hp5 => ?_)
    refine x_pc (pc' := 22) rfl ?_
    obtain ⟨b8, rfl, hp6⟩ := hp5
    refine x_iast X dX4_copy_22 hp6 (fun σ9 hp7 => ?_)
    refine x_pc (pc' := 23) rfl ?_
    refine x_upL (pc' := 26) (lo' := [(4, .int (y5 + (1 : Int32))), (0, .ref b6), (1, .int x1), (2, .ref b8), (3, .int x3)]) (fun _ _ _ _ _ L => lv_iinc (v := y5 + (1 : Int32)) hx hb dX4_copy_23 L (k := 0) rfl rfl (by decide) rfl) ?_
    refine x_up (pc' := 3) (fun _ _ _ _ _ L => lv_goto (tgt := 3) hx hb dX4_copy_26 (by decide)) ?_
    refine x_lo (lo' := [(4, .int (y5 + (1 : Int32))), (0, .ref b6), (1, .int x1), (2, .ref b8), (3, .int x3)]) [0, 1, 2, 3, 4] rfl ?_
    exact hself3 (y5 + (1 : Int32)) σ9 hp7
-- X4_looksBack
def P_X4_looksBack (κ : Nat → Nat) (a0 : Nat) (σ : xS) (K : Unit → xH → Prop) : Prop :=
  xgq σ a0 10 0 fun v1 => xgq σ a0 10 1 fun v2 => xcall (fun τ L => P_X4_copy κ v1 (0 : Int32) v2 (0 : Int32) τ L) σ fun _ σ3 => K () σ3.1
theorem mdX4_looksBack : yX4_looksBack.cls ≠ "java/lang/invoke/MethodHandle" ∧ yX4_looksBack.cls ≠ "java/lang/invoke/VarHandle" ∧ (parseMethodDescriptor yX4_looksBack.desc).map (fun d => d.parameters.length) = some 0 := by decide +kernel
set_option maxHeartbeats 4000000 in
set_option maxRecDepth 100000 in
theorem R_X4_looksBack (l : Launch) (hl : l.stackTraces = false) (G : xG) (hG : G.1.2 = x_cl) (a0 : Nat) (σ : xS) (K : Unit → xH → Prop) (hp : P_X4_looksBack G.2 a0 σ K) : xM l yX4_looksBack cX4_looksBack 1 (Option.none : Option Jvm.ClassFile.FieldType) 1 24 G [(.ref a0)] σ (xlift emV K) := by
  refine x_entry (by decide) (Nat.le_of_ble_eq_true rfl) ?_
  intro p e s m args below meth c X hr hin
  have X : xX p s m args meth c G cX4_looksBack 1 RX4 := X
  have hx := X.1
  have hb := X.2.1
  have hts := X.2.2.2.2.1
  have hown := X.2.2.2.1
  unfold P_X4_looksBack at hp
  refine x_same (lo' := [(0, .ref a0)]) rfl ?_
  refine x_up (pc' := 1) (fun _ _ _ _ _ L => lv_aload_n hx hb dX4_looksBack_0 rfl (lv_at L 0 rfl)) ?_
  refine x_gq X (kX4 hG) 0 (by decide) q3266 (fun _ h => h) dX4_looksBack_1 hp (fun v1 hp1 => ?_)
  refine x_pc (pc' := 4) rfl ?_
  refine x_up (pc' := 5) (fun _ _ _ _ _ L => lv_iconst (v := (0 : Int32)) hx hb dX4_looksBack_4 (by decide)) ?_
  refine x_up (pc' := 6) (fun _ _ _ _ _ L => lv_aload_n hx hb dX4_looksBack_5 rfl (lv_at L 0 rfl)) ?_
  refine x_gq X (kX4 hG) 1 (by decide) q3267 (fun _ h => h) dX4_looksBack_6 hp1 (fun v2 hp2 => ?_)
  refine x_pc (pc' := 9) rfl ?_
  refine x_up (pc' := 10) (fun _ _ _ _ _ L => lv_iconst (v := (0 : Int32)) hx hb dX4_looksBack_9 (by decide)) ?_
  refine x_callS (em := emV) (fun r st => st) (fun _ _ => rfl) 4 X (fun σ' KK h => R_X4_copy l hl G hG v1 (0 : Int32) v2 (0 : Int32) σ' KK h) (lw_S q3340 q3341 q119 q3342) mdX4_copy ⟨Nat.le_of_ble_eq_true rfl, Nat.le_of_ble_eq_true rfl⟩ rfl rfl (Nat.le_of_ble_eq_true rfl) dX4_looksBack_10 hp2 (fun _ σ3 hp3 => ?_)
  refine x_pc (pc' := 13) rfl ?_
  exact x_vret X hr dX4_looksBack_13 hp3
-- X4_in
def P_X4_in (κ : Nat → Nat) (x0 : Int32) (x1 : Int32) (x2 : Int32) (σ : xS) (K : Int32 → xH → Prop) : Prop :=
  ((x0 < x1 → (K (0 : Int32) σ.1)) ∧ (¬ x0 < x1 → (((x2 < x0 → (K (0 : Int32) σ.1)) ∧ (¬ x2 < x0 → (K (1 : Int32) σ.1))))))
theorem mdX4_in : yX4_in.cls ≠ "java/lang/invoke/MethodHandle" ∧ yX4_in.cls ≠ "java/lang/invoke/VarHandle" ∧ (parseMethodDescriptor yX4_in.desc).map (fun d => d.parameters.length) = some 3 := by decide +kernel
set_option maxHeartbeats 4000000 in
set_option maxRecDepth 100000 in
theorem R_X4_in (l : Launch) (hl : l.stackTraces = false) (G : xG) (hG : G.1.2 = x_cl) (x0 : Int32) (x1 : Int32) (x2 : Int32) (σ : xS) (K : Int32 → xH → Prop) (hp : P_X4_in G.2 x0 x1 x2 σ K) : xM l yX4_in cX4_in 3 (Option.some Jvm.ClassFile.FieldType.boolean) 0 0 G [.int x0, .int x1, .int x2] σ (xlift emI K) := by
  refine x_entry (by decide) (Nat.le_of_ble_eq_true rfl) ?_
  intro p e s m args below meth c X hr hin
  have X : xX p s m args meth c G cX4_in 3 RX4 := X
  have hx := X.1
  have hb := X.2.1
  have hts := X.2.2.2.2.1
  have hown := X.2.2.2.1
  unfold P_X4_in at hp
  refine x_same (lo' := [(0, .int x0), (1, .int x1), (2, .int x2)]) rfl ?_
  refine x_up (pc' := 1) (fun _ _ _ _ _ L => lv_iload_n hx hb dX4_in_0 rfl (lv_at L 0 rfl)) ?_
  refine x_up (pc' := 2) (fun _ _ _ _ _ L => lv_iload_n hx hb dX4_in_1 rfl (lv_at L 1 rfl)) ?_
  refine x_if (C := x0 < x1) (pt := 14) (pc' := 5) (fun _ _ _ _ _ => lv_icmp_lt (tgt := 14) hx hb dX4_in_2 (by decide)) (fun c2 => ?_) (fun c2 => ?_)
  · have hp1 := hp.1 c2
    refine x_up (pc' := 15) (fun _ _ _ _ _ L => lv_iconst (v := (0 : Int32)) hx hb dX4_in_14 (by decide)) ?_
    exact x_iret X hr rfl dX4_in_15 hp1
  · have hp2 := hp.2 c2
    refine x_up (pc' := 6) (fun _ _ _ _ _ L => lv_iload_n hx hb dX4_in_5 rfl (lv_at L 0 rfl)) ?_
    refine x_up (pc' := 7) (fun _ _ _ _ _ L => lv_iload_n hx hb dX4_in_6 rfl (lv_at L 2 rfl)) ?_
    refine x_if (C := x2 < x0) (pt := 14) (pc' := 10) (fun _ _ _ _ _ => lv_icmp_gt (tgt := 14) hx hb dX4_in_7 (by decide)) (fun c7 => ?_) (fun c7 => ?_)
    · have hp3 := hp2.1 c7
      refine x_up (pc' := 15) (fun _ _ _ _ _ L => lv_iconst (v := (0 : Int32)) hx hb dX4_in_14 (by decide)) ?_
      exact x_iret X hr rfl dX4_in_15 hp3
    · have hp4 := hp2.2 c7
      refine x_up (pc' := 11) (fun _ _ _ _ _ L => lv_iconst (v := (1 : Int32)) hx hb dX4_in_10 (by decide)) ?_
      refine x_up (pc' := 15) (fun _ _ _ _ _ L => lv_goto (tgt := 15) hx hb dX4_in_11 (by decide)) ?_
      exact x_iret X hr rfl dX4_in_15 hp4
-- X4_isAddress
def P_X4_isAddress (κ : Nat → Nat) (x0 : Int32) (σ : xS) (K : Int32 → xH → Prop) : Prop :=
  xcall (fun τ L => P_X4_in κ x0 (0 : Int32) (63 : Int32) τ L) σ fun v1 σ2 => (narrow .boolean (.int v1) = .int v1 ∧ K v1 σ2.1)
theorem mdX4_isAddress : yX4_isAddress.cls ≠ "java/lang/invoke/MethodHandle" ∧ yX4_isAddress.cls ≠ "java/lang/invoke/VarHandle" ∧ (parseMethodDescriptor yX4_isAddress.desc).map (fun d => d.parameters.length) = some 1 := by decide +kernel
set_option maxHeartbeats 4000000 in
set_option maxRecDepth 100000 in
theorem R_X4_isAddress (l : Launch) (hl : l.stackTraces = false) (G : xG) (hG : G.1.2 = x_cl) (x0 : Int32) (σ : xS) (K : Int32 → xH → Prop) (hp : P_X4_isAddress G.2 x0 σ K) : xM l yX4_isAddress cX4_isAddress 1 (Option.some Jvm.ClassFile.FieldType.boolean) 1 22 G [.int x0] σ (xlift emI K) := by
  refine x_entry (by decide) (Nat.le_of_ble_eq_true rfl) ?_
  intro p e s m args below meth c X hr hin
  have X : xX p s m args meth c G cX4_isAddress 1 RX4 := X
  have hx := X.1
  have hb := X.2.1
  have hts := X.2.2.2.2.1
  have hown := X.2.2.2.1
  unfold P_X4_isAddress at hp
  refine x_same (lo' := [(0, .int x0)]) rfl ?_
  refine x_up (pc' := 1) (fun _ _ _ _ _ L => lv_iload_n hx hb dX4_isAddress_0 rfl (lv_at L 0 rfl)) ?_
  refine x_up (pc' := 2) (fun _ _ _ _ _ L => lv_iconst (v := (0 : Int32)) hx hb dX4_isAddress_1 (by decide)) ?_
  refine x_up (pc' := 4) (fun _ _ _ _ _ L => lv_bipush (v := (63 : Int32)) hx hb dX4_isAddress_2 (by decide)) ?_
  refine x_callS (em := emI) (fun r st => .int r :: st) (fun _ _ => rfl) 3 X (fun σ' KK h => R_X4_in l hl G hG x0 (0 : Int32) (63 : Int32) σ' KK h) (lw_S q3350 q3351 q119 q3352) mdX4_in ⟨Nat.le_of_ble_eq_true rfl, Nat.le_of_ble_eq_true rfl⟩ rfl rfl (Nat.le_of_ble_eq_true rfl) dX4_isAddress_4 hp (fun v1 σ2 hp1 => ?_)
  refine x_pc (pc' := 7) rfl ?_
  exact x_iret X hr hp1.1 dX4_isAddress_7 hp1.2
-- X4_fails
def P_X4_fails (κ : Nat → Nat) (a0 : Nat) (x1 : Int32) (σ : xS) (K : Int32 → xH → Prop) : Prop :=
  xpi κ σ a0 10 16 x1 fun σ1 => K (0 : Int32) σ1.1
theorem mdX4_fails : yX4_fails.cls ≠ "java/lang/invoke/MethodHandle" ∧ yX4_fails.cls ≠ "java/lang/invoke/VarHandle" ∧ (parseMethodDescriptor yX4_fails.desc).map (fun d => d.parameters.length) = some 1 := by decide +kernel
set_option maxHeartbeats 4000000 in
set_option maxRecDepth 100000 in
theorem R_X4_fails (l : Launch) (hl : l.stackTraces = false) (G : xG) (hG : G.1.2 = x_cl) (a0 : Nat) (x1 : Int32) (σ : xS) (K : Int32 → xH → Prop) (hp : P_X4_fails G.2 a0 x1 σ K) : xM l yX4_fails cX4_fails 2 (Option.some Jvm.ClassFile.FieldType.int) 0 0 G [(.ref a0), .int x1] σ (xlift emI K) := by
  refine x_entry (by decide) (Nat.le_of_ble_eq_true rfl) ?_
  intro p e s m args below meth c X hr hin
  have X : xX p s m args meth c G cX4_fails 2 RX4 := X
  have hx := X.1
  have hb := X.2.1
  have hts := X.2.2.2.2.1
  have hown := X.2.2.2.1
  unfold P_X4_fails at hp
  refine x_same (lo' := [(0, .ref a0), (1, .int x1)]) rfl ?_
  refine x_up (pc' := 1) (fun _ _ _ _ _ L => lv_aload_n hx hb dX4_fails_0 rfl (lv_at L 0 rfl)) ?_
  refine x_up (pc' := 2) (fun _ _ _ _ _ L => lv_iload_n hx hb dX4_fails_1 rfl (lv_at L 1 rfl)) ?_
  refine x_pi X (kX4 hG) 16 (by decide) q3282 (fun _ h => h) rfl rfl rfl dX4_fails_2 hp (fun σ1 hp1 => ?_)
  refine x_pc (pc' := 5) rfl ?_
  refine x_up (pc' := 6) (fun _ _ _ _ _ L => lv_iconst (v := (0 : Int32)) hx hb dX4_fails_5 (by decide)) ?_
  exact x_iret X hr rfl dX4_fails_6 hp1
-- X4_refused
def P_X4_refused (κ : Nat → Nat) (a0 : Nat) (x1 : Int32) (x2 : Int32) (σ : xS) (K : Int32 → xH → Prop) : Prop :=
  xpi κ σ a0 10 10 x1 fun σ1 => xpi κ σ1 a0 10 11 x2 fun σ2 => xpi κ σ2 a0 10 12 (0 : Int32) fun σ3 => xpi κ σ3 a0 10 13 (0 : Int32) fun σ4 => xrc σ4 a0 10 ∧ xcall (fun τ L => P_X4_fails κ a0 (1 : Int32) τ L) σ4 fun v5 σ6 => K v5 σ6.1
theorem mdX4_refused : yX4_refused.cls ≠ "java/lang/invoke/MethodHandle" ∧ yX4_refused.cls ≠ "java/lang/invoke/VarHandle" ∧ (parseMethodDescriptor yX4_refused.desc).map (fun d => d.parameters.length) = some 2 := by decide +kernel
set_option maxHeartbeats 4000000 in
set_option maxRecDepth 100000 in
theorem R_X4_refused (l : Launch) (hl : l.stackTraces = false) (G : xG) (hG : G.1.2 = x_cl) (a0 : Nat) (x1 : Int32) (x2 : Int32) (σ : xS) (K : Int32 → xH → Prop) (hp : P_X4_refused G.2 a0 x1 x2 σ K) : xM l yX4_refused cX4_refused 3 (Option.some Jvm.ClassFile.FieldType.int) 1 21 G [(.ref a0), .int x1, .int x2] σ (xlift emI K) := by
  refine x_entry (by decide) (Nat.le_of_ble_eq_true rfl) ?_
  intro p e s m args below meth c X hr hin
  have X : xX p s m args meth c G cX4_refused 3 RX4 := X
  have hx := X.1
  have hb := X.2.1
  have hts := X.2.2.2.2.1
  have hown := X.2.2.2.1
  unfold P_X4_refused at hp
  refine x_same (lo' := [(0, .ref a0), (1, .int x1), (2, .int x2)]) rfl ?_
  refine x_up (pc' := 1) (fun _ _ _ _ _ L => lv_aload_n hx hb dX4_refused_0 rfl (lv_at L 0 rfl)) ?_
  refine x_up (pc' := 2) (fun _ _ _ _ _ L => lv_iload_n hx hb dX4_refused_1 rfl (lv_at L 1 rfl)) ?_
  refine x_pi X (kX4 hG) 10 (by decide) q3276 (fun _ h => h) rfl rfl rfl dX4_refused_2 hp (fun σ1 hp1 => ?_)
  refine x_pc (pc' := 5) rfl ?_
  refine x_up (pc' := 6) (fun _ _ _ _ _ L => lv_aload_n hx hb dX4_refused_5 rfl (lv_at L 0 rfl)) ?_
  refine x_up (pc' := 7) (fun _ _ _ _ _ L => lv_iload_n hx hb dX4_refused_6 rfl (lv_at L 2 rfl)) ?_
  refine x_pi X (kX4 hG) 11 (by decide) q3277 (fun _ h => h) rfl rfl rfl dX4_refused_7 hp1 (fun σ2 hp2 => ?_)
  refine x_pc (pc' := 10) rfl ?_
  refine x_up (pc' := 11) (fun _ _ _ _ _ L => lv_aload_n hx hb dX4_refused_10 rfl (lv_at L 0 rfl)) ?_
  refine x_up (pc' := 12) (fun _ _ _ _ _ L => lv_iconst (v := (0 : Int32)) hx hb dX4_refused_11 (by decide)) ?_
  refine x_pi X (kX4 hG) 12 (by decide) q3278 (fun _ h => h) rfl rfl rfl dX4_refused_12 hp2 (fun σ3 hp3 => ?_)
  refine x_pc (pc' := 15) rfl ?_
  refine x_up (pc' := 16) (fun _ _ _ _ _ L => lv_aload_n hx hb dX4_refused_15 rfl (lv_at L 0 rfl)) ?_
  refine x_up (pc' := 17) (fun _ _ _ _ _ L => lv_iconst (v := (0 : Int32)) hx hb dX4_refused_16 (by decide)) ?_
  refine x_pi X (kX4 hG) 13 (by decide) q3279 (fun _ h => h) rfl rfl rfl dX4_refused_17 hp3 (fun σ4 hp4 => ?_)
  refine x_pc (pc' := 20) rfl ?_
  refine x_up (pc' := 21) (fun _ _ _ _ _ L => lv_aload_n hx hb dX4_refused_20 rfl (lv_at L 0 rfl)) ?_
  refine x_up (pc' := 22) (fun _ _ _ _ _ L => lv_iconst (v := (1 : Int32)) hx hb dX4_refused_21 (by decide)) ?_
  refine x_callV (em := emI) (fun r st => .int r :: st) (fun _ _ => rfl) 1 X (kX4 hG) (fun σ' KK h => R_X4_fails l hl G hG a0 (1 : Int32) σ' KK h) (lw_V q3357 q3359 qs59 q119 q3360) ⟨rfl, mdX4_fails⟩ ⟨Nat.le_of_ble_eq_true rfl, Nat.le_of_ble_eq_true rfl⟩ rfl rfl (Nat.le_of_ble_eq_true rfl) dX4_refused_22 hp4.1 hp4.2 (fun v5 σ6 hp5 => ?_)
  refine x_pc (pc' := 25) rfl ?_
  exact x_iret X hr rfl dX4_refused_25 hp5
-- X4_lineWith
def B_X4_lineWith_2 (κ : Nat → Nat) (K : Int32 → xH → Prop) (f0 : Nat) (f1 : Int32) : (Int32 → xS → Prop) → Int32 → xS → Prop := fun self3003 w3001 σ3002 =>
  (((16 : Int32) ≤ w3001 → (K (-1 : Int32) σ3002.1)) ∧ (¬ (16 : Int32) ≤ w3001 → (xgq σ3002 f0 10 0 fun v3004 => xnn v3004 fun b3005 => xai .int σ3002 b3005 ((73 : Int32) + w3001) fun v3006 => ((v3006 = f1 → (K w3001 σ3002.1)) ∧ (¬ v3006 = f1 → (self3003 (w3001 + (1 : Int32)) σ3002))))))
def P_X4_lineWith (κ : Nat → Nat) (a0 : Nat) (x1 : Int32) (σ : xS) (K : Int32 → xH → Prop) : Prop :=
  xwhile (B_X4_lineWith_2 κ K a0 x1) (0 : Int32) σ
theorem mdX4_lineWith : yX4_lineWith.cls ≠ "java/lang/invoke/MethodHandle" ∧ yX4_lineWith.cls ≠ "java/lang/invoke/VarHandle" ∧ (parseMethodDescriptor yX4_lineWith.desc).map (fun d => d.parameters.length) = some 1 := by decide +kernel
set_option maxHeartbeats 4000000 in
set_option maxRecDepth 100000 in
theorem R_X4_lineWith (l : Launch) (hl : l.stackTraces = false) (G : xG) (hG : G.1.2 = x_cl) (a0 : Nat) (x1 : Int32) (σ : xS) (K : Int32 → xH → Prop) (hp : P_X4_lineWith G.2 a0 x1 σ K) : xM l yX4_lineWith cX4_lineWith 3 (Option.some Jvm.ClassFile.FieldType.int) 0 0 G [(.ref a0), .int x1] σ (xlift emI K) := by
  refine x_entry (by decide) (Nat.le_of_ble_eq_true rfl) ?_
  intro p e s m args below meth c X hr hin
  have X : xX p s m args meth c G cX4_lineWith 3 RX4 := X
  have hx := X.1
  have hb := X.2.1
  have hts := X.2.2.2.2.1
  have hown := X.2.2.2.1
  unfold P_X4_lineWith at hp
  refine x_same (lo' := [(0, .ref a0), (1, .int x1)]) rfl ?_
  refine x_up (pc' := 1) (fun _ _ _ _ _ L => lv_iconst (v := (0 : Int32)) hx hb dX4_lineWith_0 (by decide)) ?_
  refine x_upL (pc' := 2) (lo' := [(2, .int (0 : Int32)), (0, .ref a0), (1, .int x1)]) (fun _ _ _ _ _ L => lv_istore_n hx hb dX4_lineWith_1 rfl L (by decide) rfl) ?_
  refine x_lo (lo' := [(2, .int (0 : Int32)), (0, .ref a0), (1, .int x1)]) [0, 1, 2] rfl ?_
  refine x_while (v0 := (0 : Int32)) (fun w1 => [(2, .int w1), (0, .ref a0), (1, .int x1)]) hp (fun self2 hself3 => ?_)
  rintro y5 σ4 hp1
  unfold B_X4_lineWith_2 at hp1
  refine x_same (lo' := [(2, .int y5), (0, .ref a0), (1, .int x1)]) rfl ?_
  refine x_up (pc' := 3) (fun _ _ _ _ _ L => lv_iload_n hx hb dX4_lineWith_2 rfl (lv_at L 0 rfl)) ?_
  refine x_up (pc' := 5) (fun _ _ _ _ _ L => lv_bipush (v := (16 : Int32)) hx hb dX4_lineWith_3 (by decide)) ?_
  refine x_if (C := (16 : Int32) ≤ y5) (pt := 29) (pc' := 8) (fun _ _ _ _ _ => lv_icmp_ge (tgt := 29) hx hb dX4_lineWith_5 (by decide)) (fun c5 => ?_) (fun c5 => ?_)
  · have hp2 := hp1.1 c5
    refine x_up (pc' := 30) (fun _ _ _ _ _ L => lv_iconst (v := (-1 : Int32)) hx hb dX4_lineWith_29 (by decide)) ?_
    exact x_iret X hr rfl dX4_lineWith_30 hp2
  · have hp3 := hp1.2 c5
    refine x_up (pc' := 9) (fun _ _ _ _ _ L => lv_aload_n hx hb dX4_lineWith_8 rfl (lv_at L 1 rfl)) ?_
    refine x_gq X (kX4 hG) 0 (by decide) q3266 (fun _ h => h) dX4_lineWith_9 hp3 (fun v6 hp4 => ?_)
    refine x_pc (pc' := 12) rfl ?_
    refine x_up (pc' := 14) (fun _ _ _ _ _ L => lv_bipush (v := (73 : Int32)) hx hb dX4_lineWith_12 (by decide)) ?_
    refine x_up (pc' := 15) (fun _ _ _ _ _ L => lv_iload_n hx hb dX4_lineWith_14 rfl (lv_at L 0 rfl)) ?_
    refine x_up (pc' := 16) (fun _ _ _ _ _ L => lv_iadd hx hb dX4_lineWith_15) ?_
    obtain ⟨b7, rfl, hp5⟩ := hp4
    refine x_iald X dX4_lineWith_16 hp5 (fun v8 hp6 => ?_)
    refine x_pc (pc' := 17) rfl ?_
    refine x_up (pc' := 18) (fun _ _ _ _ _ L => lv_iload_n hx hb dX4_lineWith_17 rfl (lv_at L 2 rfl)) ?_
    refine x_ifn (C := v8 = x1) (pt := 23) (pc' := 21) (fun _ _ _ _ _ => lv_icmp_ne (tgt := 23) hx hb dX4_lineWith_18 (by decide)) (fun c18 => ?_) (fun c18 => ?_)
    · have hp7 := hp6.1 c18
      refine x_up (pc' := 22) (fun _ _ _ _ _ L => lv_iload_n hx hb dX4_lineWith_21 rfl (lv_at L 0 rfl)) ?_
      exact x_iret X hr rfl dX4_lineWith_22 hp7
    · have hp8 := hp6.2 c18
      refine x_upL (pc' := 26) (lo' := [(2, .int (y5 + (1 : Int32))), (0, .ref a0), (1, .int x1)]) (fun _ _ _ _ _ L => lv_iinc (v := y5 + (1 : Int32)) hx hb dX4_lineWith_23 L (k := 0) rfl rfl (by decide) rfl) ?_
      refine x_up (pc' := 2) (fun _ _ _ _ _ L => lv_goto (tgt := 2) hx hb dX4_lineWith_26 (by decide)) ?_
      refine x_lo (lo' := [(2, .int (y5 + (1 : Int32))), (0, .ref a0), (1, .int x1)]) [0, 1, 2] rfl ?_
      exact hself3 (y5 + (1 : Int32)) σ4 hp8
-- X4_canGive
def P_X4_canGive (κ : Nat → Nat) (a0 : Nat) (x1 : Int32) (σ : xS) (K : Int32 → xH → Prop) : Prop :=
  xgq σ a0 10 0 fun v1 => xnn v1 fun b2 => xai .int σ b2 ((73 : Int32) + x1) fun v3 => ((v3 = (-1 : Int32) → (K (0 : Int32) σ.1)) ∧ (¬ v3 = (-1 : Int32) → (xgq σ a0 10 0 fun v4 => xnn v4 fun b5 => xai .int σ b5 ((105 : Int32) + x1) fun v6 => ((v6 = 0 → (K (1 : Int32) σ.1)) ∧ (¬ v6 = 0 → (K (0 : Int32) σ.1))))))
theorem mdX4_canGive : yX4_canGive.cls ≠ "java/lang/invoke/MethodHandle" ∧ yX4_canGive.cls ≠ "java/lang/invoke/VarHandle" ∧ (parseMethodDescriptor yX4_canGive.desc).map (fun d => d.parameters.length) = some 1 := by decide +kernel
set_option maxHeartbeats 4000000 in
set_option maxRecDepth 100000 in
theorem R_X4_canGive (l : Launch) (hl : l.stackTraces = false) (G : xG) (hG : G.1.2 = x_cl) (a0 : Nat) (x1 : Int32) (σ : xS) (K : Int32 → xH → Prop) (hp : P_X4_canGive G.2 a0 x1 σ K) : xM l yX4_canGive cX4_canGive 2 (Option.some Jvm.ClassFile.FieldType.boolean) 0 0 G [(.ref a0), .int x1] σ (xlift emI K) := by
  refine x_entry (by decide) (Nat.le_of_ble_eq_true rfl) ?_
  intro p e s m args below meth c X hr hin
  have X : xX p s m args meth c G cX4_canGive 2 RX4 := X
  have hx := X.1
  have hb := X.2.1
  have hts := X.2.2.2.2.1
  have hown := X.2.2.2.1
  unfold P_X4_canGive at hp
  refine x_same (lo' := [(0, .ref a0), (1, .int x1)]) rfl ?_
  refine x_up (pc' := 1) (fun _ _ _ _ _ L => lv_aload_n hx hb dX4_canGive_0 rfl (lv_at L 0 rfl)) ?_
  refine x_gq X (kX4 hG) 0 (by decide) q3266 (fun _ h => h) dX4_canGive_1 hp (fun v1 hp1 => ?_)
  refine x_pc (pc' := 4) rfl ?_
  refine x_up (pc' := 6) (fun _ _ _ _ _ L => lv_bipush (v := (73 : Int32)) hx hb dX4_canGive_4 (by decide)) ?_
  refine x_up (pc' := 7) (fun _ _ _ _ _ L => lv_iload_n hx hb dX4_canGive_6 rfl (lv_at L 1 rfl)) ?_
  refine x_up (pc' := 8) (fun _ _ _ _ _ L => lv_iadd hx hb dX4_canGive_7) ?_
  obtain ⟨b2, rfl, hp2⟩ := hp1
  refine x_iald X dX4_canGive_8 hp2 (fun v3 hp3 => ?_)
  refine x_pc (pc' := 9) rfl ?_
  refine x_up (pc' := 10) (fun _ _ _ _ _ L => lv_iconst (v := (-1 : Int32)) hx hb dX4_canGive_9 (by decide)) ?_
  refine x_if (C := v3 = (-1 : Int32)) (pt := 29) (pc' := 13) (fun _ _ _ _ _ => lv_icmp_eq (tgt := 29) hx hb dX4_canGive_10 (by decide)) (fun c10 => ?_) (fun c10 => ?_)
  · have hp4 := hp3.1 c10
    refine x_up (pc' := 30) (fun _ _ _ _ _ L => lv_iconst (v := (0 : Int32)) hx hb dX4_canGive_29 (by decide)) ?_
    exact x_iret X hr rfl dX4_canGive_30 hp4
  · have hp5 := hp3.2 c10
    refine x_up (pc' := 14) (fun _ _ _ _ _ L => lv_aload_n hx hb dX4_canGive_13 rfl (lv_at L 0 rfl)) ?_
    refine x_gq X (kX4 hG) 0 (by decide) q3266 (fun _ h => h) dX4_canGive_14 hp5 (fun v4 hp6 => ?_)
    refine x_pc (pc' := 17) rfl ?_
    refine x_up (pc' := 19) (fun _ _ _ _ _ L => lv_bipush (v := (105 : Int32)) hx hb dX4_canGive_17 (by decide)) ?_
    refine x_up (pc' := 20) (fun _ _ _ _ _ L => lv_iload_n hx hb dX4_canGive_19 rfl (lv_at L 1 rfl)) ?_
    refine x_up (pc' := 21) (fun _ _ _ _ _ L => lv_iadd hx hb dX4_canGive_20) ?_
    obtain ⟨b5, rfl, hp7⟩ := hp6
    refine x_iald X dX4_canGive_21 hp7 (fun v6 hp8 => ?_)
    refine x_pc (pc' := 22) rfl ?_
    refine x_ifn (C := v6 = 0) (pt := 29) (pc' := 25) (fun _ _ _ _ _ => lv_if_ne (tgt := 29) hx hb dX4_canGive_22 (by decide)) (fun c22 => ?_) (fun c22 => ?_)
    · have hp9 := hp8.1 c22
      refine x_up (pc' := 26) (fun _ _ _ _ _ L => lv_iconst (v := (1 : Int32)) hx hb dX4_canGive_25 (by decide)) ?_
      refine x_up (pc' := 30) (fun _ _ _ _ _ L => lv_goto (tgt := 30) hx hb dX4_canGive_26 (by decide)) ?_
      exact x_iret X hr rfl dX4_canGive_30 hp9
    · have hp10 := hp8.2 c22
      refine x_up (pc' := 30) (fun _ _ _ _ _ L => lv_iconst (v := (0 : Int32)) hx hb dX4_canGive_29 (by decide)) ?_
      exact x_iret X hr rfl dX4_canGive_30 hp10
-- X4_ones
def B_X4_ones_4 (κ : Nat → Nat) (K : Int32 → xH → Prop) (f0 : Int32) : ((Int32 × Int32) → xS → Prop) → (Int32 × Int32) → xS → Prop := fun self5003 w5001 σ5002 =>
  (((4 : Int32) ≤ w5001.2 → (K w5001.1 σ5002.1)) ∧ (¬ (4 : Int32) ≤ w5001.2 → (self5003 ((w5001.1 + ((f0 >>> (w5001.2 &&& 31)) &&& (1 : Int32))), (w5001.2 + (1 : Int32))) σ5002)))
def P_X4_ones (κ : Nat → Nat) (x0 : Int32) (σ : xS) (K : Int32 → xH → Prop) : Prop :=
  xwhile (B_X4_ones_4 κ K x0) ((0 : Int32), (0 : Int32)) σ
theorem mdX4_ones : yX4_ones.cls ≠ "java/lang/invoke/MethodHandle" ∧ yX4_ones.cls ≠ "java/lang/invoke/VarHandle" ∧ (parseMethodDescriptor yX4_ones.desc).map (fun d => d.parameters.length) = some 1 := by decide +kernel
set_option maxHeartbeats 4000000 in
set_option maxRecDepth 100000 in
theorem R_X4_ones (l : Launch) (hl : l.stackTraces = false) (G : xG) (hG : G.1.2 = x_cl) (x0 : Int32) (σ : xS) (K : Int32 → xH → Prop) (hp : P_X4_ones G.2 x0 σ K) : xM l yX4_ones cX4_ones 3 (Option.some Jvm.ClassFile.FieldType.int) 0 0 G [.int x0] σ (xlift emI K) := by
  refine x_entry (by decide) (Nat.le_of_ble_eq_true rfl) ?_
  intro p e s m args below meth c X hr hin
  have X : xX p s m args meth c G cX4_ones 3 RX4 := X
  have hx := X.1
  have hb := X.2.1
  have hts := X.2.2.2.2.1
  have hown := X.2.2.2.1
  unfold P_X4_ones at hp
  refine x_same (lo' := [(0, .int x0)]) rfl ?_
  refine x_up (pc' := 1) (fun _ _ _ _ _ L => lv_iconst (v := (0 : Int32)) hx hb dX4_ones_0 (by decide)) ?_
  refine x_upL (pc' := 2) (lo' := [(1, .int (0 : Int32)), (0, .int x0)]) (fun _ _ _ _ _ L => lv_istore_n hx hb dX4_ones_1 rfl L (by decide) rfl) ?_
  refine x_up (pc' := 3) (fun _ _ _ _ _ L => lv_iconst (v := (0 : Int32)) hx hb dX4_ones_2 (by decide)) ?_
  refine x_upL (pc' := 4) (lo' := [(2, .int (0 : Int32)), (1, .int (0 : Int32)), (0, .int x0)]) (fun _ _ _ _ _ L => lv_istore_n hx hb dX4_ones_3 rfl L (by decide) rfl) ?_
  refine x_lo (lo' := [(1, .int (0 : Int32)), (2, .int (0 : Int32)), (0, .int x0)]) [1, 0, 2] rfl ?_
  refine x_while (v0 := ((0 : Int32), (0 : Int32))) (fun w1 => [(1, .int w1.1), (2, .int w1.2), (0, .int x0)]) hp (fun self2 hself3 => ?_)
  rintro ⟨y5, y6⟩ σ4 hp1
  unfold B_X4_ones_4 at hp1
  refine x_same (lo' := [(1, .int y5), (2, .int y6), (0, .int x0)]) rfl ?_
  refine x_up (pc' := 5) (fun _ _ _ _ _ L => lv_iload_n hx hb dX4_ones_4 rfl (lv_at L 1 rfl)) ?_
  refine x_up (pc' := 6) (fun _ _ _ _ _ L => lv_iconst (v := (4 : Int32)) hx hb dX4_ones_5 (by decide)) ?_
  refine x_if (C := (4 : Int32) ≤ y6) (pt := 23) (pc' := 9) (fun _ _ _ _ _ => lv_icmp_ge (tgt := 23) hx hb dX4_ones_6 (by decide)) (fun c6 => ?_) (fun c6 => ?_)
  · have hp2 := hp1.1 c6
    refine x_up (pc' := 24) (fun _ _ _ _ _ L => lv_iload_n hx hb dX4_ones_23 rfl (lv_at L 0 rfl)) ?_
    exact x_iret X hr rfl dX4_ones_24 hp2
  · have hp3 := hp1.2 c6
    refine x_up (pc' := 10) (fun _ _ _ _ _ L => lv_iload_n hx hb dX4_ones_9 rfl (lv_at L 0 rfl)) ?_
    refine x_up (pc' := 11) (fun _ _ _ _ _ L => lv_iload_n hx hb dX4_ones_10 rfl (lv_at L 2 rfl)) ?_
    refine x_up (pc' := 12) (fun _ _ _ _ _ L => lv_iload_n hx hb dX4_ones_11 rfl (lv_at L 1 rfl)) ?_
    refine x_up (pc' := 13) (fun _ _ _ _ _ L => lv_ishr hx hb dX4_ones_12) ?_
    refine x_up (pc' := 14) (fun _ _ _ _ _ L => lv_iconst (v := (1 : Int32)) hx hb dX4_ones_13 (by decide)) ?_
    refine x_up (pc' := 15) (fun _ _ _ _ _ L => lv_iand hx hb dX4_ones_14) ?_
    refine x_up (pc' := 16) (fun _ _ _ _ _ L => lv_iadd hx hb dX4_ones_15) ?_
    refine x_upL (pc' := 17) (lo' := [(1, .int (y5 + ((x0 >>> (y6 &&& 31)) &&& (1 : Int32)))), (2, .int y6), (0, .int x0)]) (fun _ _ _ _ _ L => lv_istore_n hx hb dX4_ones_16 rfl L (by decide) rfl) ?_
    refine x_upL (pc' := 20) (lo' := [(2, .int (y6 + (1 : Int32))), (1, .int (y5 + ((x0 >>> (y6 &&& 31)) &&& (1 : Int32)))), (0, .int x0)]) (fun _ _ _ _ _ L => lv_iinc (v := y6 + (1 : Int32)) hx hb dX4_ones_17 L (k := 1) rfl rfl (by decide) rfl) ?_
    refine x_up (pc' := 4) (fun _ _ _ _ _ L => lv_goto (tgt := 4) hx hb dX4_ones_20 (by decide)) ?_
    refine x_lo (lo' := [(1, .int (y5 + ((x0 >>> (y6 &&& 31)) &&& (1 : Int32)))), (2, .int (y6 + (1 : Int32))), (0, .int x0)]) [1, 0, 2] rfl ?_
    exact hself3 ((y5 + ((x0 >>> (y6 &&& 31)) &&& (1 : Int32))), (y6 + (1 : Int32))) σ4 hp3
-- X4_isAhead
def P_X4_isAhead (κ : Nat → Nat) (a0 : Nat) (x1 : Int32) (x2 : Int32) (σ : xS) (K : Int32 → xH → Prop) : Prop :=
  xgq σ a0 10 0 fun v1 => xnn v1 fun b2 => xai .int σ b2 (3 : Int32) fun v3 => ((v3 = (0 : Int32) → ((((0 : Int32) < 0 → (K (1 : Int32) σ.1)) ∧ (¬ (0 : Int32) < 0 → ((((0 : Int32) = 0 → (xgq σ a0 10 0 fun v38 => xnn v38 fun b39 => xai .int σ b39 ((121 : Int32) + x1) fun v40 => xgq σ a0 10 0 fun v41 => xnn v41 fun b42 => xai .int σ b42 ((121 : Int32) + x2) fun v43 => ((v43 ≤ v40 → (K (0 : Int32) σ.1)) ∧ (¬ v43 ≤ v40 → (K (1 : Int32) σ.1))))) ∧ (¬ (0 : Int32) = 0 → (K (0 : Int32) σ.1)))))))) ∧ (¬ v3 = (0 : Int32) → ((v3 = (1 : Int32) → (xgq σ a0 10 0 fun v32 => xnn v32 fun b33 => xai .int σ b33 ((137 : Int32) + x1) fun v34 => xgq σ a0 10 0 fun v35 => xnn v35 fun b36 => xai .int σ b36 ((137 : Int32) + x2) fun v37 => ((v37 ≤ v34 → (K (0 : Int32) σ.1)) ∧ (¬ v37 ≤ v34 → (K (1 : Int32) σ.1))))) ∧ (¬ v3 = (1 : Int32) → ((v3 = (2 : Int32) → (xgq σ a0 10 0 fun v20 => xnn v20 fun b21 => xai .int σ b21 ((153 : Int32) + x1) fun v22 => xgq σ a0 10 0 fun v23 => xnn v23 fun b24 => xai .int σ b24 ((153 : Int32) + x2) fun v25 => (((v22 - v25) < 0 → (K (1 : Int32) σ.1)) ∧ (¬ (v22 - v25) < 0 → ((((v22 - v25) = 0 → (xgq σ a0 10 0 fun v26 => xnn v26 fun b27 => xai .int σ b27 ((121 : Int32) + x1) fun v28 => xgq σ a0 10 0 fun v29 => xnn v29 fun b30 => xai .int σ b30 ((121 : Int32) + x2) fun v31 => ((v31 ≤ v28 → (K (0 : Int32) σ.1)) ∧ (¬ v31 ≤ v28 → (K (1 : Int32) σ.1))))) ∧ (¬ (v22 - v25) = 0 → (K (0 : Int32) σ.1)))))))) ∧ (¬ v3 = (2 : Int32) → (xgq σ a0 10 0 fun v4 => xnn v4 fun b5 => xai .int σ b5 ((89 : Int32) + x1) fun v6 => xcall (fun τ L => P_X4_ones κ v6 τ L) σ fun v7 σ8 => xgq σ8 a0 10 0 fun v9 => xnn v9 fun b10 => xai .int σ8 b10 ((89 : Int32) + x2) fun v11 => xcall (fun τ L => P_X4_ones κ v11 τ L) σ8 fun v12 σ13 => (((v7 - v12) < 0 → (K (1 : Int32) σ13.1)) ∧ (¬ (v7 - v12) < 0 → ((((v7 - v12) = 0 → (xgq σ13 a0 10 0 fun v14 => xnn v14 fun b15 => xai .int σ13 b15 ((121 : Int32) + x1) fun v16 => xgq σ13 a0 10 0 fun v17 => xnn v17 fun b18 => xai .int σ13 b18 ((121 : Int32) + x2) fun v19 => ((v19 ≤ v16 → (K (0 : Int32) σ13.1)) ∧ (¬ v19 ≤ v16 → (K (1 : Int32) σ13.1))))) ∧ (¬ (v7 - v12) = 0 → (K (0 : Int32) σ13.1)))))))))))))
theorem mdX4_isAhead : yX4_isAhead.cls ≠ "java/lang/invoke/MethodHandle" ∧ yX4_isAhead.cls ≠ "java/lang/invoke/VarHandle" ∧ (parseMethodDescriptor yX4_isAhead.desc).map (fun d => d.parameters.length) = some 2 := by decide +kernel
set_option maxHeartbeats 4000000 in
set_option maxRecDepth 100000 in
theorem R_X4_isAhead (l : Launch) (hl : l.stackTraces = false) (G : xG) (hG : G.1.2 = x_cl) (a0 : Nat) (x1 : Int32) (x2 : Int32) (σ : xS) (K : Int32 → xH → Prop) (hp : P_X4_isAhead G.2 a0 x1 x2 σ K) : xM l yX4_isAhead cX4_isAhead 4 (Option.some Jvm.ClassFile.FieldType.boolean) 1 22 G [(.ref a0), .int x1, .int x2] σ (xlift emI K) := by
  refine x_entry (by decide) (Nat.le_of_ble_eq_true rfl) ?_
  intro p e s m args below meth c X hr hin
  have X : xX p s m args meth c G cX4_isAhead 4 RX4 := X
  have hx := X.1
  have hb := X.2.1
  have hts := X.2.2.2.2.1
  have hown := X.2.2.2.1
  unfold P_X4_isAhead at hp
  refine x_same (lo' := [(0, .ref a0), (1, .int x1), (2, .int x2)]) rfl ?_
  refine x_up (pc' := 1) (fun _ _ _ _ _ L => lv_aload_n hx hb dX4_isAhead_0 rfl (lv_at L 0 rfl)) ?_
  refine x_gq X (kX4 hG) 0 (by decide) q3266 (fun _ h => h) dX4_isAhead_1 hp (fun v1 hp1 => ?_)
  refine x_pc (pc' := 4) rfl ?_
  refine x_up (pc' := 5) (fun _ _ _ _ _ L => lv_iconst (v := (3 : Int32)) hx hb dX4_isAhead_4 (by decide)) ?_
  obtain ⟨b2, rfl, hp2⟩ := hp1
  refine x_iald X dX4_isAhead_5 hp2 (fun v3 hp3 => ?_)
  refine x_pc (pc' := 6) rfl ?_
  by_cases c6_0 : v3 = (0 : Int32)
  · have hp4 := hp3.1 c6_0
    refine x_up (pc' := 32) (fun _ _ _ _ _ L => lv_tableIn (off := 26) (tgt := 32) hx hb dX4_isAhead_6 (by rw [c6_0]; decide) (by rw [c6_0]; decide) (by rw [c6_0]; rfl) (by decide)) ?_
    refine x_up (pc' := 33) (fun _ _ _ _ _ L => lv_iconst (v := (0 : Int32)) hx hb dX4_isAhead_32 (by decide)) ?_
    refine x_upL (pc' := 34) (lo' := [(3, .int (0 : Int32)), (0, .ref a0), (1, .int x1), (2, .int x2)]) (fun _ _ _ _ _ L => lv_istore_n hx hb dX4_isAhead_33 rfl L (by decide) rfl) ?_
    refine x_up (pc' := 117) (fun _ _ _ _ _ L => lv_goto (tgt := 117) hx hb dX4_isAhead_34 (by decide)) ?_
    refine x_up (pc' := 118) (fun _ _ _ _ _ L => lv_iload_n hx hb dX4_isAhead_117 rfl (lv_at L 0 rfl)) ?_
    refine x_if (C := (0 : Int32) < 0) (pt := 146) (pc' := 121) (fun _ _ _ _ _ => lv_if_lt (tgt := 146) hx hb dX4_isAhead_118 (by decide)) (fun c118 => ?_) (fun c118 => ?_)
    · have hp5 := hp4.1 c118
      refine x_up (pc' := 147) (fun _ _ _ _ _ L => lv_iconst (v := (1 : Int32)) hx hb dX4_isAhead_146 (by decide)) ?_
      refine x_up (pc' := 151) (fun _ _ _ _ _ L => lv_goto (tgt := 151) hx hb dX4_isAhead_147 (by decide)) ?_
      exact x_iret X hr rfl dX4_isAhead_151 hp5
    · have hp6 := hp4.2 c118
      refine x_up (pc' := 122) (fun _ _ _ _ _ L => lv_iload_n hx hb dX4_isAhead_121 rfl (lv_at L 0 rfl)) ?_
      refine x_ifn (C := (0 : Int32) = 0) (pt := 150) (pc' := 125) (fun _ _ _ _ _ => lv_if_ne (tgt := 150) hx hb dX4_isAhead_122 (by decide)) (fun c122 => ?_) (fun c122 => ?_)
      · have hp7 := hp6.1 c122
        refine x_up (pc' := 126) (fun _ _ _ _ _ L => lv_aload_n hx hb dX4_isAhead_125 rfl (lv_at L 1 rfl)) ?_
        refine x_gq X (kX4 hG) 0 (by decide) q3266 (fun _ h => h) dX4_isAhead_126 hp7 (fun v4 hp8 => ?_)
        refine x_pc (pc' := 129) rfl ?_
        refine x_up (pc' := 131) (fun _ _ _ _ _ L => lv_bipush (v := (121 : Int32)) hx hb dX4_isAhead_129 (by decide)) ?_
        refine x_up (pc' := 132) (fun _ _ _ _ _ L => lv_iload_n hx hb dX4_isAhead_131 rfl (lv_at L 2 rfl)) ?_
        refine x_up (pc' := 133) (fun _ _ _ _ _ L => lv_iadd hx hb dX4_isAhead_132) ?_
        obtain ⟨b5, rfl, hp9⟩ := hp8
        refine x_iald X dX4_isAhead_133 hp9 (fun v6 hp10 => ?_)
        refine x_pc (pc' := 134) rfl ?_
        refine x_up (pc' := 135) (fun _ _ _ _ _ L => lv_aload_n hx hb dX4_isAhead_134 rfl (lv_at L 1 rfl)) ?_
        refine x_gq X (kX4 hG) 0 (by decide) q3266 (fun _ h => h) dX4_isAhead_135 hp10 (fun v7 hp11 => ?_)
        refine x_pc (pc' := 138) rfl ?_
        refine x_up (pc' := 140) (fun _ _ _ _ _ L => lv_bipush (v := (121 : Int32)) hx hb dX4_isAhead_138 (by decide)) ?_
        refine x_up (pc' := 141) (fun _ _ _ _ _ L => lv_iload_n hx hb dX4_isAhead_140 rfl (lv_at L 3 rfl)) ?_
        refine x_up (pc' := 142) (fun _ _ _ _ _ L => lv_iadd hx hb dX4_isAhead_141) ?_
        obtain ⟨b8, rfl, hp12⟩ := hp11
        refine x_iald X dX4_isAhead_142 hp12 (fun v9 hp13 => ?_)
        refine x_pc (pc' := 143) rfl ?_
        refine x_if (C := v9 ≤ v6) (pt := 150) (pc' := 146) (fun _ _ _ _ _ => lv_icmp_ge (tgt := 150) hx hb dX4_isAhead_143 (by decide)) (fun c143 => ?_) (fun c143 => ?_)
        · have hp14 := hp13.1 c143
          refine x_up (pc' := 151) (fun _ _ _ _ _ L => lv_iconst (v := (0 : Int32)) hx hb dX4_isAhead_150 (by decide)) ?_
          exact x_iret X hr rfl dX4_isAhead_151 hp14
        · have hp15 := hp13.2 c143
          refine x_up (pc' := 147) (fun _ _ _ _ _ L => lv_iconst (v := (1 : Int32)) hx hb dX4_isAhead_146 (by decide)) ?_
          refine x_up (pc' := 151) (fun _ _ _ _ _ L => lv_goto (tgt := 151) hx hb dX4_isAhead_147 (by decide)) ?_
          exact x_iret X hr rfl dX4_isAhead_151 hp15
      · have hp16 := hp6.2 c122
        refine x_up (pc' := 151) (fun _ _ _ _ _ L => lv_iconst (v := (0 : Int32)) hx hb dX4_isAhead_150 (by decide)) ?_
        exact x_iret X hr rfl dX4_isAhead_151 hp16
  have hp17 := hp3.2 c6_0
  by_cases c6_1 : v3 = (1 : Int32)
  · have hp18 := hp17.1 c6_1
    refine x_up (pc' := 37) (fun _ _ _ _ _ L => lv_tableIn (off := 31) (tgt := 37) hx hb dX4_isAhead_6 (by rw [c6_1]; decide) (by rw [c6_1]; decide) (by rw [c6_1]; rfl) (by decide)) ?_
    refine x_up (pc' := 38) (fun _ _ _ _ _ L => lv_aload_n hx hb dX4_isAhead_37 rfl (lv_at L 0 rfl)) ?_
    refine x_gq X (kX4 hG) 0 (by decide) q3266 (fun _ h => h) dX4_isAhead_38 hp18 (fun v10 hp19 => ?_)
    refine x_pc (pc' := 41) rfl ?_
    refine x_up (pc' := 44) (fun _ _ _ _ _ L => lv_sipush (v := (137 : Int32)) hx hb dX4_isAhead_41 (by decide)) ?_
    refine x_up (pc' := 45) (fun _ _ _ _ _ L => lv_iload_n hx hb dX4_isAhead_44 rfl (lv_at L 1 rfl)) ?_
    refine x_up (pc' := 46) (fun _ _ _ _ _ L => lv_iadd hx hb dX4_isAhead_45) ?_
    obtain ⟨b11, rfl, hp20⟩ := hp19
    refine x_iald X dX4_isAhead_46 hp20 (fun v12 hp21 => ?_)
    refine x_pc (pc' := 47) rfl ?_
    refine x_up (pc' := 48) (fun _ _ _ _ _ L => lv_aload_n hx hb dX4_isAhead_47 rfl (lv_at L 0 rfl)) ?_
    refine x_gq X (kX4 hG) 0 (by decide) q3266 (fun _ h => h) dX4_isAhead_48 hp21 (fun v13 hp22 => ?_)
    refine x_pc (pc' := 51) rfl ?_
    refine x_up (pc' := 54) (fun _ _ _ _ _ L => lv_sipush (v := (137 : Int32)) hx hb dX4_isAhead_51 (by decide)) ?_
    refine x_up (pc' := 55) (fun _ _ _ _ _ L => lv_iload_n hx hb dX4_isAhead_54 rfl (lv_at L 2 rfl)) ?_
    refine x_up (pc' := 56) (fun _ _ _ _ _ L => lv_iadd hx hb dX4_isAhead_55) ?_
    obtain ⟨b14, rfl, hp23⟩ := hp22
    refine x_iald X dX4_isAhead_56 hp23 (fun v15 hp24 => ?_)
    refine x_pc (pc' := 57) rfl ?_
    refine x_if (C := v15 ≤ v12) (pt := 64) (pc' := 60) (fun _ _ _ _ _ => lv_icmp_ge (tgt := 64) hx hb dX4_isAhead_57 (by decide)) (fun c57 => ?_) (fun c57 => ?_)
    · have hp25 := hp24.1 c57
      refine x_up (pc' := 65) (fun _ _ _ _ _ L => lv_iconst (v := (0 : Int32)) hx hb dX4_isAhead_64 (by decide)) ?_
      exact x_iret X hr rfl dX4_isAhead_65 hp25
    · have hp26 := hp24.2 c57
      refine x_up (pc' := 61) (fun _ _ _ _ _ L => lv_iconst (v := (1 : Int32)) hx hb dX4_isAhead_60 (by decide)) ?_
      refine x_up (pc' := 65) (fun _ _ _ _ _ L => lv_goto (tgt := 65) hx hb dX4_isAhead_61 (by decide)) ?_
      exact x_iret X hr rfl dX4_isAhead_65 hp26
  have hp27 := hp17.2 c6_1
  by_cases c6_2 : v3 = (2 : Int32)
  · have hp28 := hp27.1 c6_2
    refine x_up (pc' := 66) (fun _ _ _ _ _ L => lv_tableIn (off := 60) (tgt := 66) hx hb dX4_isAhead_6 (by rw [c6_2]; decide) (by rw [c6_2]; decide) (by rw [c6_2]; rfl) (by decide)) ?_
    refine x_up (pc' := 67) (fun _ _ _ _ _ L => lv_aload_n hx hb dX4_isAhead_66 rfl (lv_at L 0 rfl)) ?_
    refine x_gq X (kX4 hG) 0 (by decide) q3266 (fun _ h => h) dX4_isAhead_67 hp28 (fun v16 hp29 => ?_)
    refine x_pc (pc' := 70) rfl ?_
    refine x_up (pc' := 73) (fun _ _ _ _ _ L => lv_sipush (v := (153 : Int32)) hx hb dX4_isAhead_70 (by decide)) ?_
    refine x_up (pc' := 74) (fun _ _ _ _ _ L => lv_iload_n hx hb dX4_isAhead_73 rfl (lv_at L 1 rfl)) ?_
    refine x_up (pc' := 75) (fun _ _ _ _ _ L => lv_iadd hx hb dX4_isAhead_74) ?_
    obtain ⟨b17, rfl, hp30⟩ := hp29
    refine x_iald X dX4_isAhead_75 hp30 (fun v18 hp31 => ?_)
    refine x_pc (pc' := 76) rfl ?_
    refine x_up (pc' := 77) (fun _ _ _ _ _ L => lv_aload_n hx hb dX4_isAhead_76 rfl (lv_at L 0 rfl)) ?_
    refine x_gq X (kX4 hG) 0 (by decide) q3266 (fun _ h => h) dX4_isAhead_77 hp31 (fun v19 hp32 => ?_)
    refine x_pc (pc' := 80) rfl ?_
    refine x_up (pc' := 83) (fun _ _ _ _ _ L => lv_sipush (v := (153 : Int32)) hx hb dX4_isAhead_80 (by decide)) ?_
    refine x_up (pc' := 84) (fun _ _ _ _ _ L => lv_iload_n hx hb dX4_isAhead_83 rfl (lv_at L 2 rfl)) ?_
    refine x_up (pc' := 85) (fun _ _ _ _ _ L => lv_iadd hx hb dX4_isAhead_84) ?_
    obtain ⟨b20, rfl, hp33⟩ := hp32
    refine x_iald X dX4_isAhead_85 hp33 (fun v21 hp34 => ?_)
    refine x_pc (pc' := 86) rfl ?_
    refine x_up (pc' := 87) (fun _ _ _ _ _ L => lv_isub hx hb dX4_isAhead_86) ?_
    refine x_upL (pc' := 88) (lo' := [(3, .int (v18 - v21)), (0, .ref a0), (1, .int x1), (2, .int x2)]) (fun _ _ _ _ _ L => lv_istore_n hx hb dX4_isAhead_87 rfl L (by decide) rfl) ?_
    refine x_up (pc' := 117) (fun _ _ _ _ _ L => lv_goto (tgt := 117) hx hb dX4_isAhead_88 (by decide)) ?_
    refine x_up (pc' := 118) (fun _ _ _ _ _ L => lv_iload_n hx hb dX4_isAhead_117 rfl (lv_at L 0 rfl)) ?_
    refine x_if (C := (v18 - v21) < 0) (pt := 146) (pc' := 121) (fun _ _ _ _ _ => lv_if_lt (tgt := 146) hx hb dX4_isAhead_118 (by decide)) (fun c118 => ?_) (fun c118 => ?_)
    · have hp35 := hp34.1 c118
      refine x_up (pc' := 147) (fun _ _ _ _ _ L => lv_iconst (v := (1 : Int32)) hx hb dX4_isAhead_146 (by decide)) ?_
      refine x_up (pc' := 151) (fun _ _ _ _ _ L => lv_goto (tgt := 151) hx hb dX4_isAhead_147 (by decide)) ?_
      exact x_iret X hr rfl dX4_isAhead_151 hp35
    · have hp36 := hp34.2 c118
      refine x_up (pc' := 122) (fun _ _ _ _ _ L => lv_iload_n hx hb dX4_isAhead_121 rfl (lv_at L 0 rfl)) ?_
      refine x_ifn (C := (v18 - v21) = 0) (pt := 150) (pc' := 125) (fun _ _ _ _ _ => lv_if_ne (tgt := 150) hx hb dX4_isAhead_122 (by decide)) (fun c122 => ?_) (fun c122 => ?_)
      · have hp37 := hp36.1 c122
        refine x_up (pc' := 126) (fun _ _ _ _ _ L => lv_aload_n hx hb dX4_isAhead_125 rfl (lv_at L 1 rfl)) ?_
        refine x_gq X (kX4 hG) 0 (by decide) q3266 (fun _ h => h) dX4_isAhead_126 hp37 (fun v22 hp38 => ?_)
        refine x_pc (pc' := 129) rfl ?_
        refine x_up (pc' := 131) (fun _ _ _ _ _ L => lv_bipush (v := (121 : Int32)) hx hb dX4_isAhead_129 (by decide)) ?_
        refine x_up (pc' := 132) (fun _ _ _ _ _ L => lv_iload_n hx hb dX4_isAhead_131 rfl (lv_at L 2 rfl)) ?_
        refine x_up (pc' := 133) (fun _ _ _ _ _ L => lv_iadd hx hb dX4_isAhead_132) ?_
        obtain ⟨b23, rfl, hp39⟩ := hp38
        refine x_iald X dX4_isAhead_133 hp39 (fun v24 hp40 => ?_)
        refine x_pc (pc' := 134) rfl ?_
        refine x_up (pc' := 135) (fun _ _ _ _ _ L => lv_aload_n hx hb dX4_isAhead_134 rfl (lv_at L 1 rfl)) ?_
        refine x_gq X (kX4 hG) 0 (by decide) q3266 (fun _ h => h) dX4_isAhead_135 hp40 (fun v25 hp41 => ?_)
        refine x_pc (pc' := 138) rfl ?_
        refine x_up (pc' := 140) (fun _ _ _ _ _ L => lv_bipush (v := (121 : Int32)) hx hb dX4_isAhead_138 (by decide)) ?_
        refine x_up (pc' := 141) (fun _ _ _ _ _ L => lv_iload_n hx hb dX4_isAhead_140 rfl (lv_at L 3 rfl)) ?_
        refine x_up (pc' := 142) (fun _ _ _ _ _ L => lv_iadd hx hb dX4_isAhead_141) ?_
        obtain ⟨b26, rfl, hp42⟩ := hp41
        refine x_iald X dX4_isAhead_142 hp42 (fun v27 hp43 => ?_)
        refine x_pc (pc' := 143) rfl ?_
        refine x_if (C := v27 ≤ v24) (pt := 150) (pc' := 146) (fun _ _ _ _ _ => lv_icmp_ge (tgt := 150) hx hb dX4_isAhead_143 (by decide)) (fun c143 => ?_) (fun c143 => ?_)
        · have hp44 := hp43.1 c143
          refine x_up (pc' := 151) (fun _ _ _ _ _ L => lv_iconst (v := (0 : Int32)) hx hb dX4_isAhead_150 (by decide)) ?_
          exact x_iret X hr rfl dX4_isAhead_151 hp44
        · have hp45 := hp43.2 c143
          refine x_up (pc' := 147) (fun _ _ _ _ _ L => lv_iconst (v := (1 : Int32)) hx hb dX4_isAhead_146 (by decide)) ?_
          refine x_up (pc' := 151) (fun _ _ _ _ _ L => lv_goto (tgt := 151) hx hb dX4_isAhead_147 (by decide)) ?_
          exact x_iret X hr rfl dX4_isAhead_151 hp45
      · have hp46 := hp36.2 c122
        refine x_up (pc' := 151) (fun _ _ _ _ _ L => lv_iconst (v := (0 : Int32)) hx hb dX4_isAhead_150 (by decide)) ?_
        exact x_iret X hr rfl dX4_isAhead_151 hp46
  have hp47 := hp27.2 c6_2
  refine x_up (pc' := 91) (fun _ _ _ _ _ L => lv_tableOut (tgt := 91) hx hb dX4_isAhead_6 (x_tabOut 0 3 (by decide) (by decide) (by decide) (lt_s (lt_s (lt_s lt_0 c6_0) c6_1) c6_2)) (by decide)) ?_
  refine x_up (pc' := 92) (fun _ _ _ _ _ L => lv_aload_n hx hb dX4_isAhead_91 rfl (lv_at L 0 rfl)) ?_
  refine x_gq X (kX4 hG) 0 (by decide) q3266 (fun _ h => h) dX4_isAhead_92 hp47 (fun v28 hp48 => ?_)
  refine x_pc (pc' := 95) rfl ?_
  refine x_up (pc' := 97) (fun _ _ _ _ _ L => lv_bipush (v := (89 : Int32)) hx hb dX4_isAhead_95 (by decide)) ?_
  refine x_up (pc' := 98) (fun _ _ _ _ _ L => lv_iload_n hx hb dX4_isAhead_97 rfl (lv_at L 1 rfl)) ?_
  refine x_up (pc' := 99) (fun _ _ _ _ _ L => lv_iadd hx hb dX4_isAhead_98) ?_
  obtain ⟨b29, rfl, hp49⟩ := hp48
  refine x_iald X dX4_isAhead_99 hp49 (fun v30 hp50 => ?_)
  refine x_pc (pc' := 100) rfl ?_
  refine x_callS (em := emI) (fun r st => .int r :: st) (fun _ _ => rfl) 1 X (fun σ' KK h => R_X4_ones l hl G hG v30 σ' KK h) (lw_S q3381 q3382 q119 q3383) mdX4_ones ⟨Nat.le_of_ble_eq_true rfl, Nat.le_of_ble_eq_true rfl⟩ rfl rfl (Nat.le_of_ble_eq_true rfl) dX4_isAhead_100 hp50 (fun v31 σ32 hp51 => ?_)
  refine x_pc (pc' := 103) rfl ?_
  refine x_up (pc' := 104) (fun _ _ _ _ _ L => lv_aload_n hx hb dX4_isAhead_103 rfl (lv_at L 0 rfl)) ?_
  refine x_gq X (kX4 hG) 0 (by decide) q3266 (fun _ h => h) dX4_isAhead_104 hp51 (fun v33 hp52 => ?_)
  refine x_pc (pc' := 107) rfl ?_
  refine x_up (pc' := 109) (fun _ _ _ _ _ L => lv_bipush (v := (89 : Int32)) hx hb dX4_isAhead_107 (by decide)) ?_
  refine x_up (pc' := 110) (fun _ _ _ _ _ L => lv_iload_n hx hb dX4_isAhead_109 rfl (lv_at L 2 rfl)) ?_
  refine x_up (pc' := 111) (fun _ _ _ _ _ L => lv_iadd hx hb dX4_isAhead_110) ?_
  obtain ⟨b34, rfl, hp53⟩ := hp52
  refine x_iald X dX4_isAhead_111 hp53 (fun v35 hp54 => ?_)
  refine x_pc (pc' := 112) rfl ?_
  refine x_callS (em := emI) (fun r st => .int r :: st) (fun _ _ => rfl) 1 X (fun σ' KK h => R_X4_ones l hl G hG v35 σ' KK h) (lw_S q3381 q3382 q119 q3383) mdX4_ones ⟨Nat.le_of_ble_eq_true rfl, Nat.le_of_ble_eq_true rfl⟩ rfl rfl (Nat.le_of_ble_eq_true rfl) dX4_isAhead_112 hp54 (fun v36 σ37 hp55 => ?_)
  refine x_pc (pc' := 115) rfl ?_
  refine x_up (pc' := 116) (fun _ _ _ _ _ L => lv_isub hx hb dX4_isAhead_115) ?_
  refine x_upL (pc' := 117) (lo' := [(3, .int (v31 - v36)), (0, .ref a0), (1, .int x1), (2, .int x2)]) (fun _ _ _ _ _ L => lv_istore_n hx hb dX4_isAhead_116 rfl L (by decide) rfl) ?_
  refine x_up (pc' := 118) (fun _ _ _ _ _ L => lv_iload_n hx hb dX4_isAhead_117 rfl (lv_at L 0 rfl)) ?_
  refine x_if (C := (v31 - v36) < 0) (pt := 146) (pc' := 121) (fun _ _ _ _ _ => lv_if_lt (tgt := 146) hx hb dX4_isAhead_118 (by decide)) (fun c118 => ?_) (fun c118 => ?_)
  · have hp56 := hp55.1 c118
    refine x_up (pc' := 147) (fun _ _ _ _ _ L => lv_iconst (v := (1 : Int32)) hx hb dX4_isAhead_146 (by decide)) ?_
    refine x_up (pc' := 151) (fun _ _ _ _ _ L => lv_goto (tgt := 151) hx hb dX4_isAhead_147 (by decide)) ?_
    exact x_iret X hr rfl dX4_isAhead_151 hp56
  · have hp57 := hp55.2 c118
    refine x_up (pc' := 122) (fun _ _ _ _ _ L => lv_iload_n hx hb dX4_isAhead_121 rfl (lv_at L 0 rfl)) ?_
    refine x_ifn (C := (v31 - v36) = 0) (pt := 150) (pc' := 125) (fun _ _ _ _ _ => lv_if_ne (tgt := 150) hx hb dX4_isAhead_122 (by decide)) (fun c122 => ?_) (fun c122 => ?_)
    · have hp58 := hp57.1 c122
      refine x_up (pc' := 126) (fun _ _ _ _ _ L => lv_aload_n hx hb dX4_isAhead_125 rfl (lv_at L 1 rfl)) ?_
      refine x_gq X (kX4 hG) 0 (by decide) q3266 (fun _ h => h) dX4_isAhead_126 hp58 (fun v38 hp59 => ?_)
      refine x_pc (pc' := 129) rfl ?_
      refine x_up (pc' := 131) (fun _ _ _ _ _ L => lv_bipush (v := (121 : Int32)) hx hb dX4_isAhead_129 (by decide)) ?_
      refine x_up (pc' := 132) (fun _ _ _ _ _ L => lv_iload_n hx hb dX4_isAhead_131 rfl (lv_at L 2 rfl)) ?_
      refine x_up (pc' := 133) (fun _ _ _ _ _ L => lv_iadd hx hb dX4_isAhead_132) ?_
      obtain ⟨b39, rfl, hp60⟩ := hp59
      refine x_iald X dX4_isAhead_133 hp60 (fun v40 hp61 => ?_)
      refine x_pc (pc' := 134) rfl ?_
      refine x_up (pc' := 135) (fun _ _ _ _ _ L => lv_aload_n hx hb dX4_isAhead_134 rfl (lv_at L 1 rfl)) ?_
      refine x_gq X (kX4 hG) 0 (by decide) q3266 (fun _ h => h) dX4_isAhead_135 hp61 (fun v41 hp62 => ?_)
      refine x_pc (pc' := 138) rfl ?_
      refine x_up (pc' := 140) (fun _ _ _ _ _ L => lv_bipush (v := (121 : Int32)) hx hb dX4_isAhead_138 (by decide)) ?_
      refine x_up (pc' := 141) (fun _ _ _ _ _ L => lv_iload_n hx hb dX4_isAhead_140 rfl (lv_at L 3 rfl)) ?_
      refine x_up (pc' := 142) (fun _ _ _ _ _ L => lv_iadd hx hb dX4_isAhead_141) ?_
      obtain ⟨b42, rfl, hp63⟩ := hp62
      refine x_iald X dX4_isAhead_142 hp63 (fun v43 hp64 => ?_)
      refine x_pc (pc' := 143) rfl ?_
      refine x_if (C := v43 ≤ v40) (pt := 150) (pc' := 146) (fun _ _ _ _ _ => lv_icmp_ge (tgt := 150) hx hb dX4_isAhead_143 (by decide)) (fun c143 => ?_) (fun c143 => ?_)
      · have hp65 := hp64.1 c143
        refine x_up (pc' := 151) (fun _ _ _ _ _ L => lv_iconst (v := (0 : Int32)) hx hb dX4_isAhead_150 (by decide)) ?_
        exact x_iret X hr rfl dX4_isAhead_151 hp65
      · have hp66 := hp64.2 c143
        refine x_up (pc' := 147) (fun _ _ _ _ _ L => lv_iconst (v := (1 : Int32)) hx hb dX4_isAhead_146 (by decide)) ?_
        refine x_up (pc' := 151) (fun _ _ _ _ _ L => lv_goto (tgt := 151) hx hb dX4_isAhead_147 (by decide)) ?_
        exact x_iret X hr rfl dX4_isAhead_151 hp66
    · have hp67 := hp57.2 c122
      refine x_up (pc' := 151) (fun _ _ _ _ _ L => lv_iconst (v := (0 : Int32)) hx hb dX4_isAhead_150 (by decide)) ?_
      exact x_iret X hr rfl dX4_isAhead_151 hp67
-- X4_lineFor
def B_X4_lineFor_16 (κ : Nat → Nat) (K : Int32 → xH → Prop) (f0 : Nat) (f2 : Int32) : ((Int32 × Int32) → xS → Prop) → (Int32 × Int32) → xS → Prop := fun self17003 w17001 σ17002 =>
  xgq σ17002 f0 10 0 fun v17004 => xnn v17004 fun b17005 => xai .int σ17002 b17005 (2 : Int32) fun v17006 => (((f2 + v17006) ≤ w17001.2 → (K w17001.1 σ17002.1)) ∧ (¬ (f2 + v17006) ≤ w17001.2 → (xgq σ17002 f0 10 0 fun v17007 => xnn v17007 fun b17008 => xai .int σ17002 b17008 ((73 : Int32) + w17001.2) fun v17009 => ((v17009 = (-1 : Int32) → (K w17001.2 σ17002.1)) ∧ (¬ v17009 = (-1 : Int32) → (xrc σ17002 f0 10 ∧ xcall (fun τ L => P_X4_canGive κ f0 w17001.2 τ L) σ17002 fun v17010 σ17011 => ((v17010 = 0 → (self17003 (w17001.1, (w17001.2 + (1 : Int32))) σ17011)) ∧ (¬ v17010 = 0 → (((w17001.1 = (-1 : Int32) → (self17003 (w17001.2, (w17001.2 + (1 : Int32))) σ17011)) ∧ (¬ w17001.1 = (-1 : Int32) → (xrc σ17011 f0 10 ∧ xcall (fun τ L => P_X4_isAhead κ f0 w17001.2 w17001.1 τ L) σ17011 fun v17012 σ17013 => ((v17012 = 0 → (self17003 (w17001.1, (w17001.2 + (1 : Int32))) σ17013)) ∧ (¬ v17012 = 0 → (self17003 (w17001.2, (w17001.2 + (1 : Int32))) σ17013)))))))))))))))
def P_X4_lineFor (κ : Nat → Nat) (a0 : Nat) (x1 : Int32) (σ : xS) (K : Int32 → xH → Prop) : Prop :=
  xgq σ a0 10 0 fun v1 => xnn v1 fun b2 => xai .int σ b2 (1 : Int32) fun v3 => ¬ v3 = 0 ∧ xwhile (B_X4_lineFor_16 κ K a0 ((4 : Int32) * (x1 - x1 / v3 * v3))) ((-1 : Int32), ((4 : Int32) * (x1 - x1 / v3 * v3))) σ
theorem mdX4_lineFor : yX4_lineFor.cls ≠ "java/lang/invoke/MethodHandle" ∧ yX4_lineFor.cls ≠ "java/lang/invoke/VarHandle" ∧ (parseMethodDescriptor yX4_lineFor.desc).map (fun d => d.parameters.length) = some 1 := by decide +kernel
set_option maxHeartbeats 4000000 in
set_option maxRecDepth 100000 in
theorem R_X4_lineFor (l : Launch) (hl : l.stackTraces = false) (G : xG) (hG : G.1.2 = x_cl) (a0 : Nat) (x1 : Int32) (σ : xS) (K : Int32 → xH → Prop) (hp : P_X4_lineFor G.2 a0 x1 σ K) : xM l yX4_lineFor cX4_lineFor 5 (Option.some Jvm.ClassFile.FieldType.int) 2 45 G [(.ref a0), .int x1] σ (xlift emI K) := by
  refine x_entry (by decide) (Nat.le_of_ble_eq_true rfl) ?_
  intro p e s m args below meth c X hr hin
  have X : xX p s m args meth c G cX4_lineFor 5 RX4 := X
  have hx := X.1
  have hb := X.2.1
  have hts := X.2.2.2.2.1
  have hown := X.2.2.2.1
  unfold P_X4_lineFor at hp
  refine x_same (lo' := [(0, .ref a0), (1, .int x1)]) rfl ?_
  refine x_up (pc' := 1) (fun _ _ _ _ _ L => lv_iconst (v := (4 : Int32)) hx hb dX4_lineFor_0 (by decide)) ?_
  refine x_up (pc' := 2) (fun _ _ _ _ _ L => lv_iload_n hx hb dX4_lineFor_1 rfl (lv_at L 1 rfl)) ?_
  refine x_up (pc' := 3) (fun _ _ _ _ _ L => lv_aload_n hx hb dX4_lineFor_2 rfl (lv_at L 0 rfl)) ?_
  refine x_gq X (kX4 hG) 0 (by decide) q3266 (fun _ h => h) dX4_lineFor_3 hp (fun v1 hp1 => ?_)
  refine x_pc (pc' := 6) rfl ?_
  refine x_up (pc' := 7) (fun _ _ _ _ _ L => lv_iconst (v := (1 : Int32)) hx hb dX4_lineFor_6 (by decide)) ?_
  obtain ⟨b2, rfl, hp2⟩ := hp1
  refine x_iald X dX4_lineFor_7 hp2 (fun v3 hp3 => ?_)
  refine x_pc (pc' := 8) rfl ?_
  obtain ⟨hz8, hp4⟩ := hp3
  refine x_up (pc' := 9) (fun _ _ _ _ _ L => lv_irem hx hb dX4_lineFor_8 hz8) ?_
  refine x_up (pc' := 10) (fun _ _ _ _ _ L => lv_imul hx hb dX4_lineFor_9) ?_
  refine x_upL (pc' := 11) (lo' := [(2, .int ((4 : Int32) * (x1 - x1 / v3 * v3))), (0, .ref a0), (1, .int x1)]) (fun _ _ _ _ _ L => lv_istore_n hx hb dX4_lineFor_10 rfl L (by decide) rfl) ?_
  refine x_up (pc' := 12) (fun _ _ _ _ _ L => lv_iconst (v := (-1 : Int32)) hx hb dX4_lineFor_11 (by decide)) ?_
  refine x_upL (pc' := 13) (lo' := [(3, .int (-1 : Int32)), (2, .int ((4 : Int32) * (x1 - x1 / v3 * v3))), (0, .ref a0), (1, .int x1)]) (fun _ _ _ _ _ L => lv_istore_n hx hb dX4_lineFor_12 rfl L (by decide) rfl) ?_
  refine x_up (pc' := 14) (fun _ _ _ _ _ L => lv_iload_n hx hb dX4_lineFor_13 rfl (lv_at L 1 rfl)) ?_
  refine x_upL (pc' := 16) (lo' := [(4, .int ((4 : Int32) * (x1 - x1 / v3 * v3))), (3, .int (-1 : Int32)), (2, .int ((4 : Int32) * (x1 - x1 / v3 * v3))), (0, .ref a0), (1, .int x1)]) (fun _ _ _ _ _ L => lv_istore hx hb dX4_lineFor_14 L (by decide) rfl) ?_
  refine x_lo (lo' := [(3, .int (-1 : Int32)), (4, .int ((4 : Int32) * (x1 - x1 / v3 * v3))), (0, .ref a0), (2, .int ((4 : Int32) * (x1 - x1 / v3 * v3)))]) [1, 0, 3, 2] rfl ?_
  refine x_while (v0 := ((-1 : Int32), ((4 : Int32) * (x1 - x1 / v3 * v3)))) (fun w4 => [(3, .int w4.1), (4, .int w4.2), (0, .ref a0), (2, .int ((4 : Int32) * (x1 - x1 / v3 * v3)))]) hp4 (fun self5 hself6 => ?_)
  rintro ⟨y8, y9⟩ σ7 hp5
  unfold B_X4_lineFor_16 at hp5
  refine x_same (lo' := [(3, .int y8), (4, .int y9), (0, .ref a0), (2, .int ((4 : Int32) * (x1 - x1 / v3 * v3)))]) rfl ?_
  refine x_up (pc' := 18) (fun _ _ _ _ _ L => lv_iload hx hb dX4_lineFor_16 (lv_at L 1 rfl)) ?_
  refine x_up (pc' := 19) (fun _ _ _ _ _ L => lv_iload_n hx hb dX4_lineFor_18 rfl (lv_at L 3 rfl)) ?_
  refine x_up (pc' := 20) (fun _ _ _ _ _ L => lv_aload_n hx hb dX4_lineFor_19 rfl (lv_at L 2 rfl)) ?_
  refine x_gq X (kX4 hG) 0 (by decide) q3266 (fun _ h => h) dX4_lineFor_20 hp5 (fun v10 hp6 => ?_)
  refine x_pc (pc' := 23) rfl ?_
  refine x_up (pc' := 24) (fun _ _ _ _ _ L => lv_iconst (v := (2 : Int32)) hx hb dX4_lineFor_23 (by decide)) ?_
  obtain ⟨b11, rfl, hp7⟩ := hp6
  refine x_iald X dX4_lineFor_24 hp7 (fun v12 hp8 => ?_)
  refine x_pc (pc' := 25) rfl ?_
  refine x_up (pc' := 26) (fun _ _ _ _ _ L => lv_iadd hx hb dX4_lineFor_25) ?_
  refine x_if (C := (((4 : Int32) * (x1 - x1 / v3 * v3)) + v12) ≤ y9) (pt := 83) (pc' := 29) (fun _ _ _ _ _ => lv_icmp_ge (tgt := 83) hx hb dX4_lineFor_26 (by decide)) (fun c26 => ?_) (fun c26 => ?_)
  · have hp9 := hp8.1 c26
    refine x_up (pc' := 84) (fun _ _ _ _ _ L => lv_iload_n hx hb dX4_lineFor_83 rfl (lv_at L 0 rfl)) ?_
    exact x_iret X hr rfl dX4_lineFor_84 hp9
  · have hp10 := hp8.2 c26
    refine x_up (pc' := 30) (fun _ _ _ _ _ L => lv_aload_n hx hb dX4_lineFor_29 rfl (lv_at L 2 rfl)) ?_
    refine x_gq X (kX4 hG) 0 (by decide) q3266 (fun _ h => h) dX4_lineFor_30 hp10 (fun v13 hp11 => ?_)
    refine x_pc (pc' := 33) rfl ?_
    refine x_up (pc' := 35) (fun _ _ _ _ _ L => lv_bipush (v := (73 : Int32)) hx hb dX4_lineFor_33 (by decide)) ?_
    refine x_up (pc' := 37) (fun _ _ _ _ _ L => lv_iload hx hb dX4_lineFor_35 (lv_at L 1 rfl)) ?_
    refine x_up (pc' := 38) (fun _ _ _ _ _ L => lv_iadd hx hb dX4_lineFor_37) ?_
    obtain ⟨b14, rfl, hp12⟩ := hp11
    refine x_iald X dX4_lineFor_38 hp12 (fun v15 hp13 => ?_)
    refine x_pc (pc' := 39) rfl ?_
    refine x_up (pc' := 40) (fun _ _ _ _ _ L => lv_iconst (v := (-1 : Int32)) hx hb dX4_lineFor_39 (by decide)) ?_
    refine x_ifn (C := v15 = (-1 : Int32)) (pt := 46) (pc' := 43) (fun _ _ _ _ _ => lv_icmp_ne (tgt := 46) hx hb dX4_lineFor_40 (by decide)) (fun c40 => ?_) (fun c40 => ?_)
    · have hp14 := hp13.1 c40
      refine x_up (pc' := 45) (fun _ _ _ _ _ L => lv_iload hx hb dX4_lineFor_43 (lv_at L 1 rfl)) ?_
      exact x_iret X hr rfl dX4_lineFor_45 hp14
    · have hp15 := hp13.2 c40
      refine x_up (pc' := 47) (fun _ _ _ _ _ L => lv_aload_n hx hb dX4_lineFor_46 rfl (lv_at L 2 rfl)) ?_
      refine x_up (pc' := 49) (fun _ _ _ _ _ L => lv_iload hx hb dX4_lineFor_47 (lv_at L 1 rfl)) ?_
      refine x_callV (em := emI) (fun r st => .int r :: st) (fun _ _ => rfl) 1 X (kX4 hG) (fun σ' KK h => R_X4_canGive l hl G hG a0 y9 σ' KK h) (lw_V q3373 q3375 qs63 q119 q3376) ⟨rfl, mdX4_canGive⟩ ⟨Nat.le_of_ble_eq_true rfl, Nat.le_of_ble_eq_true rfl⟩ rfl rfl (Nat.le_of_ble_eq_true rfl) dX4_lineFor_49 hp15.1 hp15.2 (fun v16 σ17 hp16 => ?_)
      refine x_pc (pc' := 52) rfl ?_
      refine x_if (C := v16 = 0) (pt := 75) (pc' := 55) (fun _ _ _ _ _ => lv_if_eq (tgt := 75) hx hb dX4_lineFor_52 (by decide)) (fun c52 => ?_) (fun c52 => ?_)
      · have hp17 := hp16.1 c52
        refine x_up (pc' := 76) (fun _ _ _ _ _ L => lv_iload_n hx hb dX4_lineFor_75 rfl (lv_at L 0 rfl)) ?_
        refine x_upL (pc' := 77) (lo' := [(3, .int y8), (4, .int y9), (0, .ref a0), (2, .int ((4 : Int32) * (x1 - x1 / v3 * v3)))]) (fun _ _ _ _ _ L => lv_istore_n hx hb dX4_lineFor_76 rfl L (by decide) rfl) ?_
        refine x_upL (pc' := 80) (lo' := [(4, .int (y9 + (1 : Int32))), (3, .int y8), (0, .ref a0), (2, .int ((4 : Int32) * (x1 - x1 / v3 * v3)))]) (fun _ _ _ _ _ L => lv_iinc (v := y9 + (1 : Int32)) hx hb dX4_lineFor_77 L (k := 1) rfl rfl (by decide) rfl) ?_
        refine x_up (pc' := 16) (fun _ _ _ _ _ L => lv_goto (tgt := 16) hx hb dX4_lineFor_80 (by decide)) ?_
        refine x_lo (lo' := [(3, .int y8), (4, .int (y9 + (1 : Int32))), (0, .ref a0), (2, .int ((4 : Int32) * (x1 - x1 / v3 * v3)))]) [1, 0, 2, 3] rfl ?_
        exact hself6 (y8, (y9 + (1 : Int32))) σ17 hp17
      · have hp18 := hp16.2 c52
        refine x_up (pc' := 56) (fun _ _ _ _ _ L => lv_iload_n hx hb dX4_lineFor_55 rfl (lv_at L 0 rfl)) ?_
        refine x_up (pc' := 57) (fun _ _ _ _ _ L => lv_iconst (v := (-1 : Int32)) hx hb dX4_lineFor_56 (by decide)) ?_
        refine x_if (C := y8 = (-1 : Int32)) (pt := 70) (pc' := 60) (fun _ _ _ _ _ => lv_icmp_eq (tgt := 70) hx hb dX4_lineFor_57 (by decide)) (fun c57 => ?_) (fun c57 => ?_)
        · have hp19 := hp18.1 c57
          refine x_up (pc' := 72) (fun _ _ _ _ _ L => lv_iload hx hb dX4_lineFor_70 (lv_at L 1 rfl)) ?_
          refine x_up (pc' := 76) (fun _ _ _ _ _ L => lv_goto (tgt := 76) hx hb dX4_lineFor_72 (by decide)) ?_
          refine x_upL (pc' := 77) (lo' := [(3, .int y9), (4, .int y9), (0, .ref a0), (2, .int ((4 : Int32) * (x1 - x1 / v3 * v3)))]) (fun _ _ _ _ _ L => lv_istore_n hx hb dX4_lineFor_76 rfl L (by decide) rfl) ?_
          refine x_upL (pc' := 80) (lo' := [(4, .int (y9 + (1 : Int32))), (3, .int y9), (0, .ref a0), (2, .int ((4 : Int32) * (x1 - x1 / v3 * v3)))]) (fun _ _ _ _ _ L => lv_iinc (v := y9 + (1 : Int32)) hx hb dX4_lineFor_77 L (k := 1) rfl rfl (by decide) rfl) ?_
          refine x_up (pc' := 16) (fun _ _ _ _ _ L => lv_goto (tgt := 16) hx hb dX4_lineFor_80 (by decide)) ?_
          refine x_lo (lo' := [(3, .int y9), (4, .int (y9 + (1 : Int32))), (0, .ref a0), (2, .int ((4 : Int32) * (x1 - x1 / v3 * v3)))]) [1, 0, 2, 3] rfl ?_
          exact hself6 (y9, (y9 + (1 : Int32))) σ17 hp19
        · have hp20 := hp18.2 c57
          refine x_up (pc' := 61) (fun _ _ _ _ _ L => lv_aload_n hx hb dX4_lineFor_60 rfl (lv_at L 2 rfl)) ?_
          refine x_up (pc' := 63) (fun _ _ _ _ _ L => lv_iload hx hb dX4_lineFor_61 (lv_at L 1 rfl)) ?_
          refine x_up (pc' := 64) (fun _ _ _ _ _ L => lv_iload_n hx hb dX4_lineFor_63 rfl (lv_at L 0 rfl)) ?_
          refine x_callV (em := emI) (fun r st => .int r :: st) (fun _ _ => rfl) 2 X (kX4 hG) (fun σ' KK h => R_X4_isAhead l hl G hG a0 y9 y8 σ' KK h) (lw_V q3377 q3379 qs64 q119 q3380) ⟨rfl, mdX4_isAhead⟩ ⟨Nat.le_of_ble_eq_true rfl, Nat.le_of_ble_eq_true rfl⟩ rfl rfl (Nat.le_of_ble_eq_true rfl) dX4_lineFor_64 hp20.1 hp20.2 (fun v18 σ19 hp21 => ?_)
          refine x_pc (pc' := 67) rfl ?_
          refine x_if (C := v18 = 0) (pt := 75) (pc' := 70) (fun _ _ _ _ _ => lv_if_eq (tgt := 75) hx hb dX4_lineFor_67 (by decide)) (fun c67 => ?_) (fun c67 => ?_)
          · have hp22 := hp21.1 c67
            refine x_up (pc' := 76) (fun _ _ _ _ _ L => lv_iload_n hx hb dX4_lineFor_75 rfl (lv_at L 0 rfl)) ?_
            refine x_upL (pc' := 77) (lo' := [(3, .int y8), (4, .int y9), (0, .ref a0), (2, .int ((4 : Int32) * (x1 - x1 / v3 * v3)))]) (fun _ _ _ _ _ L => lv_istore_n hx hb dX4_lineFor_76 rfl L (by decide) rfl) ?_
            refine x_upL (pc' := 80) (lo' := [(4, .int (y9 + (1 : Int32))), (3, .int y8), (0, .ref a0), (2, .int ((4 : Int32) * (x1 - x1 / v3 * v3)))]) (fun _ _ _ _ _ L => lv_iinc (v := y9 + (1 : Int32)) hx hb dX4_lineFor_77 L (k := 1) rfl rfl (by decide) rfl) ?_
            refine x_up (pc' := 16) (fun _ _ _ _ _ L => lv_goto (tgt := 16) hx hb dX4_lineFor_80 (by decide)) ?_
            refine x_lo (lo' := [(3, .int y8), (4, .int (y9 + (1 : Int32))), (0, .ref a0), (2, .int ((4 : Int32) * (x1 - x1 / v3 * v3)))]) [1, 0, 2, 3] rfl ?_
            exact hself6 (y8, (y9 + (1 : Int32))) σ19 hp22
          · have hp23 := hp21.2 c67
            refine x_up (pc' := 72) (fun _ _ _ _ _ L => lv_iload hx hb dX4_lineFor_70 (lv_at L 1 rfl)) ?_
            refine x_up (pc' := 76) (fun _ _ _ _ _ L => lv_goto (tgt := 76) hx hb dX4_lineFor_72 (by decide)) ?_
            refine x_upL (pc' := 77) (lo' := [(3, .int y9), (4, .int y9), (0, .ref a0), (2, .int ((4 : Int32) * (x1 - x1 / v3 * v3)))]) (fun _ _ _ _ _ L => lv_istore_n hx hb dX4_lineFor_76 rfl L (by decide) rfl) ?_
            refine x_upL (pc' := 80) (lo' := [(4, .int (y9 + (1 : Int32))), (3, .int y9), (0, .ref a0), (2, .int ((4 : Int32) * (x1 - x1 / v3 * v3)))]) (fun _ _ _ _ _ L => lv_iinc (v := y9 + (1 : Int32)) hx hb dX4_lineFor_77 L (k := 1) rfl rfl (by decide) rfl) ?_
            refine x_up (pc' := 16) (fun _ _ _ _ _ L => lv_goto (tgt := 16) hx hb dX4_lineFor_80 (by decide)) ?_
            refine x_lo (lo' := [(3, .int y9), (4, .int (y9 + (1 : Int32))), (0, .ref a0), (2, .int ((4 : Int32) * (x1 - x1 / v3 * v3)))]) [1, 0, 2, 3] rfl ?_
            exact hself6 (y9, (y9 + (1 : Int32))) σ19 hp23
-- X4_causeBy
def B_X4_causeBy_19 (κ : Nat → Nat) (K : Int32 → xH → Prop) (f0 : Nat) (f1 : Int32) : (Int32 → xS → Prop) → Int32 → xS → Prop := fun self20003 w20001 σ20002 =>
  xgq σ20002 f0 10 0 fun v20004 => xnn v20004 fun b20005 => xai .int σ20002 b20005 (234 : Int32) fun v20006 => ((v20006 ≤ w20001 → (K (1 : Int32) σ20002.1)) ∧ (¬ v20006 ≤ w20001 → (xgq σ20002 f0 10 0 fun v20007 => xnn v20007 fun b20008 => xai .int σ20002 b20008 (1 : Int32) fun v20009 => xgq σ20002 f0 10 0 fun v20010 => xnn v20010 fun b20011 => xai .int σ20002 b20011 (2 : Int32) fun v20012 => (((v20009 * v20012) ≤ w20001 → (K (1 : Int32) σ20002.1)) ∧ (¬ (v20009 * v20012) ≤ w20001 → (xgq σ20002 f0 10 0 fun v20013 => xnn v20013 fun b20014 => xai .int σ20002 b20014 ((235 : Int32) + w20001) fun v20015 => ((v20015 = f1 → (K (2 : Int32) σ20002.1)) ∧ (¬ v20015 = f1 → (self20003 (w20001 + (1 : Int32)) σ20002)))))))))
def P_X4_causeBy (κ : Nat → Nat) (a0 : Nat) (x1 : Int32) (σ : xS) (K : Int32 → xH → Prop) : Prop :=
  xgq σ a0 10 0 fun v1 => xnn v1 fun b2 => xai .int σ b2 (233 : Int32) fun v3 => ((((v3 >>> (x1 &&& 31)) &&& (1 : Int32)) = 0 → (K (0 : Int32) σ.1)) ∧ (¬ ((v3 >>> (x1 &&& 31)) &&& (1 : Int32)) = 0 → (xwhile (B_X4_causeBy_19 κ K a0 x1) (0 : Int32) σ)))
theorem mdX4_causeBy : yX4_causeBy.cls ≠ "java/lang/invoke/MethodHandle" ∧ yX4_causeBy.cls ≠ "java/lang/invoke/VarHandle" ∧ (parseMethodDescriptor yX4_causeBy.desc).map (fun d => d.parameters.length) = some 1 := by decide +kernel
set_option maxHeartbeats 4000000 in
set_option maxRecDepth 100000 in
theorem R_X4_causeBy (l : Launch) (hl : l.stackTraces = false) (G : xG) (hG : G.1.2 = x_cl) (a0 : Nat) (x1 : Int32) (σ : xS) (K : Int32 → xH → Prop) (hp : P_X4_causeBy G.2 a0 x1 σ K) : xM l yX4_causeBy cX4_causeBy 3 (Option.some Jvm.ClassFile.FieldType.int) 0 0 G [(.ref a0), .int x1] σ (xlift emI K) := by
  refine x_entry (by decide) (Nat.le_of_ble_eq_true rfl) ?_
  intro p e s m args below meth c X hr hin
  have X : xX p s m args meth c G cX4_causeBy 3 RX4 := X
  have hx := X.1
  have hb := X.2.1
  have hts := X.2.2.2.2.1
  have hown := X.2.2.2.1
  unfold P_X4_causeBy at hp
  refine x_same (lo' := [(0, .ref a0), (1, .int x1)]) rfl ?_
  refine x_up (pc' := 1) (fun _ _ _ _ _ L => lv_aload_n hx hb dX4_causeBy_0 rfl (lv_at L 0 rfl)) ?_
  refine x_gq X (kX4 hG) 0 (by decide) q3266 (fun _ h => h) dX4_causeBy_1 hp (fun v1 hp1 => ?_)
  refine x_pc (pc' := 4) rfl ?_
  refine x_up (pc' := 7) (fun _ _ _ _ _ L => lv_sipush (v := (233 : Int32)) hx hb dX4_causeBy_4 (by decide)) ?_
  obtain ⟨b2, rfl, hp2⟩ := hp1
  refine x_iald X dX4_causeBy_7 hp2 (fun v3 hp3 => ?_)
  refine x_pc (pc' := 8) rfl ?_
  refine x_up (pc' := 9) (fun _ _ _ _ _ L => lv_iload_n hx hb dX4_causeBy_8 rfl (lv_at L 1 rfl)) ?_
  refine x_up (pc' := 10) (fun _ _ _ _ _ L => lv_ishr hx hb dX4_causeBy_9) ?_
  refine x_up (pc' := 11) (fun _ _ _ _ _ L => lv_iconst (v := (1 : Int32)) hx hb dX4_causeBy_10 (by decide)) ?_
  refine x_up (pc' := 12) (fun _ _ _ _ _ L => lv_iand hx hb dX4_causeBy_11) ?_
  refine x_ifn (C := ((v3 >>> (x1 &&& 31)) &&& (1 : Int32)) = 0) (pt := 17) (pc' := 15) (fun _ _ _ _ _ => lv_if_ne (tgt := 17) hx hb dX4_causeBy_12 (by decide)) (fun c12 => ?_) (fun c12 => ?_)
  · have hp4 := hp3.1 c12
    refine x_up (pc' := 16) (fun _ _ _ _ _ L => lv_iconst (v := (0 : Int32)) hx hb dX4_causeBy_15 (by decide)) ?_
    exact x_iret X hr rfl dX4_causeBy_16 hp4
  · have hp5 := hp3.2 c12
    refine x_up (pc' := 18) (fun _ _ _ _ _ L => lv_iconst (v := (0 : Int32)) hx hb dX4_causeBy_17 (by decide)) ?_
    refine x_upL (pc' := 19) (lo' := [(2, .int (0 : Int32)), (0, .ref a0), (1, .int x1)]) (fun _ _ _ _ _ L => lv_istore_n hx hb dX4_causeBy_18 rfl L (by decide) rfl) ?_
    refine x_lo (lo' := [(2, .int (0 : Int32)), (0, .ref a0), (1, .int x1)]) [0, 1, 2] rfl ?_
    refine x_while (v0 := (0 : Int32)) (fun w4 => [(2, .int w4), (0, .ref a0), (1, .int x1)]) hp5 (fun self5 hself6 => ?_)
    rintro y8 σ7 hp6
    unfold B_X4_causeBy_19 at hp6
    refine x_same (lo' := [(2, .int y8), (0, .ref a0), (1, .int x1)]) rfl ?_
    refine x_up (pc' := 20) (fun _ _ _ _ _ L => lv_iload_n hx hb dX4_causeBy_19 rfl (lv_at L 0 rfl)) ?_
    refine x_up (pc' := 21) (fun _ _ _ _ _ L => lv_aload_n hx hb dX4_causeBy_20 rfl (lv_at L 1 rfl)) ?_
    refine x_gq X (kX4 hG) 0 (by decide) q3266 (fun _ h => h) dX4_causeBy_21 hp6 (fun v9 hp7 => ?_)
    refine x_pc (pc' := 24) rfl ?_
    refine x_up (pc' := 27) (fun _ _ _ _ _ L => lv_sipush (v := (234 : Int32)) hx hb dX4_causeBy_24 (by decide)) ?_
    obtain ⟨b10, rfl, hp8⟩ := hp7
    refine x_iald X dX4_causeBy_27 hp8 (fun v11 hp9 => ?_)
    refine x_pc (pc' := 28) rfl ?_
    refine x_if (C := v11 ≤ y8) (pt := 70) (pc' := 31) (fun _ _ _ _ _ => lv_icmp_ge (tgt := 70) hx hb dX4_causeBy_28 (by decide)) (fun c28 => ?_) (fun c28 => ?_)
    · have hp10 := hp9.1 c28
      refine x_up (pc' := 71) (fun _ _ _ _ _ L => lv_iconst (v := (1 : Int32)) hx hb dX4_causeBy_70 (by decide)) ?_
      exact x_iret X hr rfl dX4_causeBy_71 hp10
    · have hp11 := hp9.2 c28
      refine x_up (pc' := 32) (fun _ _ _ _ _ L => lv_iload_n hx hb dX4_causeBy_31 rfl (lv_at L 0 rfl)) ?_
      refine x_up (pc' := 33) (fun _ _ _ _ _ L => lv_aload_n hx hb dX4_causeBy_32 rfl (lv_at L 1 rfl)) ?_
      refine x_gq X (kX4 hG) 0 (by decide) q3266 (fun _ h => h) dX4_causeBy_33 hp11 (fun v12 hp12 => ?_)
      refine x_pc (pc' := 36) rfl ?_
      refine x_up (pc' := 37) (fun _ _ _ _ _ L => lv_iconst (v := (1 : Int32)) hx hb dX4_causeBy_36 (by decide)) ?_
      obtain ⟨b13, rfl, hp13⟩ := hp12
      refine x_iald X dX4_causeBy_37 hp13 (fun v14 hp14 => ?_)
      refine x_pc (pc' := 38) rfl ?_
      refine x_up (pc' := 39) (fun _ _ _ _ _ L => lv_aload_n hx hb dX4_causeBy_38 rfl (lv_at L 1 rfl)) ?_
      refine x_gq X (kX4 hG) 0 (by decide) q3266 (fun _ h => h) dX4_causeBy_39 hp14 (fun v15 hp15 => ?_)
      refine x_pc (pc' := 42) rfl ?_
      refine x_up (pc' := 43) (fun _ _ _ _ _ L => lv_iconst (v := (2 : Int32)) hx hb dX4_causeBy_42 (by decide)) ?_
      obtain ⟨b16, rfl, hp16⟩ := hp15
      refine x_iald X dX4_causeBy_43 hp16 (fun v17 hp17 => ?_)
      refine x_pc (pc' := 44) rfl ?_
      refine x_up (pc' := 45) (fun _ _ _ _ _ L => lv_imul hx hb dX4_causeBy_44) ?_
      refine x_if (C := (v14 * v17) ≤ y8) (pt := 70) (pc' := 48) (fun _ _ _ _ _ => lv_icmp_ge (tgt := 70) hx hb dX4_causeBy_45 (by decide)) (fun c45 => ?_) (fun c45 => ?_)
      · have hp18 := hp17.1 c45
        refine x_up (pc' := 71) (fun _ _ _ _ _ L => lv_iconst (v := (1 : Int32)) hx hb dX4_causeBy_70 (by decide)) ?_
        exact x_iret X hr rfl dX4_causeBy_71 hp18
      · have hp19 := hp17.2 c45
        refine x_up (pc' := 49) (fun _ _ _ _ _ L => lv_aload_n hx hb dX4_causeBy_48 rfl (lv_at L 1 rfl)) ?_
        refine x_gq X (kX4 hG) 0 (by decide) q3266 (fun _ h => h) dX4_causeBy_49 hp19 (fun v18 hp20 => ?_)
        refine x_pc (pc' := 52) rfl ?_
        refine x_up (pc' := 55) (fun _ _ _ _ _ L => lv_sipush (v := (235 : Int32)) hx hb dX4_causeBy_52 (by decide)) ?_
        refine x_up (pc' := 56) (fun _ _ _ _ _ L => lv_iload_n hx hb dX4_causeBy_55 rfl (lv_at L 0 rfl)) ?_
        refine x_up (pc' := 57) (fun _ _ _ _ _ L => lv_iadd hx hb dX4_causeBy_56) ?_
        obtain ⟨b19, rfl, hp21⟩ := hp20
        refine x_iald X dX4_causeBy_57 hp21 (fun v20 hp22 => ?_)
        refine x_pc (pc' := 58) rfl ?_
        refine x_up (pc' := 59) (fun _ _ _ _ _ L => lv_iload_n hx hb dX4_causeBy_58 rfl (lv_at L 2 rfl)) ?_
        refine x_ifn (C := v20 = x1) (pt := 64) (pc' := 62) (fun _ _ _ _ _ => lv_icmp_ne (tgt := 64) hx hb dX4_causeBy_59 (by decide)) (fun c59 => ?_) (fun c59 => ?_)
        · have hp23 := hp22.1 c59
          refine x_up (pc' := 63) (fun _ _ _ _ _ L => lv_iconst (v := (2 : Int32)) hx hb dX4_causeBy_62 (by decide)) ?_
          exact x_iret X hr rfl dX4_causeBy_63 hp23
        · have hp24 := hp22.2 c59
          refine x_upL (pc' := 67) (lo' := [(2, .int (y8 + (1 : Int32))), (0, .ref a0), (1, .int x1)]) (fun _ _ _ _ _ L => lv_iinc (v := y8 + (1 : Int32)) hx hb dX4_causeBy_64 L (k := 0) rfl rfl (by decide) rfl) ?_
          refine x_up (pc' := 19) (fun _ _ _ _ _ L => lv_goto (tgt := 19) hx hb dX4_causeBy_67 (by decide)) ?_
          refine x_lo (lo' := [(2, .int (y8 + (1 : Int32))), (0, .ref a0), (1, .int x1)]) [0, 1, 2] rfl ?_
          exact hself6 (y8 + (1 : Int32)) σ7 hp24
-- X4_uses
def P_X4_uses (κ : Nat → Nat) (a0 : Nat) (x1 : Int32) (x2 : Int32) (σ : xS) (K : Unit → xH → Prop) : Prop :=
  xgq σ a0 10 0 fun v1 => xnn v1 fun b2 => xai .int σ b2 ((69 : Int32) + (x1 - x1 / (4 : Int32) * (4 : Int32))) fun v3 => xgq σ a0 10 0 fun v4 => xnn v4 fun b5 => xai .int σ b5 (0 : Int32) fun v6 => ((v3 ≤ v6 → (xgq σ a0 10 0 fun v7 => xnn v7 fun b8 => xai .int σ b8 (0 : Int32) fun v9 => xsi κ .int σ b8 (0 : Int32) (v9 + x2) fun σ10 => xgq σ10 a0 10 0 fun v11 => xgq σ10 a0 10 0 fun v12 => xnn v12 fun b13 => xai .int σ10 b13 (0 : Int32) fun v14 => xnn v11 fun b15 => xsi κ .int σ10 b15 ((69 : Int32) + (x1 - x1 / (4 : Int32) * (4 : Int32))) (v14 + (4 : Int32)) fun σ16 => K () σ16.1)) ∧ (¬ v3 ≤ v6 → (xgq σ a0 10 0 fun v17 => xnn v17 fun b18 => xai .int σ b18 (291 : Int32) fun v19 => xgq σ a0 10 0 fun v20 => xnn v20 fun b21 => xai .int σ b21 ((69 : Int32) + (x1 - x1 / (4 : Int32) * (4 : Int32))) fun v22 => xgq σ a0 10 0 fun v23 => xnn v23 fun b24 => xai .int σ b24 (0 : Int32) fun v25 => xsi κ .int σ b18 (291 : Int32) (v19 + (v22 - v25)) fun σ26 => xgq σ26 a0 10 0 fun v27 => xgq σ26 a0 10 0 fun v28 => xnn v28 fun b29 => xai .int σ26 b29 ((69 : Int32) + (x1 - x1 / (4 : Int32) * (4 : Int32))) fun v30 => xnn v27 fun b31 => xsi κ .int σ26 b31 (0 : Int32) v30 fun σ32 => xgq σ32 a0 10 0 fun v33 => xnn v33 fun b34 => xai .int σ32 b34 (0 : Int32) fun v35 => xsi κ .int σ32 b34 (0 : Int32) (v35 + x2) fun σ36 => xgq σ36 a0 10 0 fun v37 => xgq σ36 a0 10 0 fun v38 => xnn v38 fun b39 => xai .int σ36 b39 (0 : Int32) fun v40 => xnn v37 fun b41 => xsi κ .int σ36 b41 ((69 : Int32) + (x1 - x1 / (4 : Int32) * (4 : Int32))) (v40 + (4 : Int32)) fun σ42 => K () σ42.1)))
theorem mdX4_uses : yX4_uses.cls ≠ "java/lang/invoke/MethodHandle" ∧ yX4_uses.cls ≠ "java/lang/invoke/VarHandle" ∧ (parseMethodDescriptor yX4_uses.desc).map (fun d => d.parameters.length) = some 2 := by decide +kernel
set_option maxHeartbeats 4000000 in
set_option maxRecDepth 100000 in
theorem R_X4_uses (l : Launch) (hl : l.stackTraces = false) (G : xG) (hG : G.1.2 = x_cl) (a0 : Nat) (x1 : Int32) (x2 : Int32) (σ : xS) (K : Unit → xH → Prop) (hp : P_X4_uses G.2 a0 x1 x2 σ K) : xM l yX4_uses cX4_uses 4 (Option.none : Option Jvm.ClassFile.FieldType) 0 0 G [(.ref a0), .int x1, .int x2] σ (xlift emV K) := by
  refine x_entry (by decide) (Nat.le_of_ble_eq_true rfl) ?_
  intro p e s m args below meth c X hr hin
  have X : xX p s m args meth c G cX4_uses 4 RX4 := X
  have hx := X.1
  have hb := X.2.1
  have hts := X.2.2.2.2.1
  have hown := X.2.2.2.1
  unfold P_X4_uses at hp
  refine x_same (lo' := [(0, .ref a0), (1, .int x1), (2, .int x2)]) rfl ?_
  refine x_up (pc' := 2) (fun _ _ _ _ _ L => lv_bipush (v := (69 : Int32)) hx hb dX4_uses_0 (by decide)) ?_
  refine x_up (pc' := 3) (fun _ _ _ _ _ L => lv_iload_n hx hb dX4_uses_2 rfl (lv_at L 1 rfl)) ?_
  refine x_up (pc' := 4) (fun _ _ _ _ _ L => lv_iconst (v := (4 : Int32)) hx hb dX4_uses_3 (by decide)) ?_
  refine x_up (pc' := 5) (fun _ _ _ _ _ L => lv_irem hx hb dX4_uses_4 (by decide)) ?_
  refine x_up (pc' := 6) (fun _ _ _ _ _ L => lv_iadd hx hb dX4_uses_5) ?_
  refine x_upL (pc' := 7) (lo' := [(3, .int ((69 : Int32) + (x1 - x1 / (4 : Int32) * (4 : Int32)))), (0, .ref a0), (1, .int x1), (2, .int x2)]) (fun _ _ _ _ _ L => lv_istore_n hx hb dX4_uses_6 rfl L (by decide) rfl) ?_
  refine x_up (pc' := 8) (fun _ _ _ _ _ L => lv_aload_n hx hb dX4_uses_7 rfl (lv_at L 1 rfl)) ?_
  refine x_gq X (kX4 hG) 0 (by decide) q3266 (fun _ h => h) dX4_uses_8 hp (fun v1 hp1 => ?_)
  refine x_pc (pc' := 11) rfl ?_
  refine x_up (pc' := 12) (fun _ _ _ _ _ L => lv_iload_n hx hb dX4_uses_11 rfl (lv_at L 0 rfl)) ?_
  obtain ⟨b2, rfl, hp2⟩ := hp1
  refine x_iald X dX4_uses_12 hp2 (fun v3 hp3 => ?_)
  refine x_pc (pc' := 13) rfl ?_
  refine x_up (pc' := 14) (fun _ _ _ _ _ L => lv_aload_n hx hb dX4_uses_13 rfl (lv_at L 1 rfl)) ?_
  refine x_gq X (kX4 hG) 0 (by decide) q3266 (fun _ h => h) dX4_uses_14 hp3 (fun v4 hp4 => ?_)
  refine x_pc (pc' := 17) rfl ?_
  refine x_up (pc' := 18) (fun _ _ _ _ _ L => lv_iconst (v := (0 : Int32)) hx hb dX4_uses_17 (by decide)) ?_
  obtain ⟨b5, rfl, hp5⟩ := hp4
  refine x_iald X dX4_uses_18 hp5 (fun v6 hp6 => ?_)
  refine x_pc (pc' := 19) rfl ?_
  refine x_if (C := v3 ≤ v6) (pt := 58) (pc' := 22) (fun _ _ _ _ _ => lv_icmp_le (tgt := 58) hx hb dX4_uses_19 (by decide)) (fun c19 => ?_) (fun c19 => ?_)
  · have hp7 := hp6.1 c19
    refine x_up (pc' := 59) (fun _ _ _ _ _ L => lv_aload_n hx hb dX4_uses_58 rfl (lv_at L 1 rfl)) ?_
    refine x_gq X (kX4 hG) 0 (by decide) q3266 (fun _ h => h) dX4_uses_59 hp7 (fun v7 hp8 => ?_)
    refine x_pc (pc' := 62) rfl ?_
    refine x_up (pc' := 63) (fun _ _ _ _ _ L => lv_iconst (v := (0 : Int32)) hx hb dX4_uses_62 (by decide)) ?_
    refine x_up (pc' := 64) (fun _ _ _ _ _ L => lv_dup2_11 hx hb dX4_uses_63 rfl (x_catq _)) ?_
    obtain ⟨b8, rfl, hp9⟩ := hp8
    refine x_iald X dX4_uses_64 hp9 (fun v9 hp10 => ?_)
    refine x_pc (pc' := 65) rfl ?_
    refine x_up (pc' := 66) (fun _ _ _ _ _ L => lv_iload_n hx hb dX4_uses_65 rfl (lv_at L 3 rfl)) ?_
    refine x_up (pc' := 67) (fun _ _ _ _ _ L => lv_iadd hx hb dX4_uses_66) ?_
    refine x_iast X dX4_uses_67 hp10 (fun σ10 hp11 => ?_)
    refine x_pc (pc' := 68) rfl ?_
    refine x_up (pc' := 69) (fun _ _ _ _ _ L => lv_aload_n hx hb dX4_uses_68 rfl (lv_at L 1 rfl)) ?_
    refine x_gq X (kX4 hG) 0 (by decide) q3266 (fun _ h => h) dX4_uses_69 hp11 (fun v11 hp12 => ?_)
    refine x_pc (pc' := 72) rfl ?_
    refine x_up (pc' := 73) (fun _ _ _ _ _ L => lv_iload_n hx hb dX4_uses_72 rfl (lv_at L 0 rfl)) ?_
    refine x_up (pc' := 74) (fun _ _ _ _ _ L => lv_aload_n hx hb dX4_uses_73 rfl (lv_at L 1 rfl)) ?_
    refine x_gq X (kX4 hG) 0 (by decide) q3266 (fun _ h => h) dX4_uses_74 hp12 (fun v12 hp13 => ?_)
    refine x_pc (pc' := 77) rfl ?_
    refine x_up (pc' := 78) (fun _ _ _ _ _ L => lv_iconst (v := (0 : Int32)) hx hb dX4_uses_77 (by decide)) ?_
    obtain ⟨b13, rfl, hp14⟩ := hp13
    refine x_iald X dX4_uses_78 hp14 (fun v14 hp15 => ?_)
    refine x_pc (pc' := 79) rfl ?_
    refine x_up (pc' := 80) (fun _ _ _ _ _ L => lv_iconst (v := (4 : Int32)) hx hb dX4_uses_79 (by decide)) ?_
    refine x_up (pc' := 81) (fun _ _ _ _ _ L => lv_iadd hx hb dX4_uses_80) ?_
    obtain ⟨b15, rfl, hp16⟩ := hp15
    refine x_iast X dX4_uses_81 hp16 (fun σ16 hp17 => ?_)
    refine x_pc (pc' := 82) rfl ?_
    exact x_vret X hr dX4_uses_82 hp17
  · have hp18 := hp6.2 c19
    refine x_up (pc' := 23) (fun _ _ _ _ _ L => lv_aload_n hx hb dX4_uses_22 rfl (lv_at L 1 rfl)) ?_
    refine x_gq X (kX4 hG) 0 (by decide) q3266 (fun _ h => h) dX4_uses_23 hp18 (fun v17 hp19 => ?_)
    refine x_pc (pc' := 26) rfl ?_
    refine x_up (pc' := 29) (fun _ _ _ _ _ L => lv_sipush (v := (291 : Int32)) hx hb dX4_uses_26 (by decide)) ?_
    refine x_up (pc' := 30) (fun _ _ _ _ _ L => lv_dup2_11 hx hb dX4_uses_29 rfl (x_catq _)) ?_
    obtain ⟨b18, rfl, hp20⟩ := hp19
    refine x_iald X dX4_uses_30 hp20 (fun v19 hp21 => ?_)
    refine x_pc (pc' := 31) rfl ?_
    refine x_up (pc' := 32) (fun _ _ _ _ _ L => lv_aload_n hx hb dX4_uses_31 rfl (lv_at L 1 rfl)) ?_
    refine x_gq X (kX4 hG) 0 (by decide) q3266 (fun _ h => h) dX4_uses_32 hp21 (fun v20 hp22 => ?_)
    refine x_pc (pc' := 35) rfl ?_
    refine x_up (pc' := 36) (fun _ _ _ _ _ L => lv_iload_n hx hb dX4_uses_35 rfl (lv_at L 0 rfl)) ?_
    obtain ⟨b21, rfl, hp23⟩ := hp22
    refine x_iald X dX4_uses_36 hp23 (fun v22 hp24 => ?_)
    refine x_pc (pc' := 37) rfl ?_
    refine x_up (pc' := 38) (fun _ _ _ _ _ L => lv_aload_n hx hb dX4_uses_37 rfl (lv_at L 1 rfl)) ?_
    refine x_gq X (kX4 hG) 0 (by decide) q3266 (fun _ h => h) dX4_uses_38 hp24 (fun v23 hp25 => ?_)
    refine x_pc (pc' := 41) rfl ?_
    refine x_up (pc' := 42) (fun _ _ _ _ _ L => lv_iconst (v := (0 : Int32)) hx hb dX4_uses_41 (by decide)) ?_
    obtain ⟨b24, rfl, hp26⟩ := hp25
    refine x_iald X dX4_uses_42 hp26 (fun v25 hp27 => ?_)
    refine x_pc (pc' := 43) rfl ?_
    refine x_up (pc' := 44) (fun _ _ _ _ _ L => lv_isub hx hb dX4_uses_43) ?_
    refine x_up (pc' := 45) (fun _ _ _ _ _ L => lv_iadd hx hb dX4_uses_44) ?_
    refine x_iast X dX4_uses_45 hp27 (fun σ26 hp28 => ?_)
    refine x_pc (pc' := 46) rfl ?_
    refine x_up (pc' := 47) (fun _ _ _ _ _ L => lv_aload_n hx hb dX4_uses_46 rfl (lv_at L 1 rfl)) ?_
    refine x_gq X (kX4 hG) 0 (by decide) q3266 (fun _ h => h) dX4_uses_47 hp28 (fun v27 hp29 => ?_)
    refine x_pc (pc' := 50) rfl ?_
    refine x_up (pc' := 51) (fun _ _ _ _ _ L => lv_iconst (v := (0 : Int32)) hx hb dX4_uses_50 (by decide)) ?_
    refine x_up (pc' := 52) (fun _ _ _ _ _ L => lv_aload_n hx hb dX4_uses_51 rfl (lv_at L 1 rfl)) ?_
    refine x_gq X (kX4 hG) 0 (by decide) q3266 (fun _ h => h) dX4_uses_52 hp29 (fun v28 hp30 => ?_)
    refine x_pc (pc' := 55) rfl ?_
    refine x_up (pc' := 56) (fun _ _ _ _ _ L => lv_iload_n hx hb dX4_uses_55 rfl (lv_at L 0 rfl)) ?_
    obtain ⟨b29, rfl, hp31⟩ := hp30
    refine x_iald X dX4_uses_56 hp31 (fun v30 hp32 => ?_)
    refine x_pc (pc' := 57) rfl ?_
    obtain ⟨b31, rfl, hp33⟩ := hp32
    refine x_iast X dX4_uses_57 hp33 (fun σ32 hp34 => ?_)
    refine x_pc (pc' := 58) rfl ?_
    refine x_up (pc' := 59) (fun _ _ _ _ _ L => lv_aload_n hx hb dX4_uses_58 rfl (lv_at L 1 rfl)) ?_
    refine x_gq X (kX4 hG) 0 (by decide) q3266 (fun _ h => h) dX4_uses_59 hp34 (fun v33 hp35 => ?_)
    refine x_pc (pc' := 62) rfl ?_
    refine x_up (pc' := 63) (fun _ _ _ _ _ L => lv_iconst (v := (0 : Int32)) hx hb dX4_uses_62 (by decide)) ?_
    refine x_up (pc' := 64) (fun _ _ _ _ _ L => lv_dup2_11 hx hb dX4_uses_63 rfl (x_catq _)) ?_
    obtain ⟨b34, rfl, hp36⟩ := hp35
    refine x_iald X dX4_uses_64 hp36 (fun v35 hp37 => ?_)
    refine x_pc (pc' := 65) rfl ?_
    refine x_up (pc' := 66) (fun _ _ _ _ _ L => lv_iload_n hx hb dX4_uses_65 rfl (lv_at L 3 rfl)) ?_
    refine x_up (pc' := 67) (fun _ _ _ _ _ L => lv_iadd hx hb dX4_uses_66) ?_
    refine x_iast X dX4_uses_67 hp37 (fun σ36 hp38 => ?_)
    refine x_pc (pc' := 68) rfl ?_
    refine x_up (pc' := 69) (fun _ _ _ _ _ L => lv_aload_n hx hb dX4_uses_68 rfl (lv_at L 1 rfl)) ?_
    refine x_gq X (kX4 hG) 0 (by decide) q3266 (fun _ h => h) dX4_uses_69 hp38 (fun v37 hp39 => ?_)
    refine x_pc (pc' := 72) rfl ?_
    refine x_up (pc' := 73) (fun _ _ _ _ _ L => lv_iload_n hx hb dX4_uses_72 rfl (lv_at L 0 rfl)) ?_
    refine x_up (pc' := 74) (fun _ _ _ _ _ L => lv_aload_n hx hb dX4_uses_73 rfl (lv_at L 1 rfl)) ?_
    refine x_gq X (kX4 hG) 0 (by decide) q3266 (fun _ h => h) dX4_uses_74 hp39 (fun v38 hp40 => ?_)
    refine x_pc (pc' := 77) rfl ?_
    refine x_up (pc' := 78) (fun _ _ _ _ _ L => lv_iconst (v := (0 : Int32)) hx hb dX4_uses_77 (by decide)) ?_
    obtain ⟨b39, rfl, hp41⟩ := hp40
    refine x_iald X dX4_uses_78 hp41 (fun v40 hp42 => ?_)
    refine x_pc (pc' := 79) rfl ?_
    refine x_up (pc' := 80) (fun _ _ _ _ _ L => lv_iconst (v := (4 : Int32)) hx hb dX4_uses_79 (by decide)) ?_
    refine x_up (pc' := 81) (fun _ _ _ _ _ L => lv_iadd hx hb dX4_uses_80) ?_
    obtain ⟨b41, rfl, hp43⟩ := hp42
    refine x_iast X dX4_uses_81 hp43 (fun σ42 hp44 => ?_)
    refine x_pc (pc' := 82) rfl ?_
    exact x_vret X hr dX4_uses_82 hp44
-- X4_writesBack
def B_X4_writesBack_35 (κ : Nat → Nat) (kx36004 : Unit → xS → Prop) (f0 : Nat) (f1 : Int32) (f2 : Int32) : (Int32 → xS → Prop) → Int32 → xS → Prop := fun self36003 w36001 σ36002 =>
  (((4 : Int32) ≤ w36001 → (kx36004 () σ36002)) ∧ (¬ (4 : Int32) ≤ w36001 → (xgq σ36002 f0 10 0 fun v36005 => xnn v36005 fun b36006 => xai .int σ36002 b36006 ((89 : Int32) + f1) fun v36007 => ((((v36007 >>> (w36001 &&& 31)) &&& (1 : Int32)) = (1 : Int32) → (xgq σ36002 f0 10 0 fun v36008 => xgq σ36002 f0 10 0 fun v36009 => xnn v36009 fun b36010 => xai .int σ36002 b36010 ((73 : Int32) + f1) fun v36011 => xgq σ36002 f0 10 0 fun v36012 => xnn v36012 fun b36013 => xai .int σ36002 b36013 (((169 : Int32) + ((4 : Int32) * f1)) + w36001) fun v36014 => xnn v36008 fun b36015 => xsi κ .int σ36002 b36015 (((5 : Int32) + ((4 : Int32) * v36011)) + w36001) v36014 fun σ36016 => self36003 (w36001 + (1 : Int32)) σ36016)) ∧ (¬ ((v36007 >>> (w36001 &&& 31)) &&& (1 : Int32)) = (1 : Int32) → (self36003 (w36001 + (1 : Int32)) σ36002))))))
def P_X4_writesBack (κ : Nat → Nat) (a0 : Nat) (x1 : Int32) (σ : xS) (K : Int32 → xH → Prop) : Prop :=
  xgq σ a0 10 0 fun v1 => xnn v1 fun b2 => xai .int σ b2 ((89 : Int32) + x1) fun v3 => xcall (fun τ L => P_X4_ones κ v3 τ L) σ fun v4 σ5 => ((v4 = 0 → (K (0 : Int32) σ5.1)) ∧ (¬ v4 = 0 → (xgq σ5 a0 10 0 fun v6 => xnn v6 fun b7 => xai .int σ5 b7 ((73 : Int32) + x1) fun v8 => xrc σ5 a0 10 ∧ xcall (fun τ L => P_X4_uses κ a0 v8 v4 τ L) σ5 fun _ σ9 => xwhile (B_X4_writesBack_35 κ (fun e10 σ11 => xgq σ11 a0 10 0 fun v12 => xnn v12 fun b13 => xsi κ .int σ11 b13 ((89 : Int32) + x1) (0 : Int32) fun σ14 => xgq σ14 a0 10 0 fun v15 => xnn v15 fun b16 => xai .int σ14 b16 (289 : Int32) fun v17 => xsi κ .int σ14 b16 (289 : Int32) (v17 + v4) fun σ18 => K v4 σ18.1) a0 x1 v4) (0 : Int32) σ9)))
theorem mdX4_writesBack : yX4_writesBack.cls ≠ "java/lang/invoke/MethodHandle" ∧ yX4_writesBack.cls ≠ "java/lang/invoke/VarHandle" ∧ (parseMethodDescriptor yX4_writesBack.desc).map (fun d => d.parameters.length) = some 1 := by decide +kernel
set_option maxHeartbeats 4000000 in
set_option maxRecDepth 100000 in
theorem R_X4_writesBack (l : Launch) (hl : l.stackTraces = false) (G : xG) (hG : G.1.2 = x_cl) (a0 : Nat) (x1 : Int32) (σ : xS) (K : Int32 → xH → Prop) (hp : P_X4_writesBack G.2 a0 x1 σ K) : xM l yX4_writesBack cX4_writesBack 4 (Option.some Jvm.ClassFile.FieldType.int) 1 23 G [(.ref a0), .int x1] σ (xlift emI K) := by
  refine x_entry (by decide) (Nat.le_of_ble_eq_true rfl) ?_
  intro p e s m args below meth c X hr hin
  have X : xX p s m args meth c G cX4_writesBack 4 RX4 := X
  have hx := X.1
  have hb := X.2.1
  have hts := X.2.2.2.2.1
  have hown := X.2.2.2.1
  unfold P_X4_writesBack at hp
  refine x_same (lo' := [(0, .ref a0), (1, .int x1)]) rfl ?_
  refine x_up (pc' := 1) (fun _ _ _ _ _ L => lv_aload_n hx hb dX4_writesBack_0 rfl (lv_at L 0 rfl)) ?_
  refine x_gq X (kX4 hG) 0 (by decide) q3266 (fun _ h => h) dX4_writesBack_1 hp (fun v1 hp1 => ?_)
  refine x_pc (pc' := 4) rfl ?_
  refine x_up (pc' := 6) (fun _ _ _ _ _ L => lv_bipush (v := (89 : Int32)) hx hb dX4_writesBack_4 (by decide)) ?_
  refine x_up (pc' := 7) (fun _ _ _ _ _ L => lv_iload_n hx hb dX4_writesBack_6 rfl (lv_at L 1 rfl)) ?_
  refine x_up (pc' := 8) (fun _ _ _ _ _ L => lv_iadd hx hb dX4_writesBack_7) ?_
  obtain ⟨b2, rfl, hp2⟩ := hp1
  refine x_iald X dX4_writesBack_8 hp2 (fun v3 hp3 => ?_)
  refine x_pc (pc' := 9) rfl ?_
  refine x_callS (em := emI) (fun r st => .int r :: st) (fun _ _ => rfl) 1 X (fun σ' KK h => R_X4_ones l hl G hG v3 σ' KK h) (lw_S q3381 q3382 q119 q3383) mdX4_ones ⟨Nat.le_of_ble_eq_true rfl, Nat.le_of_ble_eq_true rfl⟩ rfl rfl (Nat.le_of_ble_eq_true rfl) dX4_writesBack_9 hp3 (fun v4 σ5 hp4 => ?_)
  refine x_pc (pc' := 12) rfl ?_
  refine x_upL (pc' := 13) (lo' := [(2, .int v4), (0, .ref a0), (1, .int x1)]) (fun _ _ _ _ _ L => lv_istore_n hx hb dX4_writesBack_12 rfl L (by decide) rfl) ?_
  refine x_up (pc' := 14) (fun _ _ _ _ _ L => lv_iload_n hx hb dX4_writesBack_13 rfl (lv_at L 0 rfl)) ?_
  refine x_ifn (C := v4 = 0) (pt := 19) (pc' := 17) (fun _ _ _ _ _ => lv_if_ne (tgt := 19) hx hb dX4_writesBack_14 (by decide)) (fun c14 => ?_) (fun c14 => ?_)
  · have hp5 := hp4.1 c14
    refine x_up (pc' := 18) (fun _ _ _ _ _ L => lv_iconst (v := (0 : Int32)) hx hb dX4_writesBack_17 (by decide)) ?_
    exact x_iret X hr rfl dX4_writesBack_18 hp5
  · have hp6 := hp4.2 c14
    refine x_up (pc' := 20) (fun _ _ _ _ _ L => lv_aload_n hx hb dX4_writesBack_19 rfl (lv_at L 1 rfl)) ?_
    refine x_up (pc' := 21) (fun _ _ _ _ _ L => lv_aload_n hx hb dX4_writesBack_20 rfl (lv_at L 1 rfl)) ?_
    refine x_gq X (kX4 hG) 0 (by decide) q3266 (fun _ h => h) dX4_writesBack_21 hp6 (fun v6 hp7 => ?_)
    refine x_pc (pc' := 24) rfl ?_
    refine x_up (pc' := 26) (fun _ _ _ _ _ L => lv_bipush (v := (73 : Int32)) hx hb dX4_writesBack_24 (by decide)) ?_
    refine x_up (pc' := 27) (fun _ _ _ _ _ L => lv_iload_n hx hb dX4_writesBack_26 rfl (lv_at L 2 rfl)) ?_
    refine x_up (pc' := 28) (fun _ _ _ _ _ L => lv_iadd hx hb dX4_writesBack_27) ?_
    obtain ⟨b7, rfl, hp8⟩ := hp7
    refine x_iald X dX4_writesBack_28 hp8 (fun v8 hp9 => ?_)
    refine x_pc (pc' := 29) rfl ?_
    refine x_up (pc' := 30) (fun _ _ _ _ _ L => lv_iload_n hx hb dX4_writesBack_29 rfl (lv_at L 0 rfl)) ?_
    refine x_callV (em := emV) (fun r st => st) (fun _ _ => rfl) 2 X (kX4 hG) (fun σ' KK h => R_X4_uses l hl G hG a0 v8 v4 σ' KK h) (lw_V q3396 q3398 qs68 q119 q3399) ⟨rfl, mdX4_uses⟩ ⟨Nat.le_of_ble_eq_true rfl, Nat.le_of_ble_eq_true rfl⟩ rfl rfl (Nat.le_of_ble_eq_true rfl) dX4_writesBack_30 hp9.1 hp9.2 (fun _ σ9 hp10 => ?_)
    refine x_pc (pc' := 33) rfl ?_
    refine x_up (pc' := 34) (fun _ _ _ _ _ L => lv_iconst (v := (0 : Int32)) hx hb dX4_writesBack_33 (by decide)) ?_
    refine x_upL (pc' := 35) (lo' := [(3, .int (0 : Int32)), (2, .int v4), (0, .ref a0), (1, .int x1)]) (fun _ _ _ _ _ L => lv_istore_n hx hb dX4_writesBack_34 rfl L (by decide) rfl) ?_
    refine x_lo (lo' := [(3, .int (0 : Int32)), (0, .ref a0), (1, .int x1), (2, .int v4)]) [0, 2, 3, 1] rfl ?_
    refine x_while (v0 := (0 : Int32)) (fun w10 => [(3, .int w10), (0, .ref a0), (1, .int x1), (2, .int v4)]) hp10 (fun self11 hself12 => ?_)
    rintro y14 σ13 hp11
    unfold B_X4_writesBack_35 at hp11
    refine x_same (lo' := [(3, .int y14), (0, .ref a0), (1, .int x1), (2, .int v4)]) rfl ?_
    refine x_up (pc' := 36) (fun _ _ _ _ _ L => lv_iload_n hx hb dX4_writesBack_35 rfl (lv_at L 0 rfl)) ?_
    refine x_up (pc' := 37) (fun _ _ _ _ _ L => lv_iconst (v := (4 : Int32)) hx hb dX4_writesBack_36 (by decide)) ?_
    refine x_if (C := (4 : Int32) ≤ y14) (pt := 97) (pc' := 40) (fun _ _ _ _ _ => lv_icmp_ge (tgt := 97) hx hb dX4_writesBack_37 (by decide)) (fun c37 => ?_) (fun c37 => ?_)
    · have hp12 := hp11.1 c37
      refine x_up (pc' := 98) (fun _ _ _ _ _ L => lv_aload_n hx hb dX4_writesBack_97 rfl (lv_at L 1 rfl)) ?_
      refine x_gq X (kX4 hG) 0 (by decide) q3266 (fun _ h => h) dX4_writesBack_98 hp12 (fun v15 hp13 => ?_)
      refine x_pc (pc' := 101) rfl ?_
      refine x_up (pc' := 103) (fun _ _ _ _ _ L => lv_bipush (v := (89 : Int32)) hx hb dX4_writesBack_101 (by decide)) ?_
      refine x_up (pc' := 104) (fun _ _ _ _ _ L => lv_iload_n hx hb dX4_writesBack_103 rfl (lv_at L 2 rfl)) ?_
      refine x_up (pc' := 105) (fun _ _ _ _ _ L => lv_iadd hx hb dX4_writesBack_104) ?_
      refine x_up (pc' := 106) (fun _ _ _ _ _ L => lv_iconst (v := (0 : Int32)) hx hb dX4_writesBack_105 (by decide)) ?_
      obtain ⟨b16, rfl, hp14⟩ := hp13
      refine x_iast X dX4_writesBack_106 hp14 (fun σ17 hp15 => ?_)
      refine x_pc (pc' := 107) rfl ?_
      refine x_up (pc' := 108) (fun _ _ _ _ _ L => lv_aload_n hx hb dX4_writesBack_107 rfl (lv_at L 1 rfl)) ?_
      refine x_gq X (kX4 hG) 0 (by decide) q3266 (fun _ h => h) dX4_writesBack_108 hp15 (fun v18 hp16 => ?_)
      refine x_pc (pc' := 111) rfl ?_
      refine x_up (pc' := 114) (fun _ _ _ _ _ L => lv_sipush (v := (289 : Int32)) hx hb dX4_writesBack_111 (by decide)) ?_
      refine x_up (pc' := 115) (fun _ _ _ _ _ L => lv_dup2_11 hx hb dX4_writesBack_114 rfl (x_catq _)) ?_
      obtain ⟨b19, rfl, hp17⟩ := hp16
      refine x_iald X dX4_writesBack_115 hp17 (fun v20 hp18 => ?_)
      refine x_pc (pc' := 116) rfl ?_
      refine x_up (pc' := 117) (fun _ _ _ _ _ L => lv_iload_n hx hb dX4_writesBack_116 rfl (lv_at L 3 rfl)) ?_
      refine x_up (pc' := 118) (fun _ _ _ _ _ L => lv_iadd hx hb dX4_writesBack_117) ?_
      refine x_iast X dX4_writesBack_118 hp18 (fun σ21 hp19 => ?_)
      refine x_pc (pc' := 119) rfl ?_
      refine x_up (pc' := 120) (fun _ _ _ _ _ L => lv_iload_n hx hb dX4_writesBack_119 rfl (lv_at L 3 rfl)) ?_
      exact x_iret X hr rfl dX4_writesBack_120 hp19
    · have hp20 := hp11.2 c37
      refine x_up (pc' := 41) (fun _ _ _ _ _ L => lv_aload_n hx hb dX4_writesBack_40 rfl (lv_at L 1 rfl)) ?_
      refine x_gq X (kX4 hG) 0 (by decide) q3266 (fun _ h => h) dX4_writesBack_41 hp20 (fun v22 hp21 => ?_)
      refine x_pc (pc' := 44) rfl ?_
      refine x_up (pc' := 46) (fun _ _ _ _ _ L => lv_bipush (v := (89 : Int32)) hx hb dX4_writesBack_44 (by decide)) ?_
      refine x_up (pc' := 47) (fun _ _ _ _ _ L => lv_iload_n hx hb dX4_writesBack_46 rfl (lv_at L 2 rfl)) ?_
      refine x_up (pc' := 48) (fun _ _ _ _ _ L => lv_iadd hx hb dX4_writesBack_47) ?_
      obtain ⟨b23, rfl, hp22⟩ := hp21
      refine x_iald X dX4_writesBack_48 hp22 (fun v24 hp23 => ?_)
      refine x_pc (pc' := 49) rfl ?_
      refine x_up (pc' := 50) (fun _ _ _ _ _ L => lv_iload_n hx hb dX4_writesBack_49 rfl (lv_at L 0 rfl)) ?_
      refine x_up (pc' := 51) (fun _ _ _ _ _ L => lv_ishr hx hb dX4_writesBack_50) ?_
      refine x_up (pc' := 52) (fun _ _ _ _ _ L => lv_iconst (v := (1 : Int32)) hx hb dX4_writesBack_51 (by decide)) ?_
      refine x_up (pc' := 53) (fun _ _ _ _ _ L => lv_iand hx hb dX4_writesBack_52) ?_
      refine x_up (pc' := 54) (fun _ _ _ _ _ L => lv_iconst (v := (1 : Int32)) hx hb dX4_writesBack_53 (by decide)) ?_
      refine x_ifn (C := ((v24 >>> (y14 &&& 31)) &&& (1 : Int32)) = (1 : Int32)) (pt := 91) (pc' := 57) (fun _ _ _ _ _ => lv_icmp_ne (tgt := 91) hx hb dX4_writesBack_54 (by decide)) (fun c54 => ?_) (fun c54 => ?_)
      · have hp24 := hp23.1 c54
        refine x_up (pc' := 58) (fun _ _ _ _ _ L => lv_aload_n hx hb dX4_writesBack_57 rfl (lv_at L 1 rfl)) ?_
        refine x_gq X (kX4 hG) 0 (by decide) q3266 (fun _ h => h) dX4_writesBack_58 hp24 (fun v25 hp25 => ?_)
        refine x_pc (pc' := 61) rfl ?_
        refine x_up (pc' := 62) (fun _ _ _ _ _ L => lv_iconst (v := (5 : Int32)) hx hb dX4_writesBack_61 (by decide)) ?_
        refine x_up (pc' := 63) (fun _ _ _ _ _ L => lv_iconst (v := (4 : Int32)) hx hb dX4_writesBack_62 (by decide)) ?_
        refine x_up (pc' := 64) (fun _ _ _ _ _ L => lv_aload_n hx hb dX4_writesBack_63 rfl (lv_at L 1 rfl)) ?_
        refine x_gq X (kX4 hG) 0 (by decide) q3266 (fun _ h => h) dX4_writesBack_64 hp25 (fun v26 hp26 => ?_)
        refine x_pc (pc' := 67) rfl ?_
        refine x_up (pc' := 69) (fun _ _ _ _ _ L => lv_bipush (v := (73 : Int32)) hx hb dX4_writesBack_67 (by decide)) ?_
        refine x_up (pc' := 70) (fun _ _ _ _ _ L => lv_iload_n hx hb dX4_writesBack_69 rfl (lv_at L 2 rfl)) ?_
        refine x_up (pc' := 71) (fun _ _ _ _ _ L => lv_iadd hx hb dX4_writesBack_70) ?_
        obtain ⟨b27, rfl, hp27⟩ := hp26
        refine x_iald X dX4_writesBack_71 hp27 (fun v28 hp28 => ?_)
        refine x_pc (pc' := 72) rfl ?_
        refine x_up (pc' := 73) (fun _ _ _ _ _ L => lv_imul hx hb dX4_writesBack_72) ?_
        refine x_up (pc' := 74) (fun _ _ _ _ _ L => lv_iadd hx hb dX4_writesBack_73) ?_
        refine x_up (pc' := 75) (fun _ _ _ _ _ L => lv_iload_n hx hb dX4_writesBack_74 rfl (lv_at L 0 rfl)) ?_
        refine x_up (pc' := 76) (fun _ _ _ _ _ L => lv_iadd hx hb dX4_writesBack_75) ?_
        refine x_up (pc' := 77) (fun _ _ _ _ _ L => lv_aload_n hx hb dX4_writesBack_76 rfl (lv_at L 1 rfl)) ?_
        refine x_gq X (kX4 hG) 0 (by decide) q3266 (fun _ h => h) dX4_writesBack_77 hp28 (fun v29 hp29 => ?_)
        refine x_pc (pc' := 80) rfl ?_
        refine x_up (pc' := 83) (fun _ _ _ _ _ L => lv_sipush (v := (169 : Int32)) hx hb dX4_writesBack_80 (by decide)) ?_
        refine x_up (pc' := 84) (fun _ _ _ _ _ L => lv_iconst (v := (4 : Int32)) hx hb dX4_writesBack_83 (by decide)) ?_
        refine x_up (pc' := 85) (fun _ _ _ _ _ L => lv_iload_n hx hb dX4_writesBack_84 rfl (lv_at L 2 rfl)) ?_
        refine x_up (pc' := 86) (fun _ _ _ _ _ L => lv_imul hx hb dX4_writesBack_85) ?_
        refine x_up (pc' := 87) (fun _ _ _ _ _ L => lv_iadd hx hb dX4_writesBack_86) ?_
        refine x_up (pc' := 88) (fun _ _ _ _ _ L => lv_iload_n hx hb dX4_writesBack_87 rfl (lv_at L 0 rfl)) ?_
        refine x_up (pc' := 89) (fun _ _ _ _ _ L => lv_iadd hx hb dX4_writesBack_88) ?_
        obtain ⟨b30, rfl, hp30⟩ := hp29
        refine x_iald X dX4_writesBack_89 hp30 (fun v31 hp31 => ?_)
        refine x_pc (pc' := 90) rfl ?_
        obtain ⟨b32, rfl, hp32⟩ := hp31
        refine x_iast X dX4_writesBack_90 hp32 (fun σ33 hp33 => ?_)
        refine x_pc (pc' := 91) rfl ?_
        refine x_upL (pc' := 94) (lo' := [(3, .int (y14 + (1 : Int32))), (0, .ref a0), (1, .int x1), (2, .int v4)]) (fun _ _ _ _ _ L => lv_iinc (v := y14 + (1 : Int32)) hx hb dX4_writesBack_91 L (k := 0) rfl rfl (by decide) rfl) ?_
        refine x_up (pc' := 35) (fun _ _ _ _ _ L => lv_goto (tgt := 35) hx hb dX4_writesBack_94 (by decide)) ?_
        refine x_lo (lo' := [(3, .int (y14 + (1 : Int32))), (0, .ref a0), (1, .int x1), (2, .int v4)]) [0, 1, 2, 3] rfl ?_
        exact hself12 (y14 + (1 : Int32)) σ33 hp33
      · have hp34 := hp23.2 c54
        refine x_upL (pc' := 94) (lo' := [(3, .int (y14 + (1 : Int32))), (0, .ref a0), (1, .int x1), (2, .int v4)]) (fun _ _ _ _ _ L => lv_iinc (v := y14 + (1 : Int32)) hx hb dX4_writesBack_91 L (k := 0) rfl rfl (by decide) rfl) ?_
        refine x_up (pc' := 35) (fun _ _ _ _ _ L => lv_goto (tgt := 35) hx hb dX4_writesBack_94 (by decide)) ?_
        refine x_lo (lo' := [(3, .int (y14 + (1 : Int32))), (0, .ref a0), (1, .int x1), (2, .int v4)]) [0, 1, 2, 3] rfl ?_
        exact hself12 (y14 + (1 : Int32)) σ13 hp34
-- X4_misses
def B_X4_misses_81 (κ : Nat → Nat) (kx82004 : Unit → xS → Prop) (f0 : Nat) (f1 : Int32) (f2 : Int32) : (Int32 → xS → Prop) → Int32 → xS → Prop := fun self82003 w82001 σ82002 =>
  (((4 : Int32) ≤ w82001 → (kx82004 () σ82002)) ∧ (¬ (4 : Int32) ≤ w82001 → (xgq σ82002 f0 10 0 fun v82005 => xgq σ82002 f0 10 0 fun v82006 => xnn v82006 fun b82007 => xai .int σ82002 b82007 (((5 : Int32) + ((4 : Int32) * f1)) + w82001) fun v82008 => xnn v82005 fun b82009 => xsi κ .int σ82002 b82009 (((169 : Int32) + ((4 : Int32) * f2)) + w82001) v82008 fun σ82010 => self82003 (w82001 + (1 : Int32)) σ82010)))
def P_X4_misses (κ : Nat → Nat) (a0 : Nat) (x1 : Int32) (x2 : Int32) (σ : xS) (K : Unit → xH → Prop) : Prop :=
  xgq σ a0 10 0 fun v1 => xrc σ a0 10 ∧ xcall (fun τ L => P_X4_causeBy κ a0 x1 τ L) σ fun v2 σ3 => xnn v1 fun b4 => xai .int σ3 b4 ((286 : Int32) + v2) fun v5 => xsi κ .int σ3 b4 ((286 : Int32) + v2) (v5 + (1 : Int32)) fun σ6 => xgq σ6 a0 10 0 fun v7 => xnn v7 fun b8 => xai .int σ6 b8 ((267 : Int32) + x1) fun v9 => xsi κ .int σ6 b8 ((267 : Int32) + x1) (v9 + (1 : Int32)) fun σ10 => xgq σ10 a0 10 0 fun v11 => xnn v11 fun b12 => xai .int σ10 b12 (0 : Int32) fun v13 => xrc σ10 a0 10 ∧ xcall (fun τ L => P_X4_writesBack κ a0 x2 τ L) σ10 fun v14 σ15 => xrc σ15 a0 10 ∧ xcall (fun τ L => P_X4_uses κ a0 x1 (5 : Int32) τ L) σ15 fun _ σ16 => xrc σ16 a0 10 ∧ xcall (fun τ L => P_X4_emptiesLine κ a0 x2 τ L) σ16 fun _ σ17 => xgq σ17 a0 10 0 fun v18 => xnn v18 fun b19 => xsi κ .int σ17 b19 ((73 : Int32) + x2) x1 fun σ20 => xgq σ20 a0 10 0 fun v21 => xnn v21 fun b22 => xsi κ .int σ20 b22 ((137 : Int32) + x2) v13 fun σ23 => xwhile (B_X4_misses_81 κ (fun e24 σ25 => xgq σ25 a0 10 0 fun v26 => xnn v26 fun b27 => xai .int σ25 b27 (233 : Int32) fun v28 => xsi κ .int σ25 b27 (233 : Int32) (v28 ||| ((1 : Int32) <<< (x1 &&& 31))) fun σ29 => K () σ29.1) a0 x1 x2) (0 : Int32) σ23
theorem mdX4_misses : yX4_misses.cls ≠ "java/lang/invoke/MethodHandle" ∧ yX4_misses.cls ≠ "java/lang/invoke/VarHandle" ∧ (parseMethodDescriptor yX4_misses.desc).map (fun d => d.parameters.length) = some 2 := by decide +kernel
set_option maxHeartbeats 4000000 in
set_option maxRecDepth 100000 in
theorem R_X4_misses (l : Launch) (hl : l.stackTraces = false) (G : xG) (hG : G.1.2 = x_cl) (a0 : Nat) (x1 : Int32) (x2 : Int32) (σ : xS) (K : Unit → xH → Prop) (hp : P_X4_misses G.2 a0 x1 x2 σ K) : xM l yX4_misses cX4_misses 6 (Option.none : Option Jvm.ClassFile.FieldType) 2 46 G [(.ref a0), .int x1, .int x2] σ (xlift emV K) := by
  refine x_entry (by decide) (Nat.le_of_ble_eq_true rfl) ?_
  intro p e s m args below meth c X hr hin
  have X : xX p s m args meth c G cX4_misses 6 RX4 := X
  have hx := X.1
  have hb := X.2.1
  have hts := X.2.2.2.2.1
  have hown := X.2.2.2.1
  unfold P_X4_misses at hp
  refine x_same (lo' := [(0, .ref a0), (1, .int x1), (2, .int x2)]) rfl ?_
  refine x_up (pc' := 1) (fun _ _ _ _ _ L => lv_aload_n hx hb dX4_misses_0 rfl (lv_at L 0 rfl)) ?_
  refine x_gq X (kX4 hG) 0 (by decide) q3266 (fun _ h => h) dX4_misses_1 hp (fun v1 hp1 => ?_)
  refine x_pc (pc' := 4) rfl ?_
  refine x_up (pc' := 7) (fun _ _ _ _ _ L => lv_sipush (v := (286 : Int32)) hx hb dX4_misses_4 (by decide)) ?_
  refine x_up (pc' := 8) (fun _ _ _ _ _ L => lv_aload_n hx hb dX4_misses_7 rfl (lv_at L 0 rfl)) ?_
  refine x_up (pc' := 9) (fun _ _ _ _ _ L => lv_iload_n hx hb dX4_misses_8 rfl (lv_at L 1 rfl)) ?_
  refine x_callV (em := emI) (fun r st => .int r :: st) (fun _ _ => rfl) 1 X (kX4 hG) (fun σ' KK h => R_X4_causeBy l hl G hG a0 x1 σ' KK h) (lw_V q3388 q3390 qs66 q119 q3391) ⟨rfl, mdX4_causeBy⟩ ⟨Nat.le_of_ble_eq_true rfl, Nat.le_of_ble_eq_true rfl⟩ rfl rfl (by simp only [List.map_cons, List.map_nil, List.sum_cons, List.sum_nil, x_catq, x_cati, x_catr, x_catn] <;> decide) dX4_misses_9 hp1.1 hp1.2 (fun v2 σ3 hp2 => ?_)
  refine x_pc (pc' := 12) rfl ?_
  refine x_up (pc' := 13) (fun _ _ _ _ _ L => lv_iadd hx hb dX4_misses_12) ?_
  refine x_up (pc' := 14) (fun _ _ _ _ _ L => lv_dup2_11 hx hb dX4_misses_13 rfl (x_catq _)) ?_
  obtain ⟨b4, rfl, hp3⟩ := hp2
  refine x_iald X dX4_misses_14 hp3 (fun v5 hp4 => ?_)
  refine x_pc (pc' := 15) rfl ?_
  refine x_up (pc' := 16) (fun _ _ _ _ _ L => lv_iconst (v := (1 : Int32)) hx hb dX4_misses_15 (by decide)) ?_
  refine x_up (pc' := 17) (fun _ _ _ _ _ L => lv_iadd hx hb dX4_misses_16) ?_
  refine x_iast X dX4_misses_17 hp4 (fun σ6 hp5 => ?_)
  refine x_pc (pc' := 18) rfl ?_
  refine x_up (pc' := 19) (fun _ _ _ _ _ L => lv_aload_n hx hb dX4_misses_18 rfl (lv_at L 0 rfl)) ?_
  refine x_gq X (kX4 hG) 0 (by decide) q3266 (fun _ h => h) dX4_misses_19 hp5 (fun v7 hp6 => ?_)
  refine x_pc (pc' := 22) rfl ?_
  refine x_up (pc' := 25) (fun _ _ _ _ _ L => lv_sipush (v := (267 : Int32)) hx hb dX4_misses_22 (by decide)) ?_
  refine x_up (pc' := 26) (fun _ _ _ _ _ L => lv_iload_n hx hb dX4_misses_25 rfl (lv_at L 1 rfl)) ?_
  refine x_up (pc' := 27) (fun _ _ _ _ _ L => lv_iadd hx hb dX4_misses_26) ?_
  refine x_up (pc' := 28) (fun _ _ _ _ _ L => lv_dup2_11 hx hb dX4_misses_27 rfl (x_catq _)) ?_
  obtain ⟨b8, rfl, hp7⟩ := hp6
  refine x_iald X dX4_misses_28 hp7 (fun v9 hp8 => ?_)
  refine x_pc (pc' := 29) rfl ?_
  refine x_up (pc' := 30) (fun _ _ _ _ _ L => lv_iconst (v := (1 : Int32)) hx hb dX4_misses_29 (by decide)) ?_
  refine x_up (pc' := 31) (fun _ _ _ _ _ L => lv_iadd hx hb dX4_misses_30) ?_
  refine x_iast X dX4_misses_31 hp8 (fun σ10 hp9 => ?_)
  refine x_pc (pc' := 32) rfl ?_
  refine x_up (pc' := 33) (fun _ _ _ _ _ L => lv_aload_n hx hb dX4_misses_32 rfl (lv_at L 0 rfl)) ?_
  refine x_gq X (kX4 hG) 0 (by decide) q3266 (fun _ h => h) dX4_misses_33 hp9 (fun v11 hp10 => ?_)
  refine x_pc (pc' := 36) rfl ?_
  refine x_up (pc' := 37) (fun _ _ _ _ _ L => lv_iconst (v := (0 : Int32)) hx hb dX4_misses_36 (by decide)) ?_
  obtain ⟨b12, rfl, hp11⟩ := hp10
  refine x_iald X dX4_misses_37 hp11 (fun v13 hp12 => ?_)
  refine x_pc (pc' := 38) rfl ?_
  refine x_upL (pc' := 39) (lo' := [(3, .int v13), (0, .ref a0), (1, .int x1), (2, .int x2)]) (fun _ _ _ _ _ L => lv_istore_n hx hb dX4_misses_38 rfl L (by decide) rfl) ?_
  refine x_up (pc' := 40) (fun _ _ _ _ _ L => lv_aload_n hx hb dX4_misses_39 rfl (lv_at L 1 rfl)) ?_
  refine x_up (pc' := 41) (fun _ _ _ _ _ L => lv_iload_n hx hb dX4_misses_40 rfl (lv_at L 3 rfl)) ?_
  refine x_callV (em := emI) (fun r st => .int r :: st) (fun _ _ => rfl) 1 X (kX4 hG) (fun σ' KK h => R_X4_writesBack l hl G hG a0 x2 σ' KK h) (lw_V q3392 q3394 qs67 q119 q3395) ⟨rfl, mdX4_writesBack⟩ ⟨Nat.le_of_ble_eq_true rfl, Nat.le_of_ble_eq_true rfl⟩ rfl rfl (Nat.le_of_ble_eq_true rfl) dX4_misses_41 hp12.1 hp12.2 (fun v14 σ15 hp13 => ?_)
  refine x_pc (pc' := 44) rfl ?_
  refine x_upL (pc' := 46) (lo' := [(4, .int v14), (3, .int v13), (0, .ref a0), (1, .int x1), (2, .int x2)]) (fun _ _ _ _ _ L => lv_istore hx hb dX4_misses_44 L (by decide) rfl) ?_
  refine x_up (pc' := 47) (fun _ _ _ _ _ L => lv_aload_n hx hb dX4_misses_46 rfl (lv_at L 2 rfl)) ?_
  refine x_up (pc' := 48) (fun _ _ _ _ _ L => lv_iload_n hx hb dX4_misses_47 rfl (lv_at L 3 rfl)) ?_
  refine x_up (pc' := 49) (fun _ _ _ _ _ L => lv_iconst (v := (5 : Int32)) hx hb dX4_misses_48 (by decide)) ?_
  refine x_callV (em := emV) (fun r st => st) (fun _ _ => rfl) 2 X (kX4 hG) (fun σ' KK h => R_X4_uses l hl G hG a0 x1 (5 : Int32) σ' KK h) (lw_V q3396 q3398 qs68 q119 q3399) ⟨rfl, mdX4_uses⟩ ⟨Nat.le_of_ble_eq_true rfl, Nat.le_of_ble_eq_true rfl⟩ rfl rfl (Nat.le_of_ble_eq_true rfl) dX4_misses_49 hp13.1 hp13.2 (fun _ σ16 hp14 => ?_)
  refine x_pc (pc' := 52) rfl ?_
  refine x_up (pc' := 53) (fun _ _ _ _ _ L => lv_aload_n hx hb dX4_misses_52 rfl (lv_at L 2 rfl)) ?_
  refine x_up (pc' := 54) (fun _ _ _ _ _ L => lv_iload_n hx hb dX4_misses_53 rfl (lv_at L 4 rfl)) ?_
  refine x_callV (em := emV) (fun r st => st) (fun _ _ => rfl) 1 X (kX4 hG) (fun σ' KK h => R_X4_emptiesLine l hl G hG a0 x2 σ' KK h) (lw_V q3262 q3264 qs55 q119 q3265) ⟨rfl, mdX4_emptiesLine⟩ ⟨Nat.le_of_ble_eq_true rfl, Nat.le_of_ble_eq_true rfl⟩ rfl rfl (Nat.le_of_ble_eq_true rfl) dX4_misses_54 hp14.1 hp14.2 (fun _ σ17 hp15 => ?_)
  refine x_pc (pc' := 57) rfl ?_
  refine x_up (pc' := 58) (fun _ _ _ _ _ L => lv_aload_n hx hb dX4_misses_57 rfl (lv_at L 2 rfl)) ?_
  refine x_gq X (kX4 hG) 0 (by decide) q3266 (fun _ h => h) dX4_misses_58 hp15 (fun v18 hp16 => ?_)
  refine x_pc (pc' := 61) rfl ?_
  refine x_up (pc' := 63) (fun _ _ _ _ _ L => lv_bipush (v := (73 : Int32)) hx hb dX4_misses_61 (by decide)) ?_
  refine x_up (pc' := 64) (fun _ _ _ _ _ L => lv_iload_n hx hb dX4_misses_63 rfl (lv_at L 4 rfl)) ?_
  refine x_up (pc' := 65) (fun _ _ _ _ _ L => lv_iadd hx hb dX4_misses_64) ?_
  refine x_up (pc' := 66) (fun _ _ _ _ _ L => lv_iload_n hx hb dX4_misses_65 rfl (lv_at L 3 rfl)) ?_
  obtain ⟨b19, rfl, hp17⟩ := hp16
  refine x_iast X dX4_misses_66 hp17 (fun σ20 hp18 => ?_)
  refine x_pc (pc' := 67) rfl ?_
  refine x_up (pc' := 68) (fun _ _ _ _ _ L => lv_aload_n hx hb dX4_misses_67 rfl (lv_at L 2 rfl)) ?_
  refine x_gq X (kX4 hG) 0 (by decide) q3266 (fun _ h => h) dX4_misses_68 hp18 (fun v21 hp19 => ?_)
  refine x_pc (pc' := 71) rfl ?_
  refine x_up (pc' := 74) (fun _ _ _ _ _ L => lv_sipush (v := (137 : Int32)) hx hb dX4_misses_71 (by decide)) ?_
  refine x_up (pc' := 75) (fun _ _ _ _ _ L => lv_iload_n hx hb dX4_misses_74 rfl (lv_at L 4 rfl)) ?_
  refine x_up (pc' := 76) (fun _ _ _ _ _ L => lv_iadd hx hb dX4_misses_75) ?_
  refine x_up (pc' := 77) (fun _ _ _ _ _ L => lv_iload_n hx hb dX4_misses_76 rfl (lv_at L 1 rfl)) ?_
  obtain ⟨b22, rfl, hp20⟩ := hp19
  refine x_iast X dX4_misses_77 hp20 (fun σ23 hp21 => ?_)
  refine x_pc (pc' := 78) rfl ?_
  refine x_up (pc' := 79) (fun _ _ _ _ _ L => lv_iconst (v := (0 : Int32)) hx hb dX4_misses_78 (by decide)) ?_
  refine x_upL (pc' := 81) (lo' := [(5, .int (0 : Int32)), (4, .int v14), (3, .int v13), (0, .ref a0), (1, .int x1), (2, .int x2)]) (fun _ _ _ _ _ L => lv_istore hx hb dX4_misses_79 L (by decide) rfl) ?_
  refine x_lo (lo' := [(5, .int (0 : Int32)), (0, .ref a0), (1, .int x1), (2, .int x2)]) [0, 3, 4, 5] rfl ?_
  refine x_while (v0 := (0 : Int32)) (fun w24 => [(5, .int w24), (0, .ref a0), (1, .int x1), (2, .int x2)]) hp21 (fun self25 hself26 => ?_)
  rintro y28 σ27 hp22
  unfold B_X4_misses_81 at hp22
  refine x_same (lo' := [(5, .int y28), (0, .ref a0), (1, .int x1), (2, .int x2)]) rfl ?_
  refine x_up (pc' := 83) (fun _ _ _ _ _ L => lv_iload hx hb dX4_misses_81 (lv_at L 0 rfl)) ?_
  refine x_up (pc' := 84) (fun _ _ _ _ _ L => lv_iconst (v := (4 : Int32)) hx hb dX4_misses_83 (by decide)) ?_
  refine x_if (C := (4 : Int32) ≤ y28) (pt := 121) (pc' := 87) (fun _ _ _ _ _ => lv_icmp_ge (tgt := 121) hx hb dX4_misses_84 (by decide)) (fun c84 => ?_) (fun c84 => ?_)
  · have hp23 := hp22.1 c84
    refine x_up (pc' := 122) (fun _ _ _ _ _ L => lv_aload_n hx hb dX4_misses_121 rfl (lv_at L 1 rfl)) ?_
    refine x_gq X (kX4 hG) 0 (by decide) q3266 (fun _ h => h) dX4_misses_122 hp23 (fun v29 hp24 => ?_)
    refine x_pc (pc' := 125) rfl ?_
    refine x_up (pc' := 128) (fun _ _ _ _ _ L => lv_sipush (v := (233 : Int32)) hx hb dX4_misses_125 (by decide)) ?_
    refine x_up (pc' := 129) (fun _ _ _ _ _ L => lv_dup2_11 hx hb dX4_misses_128 rfl (x_catq _)) ?_
    obtain ⟨b30, rfl, hp25⟩ := hp24
    refine x_iald X dX4_misses_129 hp25 (fun v31 hp26 => ?_)
    refine x_pc (pc' := 130) rfl ?_
    refine x_up (pc' := 131) (fun _ _ _ _ _ L => lv_iconst (v := (1 : Int32)) hx hb dX4_misses_130 (by decide)) ?_
    refine x_up (pc' := 132) (fun _ _ _ _ _ L => lv_iload_n hx hb dX4_misses_131 rfl (lv_at L 2 rfl)) ?_
    refine x_up (pc' := 133) (fun _ _ _ _ _ L => lv_ishl hx hb dX4_misses_132) ?_
    refine x_up (pc' := 134) (fun _ _ _ _ _ L => lv_ior hx hb dX4_misses_133) ?_
    refine x_iast X dX4_misses_134 hp26 (fun σ32 hp27 => ?_)
    refine x_pc (pc' := 135) rfl ?_
    exact x_vret X hr dX4_misses_135 hp27
  · have hp28 := hp22.2 c84
    refine x_up (pc' := 88) (fun _ _ _ _ _ L => lv_aload_n hx hb dX4_misses_87 rfl (lv_at L 1 rfl)) ?_
    refine x_gq X (kX4 hG) 0 (by decide) q3266 (fun _ h => h) dX4_misses_88 hp28 (fun v33 hp29 => ?_)
    refine x_pc (pc' := 91) rfl ?_
    refine x_up (pc' := 94) (fun _ _ _ _ _ L => lv_sipush (v := (169 : Int32)) hx hb dX4_misses_91 (by decide)) ?_
    refine x_up (pc' := 95) (fun _ _ _ _ _ L => lv_iconst (v := (4 : Int32)) hx hb dX4_misses_94 (by decide)) ?_
    refine x_up (pc' := 96) (fun _ _ _ _ _ L => lv_iload_n hx hb dX4_misses_95 rfl (lv_at L 3 rfl)) ?_
    refine x_up (pc' := 97) (fun _ _ _ _ _ L => lv_imul hx hb dX4_misses_96) ?_
    refine x_up (pc' := 98) (fun _ _ _ _ _ L => lv_iadd hx hb dX4_misses_97) ?_
    refine x_up (pc' := 100) (fun _ _ _ _ _ L => lv_iload hx hb dX4_misses_98 (lv_at L 0 rfl)) ?_
    refine x_up (pc' := 101) (fun _ _ _ _ _ L => lv_iadd hx hb dX4_misses_100) ?_
    refine x_up (pc' := 102) (fun _ _ _ _ _ L => lv_aload_n hx hb dX4_misses_101 rfl (lv_at L 1 rfl)) ?_
    refine x_gq X (kX4 hG) 0 (by decide) q3266 (fun _ h => h) dX4_misses_102 hp29 (fun v34 hp30 => ?_)
    refine x_pc (pc' := 105) rfl ?_
    refine x_up (pc' := 106) (fun _ _ _ _ _ L => lv_iconst (v := (5 : Int32)) hx hb dX4_misses_105 (by decide)) ?_
    refine x_up (pc' := 107) (fun _ _ _ _ _ L => lv_iconst (v := (4 : Int32)) hx hb dX4_misses_106 (by decide)) ?_
    refine x_up (pc' := 108) (fun _ _ _ _ _ L => lv_iload_n hx hb dX4_misses_107 rfl (lv_at L 2 rfl)) ?_
    refine x_up (pc' := 109) (fun _ _ _ _ _ L => lv_imul hx hb dX4_misses_108) ?_
    refine x_up (pc' := 110) (fun _ _ _ _ _ L => lv_iadd hx hb dX4_misses_109) ?_
    refine x_up (pc' := 112) (fun _ _ _ _ _ L => lv_iload hx hb dX4_misses_110 (lv_at L 0 rfl)) ?_
    refine x_up (pc' := 113) (fun _ _ _ _ _ L => lv_iadd hx hb dX4_misses_112) ?_
    obtain ⟨b35, rfl, hp31⟩ := hp30
    refine x_iald X dX4_misses_113 hp31 (fun v36 hp32 => ?_)
    refine x_pc (pc' := 114) rfl ?_
    obtain ⟨b37, rfl, hp33⟩ := hp32
    refine x_iast X dX4_misses_114 hp33 (fun σ38 hp34 => ?_)
    refine x_pc (pc' := 115) rfl ?_
    refine x_upL (pc' := 118) (lo' := [(5, .int (y28 + (1 : Int32))), (0, .ref a0), (1, .int x1), (2, .int x2)]) (fun _ _ _ _ _ L => lv_iinc (v := y28 + (1 : Int32)) hx hb dX4_misses_115 L (k := 0) rfl rfl (by decide) rfl) ?_
    refine x_up (pc' := 81) (fun _ _ _ _ _ L => lv_goto (tgt := 81) hx hb dX4_misses_118 (by decide)) ?_
    refine x_lo (lo' := [(5, .int (y28 + (1 : Int32))), (0, .ref a0), (1, .int x1), (2, .int x2)]) [0, 1, 2, 3] rfl ?_
    exact hself26 (y28 + (1 : Int32)) σ38 hp34
-- X4_becomesLatest
def B_X4_becomesLatest_2 (κ : Nat → Nat) (kx3004 : Int32 → xS → Prop) (f0 : Nat) (f1 : Int32) : (Int32 → xS → Prop) → Int32 → xS → Prop := fun self3003 w3001 σ3002 =>
  xgq σ3002 f0 10 0 fun v3005 => xnn v3005 fun b3006 => xai .int σ3002 b3006 (234 : Int32) fun v3007 => ((v3007 ≤ w3001 → (kx3004 w3001 σ3002)) ∧ (¬ v3007 ≤ w3001 → (xgq σ3002 f0 10 0 fun v3008 => xnn v3008 fun b3009 => xai .int σ3002 b3009 ((235 : Int32) + w3001) fun v3010 => ((v3010 = f1 → (kx3004 w3001 σ3002)) ∧ (¬ v3010 = f1 → (self3003 (w3001 + (1 : Int32)) σ3002))))))
def B_X4_becomesLatest_64 (κ : Nat → Nat) (K : Unit → xH → Prop) (f0 : Nat) (f1 : Int32) : (Int32 → xS → Prop) → Int32 → xS → Prop := fun self65003 w65001 σ65002 =>
  ((w65001 ≤ 0 → (xgq σ65002 f0 10 0 fun v65004 => xnn v65004 fun b65005 => xsi κ .int σ65002 b65005 (235 : Int32) f1 fun σ65006 => K () σ65006.1)) ∧ (¬ w65001 ≤ 0 → (xgq σ65002 f0 10 0 fun v65007 => xgq σ65002 f0 10 0 fun v65008 => xnn v65008 fun b65009 => xai .int σ65002 b65009 (((235 : Int32) + w65001) - (1 : Int32)) fun v65010 => xnn v65007 fun b65011 => xsi κ .int σ65002 b65011 ((235 : Int32) + w65001) v65010 fun σ65012 => self65003 (w65001 + (-1 : Int32)) σ65012)))
def P_X4_becomesLatest (κ : Nat → Nat) (a0 : Nat) (x1 : Int32) (σ : xS) (K : Unit → xH → Prop) : Prop :=
  xwhile (B_X4_becomesLatest_2 κ (fun e1 σ2 => xgq σ2 a0 10 0 fun v3 => xnn v3 fun b4 => xai .int σ2 b4 (234 : Int32) fun v5 => xgq σ2 a0 10 0 fun v6 => xnn v6 fun b7 => xai .int σ2 b7 (234 : Int32) fun v8 => ((e1 = v8 → (xsi κ .int σ2 b4 (234 : Int32) (v5 + (1 : Int32)) fun σ9 => xwhile (B_X4_becomesLatest_64 κ K a0 x1) e1 σ9)) ∧ (¬ e1 = v8 → (xsi κ .int σ2 b4 (234 : Int32) (v5 + (0 : Int32)) fun σ10 => xwhile (B_X4_becomesLatest_64 κ K a0 x1) e1 σ10)))) a0 x1) (0 : Int32) σ
theorem mdX4_becomesLatest : yX4_becomesLatest.cls ≠ "java/lang/invoke/MethodHandle" ∧ yX4_becomesLatest.cls ≠ "java/lang/invoke/VarHandle" ∧ (parseMethodDescriptor yX4_becomesLatest.desc).map (fun d => d.parameters.length) = some 1 := by decide +kernel
set_option maxHeartbeats 4000000 in
set_option maxRecDepth 100000 in
theorem R_X4_becomesLatest (l : Launch) (hl : l.stackTraces = false) (G : xG) (hG : G.1.2 = x_cl) (a0 : Nat) (x1 : Int32) (σ : xS) (K : Unit → xH → Prop) (hp : P_X4_becomesLatest G.2 a0 x1 σ K) : xM l yX4_becomesLatest cX4_becomesLatest 4 (Option.none : Option Jvm.ClassFile.FieldType) 0 0 G [(.ref a0), .int x1] σ (xlift emV K) := by
  refine x_entry (by decide) (Nat.le_of_ble_eq_true rfl) ?_
  intro p e s m args below meth c X hr hin
  have X : xX p s m args meth c G cX4_becomesLatest 4 RX4 := X
  have hx := X.1
  have hb := X.2.1
  have hts := X.2.2.2.2.1
  have hown := X.2.2.2.1
  unfold P_X4_becomesLatest at hp
  refine x_same (lo' := [(0, .ref a0), (1, .int x1)]) rfl ?_
  refine x_up (pc' := 1) (fun _ _ _ _ _ L => lv_iconst (v := (0 : Int32)) hx hb dX4_becomesLatest_0 (by decide)) ?_
  refine x_upL (pc' := 2) (lo' := [(2, .int (0 : Int32)), (0, .ref a0), (1, .int x1)]) (fun _ _ _ _ _ L => lv_istore_n hx hb dX4_becomesLatest_1 rfl L (by decide) rfl) ?_
  refine x_lo (lo' := [(2, .int (0 : Int32)), (0, .ref a0), (1, .int x1)]) [0, 1, 2] rfl ?_
  refine x_while (v0 := (0 : Int32)) (fun w1 => [(2, .int w1), (0, .ref a0), (1, .int x1)]) hp (fun self2 hself3 => ?_)
  rintro y5 σ4 hp1
  unfold B_X4_becomesLatest_2 at hp1
  refine x_same (lo' := [(2, .int y5), (0, .ref a0), (1, .int x1)]) rfl ?_
  refine x_up (pc' := 3) (fun _ _ _ _ _ L => lv_iload_n hx hb dX4_becomesLatest_2 rfl (lv_at L 0 rfl)) ?_
  refine x_up (pc' := 4) (fun _ _ _ _ _ L => lv_aload_n hx hb dX4_becomesLatest_3 rfl (lv_at L 1 rfl)) ?_
  refine x_gq X (kX4 hG) 0 (by decide) q3266 (fun _ h => h) dX4_becomesLatest_4 hp1 (fun v6 hp2 => ?_)
  refine x_pc (pc' := 7) rfl ?_
  refine x_up (pc' := 10) (fun _ _ _ _ _ L => lv_sipush (v := (234 : Int32)) hx hb dX4_becomesLatest_7 (by decide)) ?_
  obtain ⟨b7, rfl, hp3⟩ := hp2
  refine x_iald X dX4_becomesLatest_10 hp3 (fun v8 hp4 => ?_)
  refine x_pc (pc' := 11) rfl ?_
  refine x_if (C := v8 ≤ y5) (pt := 34) (pc' := 14) (fun _ _ _ _ _ => lv_icmp_ge (tgt := 34) hx hb dX4_becomesLatest_11 (by decide)) (fun c11 => ?_) (fun c11 => ?_)
  · have hp5 := hp4.1 c11
    refine x_up (pc' := 35) (fun _ _ _ _ _ L => lv_aload_n hx hb dX4_becomesLatest_34 rfl (lv_at L 1 rfl)) ?_
    refine x_gq X (kX4 hG) 0 (by decide) q3266 (fun _ h => h) dX4_becomesLatest_35 hp5 (fun v9 hp6 => ?_)
    refine x_pc (pc' := 38) rfl ?_
    refine x_up (pc' := 41) (fun _ _ _ _ _ L => lv_sipush (v := (234 : Int32)) hx hb dX4_becomesLatest_38 (by decide)) ?_
    refine x_up (pc' := 42) (fun _ _ _ _ _ L => lv_dup2_11 hx hb dX4_becomesLatest_41 rfl (x_catq _)) ?_
    obtain ⟨b10, rfl, hp7⟩ := hp6
    refine x_iald X dX4_becomesLatest_42 hp7 (fun v11 hp8 => ?_)
    refine x_pc (pc' := 43) rfl ?_
    refine x_up (pc' := 44) (fun _ _ _ _ _ L => lv_iload_n hx hb dX4_becomesLatest_43 rfl (lv_at L 0 rfl)) ?_
    refine x_up (pc' := 45) (fun _ _ _ _ _ L => lv_aload_n hx hb dX4_becomesLatest_44 rfl (lv_at L 1 rfl)) ?_
    refine x_gq X (kX4 hG) 0 (by decide) q3266 (fun _ h => h) dX4_becomesLatest_45 hp8 (fun v12 hp9 => ?_)
    refine x_pc (pc' := 48) rfl ?_
    refine x_up (pc' := 51) (fun _ _ _ _ _ L => lv_sipush (v := (234 : Int32)) hx hb dX4_becomesLatest_48 (by decide)) ?_
    obtain ⟨b13, rfl, hp10⟩ := hp9
    refine x_iald X dX4_becomesLatest_51 hp10 (fun v14 hp11 => ?_)
    refine x_pc (pc' := 52) rfl ?_
    refine x_ifn (C := y5 = v14) (pt := 59) (pc' := 55) (fun _ _ _ _ _ => lv_icmp_ne (tgt := 59) hx hb dX4_becomesLatest_52 (by decide)) (fun c52 => ?_) (fun c52 => ?_)
    · have hp12 := hp11.1 c52
      refine x_up (pc' := 56) (fun _ _ _ _ _ L => lv_iconst (v := (1 : Int32)) hx hb dX4_becomesLatest_55 (by decide)) ?_
      refine x_up (pc' := 60) (fun _ _ _ _ _ L => lv_goto (tgt := 60) hx hb dX4_becomesLatest_56 (by decide)) ?_
      refine x_up (pc' := 61) (fun _ _ _ _ _ L => lv_iadd hx hb dX4_becomesLatest_60) ?_
      refine x_iast X dX4_becomesLatest_61 hp12 (fun σ15 hp13 => ?_)
      refine x_pc (pc' := 62) rfl ?_
      refine x_up (pc' := 63) (fun _ _ _ _ _ L => lv_iload_n hx hb dX4_becomesLatest_62 rfl (lv_at L 0 rfl)) ?_
      refine x_upL (pc' := 64) (lo' := [(3, .int y5), (2, .int y5), (0, .ref a0), (1, .int x1)]) (fun _ _ _ _ _ L => lv_istore_n hx hb dX4_becomesLatest_63 rfl L (by decide) rfl) ?_
      refine x_lo (lo' := [(3, .int y5), (0, .ref a0), (1, .int x1)]) [0, 2, 3] rfl ?_
      refine x_while (v0 := y5) (fun w16 => [(3, .int w16), (0, .ref a0), (1, .int x1)]) hp13 (fun self17 hself18 => ?_)
      rintro y20 σ19 hp14
      unfold B_X4_becomesLatest_64 at hp14
      refine x_same (lo' := [(3, .int y20), (0, .ref a0), (1, .int x1)]) rfl ?_
      refine x_up (pc' := 65) (fun _ _ _ _ _ L => lv_iload_n hx hb dX4_becomesLatest_64 rfl (lv_at L 0 rfl)) ?_
      refine x_if (C := y20 ≤ 0) (pt := 96) (pc' := 68) (fun _ _ _ _ _ => lv_if_le (tgt := 96) hx hb dX4_becomesLatest_65 (by decide)) (fun c65 => ?_) (fun c65 => ?_)
      · have hp15 := hp14.1 c65
        refine x_up (pc' := 97) (fun _ _ _ _ _ L => lv_aload_n hx hb dX4_becomesLatest_96 rfl (lv_at L 1 rfl)) ?_
        refine x_gq X (kX4 hG) 0 (by decide) q3266 (fun _ h => h) dX4_becomesLatest_97 hp15 (fun v21 hp16 => ?_)
        refine x_pc (pc' := 100) rfl ?_
        refine x_up (pc' := 103) (fun _ _ _ _ _ L => lv_sipush (v := (235 : Int32)) hx hb dX4_becomesLatest_100 (by decide)) ?_
        refine x_up (pc' := 104) (fun _ _ _ _ _ L => lv_iload_n hx hb dX4_becomesLatest_103 rfl (lv_at L 2 rfl)) ?_
        obtain ⟨b22, rfl, hp17⟩ := hp16
        refine x_iast X dX4_becomesLatest_104 hp17 (fun σ23 hp18 => ?_)
        refine x_pc (pc' := 105) rfl ?_
        exact x_vret X hr dX4_becomesLatest_105 hp18
      · have hp19 := hp14.2 c65
        refine x_up (pc' := 69) (fun _ _ _ _ _ L => lv_aload_n hx hb dX4_becomesLatest_68 rfl (lv_at L 1 rfl)) ?_
        refine x_gq X (kX4 hG) 0 (by decide) q3266 (fun _ h => h) dX4_becomesLatest_69 hp19 (fun v24 hp20 => ?_)
        refine x_pc (pc' := 72) rfl ?_
        refine x_up (pc' := 75) (fun _ _ _ _ _ L => lv_sipush (v := (235 : Int32)) hx hb dX4_becomesLatest_72 (by decide)) ?_
        refine x_up (pc' := 76) (fun _ _ _ _ _ L => lv_iload_n hx hb dX4_becomesLatest_75 rfl (lv_at L 0 rfl)) ?_
        refine x_up (pc' := 77) (fun _ _ _ _ _ L => lv_iadd hx hb dX4_becomesLatest_76) ?_
        refine x_up (pc' := 78) (fun _ _ _ _ _ L => lv_aload_n hx hb dX4_becomesLatest_77 rfl (lv_at L 1 rfl)) ?_
        refine x_gq X (kX4 hG) 0 (by decide) q3266 (fun _ h => h) dX4_becomesLatest_78 hp20 (fun v25 hp21 => ?_)
        refine x_pc (pc' := 81) rfl ?_
        refine x_up (pc' := 84) (fun _ _ _ _ _ L => lv_sipush (v := (235 : Int32)) hx hb dX4_becomesLatest_81 (by decide)) ?_
        refine x_up (pc' := 85) (fun _ _ _ _ _ L => lv_iload_n hx hb dX4_becomesLatest_84 rfl (lv_at L 0 rfl)) ?_
        refine x_up (pc' := 86) (fun _ _ _ _ _ L => lv_iadd hx hb dX4_becomesLatest_85) ?_
        refine x_up (pc' := 87) (fun _ _ _ _ _ L => lv_iconst (v := (1 : Int32)) hx hb dX4_becomesLatest_86 (by decide)) ?_
        refine x_up (pc' := 88) (fun _ _ _ _ _ L => lv_isub hx hb dX4_becomesLatest_87) ?_
        obtain ⟨b26, rfl, hp22⟩ := hp21
        refine x_iald X dX4_becomesLatest_88 hp22 (fun v27 hp23 => ?_)
        refine x_pc (pc' := 89) rfl ?_
        obtain ⟨b28, rfl, hp24⟩ := hp23
        refine x_iast X dX4_becomesLatest_89 hp24 (fun σ29 hp25 => ?_)
        refine x_pc (pc' := 90) rfl ?_
        refine x_upL (pc' := 93) (lo' := [(3, .int (y20 + (-1 : Int32))), (0, .ref a0), (1, .int x1)]) (fun _ _ _ _ _ L => lv_iinc (v := y20 + (-1 : Int32)) hx hb dX4_becomesLatest_90 L (k := 0) rfl rfl (by decide) rfl) ?_
        refine x_up (pc' := 64) (fun _ _ _ _ _ L => lv_goto (tgt := 64) hx hb dX4_becomesLatest_93 (by decide)) ?_
        refine x_lo (lo' := [(3, .int (y20 + (-1 : Int32))), (0, .ref a0), (1, .int x1)]) [0, 1, 2] rfl ?_
        exact hself18 (y20 + (-1 : Int32)) σ29 hp25
    · have hp26 := hp11.2 c52
      refine x_up (pc' := 60) (fun _ _ _ _ _ L => lv_iconst (v := (0 : Int32)) hx hb dX4_becomesLatest_59 (by decide)) ?_
      refine x_up (pc' := 61) (fun _ _ _ _ _ L => lv_iadd hx hb dX4_becomesLatest_60) ?_
      refine x_iast X dX4_becomesLatest_61 hp26 (fun σ30 hp27 => ?_)
      refine x_pc (pc' := 62) rfl ?_
      refine x_up (pc' := 63) (fun _ _ _ _ _ L => lv_iload_n hx hb dX4_becomesLatest_62 rfl (lv_at L 0 rfl)) ?_
      refine x_upL (pc' := 64) (lo' := [(3, .int y5), (2, .int y5), (0, .ref a0), (1, .int x1)]) (fun _ _ _ _ _ L => lv_istore_n hx hb dX4_becomesLatest_63 rfl L (by decide) rfl) ?_
      refine x_lo (lo' := [(3, .int y5), (0, .ref a0), (1, .int x1)]) [0, 2, 3] rfl ?_
      refine x_while (v0 := y5) (fun w31 => [(3, .int w31), (0, .ref a0), (1, .int x1)]) hp27 (fun self32 hself33 => ?_)
      rintro y35 σ34 hp28
      unfold B_X4_becomesLatest_64 at hp28
      refine x_same (lo' := [(3, .int y35), (0, .ref a0), (1, .int x1)]) rfl ?_
      refine x_up (pc' := 65) (fun _ _ _ _ _ L => lv_iload_n hx hb dX4_becomesLatest_64 rfl (lv_at L 0 rfl)) ?_
      refine x_if (C := y35 ≤ 0) (pt := 96) (pc' := 68) (fun _ _ _ _ _ => lv_if_le (tgt := 96) hx hb dX4_becomesLatest_65 (by decide)) (fun c65 => ?_) (fun c65 => ?_)
      · have hp29 := hp28.1 c65
        refine x_up (pc' := 97) (fun _ _ _ _ _ L => lv_aload_n hx hb dX4_becomesLatest_96 rfl (lv_at L 1 rfl)) ?_
        refine x_gq X (kX4 hG) 0 (by decide) q3266 (fun _ h => h) dX4_becomesLatest_97 hp29 (fun v36 hp30 => ?_)
        refine x_pc (pc' := 100) rfl ?_
        refine x_up (pc' := 103) (fun _ _ _ _ _ L => lv_sipush (v := (235 : Int32)) hx hb dX4_becomesLatest_100 (by decide)) ?_
        refine x_up (pc' := 104) (fun _ _ _ _ _ L => lv_iload_n hx hb dX4_becomesLatest_103 rfl (lv_at L 2 rfl)) ?_
        obtain ⟨b37, rfl, hp31⟩ := hp30
        refine x_iast X dX4_becomesLatest_104 hp31 (fun σ38 hp32 => ?_)
        refine x_pc (pc' := 105) rfl ?_
        exact x_vret X hr dX4_becomesLatest_105 hp32
      · have hp33 := hp28.2 c65
        refine x_up (pc' := 69) (fun _ _ _ _ _ L => lv_aload_n hx hb dX4_becomesLatest_68 rfl (lv_at L 1 rfl)) ?_
        refine x_gq X (kX4 hG) 0 (by decide) q3266 (fun _ h => h) dX4_becomesLatest_69 hp33 (fun v39 hp34 => ?_)
        refine x_pc (pc' := 72) rfl ?_
        refine x_up (pc' := 75) (fun _ _ _ _ _ L => lv_sipush (v := (235 : Int32)) hx hb dX4_becomesLatest_72 (by decide)) ?_
        refine x_up (pc' := 76) (fun _ _ _ _ _ L => lv_iload_n hx hb dX4_becomesLatest_75 rfl (lv_at L 0 rfl)) ?_
        refine x_up (pc' := 77) (fun _ _ _ _ _ L => lv_iadd hx hb dX4_becomesLatest_76) ?_
        refine x_up (pc' := 78) (fun _ _ _ _ _ L => lv_aload_n hx hb dX4_becomesLatest_77 rfl (lv_at L 1 rfl)) ?_
        refine x_gq X (kX4 hG) 0 (by decide) q3266 (fun _ h => h) dX4_becomesLatest_78 hp34 (fun v40 hp35 => ?_)
        refine x_pc (pc' := 81) rfl ?_
        refine x_up (pc' := 84) (fun _ _ _ _ _ L => lv_sipush (v := (235 : Int32)) hx hb dX4_becomesLatest_81 (by decide)) ?_
        refine x_up (pc' := 85) (fun _ _ _ _ _ L => lv_iload_n hx hb dX4_becomesLatest_84 rfl (lv_at L 0 rfl)) ?_
        refine x_up (pc' := 86) (fun _ _ _ _ _ L => lv_iadd hx hb dX4_becomesLatest_85) ?_
        refine x_up (pc' := 87) (fun _ _ _ _ _ L => lv_iconst (v := (1 : Int32)) hx hb dX4_becomesLatest_86 (by decide)) ?_
        refine x_up (pc' := 88) (fun _ _ _ _ _ L => lv_isub hx hb dX4_becomesLatest_87) ?_
        obtain ⟨b41, rfl, hp36⟩ := hp35
        refine x_iald X dX4_becomesLatest_88 hp36 (fun v42 hp37 => ?_)
        refine x_pc (pc' := 89) rfl ?_
        obtain ⟨b43, rfl, hp38⟩ := hp37
        refine x_iast X dX4_becomesLatest_89 hp38 (fun σ44 hp39 => ?_)
        refine x_pc (pc' := 90) rfl ?_
        refine x_upL (pc' := 93) (lo' := [(3, .int (y35 + (-1 : Int32))), (0, .ref a0), (1, .int x1)]) (fun _ _ _ _ _ L => lv_iinc (v := y35 + (-1 : Int32)) hx hb dX4_becomesLatest_90 L (k := 0) rfl rfl (by decide) rfl) ?_
        refine x_up (pc' := 64) (fun _ _ _ _ _ L => lv_goto (tgt := 64) hx hb dX4_becomesLatest_93 (by decide)) ?_
        refine x_lo (lo' := [(3, .int (y35 + (-1 : Int32))), (0, .ref a0), (1, .int x1)]) [0, 1, 2] rfl ?_
        exact hself33 (y35 + (-1 : Int32)) σ44 hp39
  · have hp40 := hp4.2 c11
    refine x_up (pc' := 15) (fun _ _ _ _ _ L => lv_aload_n hx hb dX4_becomesLatest_14 rfl (lv_at L 1 rfl)) ?_
    refine x_gq X (kX4 hG) 0 (by decide) q3266 (fun _ h => h) dX4_becomesLatest_15 hp40 (fun v45 hp41 => ?_)
    refine x_pc (pc' := 18) rfl ?_
    refine x_up (pc' := 21) (fun _ _ _ _ _ L => lv_sipush (v := (235 : Int32)) hx hb dX4_becomesLatest_18 (by decide)) ?_
    refine x_up (pc' := 22) (fun _ _ _ _ _ L => lv_iload_n hx hb dX4_becomesLatest_21 rfl (lv_at L 0 rfl)) ?_
    refine x_up (pc' := 23) (fun _ _ _ _ _ L => lv_iadd hx hb dX4_becomesLatest_22) ?_
    obtain ⟨b46, rfl, hp42⟩ := hp41
    refine x_iald X dX4_becomesLatest_23 hp42 (fun v47 hp43 => ?_)
    refine x_pc (pc' := 24) rfl ?_
    refine x_up (pc' := 25) (fun _ _ _ _ _ L => lv_iload_n hx hb dX4_becomesLatest_24 rfl (lv_at L 2 rfl)) ?_
    refine x_if (C := v47 = x1) (pt := 34) (pc' := 28) (fun _ _ _ _ _ => lv_icmp_eq (tgt := 34) hx hb dX4_becomesLatest_25 (by decide)) (fun c25 => ?_) (fun c25 => ?_)
    · have hp44 := hp43.1 c25
      refine x_up (pc' := 35) (fun _ _ _ _ _ L => lv_aload_n hx hb dX4_becomesLatest_34 rfl (lv_at L 1 rfl)) ?_
      refine x_gq X (kX4 hG) 0 (by decide) q3266 (fun _ h => h) dX4_becomesLatest_35 hp44 (fun v48 hp45 => ?_)
      refine x_pc (pc' := 38) rfl ?_
      refine x_up (pc' := 41) (fun _ _ _ _ _ L => lv_sipush (v := (234 : Int32)) hx hb dX4_becomesLatest_38 (by decide)) ?_
      refine x_up (pc' := 42) (fun _ _ _ _ _ L => lv_dup2_11 hx hb dX4_becomesLatest_41 rfl (x_catq _)) ?_
      obtain ⟨b49, rfl, hp46⟩ := hp45
      refine x_iald X dX4_becomesLatest_42 hp46 (fun v50 hp47 => ?_)
      refine x_pc (pc' := 43) rfl ?_
      refine x_up (pc' := 44) (fun _ _ _ _ _ L => lv_iload_n hx hb dX4_becomesLatest_43 rfl (lv_at L 0 rfl)) ?_
      refine x_up (pc' := 45) (fun _ _ _ _ _ L => lv_aload_n hx hb dX4_becomesLatest_44 rfl (lv_at L 1 rfl)) ?_
      refine x_gq X (kX4 hG) 0 (by decide) q3266 (fun _ h => h) dX4_becomesLatest_45 hp47 (fun v51 hp48 => ?_)
      refine x_pc (pc' := 48) rfl ?_
      refine x_up (pc' := 51) (fun _ _ _ _ _ L => lv_sipush (v := (234 : Int32)) hx hb dX4_becomesLatest_48 (by decide)) ?_
      obtain ⟨b52, rfl, hp49⟩ := hp48
      refine x_iald X dX4_becomesLatest_51 hp49 (fun v53 hp50 => ?_)
      refine x_pc (pc' := 52) rfl ?_
      refine x_ifn (C := y5 = v53) (pt := 59) (pc' := 55) (fun _ _ _ _ _ => lv_icmp_ne (tgt := 59) hx hb dX4_becomesLatest_52 (by decide)) (fun c52 => ?_) (fun c52 => ?_)
      · have hp51 := hp50.1 c52
        refine x_up (pc' := 56) (fun _ _ _ _ _ L => lv_iconst (v := (1 : Int32)) hx hb dX4_becomesLatest_55 (by decide)) ?_
        refine x_up (pc' := 60) (fun _ _ _ _ _ L => lv_goto (tgt := 60) hx hb dX4_becomesLatest_56 (by decide)) ?_
        refine x_up (pc' := 61) (fun _ _ _ _ _ L => lv_iadd hx hb dX4_becomesLatest_60) ?_
        refine x_iast X dX4_becomesLatest_61 hp51 (fun σ54 hp52 => ?_)
        refine x_pc (pc' := 62) rfl ?_
        refine x_up (pc' := 63) (fun _ _ _ _ _ L => lv_iload_n hx hb dX4_becomesLatest_62 rfl (lv_at L 0 rfl)) ?_
        refine x_upL (pc' := 64) (lo' := [(3, .int y5), (2, .int y5), (0, .ref a0), (1, .int x1)]) (fun _ _ _ _ _ L => lv_istore_n hx hb dX4_becomesLatest_63 rfl L (by decide) rfl) ?_
        refine x_lo (lo' := [(3, .int y5), (0, .ref a0), (1, .int x1)]) [0, 2, 3] rfl ?_
        refine x_while (v0 := y5) (fun w55 => [(3, .int w55), (0, .ref a0), (1, .int x1)]) hp52 (fun self56 hself57 => ?_)
        rintro y59 σ58 hp53
        unfold B_X4_becomesLatest_64 at hp53
        refine x_same (lo' := [(3, .int y59), (0, .ref a0), (1, .int x1)]) rfl ?_
        refine x_up (pc' := 65) (fun _ _ _ _ _ L => lv_iload_n hx hb dX4_becomesLatest_64 rfl (lv_at L 0 rfl)) ?_
        refine x_if (C := y59 ≤ 0) (pt := 96) (pc' := 68) (fun _ _ _ _ _ => lv_if_le (tgt := 96) hx hb dX4_becomesLatest_65 (by decide)) (fun c65 => ?_) (fun c65 => ?_)
        · have hp54 := hp53.1 c65
          refine x_up (pc' := 97) (fun _ _ _ _ _ L => lv_aload_n hx hb dX4_becomesLatest_96 rfl (lv_at L 1 rfl)) ?_
          refine x_gq X (kX4 hG) 0 (by decide) q3266 (fun _ h => h) dX4_becomesLatest_97 hp54 (fun v60 hp55 => ?_)
          refine x_pc (pc' := 100) rfl ?_
          refine x_up (pc' := 103) (fun _ _ _ _ _ L => lv_sipush (v := (235 : Int32)) hx hb dX4_becomesLatest_100 (by decide)) ?_
          refine x_up (pc' := 104) (fun _ _ _ _ _ L => lv_iload_n hx hb dX4_becomesLatest_103 rfl (lv_at L 2 rfl)) ?_
          obtain ⟨b61, rfl, hp56⟩ := hp55
          refine x_iast X dX4_becomesLatest_104 hp56 (fun σ62 hp57 => ?_)
          refine x_pc (pc' := 105) rfl ?_
          exact x_vret X hr dX4_becomesLatest_105 hp57
        · have hp58 := hp53.2 c65
          refine x_up (pc' := 69) (fun _ _ _ _ _ L => lv_aload_n hx hb dX4_becomesLatest_68 rfl (lv_at L 1 rfl)) ?_
          refine x_gq X (kX4 hG) 0 (by decide) q3266 (fun _ h => h) dX4_becomesLatest_69 hp58 (fun v63 hp59 => ?_)
          refine x_pc (pc' := 72) rfl ?_
          refine x_up (pc' := 75) (fun _ _ _ _ _ L => lv_sipush (v := (235 : Int32)) hx hb dX4_becomesLatest_72 (by decide)) ?_
          refine x_up (pc' := 76) (fun _ _ _ _ _ L => lv_iload_n hx hb dX4_becomesLatest_75 rfl (lv_at L 0 rfl)) ?_
          refine x_up (pc' := 77) (fun _ _ _ _ _ L => lv_iadd hx hb dX4_becomesLatest_76) ?_
          refine x_up (pc' := 78) (fun _ _ _ _ _ L => lv_aload_n hx hb dX4_becomesLatest_77 rfl (lv_at L 1 rfl)) ?_
          refine x_gq X (kX4 hG) 0 (by decide) q3266 (fun _ h => h) dX4_becomesLatest_78 hp59 (fun v64 hp60 => ?_)
          refine x_pc (pc' := 81) rfl ?_
          refine x_up (pc' := 84) (fun _ _ _ _ _ L => lv_sipush (v := (235 : Int32)) hx hb dX4_becomesLatest_81 (by decide)) ?_
          refine x_up (pc' := 85) (fun _ _ _ _ _ L => lv_iload_n hx hb dX4_becomesLatest_84 rfl (lv_at L 0 rfl)) ?_
          refine x_up (pc' := 86) (fun _ _ _ _ _ L => lv_iadd hx hb dX4_becomesLatest_85) ?_
          refine x_up (pc' := 87) (fun _ _ _ _ _ L => lv_iconst (v := (1 : Int32)) hx hb dX4_becomesLatest_86 (by decide)) ?_
          refine x_up (pc' := 88) (fun _ _ _ _ _ L => lv_isub hx hb dX4_becomesLatest_87) ?_
          obtain ⟨b65, rfl, hp61⟩ := hp60
          refine x_iald X dX4_becomesLatest_88 hp61 (fun v66 hp62 => ?_)
          refine x_pc (pc' := 89) rfl ?_
          obtain ⟨b67, rfl, hp63⟩ := hp62
          refine x_iast X dX4_becomesLatest_89 hp63 (fun σ68 hp64 => ?_)
          refine x_pc (pc' := 90) rfl ?_
          refine x_upL (pc' := 93) (lo' := [(3, .int (y59 + (-1 : Int32))), (0, .ref a0), (1, .int x1)]) (fun _ _ _ _ _ L => lv_iinc (v := y59 + (-1 : Int32)) hx hb dX4_becomesLatest_90 L (k := 0) rfl rfl (by decide) rfl) ?_
          refine x_up (pc' := 64) (fun _ _ _ _ _ L => lv_goto (tgt := 64) hx hb dX4_becomesLatest_93 (by decide)) ?_
          refine x_lo (lo' := [(3, .int (y59 + (-1 : Int32))), (0, .ref a0), (1, .int x1)]) [0, 1, 2] rfl ?_
          exact hself57 (y59 + (-1 : Int32)) σ68 hp64
      · have hp65 := hp50.2 c52
        refine x_up (pc' := 60) (fun _ _ _ _ _ L => lv_iconst (v := (0 : Int32)) hx hb dX4_becomesLatest_59 (by decide)) ?_
        refine x_up (pc' := 61) (fun _ _ _ _ _ L => lv_iadd hx hb dX4_becomesLatest_60) ?_
        refine x_iast X dX4_becomesLatest_61 hp65 (fun σ69 hp66 => ?_)
        refine x_pc (pc' := 62) rfl ?_
        refine x_up (pc' := 63) (fun _ _ _ _ _ L => lv_iload_n hx hb dX4_becomesLatest_62 rfl (lv_at L 0 rfl)) ?_
        refine x_upL (pc' := 64) (lo' := [(3, .int y5), (2, .int y5), (0, .ref a0), (1, .int x1)]) (fun _ _ _ _ _ L => lv_istore_n hx hb dX4_becomesLatest_63 rfl L (by decide) rfl) ?_
        refine x_lo (lo' := [(3, .int y5), (0, .ref a0), (1, .int x1)]) [0, 2, 3] rfl ?_
        refine x_while (v0 := y5) (fun w70 => [(3, .int w70), (0, .ref a0), (1, .int x1)]) hp66 (fun self71 hself72 => ?_)
        rintro y74 σ73 hp67
        unfold B_X4_becomesLatest_64 at hp67
        refine x_same (lo' := [(3, .int y74), (0, .ref a0), (1, .int x1)]) rfl ?_
        refine x_up (pc' := 65) (fun _ _ _ _ _ L => lv_iload_n hx hb dX4_becomesLatest_64 rfl (lv_at L 0 rfl)) ?_
        refine x_if (C := y74 ≤ 0) (pt := 96) (pc' := 68) (fun _ _ _ _ _ => lv_if_le (tgt := 96) hx hb dX4_becomesLatest_65 (by decide)) (fun c65 => ?_) (fun c65 => ?_)
        · have hp68 := hp67.1 c65
          refine x_up (pc' := 97) (fun _ _ _ _ _ L => lv_aload_n hx hb dX4_becomesLatest_96 rfl (lv_at L 1 rfl)) ?_
          refine x_gq X (kX4 hG) 0 (by decide) q3266 (fun _ h => h) dX4_becomesLatest_97 hp68 (fun v75 hp69 => ?_)
          refine x_pc (pc' := 100) rfl ?_
          refine x_up (pc' := 103) (fun _ _ _ _ _ L => lv_sipush (v := (235 : Int32)) hx hb dX4_becomesLatest_100 (by decide)) ?_
          refine x_up (pc' := 104) (fun _ _ _ _ _ L => lv_iload_n hx hb dX4_becomesLatest_103 rfl (lv_at L 2 rfl)) ?_
          obtain ⟨b76, rfl, hp70⟩ := hp69
          refine x_iast X dX4_becomesLatest_104 hp70 (fun σ77 hp71 => ?_)
          refine x_pc (pc' := 105) rfl ?_
          exact x_vret X hr dX4_becomesLatest_105 hp71
        · have hp72 := hp67.2 c65
          refine x_up (pc' := 69) (fun _ _ _ _ _ L => lv_aload_n hx hb dX4_becomesLatest_68 rfl (lv_at L 1 rfl)) ?_
          refine x_gq X (kX4 hG) 0 (by decide) q3266 (fun _ h => h) dX4_becomesLatest_69 hp72 (fun v78 hp73 => ?_)
          refine x_pc (pc' := 72) rfl ?_
          refine x_up (pc' := 75) (fun _ _ _ _ _ L => lv_sipush (v := (235 : Int32)) hx hb dX4_becomesLatest_72 (by decide)) ?_
          refine x_up (pc' := 76) (fun _ _ _ _ _ L => lv_iload_n hx hb dX4_becomesLatest_75 rfl (lv_at L 0 rfl)) ?_
          refine x_up (pc' := 77) (fun _ _ _ _ _ L => lv_iadd hx hb dX4_becomesLatest_76) ?_
          refine x_up (pc' := 78) (fun _ _ _ _ _ L => lv_aload_n hx hb dX4_becomesLatest_77 rfl (lv_at L 1 rfl)) ?_
          refine x_gq X (kX4 hG) 0 (by decide) q3266 (fun _ h => h) dX4_becomesLatest_78 hp73 (fun v79 hp74 => ?_)
          refine x_pc (pc' := 81) rfl ?_
          refine x_up (pc' := 84) (fun _ _ _ _ _ L => lv_sipush (v := (235 : Int32)) hx hb dX4_becomesLatest_81 (by decide)) ?_
          refine x_up (pc' := 85) (fun _ _ _ _ _ L => lv_iload_n hx hb dX4_becomesLatest_84 rfl (lv_at L 0 rfl)) ?_
          refine x_up (pc' := 86) (fun _ _ _ _ _ L => lv_iadd hx hb dX4_becomesLatest_85) ?_
          refine x_up (pc' := 87) (fun _ _ _ _ _ L => lv_iconst (v := (1 : Int32)) hx hb dX4_becomesLatest_86 (by decide)) ?_
          refine x_up (pc' := 88) (fun _ _ _ _ _ L => lv_isub hx hb dX4_becomesLatest_87) ?_
          obtain ⟨b80, rfl, hp75⟩ := hp74
          refine x_iald X dX4_becomesLatest_88 hp75 (fun v81 hp76 => ?_)
          refine x_pc (pc' := 89) rfl ?_
          obtain ⟨b82, rfl, hp77⟩ := hp76
          refine x_iast X dX4_becomesLatest_89 hp77 (fun σ83 hp78 => ?_)
          refine x_pc (pc' := 90) rfl ?_
          refine x_upL (pc' := 93) (lo' := [(3, .int (y74 + (-1 : Int32))), (0, .ref a0), (1, .int x1)]) (fun _ _ _ _ _ L => lv_iinc (v := y74 + (-1 : Int32)) hx hb dX4_becomesLatest_90 L (k := 0) rfl rfl (by decide) rfl) ?_
          refine x_up (pc' := 64) (fun _ _ _ _ _ L => lv_goto (tgt := 64) hx hb dX4_becomesLatest_93 (by decide)) ?_
          refine x_lo (lo' := [(3, .int (y74 + (-1 : Int32))), (0, .ref a0), (1, .int x1)]) [0, 1, 2] rfl ?_
          exact hself72 (y74 + (-1 : Int32)) σ83 hp78
    · have hp79 := hp43.2 c25
      refine x_upL (pc' := 31) (lo' := [(2, .int (y5 + (1 : Int32))), (0, .ref a0), (1, .int x1)]) (fun _ _ _ _ _ L => lv_iinc (v := y5 + (1 : Int32)) hx hb dX4_becomesLatest_28 L (k := 0) rfl rfl (by decide) rfl) ?_
      refine x_up (pc' := 2) (fun _ _ _ _ _ L => lv_goto (tgt := 2) hx hb dX4_becomesLatest_31 (by decide)) ?_
      refine x_lo (lo' := [(2, .int (y5 + (1 : Int32))), (0, .ref a0), (1, .int x1)]) [0, 1, 2] rfl ?_
      exact hself3 (y5 + (1 : Int32)) σ4 hp79
-- X4_accesses
def P_X4_accesses (κ : Nat → Nat) (a0 : Nat) (x1 : Int32) (σ : xS) (K : Int32 → xH → Prop) : Prop :=
  xrc σ a0 10 ∧ xcall (fun τ L => P_X4_lineWith κ a0 x1 τ L) σ fun v1 σ2 => xgq σ2 a0 10 0 fun v3 => xnn v3 fun b4 => xai .int σ2 b4 (0 : Int32) fun v5 => ((v1 = (-1 : Int32) → (xrc σ2 a0 10 ∧ xcall (fun τ L => P_X4_lineFor κ a0 x1 τ L) σ2 fun v6 σ7 => ((v6 = (-1 : Int32) → (xgq σ7 a0 10 0 fun v8 => xnn v8 fun b9 => xai .int σ7 b9 (1 : Int32) fun v10 => ¬ v10 = 0 ∧ xrc σ7 a0 10 ∧ xcall (fun τ L => P_X4_refused κ a0 (2 : Int32) (x1 - x1 / v10 * v10) τ L) σ7 fun v11 σ12 => K (-1 : Int32) σ12.1)) ∧ (¬ v6 = (-1 : Int32) → (xrc σ7 a0 10 ∧ xcall (fun τ L => P_X4_misses κ a0 x1 v6 τ L) σ7 fun _ σ13 => xgq σ13 a0 10 0 fun v14 => xnn v14 fun b15 => xsi κ .int σ13 b15 ((121 : Int32) + v6) v5 fun σ16 => xgq σ16 a0 10 0 fun v17 => xnn v17 fun b18 => xai .int σ16 b18 ((153 : Int32) + v6) fun v19 => xsi κ .int σ16 b18 ((153 : Int32) + v6) (v19 + (1 : Int32)) fun σ20 => xgq σ20 a0 10 0 fun v21 => xnn v21 fun b22 => xai .int σ20 b22 ((251 : Int32) + x1) fun v23 => xsi κ .int σ20 b22 ((251 : Int32) + x1) (v23 + (1 : Int32)) fun σ24 => xrc σ24 a0 10 ∧ xcall (fun τ L => P_X4_becomesLatest κ a0 x1 τ L) σ24 fun _ σ25 => K v6 σ25.1))))) ∧ (¬ v1 = (-1 : Int32) → (xgq σ2 a0 10 0 fun v26 => xnn v26 fun b27 => xai .int σ2 b27 (285 : Int32) fun v28 => xsi κ .int σ2 b27 (285 : Int32) (v28 + (1 : Int32)) fun σ29 => xgq σ29 a0 10 0 fun v30 => xnn v30 fun b31 => xai .int σ29 b31 (0 : Int32) fun v32 => xsi κ .int σ29 b31 (0 : Int32) (v32 + (1 : Int32)) fun σ33 => xgq σ33 a0 10 0 fun v34 => xnn v34 fun b35 => xsi κ .int σ33 b35 ((121 : Int32) + v1) v5 fun σ36 => xgq σ36 a0 10 0 fun v37 => xnn v37 fun b38 => xai .int σ36 b38 ((153 : Int32) + v1) fun v39 => xsi κ .int σ36 b38 ((153 : Int32) + v1) (v39 + (1 : Int32)) fun σ40 => xgq σ40 a0 10 0 fun v41 => xnn v41 fun b42 => xai .int σ40 b42 ((251 : Int32) + x1) fun v43 => xsi κ .int σ40 b42 ((251 : Int32) + x1) (v43 + (1 : Int32)) fun σ44 => xrc σ44 a0 10 ∧ xcall (fun τ L => P_X4_becomesLatest κ a0 x1 τ L) σ44 fun _ σ45 => K v1 σ45.1)))
theorem mdX4_accesses : yX4_accesses.cls ≠ "java/lang/invoke/MethodHandle" ∧ yX4_accesses.cls ≠ "java/lang/invoke/VarHandle" ∧ (parseMethodDescriptor yX4_accesses.desc).map (fun d => d.parameters.length) = some 1 := by decide +kernel
set_option maxHeartbeats 4000000 in
set_option maxRecDepth 100000 in
theorem R_X4_accesses (l : Launch) (hl : l.stackTraces = false) (G : xG) (hG : G.1.2 = x_cl) (a0 : Nat) (x1 : Int32) (σ : xS) (K : Int32 → xH → Prop) (hp : P_X4_accesses G.2 a0 x1 σ K) : xM l yX4_accesses cX4_accesses 5 (Option.some Jvm.ClassFile.FieldType.int) 3 71 G [(.ref a0), .int x1] σ (xlift emI K) := by
  refine x_entry (by decide) (Nat.le_of_ble_eq_true rfl) ?_
  intro p e s m args below meth c X hr hin
  have X : xX p s m args meth c G cX4_accesses 5 RX4 := X
  have hx := X.1
  have hb := X.2.1
  have hts := X.2.2.2.2.1
  have hown := X.2.2.2.1
  unfold P_X4_accesses at hp
  refine x_same (lo' := [(0, .ref a0), (1, .int x1)]) rfl ?_
  refine x_up (pc' := 1) (fun _ _ _ _ _ L => lv_aload_n hx hb dX4_accesses_0 rfl (lv_at L 0 rfl)) ?_
  refine x_up (pc' := 2) (fun _ _ _ _ _ L => lv_iload_n hx hb dX4_accesses_1 rfl (lv_at L 1 rfl)) ?_
  refine x_callV (em := emI) (fun r st => .int r :: st) (fun _ _ => rfl) 1 X (kX4 hG) (fun σ' KK h => R_X4_lineWith l hl G hG a0 x1 σ' KK h) (lw_V q3365 q3367 qs61 q119 q3368) ⟨rfl, mdX4_lineWith⟩ ⟨Nat.le_of_ble_eq_true rfl, Nat.le_of_ble_eq_true rfl⟩ rfl rfl (Nat.le_of_ble_eq_true rfl) dX4_accesses_2 hp.1 hp.2 (fun v1 σ2 hp1 => ?_)
  refine x_pc (pc' := 5) rfl ?_
  refine x_upL (pc' := 6) (lo' := [(2, .int v1), (0, .ref a0), (1, .int x1)]) (fun _ _ _ _ _ L => lv_istore_n hx hb dX4_accesses_5 rfl L (by decide) rfl) ?_
  refine x_up (pc' := 7) (fun _ _ _ _ _ L => lv_aload_n hx hb dX4_accesses_6 rfl (lv_at L 1 rfl)) ?_
  refine x_gq X (kX4 hG) 0 (by decide) q3266 (fun _ h => h) dX4_accesses_7 hp1 (fun v3 hp2 => ?_)
  refine x_pc (pc' := 10) rfl ?_
  refine x_up (pc' := 11) (fun _ _ _ _ _ L => lv_iconst (v := (0 : Int32)) hx hb dX4_accesses_10 (by decide)) ?_
  obtain ⟨b4, rfl, hp3⟩ := hp2
  refine x_iald X dX4_accesses_11 hp3 (fun v5 hp4 => ?_)
  refine x_pc (pc' := 12) rfl ?_
  refine x_upL (pc' := 13) (lo' := [(3, .int v5), (2, .int v1), (0, .ref a0), (1, .int x1)]) (fun _ _ _ _ _ L => lv_istore_n hx hb dX4_accesses_12 rfl L (by decide) rfl) ?_
  refine x_up (pc' := 14) (fun _ _ _ _ _ L => lv_iload_n hx hb dX4_accesses_13 rfl (lv_at L 1 rfl)) ?_
  refine x_up (pc' := 15) (fun _ _ _ _ _ L => lv_iconst (v := (-1 : Int32)) hx hb dX4_accesses_14 (by decide)) ?_
  refine x_if (C := v1 = (-1 : Int32)) (pt := 43) (pc' := 18) (fun _ _ _ _ _ => lv_icmp_eq (tgt := 43) hx hb dX4_accesses_15 (by decide)) (fun c15 => ?_) (fun c15 => ?_)
  · have hp5 := hp4.1 c15
    refine x_up (pc' := 44) (fun _ _ _ _ _ L => lv_aload_n hx hb dX4_accesses_43 rfl (lv_at L 2 rfl)) ?_
    refine x_up (pc' := 45) (fun _ _ _ _ _ L => lv_iload_n hx hb dX4_accesses_44 rfl (lv_at L 3 rfl)) ?_
    refine x_callV (em := emI) (fun r st => .int r :: st) (fun _ _ => rfl) 1 X (kX4 hG) (fun σ' KK h => R_X4_lineFor l hl G hG a0 x1 σ' KK h) (lw_V q3369 q3371 qs62 q119 q3372) ⟨rfl, mdX4_lineFor⟩ ⟨Nat.le_of_ble_eq_true rfl, Nat.le_of_ble_eq_true rfl⟩ rfl rfl (Nat.le_of_ble_eq_true rfl) dX4_accesses_45 hp5.1 hp5.2 (fun v6 σ7 hp6 => ?_)
    refine x_pc (pc' := 48) rfl ?_
    refine x_upL (pc' := 49) (lo' := [(2, .int v6), (3, .int v5), (0, .ref a0), (1, .int x1)]) (fun _ _ _ _ _ L => lv_istore_n hx hb dX4_accesses_48 rfl L (by decide) rfl) ?_
    refine x_up (pc' := 50) (fun _ _ _ _ _ L => lv_iload_n hx hb dX4_accesses_49 rfl (lv_at L 0 rfl)) ?_
    refine x_up (pc' := 51) (fun _ _ _ _ _ L => lv_iconst (v := (-1 : Int32)) hx hb dX4_accesses_50 (by decide)) ?_
    refine x_ifn (C := v6 = (-1 : Int32)) (pt := 71) (pc' := 54) (fun _ _ _ _ _ => lv_icmp_ne (tgt := 71) hx hb dX4_accesses_51 (by decide)) (fun c51 => ?_) (fun c51 => ?_)
    · have hp7 := hp6.1 c51
      refine x_up (pc' := 55) (fun _ _ _ _ _ L => lv_aload_n hx hb dX4_accesses_54 rfl (lv_at L 2 rfl)) ?_
      refine x_up (pc' := 56) (fun _ _ _ _ _ L => lv_iconst (v := (2 : Int32)) hx hb dX4_accesses_55 (by decide)) ?_
      refine x_up (pc' := 57) (fun _ _ _ _ _ L => lv_iload_n hx hb dX4_accesses_56 rfl (lv_at L 3 rfl)) ?_
      refine x_up (pc' := 58) (fun _ _ _ _ _ L => lv_aload_n hx hb dX4_accesses_57 rfl (lv_at L 2 rfl)) ?_
      refine x_gq X (kX4 hG) 0 (by decide) q3266 (fun _ h => h) dX4_accesses_58 hp7 (fun v8 hp8 => ?_)
      refine x_pc (pc' := 61) rfl ?_
      refine x_up (pc' := 62) (fun _ _ _ _ _ L => lv_iconst (v := (1 : Int32)) hx hb dX4_accesses_61 (by decide)) ?_
      obtain ⟨b9, rfl, hp9⟩ := hp8
      refine x_iald X dX4_accesses_62 hp9 (fun v10 hp10 => ?_)
      refine x_pc (pc' := 63) rfl ?_
      obtain ⟨hz63, hp11⟩ := hp10
      refine x_up (pc' := 64) (fun _ _ _ _ _ L => lv_irem hx hb dX4_accesses_63 hz63) ?_
      refine x_callV (em := emI) (fun r st => .int r :: st) (fun _ _ => rfl) 2 X (kX4 hG) (fun σ' KK h => R_X4_refused l hl G hG a0 (2 : Int32) (x1 - x1 / v10 * v10) σ' KK h) (lw_V q3353 q3355 qs58 q119 q3356) ⟨rfl, mdX4_refused⟩ ⟨Nat.le_of_ble_eq_true rfl, Nat.le_of_ble_eq_true rfl⟩ rfl rfl (Nat.le_of_ble_eq_true rfl) dX4_accesses_64 hp11.1 hp11.2 (fun v11 σ12 hp12 => ?_)
      refine x_pc (pc' := 67) rfl ?_
      refine x_upL (pc' := 69) (lo' := [(4, .int v11), (2, .int v6), (3, .int v5), (0, .ref a0), (1, .int x1)]) (fun _ _ _ _ _ L => lv_istore hx hb dX4_accesses_67 L (by decide) rfl) ?_
      refine x_up (pc' := 70) (fun _ _ _ _ _ L => lv_iconst (v := (-1 : Int32)) hx hb dX4_accesses_69 (by decide)) ?_
      exact x_iret X hr rfl dX4_accesses_70 hp12
    · have hp13 := hp6.2 c51
      refine x_up (pc' := 72) (fun _ _ _ _ _ L => lv_aload_n hx hb dX4_accesses_71 rfl (lv_at L 2 rfl)) ?_
      refine x_up (pc' := 73) (fun _ _ _ _ _ L => lv_iload_n hx hb dX4_accesses_72 rfl (lv_at L 3 rfl)) ?_
      refine x_up (pc' := 74) (fun _ _ _ _ _ L => lv_iload_n hx hb dX4_accesses_73 rfl (lv_at L 0 rfl)) ?_
      refine x_callV (em := emV) (fun r st => st) (fun _ _ => rfl) 2 X (kX4 hG) (fun σ' KK h => R_X4_misses l hl G hG a0 x1 v6 σ' KK h) (lw_V q3384 q3386 qs65 q119 q3387) ⟨rfl, mdX4_misses⟩ ⟨Nat.le_of_ble_eq_true rfl, Nat.le_of_ble_eq_true rfl⟩ rfl rfl (Nat.le_of_ble_eq_true rfl) dX4_accesses_74 hp13.1 hp13.2 (fun _ σ13 hp14 => ?_)
      refine x_pc (pc' := 77) rfl ?_
      refine x_up (pc' := 78) (fun _ _ _ _ _ L => lv_aload_n hx hb dX4_accesses_77 rfl (lv_at L 2 rfl)) ?_
      refine x_gq X (kX4 hG) 0 (by decide) q3266 (fun _ h => h) dX4_accesses_78 hp14 (fun v14 hp15 => ?_)
      refine x_pc (pc' := 81) rfl ?_
      refine x_up (pc' := 83) (fun _ _ _ _ _ L => lv_bipush (v := (121 : Int32)) hx hb dX4_accesses_81 (by decide)) ?_
      refine x_up (pc' := 84) (fun _ _ _ _ _ L => lv_iload_n hx hb dX4_accesses_83 rfl (lv_at L 0 rfl)) ?_
      refine x_up (pc' := 85) (fun _ _ _ _ _ L => lv_iadd hx hb dX4_accesses_84) ?_
      refine x_up (pc' := 86) (fun _ _ _ _ _ L => lv_iload_n hx hb dX4_accesses_85 rfl (lv_at L 1 rfl)) ?_
      obtain ⟨b15, rfl, hp16⟩ := hp15
      refine x_iast X dX4_accesses_86 hp16 (fun σ16 hp17 => ?_)
      refine x_pc (pc' := 87) rfl ?_
      refine x_up (pc' := 88) (fun _ _ _ _ _ L => lv_aload_n hx hb dX4_accesses_87 rfl (lv_at L 2 rfl)) ?_
      refine x_gq X (kX4 hG) 0 (by decide) q3266 (fun _ h => h) dX4_accesses_88 hp17 (fun v17 hp18 => ?_)
      refine x_pc (pc' := 91) rfl ?_
      refine x_up (pc' := 94) (fun _ _ _ _ _ L => lv_sipush (v := (153 : Int32)) hx hb dX4_accesses_91 (by decide)) ?_
      refine x_up (pc' := 95) (fun _ _ _ _ _ L => lv_iload_n hx hb dX4_accesses_94 rfl (lv_at L 0 rfl)) ?_
      refine x_up (pc' := 96) (fun _ _ _ _ _ L => lv_iadd hx hb dX4_accesses_95) ?_
      refine x_up (pc' := 97) (fun _ _ _ _ _ L => lv_dup2_11 hx hb dX4_accesses_96 rfl (x_catq _)) ?_
      obtain ⟨b18, rfl, hp19⟩ := hp18
      refine x_iald X dX4_accesses_97 hp19 (fun v19 hp20 => ?_)
      refine x_pc (pc' := 98) rfl ?_
      refine x_up (pc' := 99) (fun _ _ _ _ _ L => lv_iconst (v := (1 : Int32)) hx hb dX4_accesses_98 (by decide)) ?_
      refine x_up (pc' := 100) (fun _ _ _ _ _ L => lv_iadd hx hb dX4_accesses_99) ?_
      refine x_iast X dX4_accesses_100 hp20 (fun σ20 hp21 => ?_)
      refine x_pc (pc' := 101) rfl ?_
      refine x_up (pc' := 102) (fun _ _ _ _ _ L => lv_aload_n hx hb dX4_accesses_101 rfl (lv_at L 2 rfl)) ?_
      refine x_gq X (kX4 hG) 0 (by decide) q3266 (fun _ h => h) dX4_accesses_102 hp21 (fun v21 hp22 => ?_)
      refine x_pc (pc' := 105) rfl ?_
      refine x_up (pc' := 108) (fun _ _ _ _ _ L => lv_sipush (v := (251 : Int32)) hx hb dX4_accesses_105 (by decide)) ?_
      refine x_up (pc' := 109) (fun _ _ _ _ _ L => lv_iload_n hx hb dX4_accesses_108 rfl (lv_at L 3 rfl)) ?_
      refine x_up (pc' := 110) (fun _ _ _ _ _ L => lv_iadd hx hb dX4_accesses_109) ?_
      refine x_up (pc' := 111) (fun _ _ _ _ _ L => lv_dup2_11 hx hb dX4_accesses_110 rfl (x_catq _)) ?_
      obtain ⟨b22, rfl, hp23⟩ := hp22
      refine x_iald X dX4_accesses_111 hp23 (fun v23 hp24 => ?_)
      refine x_pc (pc' := 112) rfl ?_
      refine x_up (pc' := 113) (fun _ _ _ _ _ L => lv_iconst (v := (1 : Int32)) hx hb dX4_accesses_112 (by decide)) ?_
      refine x_up (pc' := 114) (fun _ _ _ _ _ L => lv_iadd hx hb dX4_accesses_113) ?_
      refine x_iast X dX4_accesses_114 hp24 (fun σ24 hp25 => ?_)
      refine x_pc (pc' := 115) rfl ?_
      refine x_up (pc' := 116) (fun _ _ _ _ _ L => lv_aload_n hx hb dX4_accesses_115 rfl (lv_at L 2 rfl)) ?_
      refine x_up (pc' := 117) (fun _ _ _ _ _ L => lv_iload_n hx hb dX4_accesses_116 rfl (lv_at L 3 rfl)) ?_
      refine x_callV (em := emV) (fun r st => st) (fun _ _ => rfl) 1 X (kX4 hG) (fun σ' KK h => R_X4_becomesLatest l hl G hG a0 x1 σ' KK h) (lw_V q3400 q3402 qs69 q119 q3403) ⟨rfl, mdX4_becomesLatest⟩ ⟨Nat.le_of_ble_eq_true rfl, Nat.le_of_ble_eq_true rfl⟩ rfl rfl (Nat.le_of_ble_eq_true rfl) dX4_accesses_117 hp25.1 hp25.2 (fun _ σ25 hp26 => ?_)
      refine x_pc (pc' := 120) rfl ?_
      refine x_up (pc' := 121) (fun _ _ _ _ _ L => lv_iload_n hx hb dX4_accesses_120 rfl (lv_at L 0 rfl)) ?_
      exact x_iret X hr rfl dX4_accesses_121 hp26
  · have hp27 := hp4.2 c15
    refine x_up (pc' := 19) (fun _ _ _ _ _ L => lv_aload_n hx hb dX4_accesses_18 rfl (lv_at L 2 rfl)) ?_
    refine x_gq X (kX4 hG) 0 (by decide) q3266 (fun _ h => h) dX4_accesses_19 hp27 (fun v26 hp28 => ?_)
    refine x_pc (pc' := 22) rfl ?_
    refine x_up (pc' := 25) (fun _ _ _ _ _ L => lv_sipush (v := (285 : Int32)) hx hb dX4_accesses_22 (by decide)) ?_
    refine x_up (pc' := 26) (fun _ _ _ _ _ L => lv_dup2_11 hx hb dX4_accesses_25 rfl (x_catq _)) ?_
    obtain ⟨b27, rfl, hp29⟩ := hp28
    refine x_iald X dX4_accesses_26 hp29 (fun v28 hp30 => ?_)
    refine x_pc (pc' := 27) rfl ?_
    refine x_up (pc' := 28) (fun _ _ _ _ _ L => lv_iconst (v := (1 : Int32)) hx hb dX4_accesses_27 (by decide)) ?_
    refine x_up (pc' := 29) (fun _ _ _ _ _ L => lv_iadd hx hb dX4_accesses_28) ?_
    refine x_iast X dX4_accesses_29 hp30 (fun σ29 hp31 => ?_)
    refine x_pc (pc' := 30) rfl ?_
    refine x_up (pc' := 31) (fun _ _ _ _ _ L => lv_aload_n hx hb dX4_accesses_30 rfl (lv_at L 2 rfl)) ?_
    refine x_gq X (kX4 hG) 0 (by decide) q3266 (fun _ h => h) dX4_accesses_31 hp31 (fun v30 hp32 => ?_)
    refine x_pc (pc' := 34) rfl ?_
    refine x_up (pc' := 35) (fun _ _ _ _ _ L => lv_iconst (v := (0 : Int32)) hx hb dX4_accesses_34 (by decide)) ?_
    refine x_up (pc' := 36) (fun _ _ _ _ _ L => lv_dup2_11 hx hb dX4_accesses_35 rfl (x_catq _)) ?_
    obtain ⟨b31, rfl, hp33⟩ := hp32
    refine x_iald X dX4_accesses_36 hp33 (fun v32 hp34 => ?_)
    refine x_pc (pc' := 37) rfl ?_
    refine x_up (pc' := 38) (fun _ _ _ _ _ L => lv_iconst (v := (1 : Int32)) hx hb dX4_accesses_37 (by decide)) ?_
    refine x_up (pc' := 39) (fun _ _ _ _ _ L => lv_iadd hx hb dX4_accesses_38) ?_
    refine x_iast X dX4_accesses_39 hp34 (fun σ33 hp35 => ?_)
    refine x_pc (pc' := 40) rfl ?_
    refine x_up (pc' := 77) (fun _ _ _ _ _ L => lv_goto (tgt := 77) hx hb dX4_accesses_40 (by decide)) ?_
    refine x_up (pc' := 78) (fun _ _ _ _ _ L => lv_aload_n hx hb dX4_accesses_77 rfl (lv_at L 2 rfl)) ?_
    refine x_gq X (kX4 hG) 0 (by decide) q3266 (fun _ h => h) dX4_accesses_78 hp35 (fun v34 hp36 => ?_)
    refine x_pc (pc' := 81) rfl ?_
    refine x_up (pc' := 83) (fun _ _ _ _ _ L => lv_bipush (v := (121 : Int32)) hx hb dX4_accesses_81 (by decide)) ?_
    refine x_up (pc' := 84) (fun _ _ _ _ _ L => lv_iload_n hx hb dX4_accesses_83 rfl (lv_at L 1 rfl)) ?_
    refine x_up (pc' := 85) (fun _ _ _ _ _ L => lv_iadd hx hb dX4_accesses_84) ?_
    refine x_up (pc' := 86) (fun _ _ _ _ _ L => lv_iload_n hx hb dX4_accesses_85 rfl (lv_at L 0 rfl)) ?_
    obtain ⟨b35, rfl, hp37⟩ := hp36
    refine x_iast X dX4_accesses_86 hp37 (fun σ36 hp38 => ?_)
    refine x_pc (pc' := 87) rfl ?_
    refine x_up (pc' := 88) (fun _ _ _ _ _ L => lv_aload_n hx hb dX4_accesses_87 rfl (lv_at L 2 rfl)) ?_
    refine x_gq X (kX4 hG) 0 (by decide) q3266 (fun _ h => h) dX4_accesses_88 hp38 (fun v37 hp39 => ?_)
    refine x_pc (pc' := 91) rfl ?_
    refine x_up (pc' := 94) (fun _ _ _ _ _ L => lv_sipush (v := (153 : Int32)) hx hb dX4_accesses_91 (by decide)) ?_
    refine x_up (pc' := 95) (fun _ _ _ _ _ L => lv_iload_n hx hb dX4_accesses_94 rfl (lv_at L 1 rfl)) ?_
    refine x_up (pc' := 96) (fun _ _ _ _ _ L => lv_iadd hx hb dX4_accesses_95) ?_
    refine x_up (pc' := 97) (fun _ _ _ _ _ L => lv_dup2_11 hx hb dX4_accesses_96 rfl (x_catq _)) ?_
    obtain ⟨b38, rfl, hp40⟩ := hp39
    refine x_iald X dX4_accesses_97 hp40 (fun v39 hp41 => ?_)
    refine x_pc (pc' := 98) rfl ?_
    refine x_up (pc' := 99) (fun _ _ _ _ _ L => lv_iconst (v := (1 : Int32)) hx hb dX4_accesses_98 (by decide)) ?_
    refine x_up (pc' := 100) (fun _ _ _ _ _ L => lv_iadd hx hb dX4_accesses_99) ?_
    refine x_iast X dX4_accesses_100 hp41 (fun σ40 hp42 => ?_)
    refine x_pc (pc' := 101) rfl ?_
    refine x_up (pc' := 102) (fun _ _ _ _ _ L => lv_aload_n hx hb dX4_accesses_101 rfl (lv_at L 2 rfl)) ?_
    refine x_gq X (kX4 hG) 0 (by decide) q3266 (fun _ h => h) dX4_accesses_102 hp42 (fun v41 hp43 => ?_)
    refine x_pc (pc' := 105) rfl ?_
    refine x_up (pc' := 108) (fun _ _ _ _ _ L => lv_sipush (v := (251 : Int32)) hx hb dX4_accesses_105 (by decide)) ?_
    refine x_up (pc' := 109) (fun _ _ _ _ _ L => lv_iload_n hx hb dX4_accesses_108 rfl (lv_at L 3 rfl)) ?_
    refine x_up (pc' := 110) (fun _ _ _ _ _ L => lv_iadd hx hb dX4_accesses_109) ?_
    refine x_up (pc' := 111) (fun _ _ _ _ _ L => lv_dup2_11 hx hb dX4_accesses_110 rfl (x_catq _)) ?_
    obtain ⟨b42, rfl, hp44⟩ := hp43
    refine x_iald X dX4_accesses_111 hp44 (fun v43 hp45 => ?_)
    refine x_pc (pc' := 112) rfl ?_
    refine x_up (pc' := 113) (fun _ _ _ _ _ L => lv_iconst (v := (1 : Int32)) hx hb dX4_accesses_112 (by decide)) ?_
    refine x_up (pc' := 114) (fun _ _ _ _ _ L => lv_iadd hx hb dX4_accesses_113) ?_
    refine x_iast X dX4_accesses_114 hp45 (fun σ44 hp46 => ?_)
    refine x_pc (pc' := 115) rfl ?_
    refine x_up (pc' := 116) (fun _ _ _ _ _ L => lv_aload_n hx hb dX4_accesses_115 rfl (lv_at L 2 rfl)) ?_
    refine x_up (pc' := 117) (fun _ _ _ _ _ L => lv_iload_n hx hb dX4_accesses_116 rfl (lv_at L 3 rfl)) ?_
    refine x_callV (em := emV) (fun r st => st) (fun _ _ => rfl) 1 X (kX4 hG) (fun σ' KK h => R_X4_becomesLatest l hl G hG a0 x1 σ' KK h) (lw_V q3400 q3402 qs69 q119 q3403) ⟨rfl, mdX4_becomesLatest⟩ ⟨Nat.le_of_ble_eq_true rfl, Nat.le_of_ble_eq_true rfl⟩ rfl rfl (Nat.le_of_ble_eq_true rfl) dX4_accesses_117 hp46.1 hp46.2 (fun _ σ45 hp47 => ?_)
    refine x_pc (pc' := 120) rfl ?_
    refine x_up (pc' := 121) (fun _ _ _ _ _ L => lv_iload_n hx hb dX4_accesses_120 rfl (lv_at L 1 rfl)) ?_
    exact x_iret X hr rfl dX4_accesses_121 hp47
-- X4_done
def P_X4_done (κ : Nat → Nat) (a0 : Nat) (x1 : Int32) (σ : xS) (K : Int32 → xH → Prop) : Prop :=
  xpi κ σ a0 10 16 (0 : Int32) fun σ1 => K x1 σ1.1
theorem mdX4_done : yX4_done.cls ≠ "java/lang/invoke/MethodHandle" ∧ yX4_done.cls ≠ "java/lang/invoke/VarHandle" ∧ (parseMethodDescriptor yX4_done.desc).map (fun d => d.parameters.length) = some 1 := by decide +kernel
set_option maxHeartbeats 4000000 in
set_option maxRecDepth 100000 in
theorem R_X4_done (l : Launch) (hl : l.stackTraces = false) (G : xG) (hG : G.1.2 = x_cl) (a0 : Nat) (x1 : Int32) (σ : xS) (K : Int32 → xH → Prop) (hp : P_X4_done G.2 a0 x1 σ K) : xM l yX4_done cX4_done 2 (Option.some Jvm.ClassFile.FieldType.int) 0 0 G [(.ref a0), .int x1] σ (xlift emI K) := by
  refine x_entry (by decide) (Nat.le_of_ble_eq_true rfl) ?_
  intro p e s m args below meth c X hr hin
  have X : xX p s m args meth c G cX4_done 2 RX4 := X
  have hx := X.1
  have hb := X.2.1
  have hts := X.2.2.2.2.1
  have hown := X.2.2.2.1
  unfold P_X4_done at hp
  refine x_same (lo' := [(0, .ref a0), (1, .int x1)]) rfl ?_
  refine x_up (pc' := 1) (fun _ _ _ _ _ L => lv_aload_n hx hb dX4_done_0 rfl (lv_at L 0 rfl)) ?_
  refine x_up (pc' := 2) (fun _ _ _ _ _ L => lv_iconst (v := (0 : Int32)) hx hb dX4_done_1 (by decide)) ?_
  refine x_pi X (kX4 hG) 16 (by decide) q3282 (fun _ h => h) rfl rfl rfl dX4_done_2 hp (fun σ1 hp1 => ?_)
  refine x_pc (pc' := 5) rfl ?_
  refine x_up (pc' := 6) (fun _ _ _ _ _ L => lv_iload_n hx hb dX4_done_5 rfl (lv_at L 1 rfl)) ?_
  exact x_iret X hr rfl dX4_done_6 hp1
-- X4_reads
def P_X4_reads (κ : Nat → Nat) (a0 : Nat) (x1 : Int32) (σ : xS) (K : Int32 → xH → Prop) : Prop :=
  xcall (fun τ L => P_X4_isAddress κ x1 τ L) σ fun v1 σ2 => ((v1 = 0 → (xrc σ2 a0 10 ∧ xcall (fun τ L => P_X4_refused κ a0 (1 : Int32) x1 τ L) σ2 fun v3 σ4 => K v3 σ4.1)) ∧ (¬ v1 = 0 → (xrc σ2 a0 10 ∧ xcall (fun τ L => P_X4_accesses κ a0 (x1 / (4 : Int32)) τ L) σ2 fun v5 σ6 => ((v5 = (-1 : Int32) → (K (0 : Int32) σ6.1)) ∧ (¬ v5 = (-1 : Int32) → (xgq σ6 a0 10 0 fun v7 => xnn v7 fun b8 => xai .int σ6 b8 (283 : Int32) fun v9 => xsi κ .int σ6 b8 (283 : Int32) (v9 + (1 : Int32)) fun σ10 => xgq σ10 a0 10 0 fun v11 => xnn v11 fun b12 => xai .int σ10 b12 (((169 : Int32) + ((4 : Int32) * v5)) + (x1 - x1 / (4 : Int32) * (4 : Int32))) fun v13 => xrc σ10 a0 10 ∧ xcall (fun τ L => P_X4_done κ a0 v13 τ L) σ10 fun v14 σ15 => K v14 σ15.1))))))
theorem mdX4_reads : yX4_reads.cls ≠ "java/lang/invoke/MethodHandle" ∧ yX4_reads.cls ≠ "java/lang/invoke/VarHandle" ∧ (parseMethodDescriptor yX4_reads.desc).map (fun d => d.parameters.length) = some 1 := by decide +kernel
set_option maxHeartbeats 4000000 in
set_option maxRecDepth 100000 in
theorem R_X4_reads (l : Launch) (hl : l.stackTraces = false) (G : xG) (hG : G.1.2 = x_cl) (a0 : Nat) (x1 : Int32) (σ : xS) (K : Int32 → xH → Prop) (hp : P_X4_reads G.2 a0 x1 σ K) : xM l yX4_reads cX4_reads 3 (Option.some Jvm.ClassFile.FieldType.int) 4 95 G [(.ref a0), .int x1] σ (xlift emI K) := by
  refine x_entry (by decide) (Nat.le_of_ble_eq_true rfl) ?_
  intro p e s m args below meth c X hr hin
  have X : xX p s m args meth c G cX4_reads 3 RX4 := X
  have hx := X.1
  have hb := X.2.1
  have hts := X.2.2.2.2.1
  have hown := X.2.2.2.1
  unfold P_X4_reads at hp
  refine x_same (lo' := [(0, .ref a0), (1, .int x1)]) rfl ?_
  refine x_up (pc' := 1) (fun _ _ _ _ _ L => lv_iload_n hx hb dX4_reads_0 rfl (lv_at L 1 rfl)) ?_
  refine x_callS (em := emI) (fun r st => .int r :: st) (fun _ _ => rfl) 1 X (fun σ' KK h => R_X4_isAddress l hl G hG x1 σ' KK h) (lw_S q3347 q3348 q119 q3349) mdX4_isAddress ⟨Nat.le_of_ble_eq_true rfl, Nat.le_of_ble_eq_true rfl⟩ rfl rfl (Nat.le_of_ble_eq_true rfl) dX4_reads_1 hp (fun v1 σ2 hp1 => ?_)
  refine x_pc (pc' := 4) rfl ?_
  refine x_ifn (C := v1 = 0) (pt := 14) (pc' := 7) (fun _ _ _ _ _ => lv_if_ne (tgt := 14) hx hb dX4_reads_4 (by decide)) (fun c4 => ?_) (fun c4 => ?_)
  · have hp2 := hp1.1 c4
    refine x_up (pc' := 8) (fun _ _ _ _ _ L => lv_aload_n hx hb dX4_reads_7 rfl (lv_at L 0 rfl)) ?_
    refine x_up (pc' := 9) (fun _ _ _ _ _ L => lv_iconst (v := (1 : Int32)) hx hb dX4_reads_8 (by decide)) ?_
    refine x_up (pc' := 10) (fun _ _ _ _ _ L => lv_iload_n hx hb dX4_reads_9 rfl (lv_at L 1 rfl)) ?_
    refine x_callV (em := emI) (fun r st => .int r :: st) (fun _ _ => rfl) 2 X (kX4 hG) (fun σ' KK h => R_X4_refused l hl G hG a0 (1 : Int32) x1 σ' KK h) (lw_V q3353 q3355 qs58 q119 q3356) ⟨rfl, mdX4_refused⟩ ⟨Nat.le_of_ble_eq_true rfl, Nat.le_of_ble_eq_true rfl⟩ rfl rfl (Nat.le_of_ble_eq_true rfl) dX4_reads_10 hp2.1 hp2.2 (fun v3 σ4 hp3 => ?_)
    refine x_pc (pc' := 13) rfl ?_
    exact x_iret X hr rfl dX4_reads_13 hp3
  · have hp4 := hp1.2 c4
    refine x_up (pc' := 15) (fun _ _ _ _ _ L => lv_aload_n hx hb dX4_reads_14 rfl (lv_at L 0 rfl)) ?_
    refine x_up (pc' := 16) (fun _ _ _ _ _ L => lv_iload_n hx hb dX4_reads_15 rfl (lv_at L 1 rfl)) ?_
    refine x_up (pc' := 17) (fun _ _ _ _ _ L => lv_iconst (v := (4 : Int32)) hx hb dX4_reads_16 (by decide)) ?_
    refine x_up (pc' := 18) (fun _ _ _ _ _ L => lv_idiv hx hb dX4_reads_17 (by decide)) ?_
    refine x_callV (em := emI) (fun r st => .int r :: st) (fun _ _ => rfl) 1 X (kX4 hG) (fun σ' KK h => R_X4_accesses l hl G hG a0 (x1 / (4 : Int32)) σ' KK h) (lw_V q3361 q3363 qs60 q119 q3364) ⟨rfl, mdX4_accesses⟩ ⟨Nat.le_of_ble_eq_true rfl, Nat.le_of_ble_eq_true rfl⟩ rfl rfl (Nat.le_of_ble_eq_true rfl) dX4_reads_18 hp4.1 hp4.2 (fun v5 σ6 hp5 => ?_)
    refine x_pc (pc' := 21) rfl ?_
    refine x_upL (pc' := 22) (lo' := [(2, .int v5), (0, .ref a0), (1, .int x1)]) (fun _ _ _ _ _ L => lv_istore_n hx hb dX4_reads_21 rfl L (by decide) rfl) ?_
    refine x_up (pc' := 23) (fun _ _ _ _ _ L => lv_iload_n hx hb dX4_reads_22 rfl (lv_at L 0 rfl)) ?_
    refine x_up (pc' := 24) (fun _ _ _ _ _ L => lv_iconst (v := (-1 : Int32)) hx hb dX4_reads_23 (by decide)) ?_
    refine x_ifn (C := v5 = (-1 : Int32)) (pt := 29) (pc' := 27) (fun _ _ _ _ _ => lv_icmp_ne (tgt := 29) hx hb dX4_reads_24 (by decide)) (fun c24 => ?_) (fun c24 => ?_)
    · have hp6 := hp5.1 c24
      refine x_up (pc' := 28) (fun _ _ _ _ _ L => lv_iconst (v := (0 : Int32)) hx hb dX4_reads_27 (by decide)) ?_
      exact x_iret X hr rfl dX4_reads_28 hp6
    · have hp7 := hp5.2 c24
      refine x_up (pc' := 30) (fun _ _ _ _ _ L => lv_aload_n hx hb dX4_reads_29 rfl (lv_at L 1 rfl)) ?_
      refine x_gq X (kX4 hG) 0 (by decide) q3266 (fun _ h => h) dX4_reads_30 hp7 (fun v7 hp8 => ?_)
      refine x_pc (pc' := 33) rfl ?_
      refine x_up (pc' := 36) (fun _ _ _ _ _ L => lv_sipush (v := (283 : Int32)) hx hb dX4_reads_33 (by decide)) ?_
      refine x_up (pc' := 37) (fun _ _ _ _ _ L => lv_dup2_11 hx hb dX4_reads_36 rfl (x_catq _)) ?_
      obtain ⟨b8, rfl, hp9⟩ := hp8
      refine x_iald X dX4_reads_37 hp9 (fun v9 hp10 => ?_)
      refine x_pc (pc' := 38) rfl ?_
      refine x_up (pc' := 39) (fun _ _ _ _ _ L => lv_iconst (v := (1 : Int32)) hx hb dX4_reads_38 (by decide)) ?_
      refine x_up (pc' := 40) (fun _ _ _ _ _ L => lv_iadd hx hb dX4_reads_39) ?_
      refine x_iast X dX4_reads_40 hp10 (fun σ10 hp11 => ?_)
      refine x_pc (pc' := 41) rfl ?_
      refine x_up (pc' := 42) (fun _ _ _ _ _ L => lv_aload_n hx hb dX4_reads_41 rfl (lv_at L 1 rfl)) ?_
      refine x_up (pc' := 43) (fun _ _ _ _ _ L => lv_aload_n hx hb dX4_reads_42 rfl (lv_at L 1 rfl)) ?_
      refine x_gq X (kX4 hG) 0 (by decide) q3266 (fun _ h => h) dX4_reads_43 hp11 (fun v11 hp12 => ?_)
      refine x_pc (pc' := 46) rfl ?_
      refine x_up (pc' := 49) (fun _ _ _ _ _ L => lv_sipush (v := (169 : Int32)) hx hb dX4_reads_46 (by decide)) ?_
      refine x_up (pc' := 50) (fun _ _ _ _ _ L => lv_iconst (v := (4 : Int32)) hx hb dX4_reads_49 (by decide)) ?_
      refine x_up (pc' := 51) (fun _ _ _ _ _ L => lv_iload_n hx hb dX4_reads_50 rfl (lv_at L 0 rfl)) ?_
      refine x_up (pc' := 52) (fun _ _ _ _ _ L => lv_imul hx hb dX4_reads_51) ?_
      refine x_up (pc' := 53) (fun _ _ _ _ _ L => lv_iadd hx hb dX4_reads_52) ?_
      refine x_up (pc' := 54) (fun _ _ _ _ _ L => lv_iload_n hx hb dX4_reads_53 rfl (lv_at L 2 rfl)) ?_
      refine x_up (pc' := 55) (fun _ _ _ _ _ L => lv_iconst (v := (4 : Int32)) hx hb dX4_reads_54 (by decide)) ?_
      refine x_up (pc' := 56) (fun _ _ _ _ _ L => lv_irem hx hb dX4_reads_55 (by decide)) ?_
      refine x_up (pc' := 57) (fun _ _ _ _ _ L => lv_iadd hx hb dX4_reads_56) ?_
      obtain ⟨b12, rfl, hp13⟩ := hp12
      refine x_iald X dX4_reads_57 hp13 (fun v13 hp14 => ?_)
      refine x_pc (pc' := 58) rfl ?_
      refine x_callV (em := emI) (fun r st => .int r :: st) (fun _ _ => rfl) 1 X (kX4 hG) (fun σ' KK h => R_X4_done l hl G hG a0 v13 σ' KK h) (lw_V q3404 q3406 qs70 q119 q3407) ⟨rfl, mdX4_done⟩ ⟨Nat.le_of_ble_eq_true rfl, Nat.le_of_ble_eq_true rfl⟩ rfl rfl (Nat.le_of_ble_eq_true rfl) dX4_reads_58 hp14.1 hp14.2 (fun v14 σ15 hp15 => ?_)
      refine x_pc (pc' := 61) rfl ?_
      exact x_iret X hr rfl dX4_reads_61 hp15
-- X4_kept
def B_X4_kept_33 (κ : Nat → Nat) (kx34004 : Unit → xS → Prop) (f0 : Nat) (f1 : Int32) : (Int32 → xS → Prop) → Int32 → xS → Prop := fun self34003 w34001 σ34002 =>
  (((2499 : Int32) ≤ w34001 → (kx34004 () σ34002)) ∧ (¬ (2499 : Int32) ≤ w34001 → (xgq σ34002 f0 10 2 fun v34005 => xgq σ34002 f0 10 2 fun v34006 => xnn v34006 fun b34007 => xai .int σ34002 b34007 (w34001 + (357 : Int32)) fun v34008 => xnn v34005 fun b34009 => xsi κ .int σ34002 b34009 w34001 v34008 fun σ34010 => self34003 (w34001 + (1 : Int32)) σ34010)))
def P_X4_kept (κ : Nat → Nat) (a0 : Nat) (x1 : Int32) (σ : xS) (K : Int32 → xH → Prop) : Prop :=
  xgi σ a0 10 16 fun v1 => ((v1 = 0 → (xgi σ a0 10 3 fun v2 => ((v2 = (8 : Int32) → (xwhile (B_X4_kept_33 κ (fun e3 σ4 => xgi σ4 a0 10 3 fun v5 => xpi κ σ4 a0 10 3 (v5 - (1 : Int32)) fun σ6 => xgq σ6 a0 10 1 fun v7 => xgq σ6 a0 10 2 fun v8 => xgi σ6 a0 10 3 fun v9 => xcall (fun τ L => P_X4_copy κ v7 (0 : Int32) v8 (v9 * (357 : Int32)) τ L) σ6 fun _ σ10 => xgi σ10 a0 10 3 fun v11 => xpi κ σ10 a0 10 3 (v11 + (1 : Int32)) fun σ12 => K x1 σ12.1) a0 x1) (0 : Int32) σ)) ∧ (¬ v2 = (8 : Int32) → (xgq σ a0 10 1 fun v13 => xgq σ a0 10 2 fun v14 => xgi σ a0 10 3 fun v15 => xcall (fun τ L => P_X4_copy κ v13 (0 : Int32) v14 (v15 * (357 : Int32)) τ L) σ fun _ σ16 => xgi σ16 a0 10 3 fun v17 => xpi κ σ16 a0 10 3 (v17 + (1 : Int32)) fun σ18 => K x1 σ18.1))))) ∧ (¬ v1 = 0 → (xgq σ a0 10 1 fun v19 => xgq σ a0 10 0 fun v20 => xcall (fun τ L => P_X4_copy κ v19 (0 : Int32) v20 (0 : Int32) τ L) σ fun _ σ21 => K (0 : Int32) σ21.1)))
theorem mdX4_kept : yX4_kept.cls ≠ "java/lang/invoke/MethodHandle" ∧ yX4_kept.cls ≠ "java/lang/invoke/VarHandle" ∧ (parseMethodDescriptor yX4_kept.desc).map (fun d => d.parameters.length) = some 1 := by decide +kernel
set_option maxHeartbeats 4000000 in
set_option maxRecDepth 100000 in
theorem R_X4_kept (l : Launch) (hl : l.stackTraces = false) (G : xG) (hG : G.1.2 = x_cl) (a0 : Nat) (x1 : Int32) (σ : xS) (K : Int32 → xH → Prop) (hp : P_X4_kept G.2 a0 x1 σ K) : xM l yX4_kept cX4_kept 3 (Option.some Jvm.ClassFile.FieldType.int) 1 24 G [(.ref a0), .int x1] σ (xlift emI K) := by
  refine x_entry (by decide) (Nat.le_of_ble_eq_true rfl) ?_
  intro p e s m args below meth c X hr hin
  have X : xX p s m args meth c G cX4_kept 3 RX4 := X
  have hx := X.1
  have hb := X.2.1
  have hts := X.2.2.2.2.1
  have hown := X.2.2.2.1
  unfold P_X4_kept at hp
  refine x_same (lo' := [(0, .ref a0), (1, .int x1)]) rfl ?_
  refine x_up (pc' := 1) (fun _ _ _ _ _ L => lv_aload_n hx hb dX4_kept_0 rfl (lv_at L 0 rfl)) ?_
  refine x_gi X (kX4 hG) 16 (by decide) q3282 (fun _ h => h) dX4_kept_1 hp (fun v1 hp1 => ?_)
  refine x_pc (pc' := 4) rfl ?_
  refine x_if (C := v1 = 0) (pt := 22) (pc' := 7) (fun _ _ _ _ _ => lv_if_eq (tgt := 22) hx hb dX4_kept_4 (by decide)) (fun c4 => ?_) (fun c4 => ?_)
  · have hp2 := hp1.1 c4
    refine x_up (pc' := 23) (fun _ _ _ _ _ L => lv_aload_n hx hb dX4_kept_22 rfl (lv_at L 0 rfl)) ?_
    refine x_gi X (kX4 hG) 3 (by decide) q3269 (fun _ h => h) dX4_kept_23 hp2 (fun v2 hp3 => ?_)
    refine x_pc (pc' := 26) rfl ?_
    refine x_up (pc' := 28) (fun _ _ _ _ _ L => lv_bipush (v := (8 : Int32)) hx hb dX4_kept_26 (by decide)) ?_
    refine x_ifn (C := v2 = (8 : Int32)) (pt := 72) (pc' := 31) (fun _ _ _ _ _ => lv_icmp_ne (tgt := 72) hx hb dX4_kept_28 (by decide)) (fun c28 => ?_) (fun c28 => ?_)
    · have hp4 := hp3.1 c28
      refine x_up (pc' := 32) (fun _ _ _ _ _ L => lv_iconst (v := (0 : Int32)) hx hb dX4_kept_31 (by decide)) ?_
      refine x_upL (pc' := 33) (lo' := [(2, .int (0 : Int32)), (0, .ref a0), (1, .int x1)]) (fun _ _ _ _ _ L => lv_istore_n hx hb dX4_kept_32 rfl L (by decide) rfl) ?_
      refine x_lo (lo' := [(2, .int (0 : Int32)), (0, .ref a0), (1, .int x1)]) [0, 1, 2] rfl ?_
      refine x_while (v0 := (0 : Int32)) (fun w3 => [(2, .int w3), (0, .ref a0), (1, .int x1)]) hp4 (fun self4 hself5 => ?_)
      rintro y7 σ6 hp5
      unfold B_X4_kept_33 at hp5
      refine x_same (lo' := [(2, .int y7), (0, .ref a0), (1, .int x1)]) rfl ?_
      refine x_up (pc' := 34) (fun _ _ _ _ _ L => lv_iload_n hx hb dX4_kept_33 rfl (lv_at L 0 rfl)) ?_
      refine x_up (pc' := 37) (fun _ _ _ _ _ L => lv_sipush (v := (2499 : Int32)) hx hb dX4_kept_34 (by decide)) ?_
      refine x_if (C := (2499 : Int32) ≤ y7) (pt := 62) (pc' := 40) (fun _ _ _ _ _ => lv_icmp_ge (tgt := 62) hx hb dX4_kept_37 (by decide)) (fun c37 => ?_) (fun c37 => ?_)
      · have hp6 := hp5.1 c37
        refine x_up (pc' := 63) (fun _ _ _ _ _ L => lv_aload_n hx hb dX4_kept_62 rfl (lv_at L 1 rfl)) ?_
        refine x_up (pc' := 64) (fun _ _ _ _ _ L => lv_dup hx hb dX4_kept_63 rfl) ?_
        refine x_gi X (kX4 hG) 3 (by decide) q3269 (fun _ h => h) dX4_kept_64 hp6 (fun v8 hp7 => ?_)
        refine x_pc (pc' := 67) rfl ?_
        refine x_up (pc' := 68) (fun _ _ _ _ _ L => lv_iconst (v := (1 : Int32)) hx hb dX4_kept_67 (by decide)) ?_
        refine x_up (pc' := 69) (fun _ _ _ _ _ L => lv_isub hx hb dX4_kept_68) ?_
        refine x_pi X (kX4 hG) 3 (by decide) q3269 (fun _ h => h) rfl rfl rfl dX4_kept_69 hp7 (fun σ9 hp8 => ?_)
        refine x_pc (pc' := 72) rfl ?_
        refine x_up (pc' := 73) (fun _ _ _ _ _ L => lv_aload_n hx hb dX4_kept_72 rfl (lv_at L 1 rfl)) ?_
        refine x_gq X (kX4 hG) 1 (by decide) q3267 (fun _ h => h) dX4_kept_73 hp8 (fun v10 hp9 => ?_)
        refine x_pc (pc' := 76) rfl ?_
        refine x_up (pc' := 77) (fun _ _ _ _ _ L => lv_iconst (v := (0 : Int32)) hx hb dX4_kept_76 (by decide)) ?_
        refine x_up (pc' := 78) (fun _ _ _ _ _ L => lv_aload_n hx hb dX4_kept_77 rfl (lv_at L 1 rfl)) ?_
        refine x_gq X (kX4 hG) 2 (by decide) q3268 (fun _ h => h) dX4_kept_78 hp9 (fun v11 hp10 => ?_)
        refine x_pc (pc' := 81) rfl ?_
        refine x_up (pc' := 82) (fun _ _ _ _ _ L => lv_aload_n hx hb dX4_kept_81 rfl (lv_at L 1 rfl)) ?_
        refine x_gi X (kX4 hG) 3 (by decide) q3269 (fun _ h => h) dX4_kept_82 hp10 (fun v12 hp11 => ?_)
        refine x_pc (pc' := 85) rfl ?_
        refine x_up (pc' := 88) (fun _ _ _ _ _ L => lv_sipush (v := (357 : Int32)) hx hb dX4_kept_85 (by decide)) ?_
        refine x_up (pc' := 89) (fun _ _ _ _ _ L => lv_imul hx hb dX4_kept_88) ?_
        refine x_callS (em := emV) (fun r st => st) (fun _ _ => rfl) 4 X (fun σ' KK h => R_X4_copy l hl G hG v10 (0 : Int32) v11 (v12 * (357 : Int32)) σ' KK h) (lw_S q3340 q3341 q119 q3342) mdX4_copy ⟨Nat.le_of_ble_eq_true rfl, Nat.le_of_ble_eq_true rfl⟩ rfl rfl (Nat.le_of_ble_eq_true rfl) dX4_kept_89 hp11 (fun _ σ13 hp12 => ?_)
        refine x_pc (pc' := 92) rfl ?_
        refine x_up (pc' := 93) (fun _ _ _ _ _ L => lv_aload_n hx hb dX4_kept_92 rfl (lv_at L 1 rfl)) ?_
        refine x_up (pc' := 94) (fun _ _ _ _ _ L => lv_dup hx hb dX4_kept_93 rfl) ?_
        refine x_gi X (kX4 hG) 3 (by decide) q3269 (fun _ h => h) dX4_kept_94 hp12 (fun v14 hp13 => ?_)
        refine x_pc (pc' := 97) rfl ?_
        refine x_up (pc' := 98) (fun _ _ _ _ _ L => lv_iconst (v := (1 : Int32)) hx hb dX4_kept_97 (by decide)) ?_
        refine x_up (pc' := 99) (fun _ _ _ _ _ L => lv_iadd hx hb dX4_kept_98) ?_
        refine x_pi X (kX4 hG) 3 (by decide) q3269 (fun _ h => h) rfl rfl rfl dX4_kept_99 hp13 (fun σ15 hp14 => ?_)
        refine x_pc (pc' := 102) rfl ?_
        refine x_up (pc' := 103) (fun _ _ _ _ _ L => lv_iload_n hx hb dX4_kept_102 rfl (lv_at L 2 rfl)) ?_
        exact x_iret X hr rfl dX4_kept_103 hp14
      · have hp15 := hp5.2 c37
        refine x_up (pc' := 41) (fun _ _ _ _ _ L => lv_aload_n hx hb dX4_kept_40 rfl (lv_at L 1 rfl)) ?_
        refine x_gq X (kX4 hG) 2 (by decide) q3268 (fun _ h => h) dX4_kept_41 hp15 (fun v16 hp16 => ?_)
        refine x_pc (pc' := 44) rfl ?_
        refine x_up (pc' := 45) (fun _ _ _ _ _ L => lv_iload_n hx hb dX4_kept_44 rfl (lv_at L 0 rfl)) ?_
        refine x_up (pc' := 46) (fun _ _ _ _ _ L => lv_aload_n hx hb dX4_kept_45 rfl (lv_at L 1 rfl)) ?_
        refine x_gq X (kX4 hG) 2 (by decide) q3268 (fun _ h => h) dX4_kept_46 hp16 (fun v17 hp17 => ?_)
        refine x_pc (pc' := 49) rfl ?_
        refine x_up (pc' := 50) (fun _ _ _ _ _ L => lv_iload_n hx hb dX4_kept_49 rfl (lv_at L 0 rfl)) ?_
        refine x_up (pc' := 53) (fun _ _ _ _ _ L => lv_sipush (v := (357 : Int32)) hx hb dX4_kept_50 (by decide)) ?_
        refine x_up (pc' := 54) (fun _ _ _ _ _ L => lv_iadd hx hb dX4_kept_53) ?_
        obtain ⟨b18, rfl, hp18⟩ := hp17
        refine x_iald X dX4_kept_54 hp18 (fun v19 hp19 => ?_)
        refine x_pc (pc' := 55) rfl ?_
        obtain ⟨b20, rfl, hp20⟩ := hp19
        refine x_iast X dX4_kept_55 hp20 (fun σ21 hp21 => ?_)
        refine x_pc (pc' := 56) rfl ?_
        refine x_upL (pc' := 59) (lo' := [(2, .int (y7 + (1 : Int32))), (0, .ref a0), (1, .int x1)]) (fun _ _ _ _ _ L => lv_iinc (v := y7 + (1 : Int32)) hx hb dX4_kept_56 L (k := 0) rfl rfl (by decide) rfl) ?_
        refine x_up (pc' := 33) (fun _ _ _ _ _ L => lv_goto (tgt := 33) hx hb dX4_kept_59 (by decide)) ?_
        refine x_lo (lo' := [(2, .int (y7 + (1 : Int32))), (0, .ref a0), (1, .int x1)]) [0, 1, 2] rfl ?_
        exact hself5 (y7 + (1 : Int32)) σ21 hp21
    · have hp22 := hp3.2 c28
      refine x_up (pc' := 73) (fun _ _ _ _ _ L => lv_aload_n hx hb dX4_kept_72 rfl (lv_at L 0 rfl)) ?_
      refine x_gq X (kX4 hG) 1 (by decide) q3267 (fun _ h => h) dX4_kept_73 hp22 (fun v22 hp23 => ?_)
      refine x_pc (pc' := 76) rfl ?_
      refine x_up (pc' := 77) (fun _ _ _ _ _ L => lv_iconst (v := (0 : Int32)) hx hb dX4_kept_76 (by decide)) ?_
      refine x_up (pc' := 78) (fun _ _ _ _ _ L => lv_aload_n hx hb dX4_kept_77 rfl (lv_at L 0 rfl)) ?_
      refine x_gq X (kX4 hG) 2 (by decide) q3268 (fun _ h => h) dX4_kept_78 hp23 (fun v23 hp24 => ?_)
      refine x_pc (pc' := 81) rfl ?_
      refine x_up (pc' := 82) (fun _ _ _ _ _ L => lv_aload_n hx hb dX4_kept_81 rfl (lv_at L 0 rfl)) ?_
      refine x_gi X (kX4 hG) 3 (by decide) q3269 (fun _ h => h) dX4_kept_82 hp24 (fun v24 hp25 => ?_)
      refine x_pc (pc' := 85) rfl ?_
      refine x_up (pc' := 88) (fun _ _ _ _ _ L => lv_sipush (v := (357 : Int32)) hx hb dX4_kept_85 (by decide)) ?_
      refine x_up (pc' := 89) (fun _ _ _ _ _ L => lv_imul hx hb dX4_kept_88) ?_
      refine x_callS (em := emV) (fun r st => st) (fun _ _ => rfl) 4 X (fun σ' KK h => R_X4_copy l hl G hG v22 (0 : Int32) v23 (v24 * (357 : Int32)) σ' KK h) (lw_S q3340 q3341 q119 q3342) mdX4_copy ⟨Nat.le_of_ble_eq_true rfl, Nat.le_of_ble_eq_true rfl⟩ rfl rfl (Nat.le_of_ble_eq_true rfl) dX4_kept_89 hp25 (fun _ σ25 hp26 => ?_)
      refine x_pc (pc' := 92) rfl ?_
      refine x_up (pc' := 93) (fun _ _ _ _ _ L => lv_aload_n hx hb dX4_kept_92 rfl (lv_at L 0 rfl)) ?_
      refine x_up (pc' := 94) (fun _ _ _ _ _ L => lv_dup hx hb dX4_kept_93 rfl) ?_
      refine x_gi X (kX4 hG) 3 (by decide) q3269 (fun _ h => h) dX4_kept_94 hp26 (fun v26 hp27 => ?_)
      refine x_pc (pc' := 97) rfl ?_
      refine x_up (pc' := 98) (fun _ _ _ _ _ L => lv_iconst (v := (1 : Int32)) hx hb dX4_kept_97 (by decide)) ?_
      refine x_up (pc' := 99) (fun _ _ _ _ _ L => lv_iadd hx hb dX4_kept_98) ?_
      refine x_pi X (kX4 hG) 3 (by decide) q3269 (fun _ h => h) rfl rfl rfl dX4_kept_99 hp27 (fun σ27 hp28 => ?_)
      refine x_pc (pc' := 102) rfl ?_
      refine x_up (pc' := 103) (fun _ _ _ _ _ L => lv_iload_n hx hb dX4_kept_102 rfl (lv_at L 1 rfl)) ?_
      exact x_iret X hr rfl dX4_kept_103 hp28
  · have hp29 := hp1.2 c4
    refine x_up (pc' := 8) (fun _ _ _ _ _ L => lv_aload_n hx hb dX4_kept_7 rfl (lv_at L 0 rfl)) ?_
    refine x_gq X (kX4 hG) 1 (by decide) q3267 (fun _ h => h) dX4_kept_8 hp29 (fun v28 hp30 => ?_)
    refine x_pc (pc' := 11) rfl ?_
    refine x_up (pc' := 12) (fun _ _ _ _ _ L => lv_iconst (v := (0 : Int32)) hx hb dX4_kept_11 (by decide)) ?_
    refine x_up (pc' := 13) (fun _ _ _ _ _ L => lv_aload_n hx hb dX4_kept_12 rfl (lv_at L 0 rfl)) ?_
    refine x_gq X (kX4 hG) 0 (by decide) q3266 (fun _ h => h) dX4_kept_13 hp30 (fun v29 hp31 => ?_)
    refine x_pc (pc' := 16) rfl ?_
    refine x_up (pc' := 17) (fun _ _ _ _ _ L => lv_iconst (v := (0 : Int32)) hx hb dX4_kept_16 (by decide)) ?_
    refine x_callS (em := emV) (fun r st => st) (fun _ _ => rfl) 4 X (fun σ' KK h => R_X4_copy l hl G hG v28 (0 : Int32) v29 (0 : Int32) σ' KK h) (lw_S q3340 q3341 q119 q3342) mdX4_copy ⟨Nat.le_of_ble_eq_true rfl, Nat.le_of_ble_eq_true rfl⟩ rfl rfl (Nat.le_of_ble_eq_true rfl) dX4_kept_17 hp31 (fun _ σ30 hp32 => ?_)
    refine x_pc (pc' := 20) rfl ?_
    refine x_up (pc' := 21) (fun _ _ _ _ _ L => lv_iconst (v := (0 : Int32)) hx hb dX4_kept_20 (by decide)) ?_
    exact x_iret X hr rfl dX4_kept_21 hp32
-- X4_read
def P_X4_read (κ : Nat → Nat) (a0 : Nat) (x1 : Int32) (σ : xS) (K : Int32 → xH → Prop) : Prop :=
  xrc σ a0 10 ∧ xcall (fun τ L => P_X4_looksBack κ a0 τ L) σ fun _ σ1 => xrc σ1 a0 10 ∧ xcall (fun τ L => P_X4_reads κ a0 x1 τ L) σ1 fun v2 σ3 => xrc σ3 a0 10 ∧ xcall (fun τ L => P_X4_kept κ a0 v2 τ L) σ3 fun v4 σ5 => K v4 σ5.1
theorem mdX4_read : yX4_read.cls ≠ "java/lang/invoke/MethodHandle" ∧ yX4_read.cls ≠ "java/lang/invoke/VarHandle" ∧ (parseMethodDescriptor yX4_read.desc).map (fun d => d.parameters.length) = some 1 := by decide +kernel
set_option maxHeartbeats 4000000 in
set_option maxRecDepth 100000 in
theorem R_X4_read (l : Launch) (hl : l.stackTraces = false) (G : xG) (hG : G.1.2 = x_cl) (a0 : Nat) (x1 : Int32) (σ : xS) (K : Int32 → xH → Prop) (hp : P_X4_read G.2 a0 x1 σ K) : xM l yX4_read cX4_read 2 (Option.some Jvm.ClassFile.FieldType.int) 5 117 G [(.ref a0), .int x1] σ (xlift emI K) := by
  refine x_entry (by decide) (Nat.le_of_ble_eq_true rfl) ?_
  intro p e s m args below meth c X hr hin
  have X : xX p s m args meth c G cX4_read 2 RX4 := X
  have hx := X.1
  have hb := X.2.1
  have hts := X.2.2.2.2.1
  have hown := X.2.2.2.1
  unfold P_X4_read at hp
  refine x_same (lo' := [(0, .ref a0), (1, .int x1)]) rfl ?_
  refine x_up (pc' := 1) (fun _ _ _ _ _ L => lv_aload_n hx hb dX4_read_0 rfl (lv_at L 0 rfl)) ?_
  refine x_callV (em := emV) (fun r st => st) (fun _ _ => rfl) 0 X (kX4 hG) (fun σ' KK h => R_X4_looksBack l hl G hG a0 σ' KK h) (lw_V q3336 q3338 qs56 q119 q3339) ⟨rfl, mdX4_looksBack⟩ ⟨Nat.le_of_ble_eq_true rfl, Nat.le_of_ble_eq_true rfl⟩ rfl rfl (Nat.le_of_ble_eq_true rfl) dX4_read_1 hp.1 hp.2 (fun _ σ1 hp1 => ?_)
  refine x_pc (pc' := 4) rfl ?_
  refine x_up (pc' := 5) (fun _ _ _ _ _ L => lv_aload_n hx hb dX4_read_4 rfl (lv_at L 0 rfl)) ?_
  refine x_up (pc' := 6) (fun _ _ _ _ _ L => lv_aload_n hx hb dX4_read_5 rfl (lv_at L 0 rfl)) ?_
  refine x_up (pc' := 7) (fun _ _ _ _ _ L => lv_iload_n hx hb dX4_read_6 rfl (lv_at L 1 rfl)) ?_
  refine x_callV (em := emI) (fun r st => .int r :: st) (fun _ _ => rfl) 1 X (kX4 hG) (fun σ' KK h => R_X4_reads l hl G hG a0 x1 σ' KK h) (lw_V q3343 q3345 qs57 q119 q3346) ⟨rfl, mdX4_reads⟩ ⟨Nat.le_of_ble_eq_true rfl, Nat.le_of_ble_eq_true rfl⟩ rfl rfl (Nat.le_of_ble_eq_true rfl) dX4_read_7 hp1.1 hp1.2 (fun v2 σ3 hp2 => ?_)
  refine x_pc (pc' := 10) rfl ?_
  refine x_callV (em := emI) (fun r st => .int r :: st) (fun _ _ => rfl) 1 X (kX4 hG) (fun σ' KK h => R_X4_kept l hl G hG a0 v2 σ' KK h) (lw_V q3408 q3410 qs71 q119 q3411) ⟨rfl, mdX4_kept⟩ ⟨Nat.le_of_ble_eq_true rfl, Nat.le_of_ble_eq_true rfl⟩ rfl rfl (Nat.le_of_ble_eq_true rfl) dX4_read_10 hp2.1 hp2.2 (fun v4 σ5 hp3 => ?_)
  refine x_pc (pc' := 13) rfl ?_
  exact x_iret X hr rfl dX4_read_13 hp3
-- X4_writes
def P_X4_writes (κ : Nat → Nat) (a0 : Nat) (x1 : Int32) (x2 : Int32) (σ : xS) (K : Int32 → xH → Prop) : Prop :=
  xcall (fun τ L => P_X4_isAddress κ x1 τ L) σ fun v1 σ2 => ((v1 = 0 → (xrc σ2 a0 10 ∧ xcall (fun τ L => P_X4_refused κ a0 (1 : Int32) x1 τ L) σ2 fun v3 σ4 => K v3 σ4.1)) ∧ (¬ v1 = 0 → (xcall (fun τ L => P_X4_in κ x2 (-999 : Int32) (999 : Int32) τ L) σ2 fun v5 σ6 => ((v5 = 0 → (xrc σ6 a0 10 ∧ xcall (fun τ L => P_X4_refused κ a0 (1 : Int32) x2 τ L) σ6 fun v7 σ8 => K v7 σ8.1)) ∧ (¬ v5 = 0 → (xgq σ6 a0 10 0 fun v9 => xnn v9 fun b10 => xai .int σ6 b10 (0 : Int32) fun v11 => xrc σ6 a0 10 ∧ xcall (fun τ L => P_X4_accesses κ a0 (x1 / (4 : Int32)) τ L) σ6 fun v12 σ13 => ((v12 = (-1 : Int32) → (K (0 : Int32) σ13.1)) ∧ (¬ v12 = (-1 : Int32) → (xgq σ13 a0 10 0 fun v14 => xnn v14 fun b15 => xai .int σ13 b15 (284 : Int32) fun v16 => xsi κ .int σ13 b15 (284 : Int32) (v16 + (1 : Int32)) fun σ17 => xgq σ17 a0 10 0 fun v18 => xnn v18 fun b19 => xsi κ .int σ17 b19 (((169 : Int32) + ((4 : Int32) * v12)) + (x1 - x1 / (4 : Int32) * (4 : Int32))) x2 fun σ20 => xgq σ20 a0 10 0 fun v21 => xnn v21 fun b22 => xsi κ .int σ20 b22 ((293 : Int32) + x1) x2 fun σ23 => xgq σ23 a0 10 0 fun v24 => xnn v24 fun b25 => xai .int σ23 b25 (4 : Int32) fun v26 => ((v26 = (1 : Int32) → (xrc σ23 a0 10 ∧ xcall (fun τ L => P_X4_uses κ a0 (x1 / (4 : Int32)) (1 : Int32) τ L) σ23 fun _ σ27 => xgq σ27 a0 10 0 fun v28 => xnn v28 fun b29 => xsi κ .int σ27 b29 ((5 : Int32) + x1) x2 fun σ30 => xgq σ30 a0 10 0 fun v31 => xnn v31 fun b32 => xai .int σ30 b32 ((89 : Int32) + v12) fun v33 => xsi κ .int σ30 b32 ((89 : Int32) + v12) (v33 &&& (((1 : Int32) <<< ((x1 - x1 / (4 : Int32) * (4 : Int32)) &&& 31)) ^^^ (-1 : Int32))) fun σ34 => xgq σ34 a0 10 0 fun v35 => xnn v35 fun b36 => xai .int σ34 b36 (290 : Int32) fun v37 => xsi κ .int σ34 b36 (290 : Int32) (v37 + (1 : Int32)) fun σ38 => xgq σ38 a0 10 0 fun v39 => xnn v39 fun b40 => xai .int σ38 b40 (0 : Int32) fun v41 => xrc σ38 a0 10 ∧ xcall (fun τ L => P_X4_done κ a0 (v41 - v11) τ L) σ38 fun v42 σ43 => K v42 σ43.1)) ∧ (¬ v26 = (1 : Int32) → (xgq σ23 a0 10 0 fun v44 => xnn v44 fun b45 => xai .int σ23 b45 ((89 : Int32) + v12) fun v46 => xsi κ .int σ23 b45 ((89 : Int32) + v12) (v46 ||| ((1 : Int32) <<< ((x1 - x1 / (4 : Int32) * (4 : Int32)) &&& 31))) fun σ47 => xgq σ47 a0 10 0 fun v48 => xnn v48 fun b49 => xai .int σ47 b49 (0 : Int32) fun v50 => xrc σ47 a0 10 ∧ xcall (fun τ L => P_X4_done κ a0 (v50 - v11) τ L) σ47 fun v51 σ52 => K v51 σ52.1))))))))))))
theorem mdX4_writes : yX4_writes.cls ≠ "java/lang/invoke/MethodHandle" ∧ yX4_writes.cls ≠ "java/lang/invoke/VarHandle" ∧ (parseMethodDescriptor yX4_writes.desc).map (fun d => d.parameters.length) = some 2 := by decide +kernel
set_option maxHeartbeats 4000000 in
set_option maxRecDepth 100000 in
theorem R_X4_writes (l : Launch) (hl : l.stackTraces = false) (G : xG) (hG : G.1.2 = x_cl) (a0 : Nat) (x1 : Int32) (x2 : Int32) (σ : xS) (K : Int32 → xH → Prop) (hp : P_X4_writes G.2 a0 x1 x2 σ K) : xM l yX4_writes cX4_writes 5 (Option.some Jvm.ClassFile.FieldType.int) 4 95 G [(.ref a0), .int x1, .int x2] σ (xlift emI K) := by
  refine x_entry (by decide) (Nat.le_of_ble_eq_true rfl) ?_
  intro p e s m args below meth c X hr hin
  have X : xX p s m args meth c G cX4_writes 5 RX4 := X
  have hx := X.1
  have hb := X.2.1
  have hts := X.2.2.2.2.1
  have hown := X.2.2.2.1
  unfold P_X4_writes at hp
  refine x_same (lo' := [(0, .ref a0), (1, .int x1), (2, .int x2)]) rfl ?_
  refine x_up (pc' := 1) (fun _ _ _ _ _ L => lv_iload_n hx hb dX4_writes_0 rfl (lv_at L 1 rfl)) ?_
  refine x_callS (em := emI) (fun r st => .int r :: st) (fun _ _ => rfl) 1 X (fun σ' KK h => R_X4_isAddress l hl G hG x1 σ' KK h) (lw_S q3347 q3348 q119 q3349) mdX4_isAddress ⟨Nat.le_of_ble_eq_true rfl, Nat.le_of_ble_eq_true rfl⟩ rfl rfl (Nat.le_of_ble_eq_true rfl) dX4_writes_1 hp (fun v1 σ2 hp1 => ?_)
  refine x_pc (pc' := 4) rfl ?_
  refine x_ifn (C := v1 = 0) (pt := 14) (pc' := 7) (fun _ _ _ _ _ => lv_if_ne (tgt := 14) hx hb dX4_writes_4 (by decide)) (fun c4 => ?_) (fun c4 => ?_)
  · have hp2 := hp1.1 c4
    refine x_up (pc' := 8) (fun _ _ _ _ _ L => lv_aload_n hx hb dX4_writes_7 rfl (lv_at L 0 rfl)) ?_
    refine x_up (pc' := 9) (fun _ _ _ _ _ L => lv_iconst (v := (1 : Int32)) hx hb dX4_writes_8 (by decide)) ?_
    refine x_up (pc' := 10) (fun _ _ _ _ _ L => lv_iload_n hx hb dX4_writes_9 rfl (lv_at L 1 rfl)) ?_
    refine x_callV (em := emI) (fun r st => .int r :: st) (fun _ _ => rfl) 2 X (kX4 hG) (fun σ' KK h => R_X4_refused l hl G hG a0 (1 : Int32) x1 σ' KK h) (lw_V q3353 q3355 qs58 q119 q3356) ⟨rfl, mdX4_refused⟩ ⟨Nat.le_of_ble_eq_true rfl, Nat.le_of_ble_eq_true rfl⟩ rfl rfl (Nat.le_of_ble_eq_true rfl) dX4_writes_10 hp2.1 hp2.2 (fun v3 σ4 hp3 => ?_)
    refine x_pc (pc' := 13) rfl ?_
    exact x_iret X hr rfl dX4_writes_13 hp3
  · have hp4 := hp1.2 c4
    refine x_up (pc' := 15) (fun _ _ _ _ _ L => lv_iload_n hx hb dX4_writes_14 rfl (lv_at L 2 rfl)) ?_
    refine x_up (pc' := 18) (fun _ _ _ _ _ L => lv_sipush (v := (-999 : Int32)) hx hb dX4_writes_15 (by decide)) ?_
    refine x_up (pc' := 21) (fun _ _ _ _ _ L => lv_sipush (v := (999 : Int32)) hx hb dX4_writes_18 (by decide)) ?_
    refine x_callS (em := emI) (fun r st => .int r :: st) (fun _ _ => rfl) 3 X (fun σ' KK h => R_X4_in l hl G hG x2 (-999 : Int32) (999 : Int32) σ' KK h) (lw_S q3350 q3351 q119 q3352) mdX4_in ⟨Nat.le_of_ble_eq_true rfl, Nat.le_of_ble_eq_true rfl⟩ rfl rfl (Nat.le_of_ble_eq_true rfl) dX4_writes_21 hp4 (fun v5 σ6 hp5 => ?_)
    refine x_pc (pc' := 24) rfl ?_
    refine x_ifn (C := v5 = 0) (pt := 34) (pc' := 27) (fun _ _ _ _ _ => lv_if_ne (tgt := 34) hx hb dX4_writes_24 (by decide)) (fun c24 => ?_) (fun c24 => ?_)
    · have hp6 := hp5.1 c24
      refine x_up (pc' := 28) (fun _ _ _ _ _ L => lv_aload_n hx hb dX4_writes_27 rfl (lv_at L 0 rfl)) ?_
      refine x_up (pc' := 29) (fun _ _ _ _ _ L => lv_iconst (v := (1 : Int32)) hx hb dX4_writes_28 (by decide)) ?_
      refine x_up (pc' := 30) (fun _ _ _ _ _ L => lv_iload_n hx hb dX4_writes_29 rfl (lv_at L 2 rfl)) ?_
      refine x_callV (em := emI) (fun r st => .int r :: st) (fun _ _ => rfl) 2 X (kX4 hG) (fun σ' KK h => R_X4_refused l hl G hG a0 (1 : Int32) x2 σ' KK h) (lw_V q3353 q3355 qs58 q119 q3356) ⟨rfl, mdX4_refused⟩ ⟨Nat.le_of_ble_eq_true rfl, Nat.le_of_ble_eq_true rfl⟩ rfl rfl (Nat.le_of_ble_eq_true rfl) dX4_writes_30 hp6.1 hp6.2 (fun v7 σ8 hp7 => ?_)
      refine x_pc (pc' := 33) rfl ?_
      exact x_iret X hr rfl dX4_writes_33 hp7
    · have hp8 := hp5.2 c24
      refine x_up (pc' := 35) (fun _ _ _ _ _ L => lv_aload_n hx hb dX4_writes_34 rfl (lv_at L 0 rfl)) ?_
      refine x_gq X (kX4 hG) 0 (by decide) q3266 (fun _ h => h) dX4_writes_35 hp8 (fun v9 hp9 => ?_)
      refine x_pc (pc' := 38) rfl ?_
      refine x_up (pc' := 39) (fun _ _ _ _ _ L => lv_iconst (v := (0 : Int32)) hx hb dX4_writes_38 (by decide)) ?_
      obtain ⟨b10, rfl, hp10⟩ := hp9
      refine x_iald X dX4_writes_39 hp10 (fun v11 hp11 => ?_)
      refine x_pc (pc' := 40) rfl ?_
      refine x_upL (pc' := 41) (lo' := [(3, .int v11), (0, .ref a0), (1, .int x1), (2, .int x2)]) (fun _ _ _ _ _ L => lv_istore_n hx hb dX4_writes_40 rfl L (by decide) rfl) ?_
      refine x_up (pc' := 42) (fun _ _ _ _ _ L => lv_aload_n hx hb dX4_writes_41 rfl (lv_at L 1 rfl)) ?_
      refine x_up (pc' := 43) (fun _ _ _ _ _ L => lv_iload_n hx hb dX4_writes_42 rfl (lv_at L 2 rfl)) ?_
      refine x_up (pc' := 44) (fun _ _ _ _ _ L => lv_iconst (v := (4 : Int32)) hx hb dX4_writes_43 (by decide)) ?_
      refine x_up (pc' := 45) (fun _ _ _ _ _ L => lv_idiv hx hb dX4_writes_44 (by decide)) ?_
      refine x_callV (em := emI) (fun r st => .int r :: st) (fun _ _ => rfl) 1 X (kX4 hG) (fun σ' KK h => R_X4_accesses l hl G hG a0 (x1 / (4 : Int32)) σ' KK h) (lw_V q3361 q3363 qs60 q119 q3364) ⟨rfl, mdX4_accesses⟩ ⟨Nat.le_of_ble_eq_true rfl, Nat.le_of_ble_eq_true rfl⟩ rfl rfl (Nat.le_of_ble_eq_true rfl) dX4_writes_45 hp11.1 hp11.2 (fun v12 σ13 hp12 => ?_)
      refine x_pc (pc' := 48) rfl ?_
      refine x_upL (pc' := 50) (lo' := [(4, .int v12), (3, .int v11), (0, .ref a0), (1, .int x1), (2, .int x2)]) (fun _ _ _ _ _ L => lv_istore hx hb dX4_writes_48 L (by decide) rfl) ?_
      refine x_up (pc' := 52) (fun _ _ _ _ _ L => lv_iload hx hb dX4_writes_50 (lv_at L 0 rfl)) ?_
      refine x_up (pc' := 53) (fun _ _ _ _ _ L => lv_iconst (v := (-1 : Int32)) hx hb dX4_writes_52 (by decide)) ?_
      refine x_ifn (C := v12 = (-1 : Int32)) (pt := 58) (pc' := 56) (fun _ _ _ _ _ => lv_icmp_ne (tgt := 58) hx hb dX4_writes_53 (by decide)) (fun c53 => ?_) (fun c53 => ?_)
      · have hp13 := hp12.1 c53
        refine x_up (pc' := 57) (fun _ _ _ _ _ L => lv_iconst (v := (0 : Int32)) hx hb dX4_writes_56 (by decide)) ?_
        exact x_iret X hr rfl dX4_writes_57 hp13
      · have hp14 := hp12.2 c53
        refine x_up (pc' := 59) (fun _ _ _ _ _ L => lv_aload_n hx hb dX4_writes_58 rfl (lv_at L 2 rfl)) ?_
        refine x_gq X (kX4 hG) 0 (by decide) q3266 (fun _ h => h) dX4_writes_59 hp14 (fun v14 hp15 => ?_)
        refine x_pc (pc' := 62) rfl ?_
        refine x_up (pc' := 65) (fun _ _ _ _ _ L => lv_sipush (v := (284 : Int32)) hx hb dX4_writes_62 (by decide)) ?_
        refine x_up (pc' := 66) (fun _ _ _ _ _ L => lv_dup2_11 hx hb dX4_writes_65 rfl (x_catq _)) ?_
        obtain ⟨b15, rfl, hp16⟩ := hp15
        refine x_iald X dX4_writes_66 hp16 (fun v16 hp17 => ?_)
        refine x_pc (pc' := 67) rfl ?_
        refine x_up (pc' := 68) (fun _ _ _ _ _ L => lv_iconst (v := (1 : Int32)) hx hb dX4_writes_67 (by decide)) ?_
        refine x_up (pc' := 69) (fun _ _ _ _ _ L => lv_iadd hx hb dX4_writes_68) ?_
        refine x_iast X dX4_writes_69 hp17 (fun σ17 hp18 => ?_)
        refine x_pc (pc' := 70) rfl ?_
        refine x_up (pc' := 71) (fun _ _ _ _ _ L => lv_aload_n hx hb dX4_writes_70 rfl (lv_at L 2 rfl)) ?_
        refine x_gq X (kX4 hG) 0 (by decide) q3266 (fun _ h => h) dX4_writes_71 hp18 (fun v18 hp19 => ?_)
        refine x_pc (pc' := 74) rfl ?_
        refine x_up (pc' := 77) (fun _ _ _ _ _ L => lv_sipush (v := (169 : Int32)) hx hb dX4_writes_74 (by decide)) ?_
        refine x_up (pc' := 78) (fun _ _ _ _ _ L => lv_iconst (v := (4 : Int32)) hx hb dX4_writes_77 (by decide)) ?_
        refine x_up (pc' := 80) (fun _ _ _ _ _ L => lv_iload hx hb dX4_writes_78 (lv_at L 0 rfl)) ?_
        refine x_up (pc' := 81) (fun _ _ _ _ _ L => lv_imul hx hb dX4_writes_80) ?_
        refine x_up (pc' := 82) (fun _ _ _ _ _ L => lv_iadd hx hb dX4_writes_81) ?_
        refine x_up (pc' := 83) (fun _ _ _ _ _ L => lv_iload_n hx hb dX4_writes_82 rfl (lv_at L 3 rfl)) ?_
        refine x_up (pc' := 84) (fun _ _ _ _ _ L => lv_iconst (v := (4 : Int32)) hx hb dX4_writes_83 (by decide)) ?_
        refine x_up (pc' := 85) (fun _ _ _ _ _ L => lv_irem hx hb dX4_writes_84 (by decide)) ?_
        refine x_up (pc' := 86) (fun _ _ _ _ _ L => lv_iadd hx hb dX4_writes_85) ?_
        refine x_up (pc' := 87) (fun _ _ _ _ _ L => lv_iload_n hx hb dX4_writes_86 rfl (lv_at L 4 rfl)) ?_
        obtain ⟨b19, rfl, hp20⟩ := hp19
        refine x_iast X dX4_writes_87 hp20 (fun σ20 hp21 => ?_)
        refine x_pc (pc' := 88) rfl ?_
        refine x_up (pc' := 89) (fun _ _ _ _ _ L => lv_aload_n hx hb dX4_writes_88 rfl (lv_at L 2 rfl)) ?_
        refine x_gq X (kX4 hG) 0 (by decide) q3266 (fun _ h => h) dX4_writes_89 hp21 (fun v21 hp22 => ?_)
        refine x_pc (pc' := 92) rfl ?_
        refine x_up (pc' := 95) (fun _ _ _ _ _ L => lv_sipush (v := (293 : Int32)) hx hb dX4_writes_92 (by decide)) ?_
        refine x_up (pc' := 96) (fun _ _ _ _ _ L => lv_iload_n hx hb dX4_writes_95 rfl (lv_at L 3 rfl)) ?_
        refine x_up (pc' := 97) (fun _ _ _ _ _ L => lv_iadd hx hb dX4_writes_96) ?_
        refine x_up (pc' := 98) (fun _ _ _ _ _ L => lv_iload_n hx hb dX4_writes_97 rfl (lv_at L 4 rfl)) ?_
        obtain ⟨b22, rfl, hp23⟩ := hp22
        refine x_iast X dX4_writes_98 hp23 (fun σ23 hp24 => ?_)
        refine x_pc (pc' := 99) rfl ?_
        refine x_up (pc' := 100) (fun _ _ _ _ _ L => lv_aload_n hx hb dX4_writes_99 rfl (lv_at L 2 rfl)) ?_
        refine x_gq X (kX4 hG) 0 (by decide) q3266 (fun _ h => h) dX4_writes_100 hp24 (fun v24 hp25 => ?_)
        refine x_pc (pc' := 103) rfl ?_
        refine x_up (pc' := 104) (fun _ _ _ _ _ L => lv_iconst (v := (4 : Int32)) hx hb dX4_writes_103 (by decide)) ?_
        obtain ⟨b25, rfl, hp26⟩ := hp25
        refine x_iald X dX4_writes_104 hp26 (fun v26 hp27 => ?_)
        refine x_pc (pc' := 105) rfl ?_
        refine x_up (pc' := 106) (fun _ _ _ _ _ L => lv_iconst (v := (1 : Int32)) hx hb dX4_writes_105 (by decide)) ?_
        refine x_ifn (C := v26 = (1 : Int32)) (pt := 161) (pc' := 109) (fun _ _ _ _ _ => lv_icmp_ne (tgt := 161) hx hb dX4_writes_106 (by decide)) (fun c106 => ?_) (fun c106 => ?_)
        · have hp28 := hp27.1 c106
          refine x_up (pc' := 110) (fun _ _ _ _ _ L => lv_aload_n hx hb dX4_writes_109 rfl (lv_at L 2 rfl)) ?_
          refine x_up (pc' := 111) (fun _ _ _ _ _ L => lv_iload_n hx hb dX4_writes_110 rfl (lv_at L 3 rfl)) ?_
          refine x_up (pc' := 112) (fun _ _ _ _ _ L => lv_iconst (v := (4 : Int32)) hx hb dX4_writes_111 (by decide)) ?_
          refine x_up (pc' := 113) (fun _ _ _ _ _ L => lv_idiv hx hb dX4_writes_112 (by decide)) ?_
          refine x_up (pc' := 114) (fun _ _ _ _ _ L => lv_iconst (v := (1 : Int32)) hx hb dX4_writes_113 (by decide)) ?_
          refine x_callV (em := emV) (fun r st => st) (fun _ _ => rfl) 2 X (kX4 hG) (fun σ' KK h => R_X4_uses l hl G hG a0 (x1 / (4 : Int32)) (1 : Int32) σ' KK h) (lw_V q3396 q3398 qs68 q119 q3399) ⟨rfl, mdX4_uses⟩ ⟨Nat.le_of_ble_eq_true rfl, Nat.le_of_ble_eq_true rfl⟩ rfl rfl (Nat.le_of_ble_eq_true rfl) dX4_writes_114 hp28.1 hp28.2 (fun _ σ27 hp29 => ?_)
          refine x_pc (pc' := 117) rfl ?_
          refine x_up (pc' := 118) (fun _ _ _ _ _ L => lv_aload_n hx hb dX4_writes_117 rfl (lv_at L 2 rfl)) ?_
          refine x_gq X (kX4 hG) 0 (by decide) q3266 (fun _ h => h) dX4_writes_118 hp29 (fun v28 hp30 => ?_)
          refine x_pc (pc' := 121) rfl ?_
          refine x_up (pc' := 122) (fun _ _ _ _ _ L => lv_iconst (v := (5 : Int32)) hx hb dX4_writes_121 (by decide)) ?_
          refine x_up (pc' := 123) (fun _ _ _ _ _ L => lv_iload_n hx hb dX4_writes_122 rfl (lv_at L 3 rfl)) ?_
          refine x_up (pc' := 124) (fun _ _ _ _ _ L => lv_iadd hx hb dX4_writes_123) ?_
          refine x_up (pc' := 125) (fun _ _ _ _ _ L => lv_iload_n hx hb dX4_writes_124 rfl (lv_at L 4 rfl)) ?_
          obtain ⟨b29, rfl, hp31⟩ := hp30
          refine x_iast X dX4_writes_125 hp31 (fun σ30 hp32 => ?_)
          refine x_pc (pc' := 126) rfl ?_
          refine x_up (pc' := 127) (fun _ _ _ _ _ L => lv_aload_n hx hb dX4_writes_126 rfl (lv_at L 2 rfl)) ?_
          refine x_gq X (kX4 hG) 0 (by decide) q3266 (fun _ h => h) dX4_writes_127 hp32 (fun v31 hp33 => ?_)
          refine x_pc (pc' := 130) rfl ?_
          refine x_up (pc' := 132) (fun _ _ _ _ _ L => lv_bipush (v := (89 : Int32)) hx hb dX4_writes_130 (by decide)) ?_
          refine x_up (pc' := 134) (fun _ _ _ _ _ L => lv_iload hx hb dX4_writes_132 (lv_at L 0 rfl)) ?_
          refine x_up (pc' := 135) (fun _ _ _ _ _ L => lv_iadd hx hb dX4_writes_134) ?_
          refine x_up (pc' := 136) (fun _ _ _ _ _ L => lv_dup2_11 hx hb dX4_writes_135 rfl (x_catq _)) ?_
          obtain ⟨b32, rfl, hp34⟩ := hp33
          refine x_iald X dX4_writes_136 hp34 (fun v33 hp35 => ?_)
          refine x_pc (pc' := 137) rfl ?_
          refine x_up (pc' := 138) (fun _ _ _ _ _ L => lv_iconst (v := (1 : Int32)) hx hb dX4_writes_137 (by decide)) ?_
          refine x_up (pc' := 139) (fun _ _ _ _ _ L => lv_iload_n hx hb dX4_writes_138 rfl (lv_at L 3 rfl)) ?_
          refine x_up (pc' := 140) (fun _ _ _ _ _ L => lv_iconst (v := (4 : Int32)) hx hb dX4_writes_139 (by decide)) ?_
          refine x_up (pc' := 141) (fun _ _ _ _ _ L => lv_irem hx hb dX4_writes_140 (by decide)) ?_
          refine x_up (pc' := 142) (fun _ _ _ _ _ L => lv_ishl hx hb dX4_writes_141) ?_
          refine x_up (pc' := 143) (fun _ _ _ _ _ L => lv_iconst (v := (-1 : Int32)) hx hb dX4_writes_142 (by decide)) ?_
          refine x_up (pc' := 144) (fun _ _ _ _ _ L => lv_ixor hx hb dX4_writes_143) ?_
          refine x_up (pc' := 145) (fun _ _ _ _ _ L => lv_iand hx hb dX4_writes_144) ?_
          refine x_iast X dX4_writes_145 hp35 (fun σ34 hp36 => ?_)
          refine x_pc (pc' := 146) rfl ?_
          refine x_up (pc' := 147) (fun _ _ _ _ _ L => lv_aload_n hx hb dX4_writes_146 rfl (lv_at L 2 rfl)) ?_
          refine x_gq X (kX4 hG) 0 (by decide) q3266 (fun _ h => h) dX4_writes_147 hp36 (fun v35 hp37 => ?_)
          refine x_pc (pc' := 150) rfl ?_
          refine x_up (pc' := 153) (fun _ _ _ _ _ L => lv_sipush (v := (290 : Int32)) hx hb dX4_writes_150 (by decide)) ?_
          refine x_up (pc' := 154) (fun _ _ _ _ _ L => lv_dup2_11 hx hb dX4_writes_153 rfl (x_catq _)) ?_
          obtain ⟨b36, rfl, hp38⟩ := hp37
          refine x_iald X dX4_writes_154 hp38 (fun v37 hp39 => ?_)
          refine x_pc (pc' := 155) rfl ?_
          refine x_up (pc' := 156) (fun _ _ _ _ _ L => lv_iconst (v := (1 : Int32)) hx hb dX4_writes_155 (by decide)) ?_
          refine x_up (pc' := 157) (fun _ _ _ _ _ L => lv_iadd hx hb dX4_writes_156) ?_
          refine x_iast X dX4_writes_157 hp39 (fun σ38 hp40 => ?_)
          refine x_pc (pc' := 158) rfl ?_
          refine x_up (pc' := 179) (fun _ _ _ _ _ L => lv_goto (tgt := 179) hx hb dX4_writes_158 (by decide)) ?_
          refine x_up (pc' := 180) (fun _ _ _ _ _ L => lv_aload_n hx hb dX4_writes_179 rfl (lv_at L 2 rfl)) ?_
          refine x_up (pc' := 181) (fun _ _ _ _ _ L => lv_aload_n hx hb dX4_writes_180 rfl (lv_at L 2 rfl)) ?_
          refine x_gq X (kX4 hG) 0 (by decide) q3266 (fun _ h => h) dX4_writes_181 hp40 (fun v39 hp41 => ?_)
          refine x_pc (pc' := 184) rfl ?_
          refine x_up (pc' := 185) (fun _ _ _ _ _ L => lv_iconst (v := (0 : Int32)) hx hb dX4_writes_184 (by decide)) ?_
          obtain ⟨b40, rfl, hp42⟩ := hp41
          refine x_iald X dX4_writes_185 hp42 (fun v41 hp43 => ?_)
          refine x_pc (pc' := 186) rfl ?_
          refine x_up (pc' := 187) (fun _ _ _ _ _ L => lv_iload_n hx hb dX4_writes_186 rfl (lv_at L 1 rfl)) ?_
          refine x_up (pc' := 188) (fun _ _ _ _ _ L => lv_isub hx hb dX4_writes_187) ?_
          refine x_callV (em := emI) (fun r st => .int r :: st) (fun _ _ => rfl) 1 X (kX4 hG) (fun σ' KK h => R_X4_done l hl G hG a0 (v41 - v11) σ' KK h) (lw_V q3404 q3406 qs70 q119 q3407) ⟨rfl, mdX4_done⟩ ⟨Nat.le_of_ble_eq_true rfl, Nat.le_of_ble_eq_true rfl⟩ rfl rfl (Nat.le_of_ble_eq_true rfl) dX4_writes_188 hp43.1 hp43.2 (fun v42 σ43 hp44 => ?_)
          refine x_pc (pc' := 191) rfl ?_
          exact x_iret X hr rfl dX4_writes_191 hp44
        · have hp45 := hp27.2 c106
          refine x_up (pc' := 162) (fun _ _ _ _ _ L => lv_aload_n hx hb dX4_writes_161 rfl (lv_at L 2 rfl)) ?_
          refine x_gq X (kX4 hG) 0 (by decide) q3266 (fun _ h => h) dX4_writes_162 hp45 (fun v44 hp46 => ?_)
          refine x_pc (pc' := 165) rfl ?_
          refine x_up (pc' := 167) (fun _ _ _ _ _ L => lv_bipush (v := (89 : Int32)) hx hb dX4_writes_165 (by decide)) ?_
          refine x_up (pc' := 169) (fun _ _ _ _ _ L => lv_iload hx hb dX4_writes_167 (lv_at L 0 rfl)) ?_
          refine x_up (pc' := 170) (fun _ _ _ _ _ L => lv_iadd hx hb dX4_writes_169) ?_
          refine x_up (pc' := 171) (fun _ _ _ _ _ L => lv_dup2_11 hx hb dX4_writes_170 rfl (x_catq _)) ?_
          obtain ⟨b45, rfl, hp47⟩ := hp46
          refine x_iald X dX4_writes_171 hp47 (fun v46 hp48 => ?_)
          refine x_pc (pc' := 172) rfl ?_
          refine x_up (pc' := 173) (fun _ _ _ _ _ L => lv_iconst (v := (1 : Int32)) hx hb dX4_writes_172 (by decide)) ?_
          refine x_up (pc' := 174) (fun _ _ _ _ _ L => lv_iload_n hx hb dX4_writes_173 rfl (lv_at L 3 rfl)) ?_
          refine x_up (pc' := 175) (fun _ _ _ _ _ L => lv_iconst (v := (4 : Int32)) hx hb dX4_writes_174 (by decide)) ?_
          refine x_up (pc' := 176) (fun _ _ _ _ _ L => lv_irem hx hb dX4_writes_175 (by decide)) ?_
          refine x_up (pc' := 177) (fun _ _ _ _ _ L => lv_ishl hx hb dX4_writes_176) ?_
          refine x_up (pc' := 178) (fun _ _ _ _ _ L => lv_ior hx hb dX4_writes_177) ?_
          refine x_iast X dX4_writes_178 hp48 (fun σ47 hp49 => ?_)
          refine x_pc (pc' := 179) rfl ?_
          refine x_up (pc' := 180) (fun _ _ _ _ _ L => lv_aload_n hx hb dX4_writes_179 rfl (lv_at L 2 rfl)) ?_
          refine x_up (pc' := 181) (fun _ _ _ _ _ L => lv_aload_n hx hb dX4_writes_180 rfl (lv_at L 2 rfl)) ?_
          refine x_gq X (kX4 hG) 0 (by decide) q3266 (fun _ h => h) dX4_writes_181 hp49 (fun v48 hp50 => ?_)
          refine x_pc (pc' := 184) rfl ?_
          refine x_up (pc' := 185) (fun _ _ _ _ _ L => lv_iconst (v := (0 : Int32)) hx hb dX4_writes_184 (by decide)) ?_
          obtain ⟨b49, rfl, hp51⟩ := hp50
          refine x_iald X dX4_writes_185 hp51 (fun v50 hp52 => ?_)
          refine x_pc (pc' := 186) rfl ?_
          refine x_up (pc' := 187) (fun _ _ _ _ _ L => lv_iload_n hx hb dX4_writes_186 rfl (lv_at L 1 rfl)) ?_
          refine x_up (pc' := 188) (fun _ _ _ _ _ L => lv_isub hx hb dX4_writes_187) ?_
          refine x_callV (em := emI) (fun r st => .int r :: st) (fun _ _ => rfl) 1 X (kX4 hG) (fun σ' KK h => R_X4_done l hl G hG a0 (v50 - v11) σ' KK h) (lw_V q3404 q3406 qs70 q119 q3407) ⟨rfl, mdX4_done⟩ ⟨Nat.le_of_ble_eq_true rfl, Nat.le_of_ble_eq_true rfl⟩ rfl rfl (Nat.le_of_ble_eq_true rfl) dX4_writes_188 hp52.1 hp52.2 (fun v51 σ52 hp53 => ?_)
          refine x_pc (pc' := 191) rfl ?_
          exact x_iret X hr rfl dX4_writes_191 hp53
-- X4_write
def P_X4_write (κ : Nat → Nat) (a0 : Nat) (x1 : Int32) (x2 : Int32) (σ : xS) (K : Int32 → xH → Prop) : Prop :=
  xrc σ a0 10 ∧ xcall (fun τ L => P_X4_looksBack κ a0 τ L) σ fun _ σ1 => xrc σ1 a0 10 ∧ xcall (fun τ L => P_X4_writes κ a0 x1 x2 τ L) σ1 fun v2 σ3 => xrc σ3 a0 10 ∧ xcall (fun τ L => P_X4_kept κ a0 v2 τ L) σ3 fun v4 σ5 => K v4 σ5.1
theorem mdX4_write : yX4_write.cls ≠ "java/lang/invoke/MethodHandle" ∧ yX4_write.cls ≠ "java/lang/invoke/VarHandle" ∧ (parseMethodDescriptor yX4_write.desc).map (fun d => d.parameters.length) = some 2 := by decide +kernel
set_option maxHeartbeats 4000000 in
set_option maxRecDepth 100000 in
theorem R_X4_write (l : Launch) (hl : l.stackTraces = false) (G : xG) (hG : G.1.2 = x_cl) (a0 : Nat) (x1 : Int32) (x2 : Int32) (σ : xS) (K : Int32 → xH → Prop) (hp : P_X4_write G.2 a0 x1 x2 σ K) : xM l yX4_write cX4_write 3 (Option.some Jvm.ClassFile.FieldType.int) 5 119 G [(.ref a0), .int x1, .int x2] σ (xlift emI K) := by
  refine x_entry (by decide) (Nat.le_of_ble_eq_true rfl) ?_
  intro p e s m args below meth c X hr hin
  have X : xX p s m args meth c G cX4_write 3 RX4 := X
  have hx := X.1
  have hb := X.2.1
  have hts := X.2.2.2.2.1
  have hown := X.2.2.2.1
  unfold P_X4_write at hp
  refine x_same (lo' := [(0, .ref a0), (1, .int x1), (2, .int x2)]) rfl ?_
  refine x_up (pc' := 1) (fun _ _ _ _ _ L => lv_aload_n hx hb dX4_write_0 rfl (lv_at L 0 rfl)) ?_
  refine x_callV (em := emV) (fun r st => st) (fun _ _ => rfl) 0 X (kX4 hG) (fun σ' KK h => R_X4_looksBack l hl G hG a0 σ' KK h) (lw_V q3336 q3338 qs56 q119 q3339) ⟨rfl, mdX4_looksBack⟩ ⟨Nat.le_of_ble_eq_true rfl, Nat.le_of_ble_eq_true rfl⟩ rfl rfl (Nat.le_of_ble_eq_true rfl) dX4_write_1 hp.1 hp.2 (fun _ σ1 hp1 => ?_)
  refine x_pc (pc' := 4) rfl ?_
  refine x_up (pc' := 5) (fun _ _ _ _ _ L => lv_aload_n hx hb dX4_write_4 rfl (lv_at L 0 rfl)) ?_
  refine x_up (pc' := 6) (fun _ _ _ _ _ L => lv_aload_n hx hb dX4_write_5 rfl (lv_at L 0 rfl)) ?_
  refine x_up (pc' := 7) (fun _ _ _ _ _ L => lv_iload_n hx hb dX4_write_6 rfl (lv_at L 1 rfl)) ?_
  refine x_up (pc' := 8) (fun _ _ _ _ _ L => lv_iload_n hx hb dX4_write_7 rfl (lv_at L 2 rfl)) ?_
  refine x_callV (em := emI) (fun r st => .int r :: st) (fun _ _ => rfl) 2 X (kX4 hG) (fun σ' KK h => R_X4_writes l hl G hG a0 x1 x2 σ' KK h) (lw_V q3416 q3418 qs72 q119 q3419) ⟨rfl, mdX4_writes⟩ ⟨Nat.le_of_ble_eq_true rfl, Nat.le_of_ble_eq_true rfl⟩ rfl rfl (Nat.le_of_ble_eq_true rfl) dX4_write_8 hp1.1 hp1.2 (fun v2 σ3 hp2 => ?_)
  refine x_pc (pc' := 11) rfl ?_
  refine x_callV (em := emI) (fun r st => .int r :: st) (fun _ _ => rfl) 1 X (kX4 hG) (fun σ' KK h => R_X4_kept l hl G hG a0 v2 σ' KK h) (lw_V q3408 q3410 qs71 q119 q3411) ⟨rfl, mdX4_kept⟩ ⟨Nat.le_of_ble_eq_true rfl, Nat.le_of_ble_eq_true rfl⟩ rfl rfl (Nat.le_of_ble_eq_true rfl) dX4_write_11 hp2.1 hp2.2 (fun v4 σ5 hp3 => ?_)
  refine x_pc (pc' := 14) rfl ?_
  exact x_iret X hr rfl dX4_write_14 hp3
-- X4_devices
def P_X4_devices (κ : Nat → Nat) (a0 : Nat) (x1 : Int32) (x2 : Int32) (σ : xS) (K : Int32 → xH → Prop) : Prop :=
  xcall (fun τ L => P_X4_isAddress κ x1 τ L) σ fun v1 σ2 => ((v1 = 0 → (xrc σ2 a0 10 ∧ xcall (fun τ L => P_X4_refused κ a0 (1 : Int32) x1 τ L) σ2 fun v3 σ4 => K v3 σ4.1)) ∧ (¬ v1 = 0 → (xcall (fun τ L => P_X4_in κ x2 (-999 : Int32) (999 : Int32) τ L) σ2 fun v5 σ6 => ((v5 = 0 → (xrc σ6 a0 10 ∧ xcall (fun τ L => P_X4_refused κ a0 (1 : Int32) x2 τ L) σ6 fun v7 σ8 => K v7 σ8.1)) ∧ (¬ v5 = 0 → (xrc σ6 a0 10 ∧ xcall (fun τ L => P_X4_lineWith κ a0 (x1 / (4 : Int32)) τ L) σ6 fun v9 σ10 => ((v9 = (-1 : Int32) → (xgq σ10 a0 10 0 fun v11 => xnn v11 fun b12 => xsi κ .int σ10 b12 ((5 : Int32) + x1) x2 fun σ13 => xgq σ13 a0 10 0 fun v14 => xnn v14 fun b15 => xsi κ .int σ13 b15 ((293 : Int32) + x1) x2 fun σ16 => xgq σ16 a0 10 0 fun v17 => xnn v17 fun b18 => xai .int σ16 b18 (292 : Int32) fun v19 => xsi κ .int σ16 b18 (292 : Int32) (v19 + (1 : Int32)) fun σ20 => xrc σ20 a0 10 ∧ xcall (fun τ L => P_X4_done κ a0 (0 : Int32) τ L) σ20 fun v21 σ22 => K v21 σ22.1)) ∧ (¬ v9 = (-1 : Int32) → (xrc σ10 a0 10 ∧ xcall (fun τ L => P_X4_writesBack κ a0 v9 τ L) σ10 fun v23 σ24 => xrc σ24 a0 10 ∧ xcall (fun τ L => P_X4_emptiesLine κ a0 v9 τ L) σ24 fun _ σ25 => xgq σ25 a0 10 0 fun v26 => xnn v26 fun b27 => xsi κ .int σ25 b27 ((5 : Int32) + x1) x2 fun σ28 => xgq σ28 a0 10 0 fun v29 => xnn v29 fun b30 => xsi κ .int σ28 b30 ((293 : Int32) + x1) x2 fun σ31 => xgq σ31 a0 10 0 fun v32 => xnn v32 fun b33 => xai .int σ31 b33 (292 : Int32) fun v34 => xsi κ .int σ31 b33 (292 : Int32) (v34 + (1 : Int32)) fun σ35 => xrc σ35 a0 10 ∧ xcall (fun τ L => P_X4_done κ a0 v23 τ L) σ35 fun v36 σ37 => K v36 σ37.1)))))))))
theorem mdX4_devices : yX4_devices.cls ≠ "java/lang/invoke/MethodHandle" ∧ yX4_devices.cls ≠ "java/lang/invoke/VarHandle" ∧ (parseMethodDescriptor yX4_devices.desc).map (fun d => d.parameters.length) = some 2 := by decide +kernel
set_option maxHeartbeats 4000000 in
set_option maxRecDepth 100000 in
theorem R_X4_devices (l : Launch) (hl : l.stackTraces = false) (G : xG) (hG : G.1.2 = x_cl) (a0 : Nat) (x1 : Int32) (x2 : Int32) (σ : xS) (K : Int32 → xH → Prop) (hp : P_X4_devices G.2 a0 x1 x2 σ K) : xM l yX4_devices cX4_devices 5 (Option.some Jvm.ClassFile.FieldType.int) 2 46 G [(.ref a0), .int x1, .int x2] σ (xlift emI K) := by
  refine x_entry (by decide) (Nat.le_of_ble_eq_true rfl) ?_
  intro p e s m args below meth c X hr hin
  have X : xX p s m args meth c G cX4_devices 5 RX4 := X
  have hx := X.1
  have hb := X.2.1
  have hts := X.2.2.2.2.1
  have hown := X.2.2.2.1
  unfold P_X4_devices at hp
  refine x_same (lo' := [(0, .ref a0), (1, .int x1), (2, .int x2)]) rfl ?_
  refine x_up (pc' := 1) (fun _ _ _ _ _ L => lv_iload_n hx hb dX4_devices_0 rfl (lv_at L 1 rfl)) ?_
  refine x_callS (em := emI) (fun r st => .int r :: st) (fun _ _ => rfl) 1 X (fun σ' KK h => R_X4_isAddress l hl G hG x1 σ' KK h) (lw_S q3347 q3348 q119 q3349) mdX4_isAddress ⟨Nat.le_of_ble_eq_true rfl, Nat.le_of_ble_eq_true rfl⟩ rfl rfl (Nat.le_of_ble_eq_true rfl) dX4_devices_1 hp (fun v1 σ2 hp1 => ?_)
  refine x_pc (pc' := 4) rfl ?_
  refine x_ifn (C := v1 = 0) (pt := 14) (pc' := 7) (fun _ _ _ _ _ => lv_if_ne (tgt := 14) hx hb dX4_devices_4 (by decide)) (fun c4 => ?_) (fun c4 => ?_)
  · have hp2 := hp1.1 c4
    refine x_up (pc' := 8) (fun _ _ _ _ _ L => lv_aload_n hx hb dX4_devices_7 rfl (lv_at L 0 rfl)) ?_
    refine x_up (pc' := 9) (fun _ _ _ _ _ L => lv_iconst (v := (1 : Int32)) hx hb dX4_devices_8 (by decide)) ?_
    refine x_up (pc' := 10) (fun _ _ _ _ _ L => lv_iload_n hx hb dX4_devices_9 rfl (lv_at L 1 rfl)) ?_
    refine x_callV (em := emI) (fun r st => .int r :: st) (fun _ _ => rfl) 2 X (kX4 hG) (fun σ' KK h => R_X4_refused l hl G hG a0 (1 : Int32) x1 σ' KK h) (lw_V q3353 q3355 qs58 q119 q3356) ⟨rfl, mdX4_refused⟩ ⟨Nat.le_of_ble_eq_true rfl, Nat.le_of_ble_eq_true rfl⟩ rfl rfl (Nat.le_of_ble_eq_true rfl) dX4_devices_10 hp2.1 hp2.2 (fun v3 σ4 hp3 => ?_)
    refine x_pc (pc' := 13) rfl ?_
    exact x_iret X hr rfl dX4_devices_13 hp3
  · have hp4 := hp1.2 c4
    refine x_up (pc' := 15) (fun _ _ _ _ _ L => lv_iload_n hx hb dX4_devices_14 rfl (lv_at L 2 rfl)) ?_
    refine x_up (pc' := 18) (fun _ _ _ _ _ L => lv_sipush (v := (-999 : Int32)) hx hb dX4_devices_15 (by decide)) ?_
    refine x_up (pc' := 21) (fun _ _ _ _ _ L => lv_sipush (v := (999 : Int32)) hx hb dX4_devices_18 (by decide)) ?_
    refine x_callS (em := emI) (fun r st => .int r :: st) (fun _ _ => rfl) 3 X (fun σ' KK h => R_X4_in l hl G hG x2 (-999 : Int32) (999 : Int32) σ' KK h) (lw_S q3350 q3351 q119 q3352) mdX4_in ⟨Nat.le_of_ble_eq_true rfl, Nat.le_of_ble_eq_true rfl⟩ rfl rfl (Nat.le_of_ble_eq_true rfl) dX4_devices_21 hp4 (fun v5 σ6 hp5 => ?_)
    refine x_pc (pc' := 24) rfl ?_
    refine x_ifn (C := v5 = 0) (pt := 34) (pc' := 27) (fun _ _ _ _ _ => lv_if_ne (tgt := 34) hx hb dX4_devices_24 (by decide)) (fun c24 => ?_) (fun c24 => ?_)
    · have hp6 := hp5.1 c24
      refine x_up (pc' := 28) (fun _ _ _ _ _ L => lv_aload_n hx hb dX4_devices_27 rfl (lv_at L 0 rfl)) ?_
      refine x_up (pc' := 29) (fun _ _ _ _ _ L => lv_iconst (v := (1 : Int32)) hx hb dX4_devices_28 (by decide)) ?_
      refine x_up (pc' := 30) (fun _ _ _ _ _ L => lv_iload_n hx hb dX4_devices_29 rfl (lv_at L 2 rfl)) ?_
      refine x_callV (em := emI) (fun r st => .int r :: st) (fun _ _ => rfl) 2 X (kX4 hG) (fun σ' KK h => R_X4_refused l hl G hG a0 (1 : Int32) x2 σ' KK h) (lw_V q3353 q3355 qs58 q119 q3356) ⟨rfl, mdX4_refused⟩ ⟨Nat.le_of_ble_eq_true rfl, Nat.le_of_ble_eq_true rfl⟩ rfl rfl (Nat.le_of_ble_eq_true rfl) dX4_devices_30 hp6.1 hp6.2 (fun v7 σ8 hp7 => ?_)
      refine x_pc (pc' := 33) rfl ?_
      exact x_iret X hr rfl dX4_devices_33 hp7
    · have hp8 := hp5.2 c24
      refine x_up (pc' := 35) (fun _ _ _ _ _ L => lv_aload_n hx hb dX4_devices_34 rfl (lv_at L 0 rfl)) ?_
      refine x_up (pc' := 36) (fun _ _ _ _ _ L => lv_iload_n hx hb dX4_devices_35 rfl (lv_at L 1 rfl)) ?_
      refine x_up (pc' := 37) (fun _ _ _ _ _ L => lv_iconst (v := (4 : Int32)) hx hb dX4_devices_36 (by decide)) ?_
      refine x_up (pc' := 38) (fun _ _ _ _ _ L => lv_idiv hx hb dX4_devices_37 (by decide)) ?_
      refine x_callV (em := emI) (fun r st => .int r :: st) (fun _ _ => rfl) 1 X (kX4 hG) (fun σ' KK h => R_X4_lineWith l hl G hG a0 (x1 / (4 : Int32)) σ' KK h) (lw_V q3365 q3367 qs61 q119 q3368) ⟨rfl, mdX4_lineWith⟩ ⟨Nat.le_of_ble_eq_true rfl, Nat.le_of_ble_eq_true rfl⟩ rfl rfl (Nat.le_of_ble_eq_true rfl) dX4_devices_38 hp8.1 hp8.2 (fun v9 σ10 hp9 => ?_)
      refine x_pc (pc' := 41) rfl ?_
      refine x_upL (pc' := 42) (lo' := [(3, .int v9), (0, .ref a0), (1, .int x1), (2, .int x2)]) (fun _ _ _ _ _ L => lv_istore_n hx hb dX4_devices_41 rfl L (by decide) rfl) ?_
      refine x_up (pc' := 43) (fun _ _ _ _ _ L => lv_iconst (v := (0 : Int32)) hx hb dX4_devices_42 (by decide)) ?_
      refine x_upL (pc' := 45) (lo' := [(4, .int (0 : Int32)), (3, .int v9), (0, .ref a0), (1, .int x1), (2, .int x2)]) (fun _ _ _ _ _ L => lv_istore hx hb dX4_devices_43 L (by decide) rfl) ?_
      refine x_up (pc' := 46) (fun _ _ _ _ _ L => lv_iload_n hx hb dX4_devices_45 rfl (lv_at L 1 rfl)) ?_
      refine x_up (pc' := 47) (fun _ _ _ _ _ L => lv_iconst (v := (-1 : Int32)) hx hb dX4_devices_46 (by decide)) ?_
      refine x_if (C := v9 = (-1 : Int32)) (pt := 62) (pc' := 50) (fun _ _ _ _ _ => lv_icmp_eq (tgt := 62) hx hb dX4_devices_47 (by decide)) (fun c47 => ?_) (fun c47 => ?_)
      · have hp10 := hp9.1 c47
        refine x_up (pc' := 63) (fun _ _ _ _ _ L => lv_aload_n hx hb dX4_devices_62 rfl (lv_at L 2 rfl)) ?_
        refine x_gq X (kX4 hG) 0 (by decide) q3266 (fun _ h => h) dX4_devices_63 hp10 (fun v11 hp11 => ?_)
        refine x_pc (pc' := 66) rfl ?_
        refine x_up (pc' := 67) (fun _ _ _ _ _ L => lv_iconst (v := (5 : Int32)) hx hb dX4_devices_66 (by decide)) ?_
        refine x_up (pc' := 68) (fun _ _ _ _ _ L => lv_iload_n hx hb dX4_devices_67 rfl (lv_at L 3 rfl)) ?_
        refine x_up (pc' := 69) (fun _ _ _ _ _ L => lv_iadd hx hb dX4_devices_68) ?_
        refine x_up (pc' := 70) (fun _ _ _ _ _ L => lv_iload_n hx hb dX4_devices_69 rfl (lv_at L 4 rfl)) ?_
        obtain ⟨b12, rfl, hp12⟩ := hp11
        refine x_iast X dX4_devices_70 hp12 (fun σ13 hp13 => ?_)
        refine x_pc (pc' := 71) rfl ?_
        refine x_up (pc' := 72) (fun _ _ _ _ _ L => lv_aload_n hx hb dX4_devices_71 rfl (lv_at L 2 rfl)) ?_
        refine x_gq X (kX4 hG) 0 (by decide) q3266 (fun _ h => h) dX4_devices_72 hp13 (fun v14 hp14 => ?_)
        refine x_pc (pc' := 75) rfl ?_
        refine x_up (pc' := 78) (fun _ _ _ _ _ L => lv_sipush (v := (293 : Int32)) hx hb dX4_devices_75 (by decide)) ?_
        refine x_up (pc' := 79) (fun _ _ _ _ _ L => lv_iload_n hx hb dX4_devices_78 rfl (lv_at L 3 rfl)) ?_
        refine x_up (pc' := 80) (fun _ _ _ _ _ L => lv_iadd hx hb dX4_devices_79) ?_
        refine x_up (pc' := 81) (fun _ _ _ _ _ L => lv_iload_n hx hb dX4_devices_80 rfl (lv_at L 4 rfl)) ?_
        obtain ⟨b15, rfl, hp15⟩ := hp14
        refine x_iast X dX4_devices_81 hp15 (fun σ16 hp16 => ?_)
        refine x_pc (pc' := 82) rfl ?_
        refine x_up (pc' := 83) (fun _ _ _ _ _ L => lv_aload_n hx hb dX4_devices_82 rfl (lv_at L 2 rfl)) ?_
        refine x_gq X (kX4 hG) 0 (by decide) q3266 (fun _ h => h) dX4_devices_83 hp16 (fun v17 hp17 => ?_)
        refine x_pc (pc' := 86) rfl ?_
        refine x_up (pc' := 89) (fun _ _ _ _ _ L => lv_sipush (v := (292 : Int32)) hx hb dX4_devices_86 (by decide)) ?_
        refine x_up (pc' := 90) (fun _ _ _ _ _ L => lv_dup2_11 hx hb dX4_devices_89 rfl (x_catq _)) ?_
        obtain ⟨b18, rfl, hp18⟩ := hp17
        refine x_iald X dX4_devices_90 hp18 (fun v19 hp19 => ?_)
        refine x_pc (pc' := 91) rfl ?_
        refine x_up (pc' := 92) (fun _ _ _ _ _ L => lv_iconst (v := (1 : Int32)) hx hb dX4_devices_91 (by decide)) ?_
        refine x_up (pc' := 93) (fun _ _ _ _ _ L => lv_iadd hx hb dX4_devices_92) ?_
        refine x_iast X dX4_devices_93 hp19 (fun σ20 hp20 => ?_)
        refine x_pc (pc' := 94) rfl ?_
        refine x_up (pc' := 95) (fun _ _ _ _ _ L => lv_aload_n hx hb dX4_devices_94 rfl (lv_at L 2 rfl)) ?_
        refine x_up (pc' := 97) (fun _ _ _ _ _ L => lv_iload hx hb dX4_devices_95 (lv_at L 0 rfl)) ?_
        refine x_callV (em := emI) (fun r st => .int r :: st) (fun _ _ => rfl) 1 X (kX4 hG) (fun σ' KK h => R_X4_done l hl G hG a0 (0 : Int32) σ' KK h) (lw_V q3404 q3406 qs70 q119 q3407) ⟨rfl, mdX4_done⟩ ⟨Nat.le_of_ble_eq_true rfl, Nat.le_of_ble_eq_true rfl⟩ rfl rfl (Nat.le_of_ble_eq_true rfl) dX4_devices_97 hp20.1 hp20.2 (fun v21 σ22 hp21 => ?_)
        refine x_pc (pc' := 100) rfl ?_
        exact x_iret X hr rfl dX4_devices_100 hp21
      · have hp22 := hp9.2 c47
        refine x_up (pc' := 51) (fun _ _ _ _ _ L => lv_aload_n hx hb dX4_devices_50 rfl (lv_at L 2 rfl)) ?_
        refine x_up (pc' := 52) (fun _ _ _ _ _ L => lv_iload_n hx hb dX4_devices_51 rfl (lv_at L 1 rfl)) ?_
        refine x_callV (em := emI) (fun r st => .int r :: st) (fun _ _ => rfl) 1 X (kX4 hG) (fun σ' KK h => R_X4_writesBack l hl G hG a0 v9 σ' KK h) (lw_V q3392 q3394 qs67 q119 q3395) ⟨rfl, mdX4_writesBack⟩ ⟨Nat.le_of_ble_eq_true rfl, Nat.le_of_ble_eq_true rfl⟩ rfl rfl (Nat.le_of_ble_eq_true rfl) dX4_devices_52 hp22.1 hp22.2 (fun v23 σ24 hp23 => ?_)
        refine x_pc (pc' := 55) rfl ?_
        refine x_upL (pc' := 57) (lo' := [(4, .int v23), (3, .int v9), (0, .ref a0), (1, .int x1), (2, .int x2)]) (fun _ _ _ _ _ L => lv_istore hx hb dX4_devices_55 L (by decide) rfl) ?_
        refine x_up (pc' := 58) (fun _ _ _ _ _ L => lv_aload_n hx hb dX4_devices_57 rfl (lv_at L 2 rfl)) ?_
        refine x_up (pc' := 59) (fun _ _ _ _ _ L => lv_iload_n hx hb dX4_devices_58 rfl (lv_at L 1 rfl)) ?_
        refine x_callV (em := emV) (fun r st => st) (fun _ _ => rfl) 1 X (kX4 hG) (fun σ' KK h => R_X4_emptiesLine l hl G hG a0 v9 σ' KK h) (lw_V q3262 q3264 qs55 q119 q3265) ⟨rfl, mdX4_emptiesLine⟩ ⟨Nat.le_of_ble_eq_true rfl, Nat.le_of_ble_eq_true rfl⟩ rfl rfl (Nat.le_of_ble_eq_true rfl) dX4_devices_59 hp23.1 hp23.2 (fun _ σ25 hp24 => ?_)
        refine x_pc (pc' := 62) rfl ?_
        refine x_up (pc' := 63) (fun _ _ _ _ _ L => lv_aload_n hx hb dX4_devices_62 rfl (lv_at L 2 rfl)) ?_
        refine x_gq X (kX4 hG) 0 (by decide) q3266 (fun _ h => h) dX4_devices_63 hp24 (fun v26 hp25 => ?_)
        refine x_pc (pc' := 66) rfl ?_
        refine x_up (pc' := 67) (fun _ _ _ _ _ L => lv_iconst (v := (5 : Int32)) hx hb dX4_devices_66 (by decide)) ?_
        refine x_up (pc' := 68) (fun _ _ _ _ _ L => lv_iload_n hx hb dX4_devices_67 rfl (lv_at L 3 rfl)) ?_
        refine x_up (pc' := 69) (fun _ _ _ _ _ L => lv_iadd hx hb dX4_devices_68) ?_
        refine x_up (pc' := 70) (fun _ _ _ _ _ L => lv_iload_n hx hb dX4_devices_69 rfl (lv_at L 4 rfl)) ?_
        obtain ⟨b27, rfl, hp26⟩ := hp25
        refine x_iast X dX4_devices_70 hp26 (fun σ28 hp27 => ?_)
        refine x_pc (pc' := 71) rfl ?_
        refine x_up (pc' := 72) (fun _ _ _ _ _ L => lv_aload_n hx hb dX4_devices_71 rfl (lv_at L 2 rfl)) ?_
        refine x_gq X (kX4 hG) 0 (by decide) q3266 (fun _ h => h) dX4_devices_72 hp27 (fun v29 hp28 => ?_)
        refine x_pc (pc' := 75) rfl ?_
        refine x_up (pc' := 78) (fun _ _ _ _ _ L => lv_sipush (v := (293 : Int32)) hx hb dX4_devices_75 (by decide)) ?_
        refine x_up (pc' := 79) (fun _ _ _ _ _ L => lv_iload_n hx hb dX4_devices_78 rfl (lv_at L 3 rfl)) ?_
        refine x_up (pc' := 80) (fun _ _ _ _ _ L => lv_iadd hx hb dX4_devices_79) ?_
        refine x_up (pc' := 81) (fun _ _ _ _ _ L => lv_iload_n hx hb dX4_devices_80 rfl (lv_at L 4 rfl)) ?_
        obtain ⟨b30, rfl, hp29⟩ := hp28
        refine x_iast X dX4_devices_81 hp29 (fun σ31 hp30 => ?_)
        refine x_pc (pc' := 82) rfl ?_
        refine x_up (pc' := 83) (fun _ _ _ _ _ L => lv_aload_n hx hb dX4_devices_82 rfl (lv_at L 2 rfl)) ?_
        refine x_gq X (kX4 hG) 0 (by decide) q3266 (fun _ h => h) dX4_devices_83 hp30 (fun v32 hp31 => ?_)
        refine x_pc (pc' := 86) rfl ?_
        refine x_up (pc' := 89) (fun _ _ _ _ _ L => lv_sipush (v := (292 : Int32)) hx hb dX4_devices_86 (by decide)) ?_
        refine x_up (pc' := 90) (fun _ _ _ _ _ L => lv_dup2_11 hx hb dX4_devices_89 rfl (x_catq _)) ?_
        obtain ⟨b33, rfl, hp32⟩ := hp31
        refine x_iald X dX4_devices_90 hp32 (fun v34 hp33 => ?_)
        refine x_pc (pc' := 91) rfl ?_
        refine x_up (pc' := 92) (fun _ _ _ _ _ L => lv_iconst (v := (1 : Int32)) hx hb dX4_devices_91 (by decide)) ?_
        refine x_up (pc' := 93) (fun _ _ _ _ _ L => lv_iadd hx hb dX4_devices_92) ?_
        refine x_iast X dX4_devices_93 hp33 (fun σ35 hp34 => ?_)
        refine x_pc (pc' := 94) rfl ?_
        refine x_up (pc' := 95) (fun _ _ _ _ _ L => lv_aload_n hx hb dX4_devices_94 rfl (lv_at L 2 rfl)) ?_
        refine x_up (pc' := 97) (fun _ _ _ _ _ L => lv_iload hx hb dX4_devices_95 (lv_at L 0 rfl)) ?_
        refine x_callV (em := emI) (fun r st => .int r :: st) (fun _ _ => rfl) 1 X (kX4 hG) (fun σ' KK h => R_X4_done l hl G hG a0 v23 σ' KK h) (lw_V q3404 q3406 qs70 q119 q3407) ⟨rfl, mdX4_done⟩ ⟨Nat.le_of_ble_eq_true rfl, Nat.le_of_ble_eq_true rfl⟩ rfl rfl (Nat.le_of_ble_eq_true rfl) dX4_devices_97 hp34.1 hp34.2 (fun v36 σ37 hp35 => ?_)
        refine x_pc (pc' := 100) rfl ?_
        exact x_iret X hr rfl dX4_devices_100 hp35
-- X4_device
def P_X4_device (κ : Nat → Nat) (a0 : Nat) (x1 : Int32) (x2 : Int32) (σ : xS) (K : Int32 → xH → Prop) : Prop :=
  xrc σ a0 10 ∧ xcall (fun τ L => P_X4_looksBack κ a0 τ L) σ fun _ σ1 => xrc σ1 a0 10 ∧ xcall (fun τ L => P_X4_devices κ a0 x1 x2 τ L) σ1 fun v2 σ3 => xrc σ3 a0 10 ∧ xcall (fun τ L => P_X4_kept κ a0 v2 τ L) σ3 fun v4 σ5 => K v4 σ5.1
theorem mdX4_device : yX4_device.cls ≠ "java/lang/invoke/MethodHandle" ∧ yX4_device.cls ≠ "java/lang/invoke/VarHandle" ∧ (parseMethodDescriptor yX4_device.desc).map (fun d => d.parameters.length) = some 2 := by decide +kernel
set_option maxHeartbeats 4000000 in
set_option maxRecDepth 100000 in
theorem R_X4_device (l : Launch) (hl : l.stackTraces = false) (G : xG) (hG : G.1.2 = x_cl) (a0 : Nat) (x1 : Int32) (x2 : Int32) (σ : xS) (K : Int32 → xH → Prop) (hp : P_X4_device G.2 a0 x1 x2 σ K) : xM l yX4_device cX4_device 3 (Option.some Jvm.ClassFile.FieldType.int) 3 70 G [(.ref a0), .int x1, .int x2] σ (xlift emI K) := by
  refine x_entry (by decide) (Nat.le_of_ble_eq_true rfl) ?_
  intro p e s m args below meth c X hr hin
  have X : xX p s m args meth c G cX4_device 3 RX4 := X
  have hx := X.1
  have hb := X.2.1
  have hts := X.2.2.2.2.1
  have hown := X.2.2.2.1
  unfold P_X4_device at hp
  refine x_same (lo' := [(0, .ref a0), (1, .int x1), (2, .int x2)]) rfl ?_
  refine x_up (pc' := 1) (fun _ _ _ _ _ L => lv_aload_n hx hb dX4_device_0 rfl (lv_at L 0 rfl)) ?_
  refine x_callV (em := emV) (fun r st => st) (fun _ _ => rfl) 0 X (kX4 hG) (fun σ' KK h => R_X4_looksBack l hl G hG a0 σ' KK h) (lw_V q3336 q3338 qs56 q119 q3339) ⟨rfl, mdX4_looksBack⟩ ⟨Nat.le_of_ble_eq_true rfl, Nat.le_of_ble_eq_true rfl⟩ rfl rfl (Nat.le_of_ble_eq_true rfl) dX4_device_1 hp.1 hp.2 (fun _ σ1 hp1 => ?_)
  refine x_pc (pc' := 4) rfl ?_
  refine x_up (pc' := 5) (fun _ _ _ _ _ L => lv_aload_n hx hb dX4_device_4 rfl (lv_at L 0 rfl)) ?_
  refine x_up (pc' := 6) (fun _ _ _ _ _ L => lv_aload_n hx hb dX4_device_5 rfl (lv_at L 0 rfl)) ?_
  refine x_up (pc' := 7) (fun _ _ _ _ _ L => lv_iload_n hx hb dX4_device_6 rfl (lv_at L 1 rfl)) ?_
  refine x_up (pc' := 8) (fun _ _ _ _ _ L => lv_iload_n hx hb dX4_device_7 rfl (lv_at L 2 rfl)) ?_
  refine x_callV (em := emI) (fun r st => .int r :: st) (fun _ _ => rfl) 2 X (kX4 hG) (fun σ' KK h => R_X4_devices l hl G hG a0 x1 x2 σ' KK h) (lw_V q3424 q3426 qs73 q119 q3427) ⟨rfl, mdX4_devices⟩ ⟨Nat.le_of_ble_eq_true rfl, Nat.le_of_ble_eq_true rfl⟩ rfl rfl (Nat.le_of_ble_eq_true rfl) dX4_device_8 hp1.1 hp1.2 (fun v2 σ3 hp2 => ?_)
  refine x_pc (pc' := 11) rfl ?_
  refine x_callV (em := emI) (fun r st => .int r :: st) (fun _ _ => rfl) 1 X (kX4 hG) (fun σ' KK h => R_X4_kept l hl G hG a0 v2 σ' KK h) (lw_V q3408 q3410 qs71 q119 q3411) ⟨rfl, mdX4_kept⟩ ⟨Nat.le_of_ble_eq_true rfl, Nat.le_of_ble_eq_true rfl⟩ rfl rfl (Nat.le_of_ble_eq_true rfl) dX4_device_11 hp2.1 hp2.2 (fun v4 σ5 hp3 => ?_)
  refine x_pc (pc' := 14) rfl ?_
  exact x_iret X hr rfl dX4_device_14 hp3
-- X4_passes
def P_X4_passes (κ : Nat → Nat) (a0 : Nat) (x1 : Int32) (σ : xS) (K : Int32 → xH → Prop) : Prop :=
  xcall (fun τ L => P_X4_in κ x1 (1 : Int32) (99 : Int32) τ L) σ fun v1 σ2 => ((v1 = 0 → (xrc σ2 a0 10 ∧ xcall (fun τ L => P_X4_refused κ a0 (1 : Int32) x1 τ L) σ2 fun v3 σ4 => K v3 σ4.1)) ∧ (¬ v1 = 0 → (xgq σ2 a0 10 0 fun v5 => xnn v5 fun b6 => xai .int σ2 b6 (0 : Int32) fun v7 => xsi κ .int σ2 b6 (0 : Int32) (v7 + x1) fun σ8 => xgq σ8 a0 10 0 fun v9 => xnn v9 fun b10 => xai .int σ8 b10 (0 : Int32) fun v11 => xrc σ8 a0 10 ∧ xcall (fun τ L => P_X4_done κ a0 v11 τ L) σ8 fun v12 σ13 => K v12 σ13.1)))
theorem mdX4_passes : yX4_passes.cls ≠ "java/lang/invoke/MethodHandle" ∧ yX4_passes.cls ≠ "java/lang/invoke/VarHandle" ∧ (parseMethodDescriptor yX4_passes.desc).map (fun d => d.parameters.length) = some 1 := by decide +kernel
set_option maxHeartbeats 4000000 in
set_option maxRecDepth 100000 in
theorem R_X4_passes (l : Launch) (hl : l.stackTraces = false) (G : xG) (hG : G.1.2 = x_cl) (a0 : Nat) (x1 : Int32) (σ : xS) (K : Int32 → xH → Prop) (hp : P_X4_passes G.2 a0 x1 σ K) : xM l yX4_passes cX4_passes 2 (Option.some Jvm.ClassFile.FieldType.int) 2 43 G [(.ref a0), .int x1] σ (xlift emI K) := by
  refine x_entry (by decide) (Nat.le_of_ble_eq_true rfl) ?_
  intro p e s m args below meth c X hr hin
  have X : xX p s m args meth c G cX4_passes 2 RX4 := X
  have hx := X.1
  have hb := X.2.1
  have hts := X.2.2.2.2.1
  have hown := X.2.2.2.1
  unfold P_X4_passes at hp
  refine x_same (lo' := [(0, .ref a0), (1, .int x1)]) rfl ?_
  refine x_up (pc' := 1) (fun _ _ _ _ _ L => lv_iload_n hx hb dX4_passes_0 rfl (lv_at L 1 rfl)) ?_
  refine x_up (pc' := 2) (fun _ _ _ _ _ L => lv_iconst (v := (1 : Int32)) hx hb dX4_passes_1 (by decide)) ?_
  refine x_up (pc' := 4) (fun _ _ _ _ _ L => lv_bipush (v := (99 : Int32)) hx hb dX4_passes_2 (by decide)) ?_
  refine x_callS (em := emI) (fun r st => .int r :: st) (fun _ _ => rfl) 3 X (fun σ' KK h => R_X4_in l hl G hG x1 (1 : Int32) (99 : Int32) σ' KK h) (lw_S q3350 q3351 q119 q3352) mdX4_in ⟨Nat.le_of_ble_eq_true rfl, Nat.le_of_ble_eq_true rfl⟩ rfl rfl (Nat.le_of_ble_eq_true rfl) dX4_passes_4 hp (fun v1 σ2 hp1 => ?_)
  refine x_pc (pc' := 7) rfl ?_
  refine x_ifn (C := v1 = 0) (pt := 17) (pc' := 10) (fun _ _ _ _ _ => lv_if_ne (tgt := 17) hx hb dX4_passes_7 (by decide)) (fun c7 => ?_) (fun c7 => ?_)
  · have hp2 := hp1.1 c7
    refine x_up (pc' := 11) (fun _ _ _ _ _ L => lv_aload_n hx hb dX4_passes_10 rfl (lv_at L 0 rfl)) ?_
    refine x_up (pc' := 12) (fun _ _ _ _ _ L => lv_iconst (v := (1 : Int32)) hx hb dX4_passes_11 (by decide)) ?_
    refine x_up (pc' := 13) (fun _ _ _ _ _ L => lv_iload_n hx hb dX4_passes_12 rfl (lv_at L 1 rfl)) ?_
    refine x_callV (em := emI) (fun r st => .int r :: st) (fun _ _ => rfl) 2 X (kX4 hG) (fun σ' KK h => R_X4_refused l hl G hG a0 (1 : Int32) x1 σ' KK h) (lw_V q3353 q3355 qs58 q119 q3356) ⟨rfl, mdX4_refused⟩ ⟨Nat.le_of_ble_eq_true rfl, Nat.le_of_ble_eq_true rfl⟩ rfl rfl (Nat.le_of_ble_eq_true rfl) dX4_passes_13 hp2.1 hp2.2 (fun v3 σ4 hp3 => ?_)
    refine x_pc (pc' := 16) rfl ?_
    exact x_iret X hr rfl dX4_passes_16 hp3
  · have hp4 := hp1.2 c7
    refine x_up (pc' := 18) (fun _ _ _ _ _ L => lv_aload_n hx hb dX4_passes_17 rfl (lv_at L 0 rfl)) ?_
    refine x_gq X (kX4 hG) 0 (by decide) q3266 (fun _ h => h) dX4_passes_18 hp4 (fun v5 hp5 => ?_)
    refine x_pc (pc' := 21) rfl ?_
    refine x_up (pc' := 22) (fun _ _ _ _ _ L => lv_iconst (v := (0 : Int32)) hx hb dX4_passes_21 (by decide)) ?_
    refine x_up (pc' := 23) (fun _ _ _ _ _ L => lv_dup2_11 hx hb dX4_passes_22 rfl (x_catq _)) ?_
    obtain ⟨b6, rfl, hp6⟩ := hp5
    refine x_iald X dX4_passes_23 hp6 (fun v7 hp7 => ?_)
    refine x_pc (pc' := 24) rfl ?_
    refine x_up (pc' := 25) (fun _ _ _ _ _ L => lv_iload_n hx hb dX4_passes_24 rfl (lv_at L 1 rfl)) ?_
    refine x_up (pc' := 26) (fun _ _ _ _ _ L => lv_iadd hx hb dX4_passes_25) ?_
    refine x_iast X dX4_passes_26 hp7 (fun σ8 hp8 => ?_)
    refine x_pc (pc' := 27) rfl ?_
    refine x_up (pc' := 28) (fun _ _ _ _ _ L => lv_aload_n hx hb dX4_passes_27 rfl (lv_at L 0 rfl)) ?_
    refine x_up (pc' := 29) (fun _ _ _ _ _ L => lv_aload_n hx hb dX4_passes_28 rfl (lv_at L 0 rfl)) ?_
    refine x_gq X (kX4 hG) 0 (by decide) q3266 (fun _ h => h) dX4_passes_29 hp8 (fun v9 hp9 => ?_)
    refine x_pc (pc' := 32) rfl ?_
    refine x_up (pc' := 33) (fun _ _ _ _ _ L => lv_iconst (v := (0 : Int32)) hx hb dX4_passes_32 (by decide)) ?_
    obtain ⟨b10, rfl, hp10⟩ := hp9
    refine x_iald X dX4_passes_33 hp10 (fun v11 hp11 => ?_)
    refine x_pc (pc' := 34) rfl ?_
    refine x_callV (em := emI) (fun r st => .int r :: st) (fun _ _ => rfl) 1 X (kX4 hG) (fun σ' KK h => R_X4_done l hl G hG a0 v11 σ' KK h) (lw_V q3404 q3406 qs70 q119 q3407) ⟨rfl, mdX4_done⟩ ⟨Nat.le_of_ble_eq_true rfl, Nat.le_of_ble_eq_true rfl⟩ rfl rfl (Nat.le_of_ble_eq_true rfl) dX4_passes_34 hp11.1 hp11.2 (fun v12 σ13 hp12 => ?_)
    refine x_pc (pc' := 37) rfl ?_
    exact x_iret X hr rfl dX4_passes_37 hp12
-- X4_pass
def P_X4_pass (κ : Nat → Nat) (a0 : Nat) (x1 : Int32) (σ : xS) (K : Int32 → xH → Prop) : Prop :=
  xrc σ a0 10 ∧ xcall (fun τ L => P_X4_looksBack κ a0 τ L) σ fun _ σ1 => xrc σ1 a0 10 ∧ xcall (fun τ L => P_X4_passes κ a0 x1 τ L) σ1 fun v2 σ3 => xrc σ3 a0 10 ∧ xcall (fun τ L => P_X4_kept κ a0 v2 τ L) σ3 fun v4 σ5 => K v4 σ5.1
theorem mdX4_pass : yX4_pass.cls ≠ "java/lang/invoke/MethodHandle" ∧ yX4_pass.cls ≠ "java/lang/invoke/VarHandle" ∧ (parseMethodDescriptor yX4_pass.desc).map (fun d => d.parameters.length) = some 1 := by decide +kernel
set_option maxHeartbeats 4000000 in
set_option maxRecDepth 100000 in
theorem R_X4_pass (l : Launch) (hl : l.stackTraces = false) (G : xG) (hG : G.1.2 = x_cl) (a0 : Nat) (x1 : Int32) (σ : xS) (K : Int32 → xH → Prop) (hp : P_X4_pass G.2 a0 x1 σ K) : xM l yX4_pass cX4_pass 2 (Option.some Jvm.ClassFile.FieldType.int) 3 64 G [(.ref a0), .int x1] σ (xlift emI K) := by
  refine x_entry (by decide) (Nat.le_of_ble_eq_true rfl) ?_
  intro p e s m args below meth c X hr hin
  have X : xX p s m args meth c G cX4_pass 2 RX4 := X
  have hx := X.1
  have hb := X.2.1
  have hts := X.2.2.2.2.1
  have hown := X.2.2.2.1
  unfold P_X4_pass at hp
  refine x_same (lo' := [(0, .ref a0), (1, .int x1)]) rfl ?_
  refine x_up (pc' := 1) (fun _ _ _ _ _ L => lv_aload_n hx hb dX4_pass_0 rfl (lv_at L 0 rfl)) ?_
  refine x_callV (em := emV) (fun r st => st) (fun _ _ => rfl) 0 X (kX4 hG) (fun σ' KK h => R_X4_looksBack l hl G hG a0 σ' KK h) (lw_V q3336 q3338 qs56 q119 q3339) ⟨rfl, mdX4_looksBack⟩ ⟨Nat.le_of_ble_eq_true rfl, Nat.le_of_ble_eq_true rfl⟩ rfl rfl (Nat.le_of_ble_eq_true rfl) dX4_pass_1 hp.1 hp.2 (fun _ σ1 hp1 => ?_)
  refine x_pc (pc' := 4) rfl ?_
  refine x_up (pc' := 5) (fun _ _ _ _ _ L => lv_aload_n hx hb dX4_pass_4 rfl (lv_at L 0 rfl)) ?_
  refine x_up (pc' := 6) (fun _ _ _ _ _ L => lv_aload_n hx hb dX4_pass_5 rfl (lv_at L 0 rfl)) ?_
  refine x_up (pc' := 7) (fun _ _ _ _ _ L => lv_iload_n hx hb dX4_pass_6 rfl (lv_at L 1 rfl)) ?_
  refine x_callV (em := emI) (fun r st => .int r :: st) (fun _ _ => rfl) 1 X (kX4 hG) (fun σ' KK h => R_X4_passes l hl G hG a0 x1 σ' KK h) (lw_V q3432 q3434 qs74 q119 q3435) ⟨rfl, mdX4_passes⟩ ⟨Nat.le_of_ble_eq_true rfl, Nat.le_of_ble_eq_true rfl⟩ rfl rfl (Nat.le_of_ble_eq_true rfl) dX4_pass_7 hp1.1 hp1.2 (fun v2 σ3 hp2 => ?_)
  refine x_pc (pc' := 10) rfl ?_
  refine x_callV (em := emI) (fun r st => .int r :: st) (fun _ _ => rfl) 1 X (kX4 hG) (fun σ' KK h => R_X4_kept l hl G hG a0 v2 σ' KK h) (lw_V q3408 q3410 qs71 q119 q3411) ⟨rfl, mdX4_kept⟩ ⟨Nat.le_of_ble_eq_true rfl, Nat.le_of_ble_eq_true rfl⟩ rfl rfl (Nat.le_of_ble_eq_true rfl) dX4_pass_10 hp2.1 hp2.2 (fun v4 σ5 hp3 => ?_)
  refine x_pc (pc' := 13) rfl ?_
  exact x_iret X hr rfl dX4_pass_13 hp3
-- X4_isBlock
def P_X4_isBlock (κ : Nat → Nat) (x0 : Int32) (σ : xS) (K : Int32 → xH → Prop) : Prop :=
  xcall (fun τ L => P_X4_in κ x0 (0 : Int32) (15 : Int32) τ L) σ fun v1 σ2 => (narrow .boolean (.int v1) = .int v1 ∧ K v1 σ2.1)
theorem mdX4_isBlock : yX4_isBlock.cls ≠ "java/lang/invoke/MethodHandle" ∧ yX4_isBlock.cls ≠ "java/lang/invoke/VarHandle" ∧ (parseMethodDescriptor yX4_isBlock.desc).map (fun d => d.parameters.length) = some 1 := by decide +kernel
set_option maxHeartbeats 4000000 in
set_option maxRecDepth 100000 in
theorem R_X4_isBlock (l : Launch) (hl : l.stackTraces = false) (G : xG) (hG : G.1.2 = x_cl) (x0 : Int32) (σ : xS) (K : Int32 → xH → Prop) (hp : P_X4_isBlock G.2 x0 σ K) : xM l yX4_isBlock cX4_isBlock 1 (Option.some Jvm.ClassFile.FieldType.boolean) 1 22 G [.int x0] σ (xlift emI K) := by
  refine x_entry (by decide) (Nat.le_of_ble_eq_true rfl) ?_
  intro p e s m args below meth c X hr hin
  have X : xX p s m args meth c G cX4_isBlock 1 RX4 := X
  have hx := X.1
  have hb := X.2.1
  have hts := X.2.2.2.2.1
  have hown := X.2.2.2.1
  unfold P_X4_isBlock at hp
  refine x_same (lo' := [(0, .int x0)]) rfl ?_
  refine x_up (pc' := 1) (fun _ _ _ _ _ L => lv_iload_n hx hb dX4_isBlock_0 rfl (lv_at L 0 rfl)) ?_
  refine x_up (pc' := 2) (fun _ _ _ _ _ L => lv_iconst (v := (0 : Int32)) hx hb dX4_isBlock_1 (by decide)) ?_
  refine x_up (pc' := 4) (fun _ _ _ _ _ L => lv_bipush (v := (15 : Int32)) hx hb dX4_isBlock_2 (by decide)) ?_
  refine x_callS (em := emI) (fun r st => .int r :: st) (fun _ _ => rfl) 3 X (fun σ' KK h => R_X4_in l hl G hG x0 (0 : Int32) (15 : Int32) σ' KK h) (lw_S q3350 q3351 q119 q3352) mdX4_in ⟨Nat.le_of_ble_eq_true rfl, Nat.le_of_ble_eq_true rfl⟩ rfl rfl (Nat.le_of_ble_eq_true rfl) dX4_isBlock_4 hp (fun v1 σ2 hp1 => ?_)
  refine x_pc (pc' := 7) rfl ?_
  exact x_iret X hr hp1.1 dX4_isBlock_7 hp1.2
-- X4_pinnedIn
def B_X4_pinnedIn_4 (κ : Nat → Nat) (K : Int32 → xH → Prop) (f0 : Nat) (f1 : Int32) : ((Int32 × Int32) → xS → Prop) → (Int32 × Int32) → xS → Prop := fun self5003 w5001 σ5002 =>
  (((4 : Int32) ≤ w5001.2 → (K w5001.1 σ5002.1)) ∧ (¬ (4 : Int32) ≤ w5001.2 → (xgq σ5002 f0 10 0 fun v5004 => xnn v5004 fun b5005 => xai .int σ5002 b5005 (((105 : Int32) + ((4 : Int32) * f1)) + w5001.2) fun v5006 => self5003 ((w5001.1 + v5006), (w5001.2 + (1 : Int32))) σ5002)))
def P_X4_pinnedIn (κ : Nat → Nat) (a0 : Nat) (x1 : Int32) (σ : xS) (K : Int32 → xH → Prop) : Prop :=
  xwhile (B_X4_pinnedIn_4 κ K a0 x1) ((0 : Int32), (0 : Int32)) σ
theorem mdX4_pinnedIn : yX4_pinnedIn.cls ≠ "java/lang/invoke/MethodHandle" ∧ yX4_pinnedIn.cls ≠ "java/lang/invoke/VarHandle" ∧ (parseMethodDescriptor yX4_pinnedIn.desc).map (fun d => d.parameters.length) = some 1 := by decide +kernel
set_option maxHeartbeats 4000000 in
set_option maxRecDepth 100000 in
theorem R_X4_pinnedIn (l : Launch) (hl : l.stackTraces = false) (G : xG) (hG : G.1.2 = x_cl) (a0 : Nat) (x1 : Int32) (σ : xS) (K : Int32 → xH → Prop) (hp : P_X4_pinnedIn G.2 a0 x1 σ K) : xM l yX4_pinnedIn cX4_pinnedIn 4 (Option.some Jvm.ClassFile.FieldType.int) 0 0 G [(.ref a0), .int x1] σ (xlift emI K) := by
  refine x_entry (by decide) (Nat.le_of_ble_eq_true rfl) ?_
  intro p e s m args below meth c X hr hin
  have X : xX p s m args meth c G cX4_pinnedIn 4 RX4 := X
  have hx := X.1
  have hb := X.2.1
  have hts := X.2.2.2.2.1
  have hown := X.2.2.2.1
  unfold P_X4_pinnedIn at hp
  refine x_same (lo' := [(0, .ref a0), (1, .int x1)]) rfl ?_
  refine x_up (pc' := 1) (fun _ _ _ _ _ L => lv_iconst (v := (0 : Int32)) hx hb dX4_pinnedIn_0 (by decide)) ?_
  refine x_upL (pc' := 2) (lo' := [(2, .int (0 : Int32)), (0, .ref a0), (1, .int x1)]) (fun _ _ _ _ _ L => lv_istore_n hx hb dX4_pinnedIn_1 rfl L (by decide) rfl) ?_
  refine x_up (pc' := 3) (fun _ _ _ _ _ L => lv_iconst (v := (0 : Int32)) hx hb dX4_pinnedIn_2 (by decide)) ?_
  refine x_upL (pc' := 4) (lo' := [(3, .int (0 : Int32)), (2, .int (0 : Int32)), (0, .ref a0), (1, .int x1)]) (fun _ _ _ _ _ L => lv_istore_n hx hb dX4_pinnedIn_3 rfl L (by decide) rfl) ?_
  refine x_lo (lo' := [(2, .int (0 : Int32)), (3, .int (0 : Int32)), (0, .ref a0), (1, .int x1)]) [1, 0, 2, 3] rfl ?_
  refine x_while (v0 := ((0 : Int32), (0 : Int32))) (fun w1 => [(2, .int w1.1), (3, .int w1.2), (0, .ref a0), (1, .int x1)]) hp (fun self2 hself3 => ?_)
  rintro ⟨y5, y6⟩ σ4 hp1
  unfold B_X4_pinnedIn_4 at hp1
  refine x_same (lo' := [(2, .int y5), (3, .int y6), (0, .ref a0), (1, .int x1)]) rfl ?_
  refine x_up (pc' := 5) (fun _ _ _ _ _ L => lv_iload_n hx hb dX4_pinnedIn_4 rfl (lv_at L 1 rfl)) ?_
  refine x_up (pc' := 6) (fun _ _ _ _ _ L => lv_iconst (v := (4 : Int32)) hx hb dX4_pinnedIn_5 (by decide)) ?_
  refine x_if (C := (4 : Int32) ≤ y6) (pt := 31) (pc' := 9) (fun _ _ _ _ _ => lv_icmp_ge (tgt := 31) hx hb dX4_pinnedIn_6 (by decide)) (fun c6 => ?_) (fun c6 => ?_)
  · have hp2 := hp1.1 c6
    refine x_up (pc' := 32) (fun _ _ _ _ _ L => lv_iload_n hx hb dX4_pinnedIn_31 rfl (lv_at L 0 rfl)) ?_
    exact x_iret X hr rfl dX4_pinnedIn_32 hp2
  · have hp3 := hp1.2 c6
    refine x_up (pc' := 10) (fun _ _ _ _ _ L => lv_iload_n hx hb dX4_pinnedIn_9 rfl (lv_at L 0 rfl)) ?_
    refine x_up (pc' := 11) (fun _ _ _ _ _ L => lv_aload_n hx hb dX4_pinnedIn_10 rfl (lv_at L 2 rfl)) ?_
    refine x_gq X (kX4 hG) 0 (by decide) q3266 (fun _ h => h) dX4_pinnedIn_11 hp3 (fun v7 hp4 => ?_)
    refine x_pc (pc' := 14) rfl ?_
    refine x_up (pc' := 16) (fun _ _ _ _ _ L => lv_bipush (v := (105 : Int32)) hx hb dX4_pinnedIn_14 (by decide)) ?_
    refine x_up (pc' := 17) (fun _ _ _ _ _ L => lv_iconst (v := (4 : Int32)) hx hb dX4_pinnedIn_16 (by decide)) ?_
    refine x_up (pc' := 18) (fun _ _ _ _ _ L => lv_iload_n hx hb dX4_pinnedIn_17 rfl (lv_at L 3 rfl)) ?_
    refine x_up (pc' := 19) (fun _ _ _ _ _ L => lv_imul hx hb dX4_pinnedIn_18) ?_
    refine x_up (pc' := 20) (fun _ _ _ _ _ L => lv_iadd hx hb dX4_pinnedIn_19) ?_
    refine x_up (pc' := 21) (fun _ _ _ _ _ L => lv_iload_n hx hb dX4_pinnedIn_20 rfl (lv_at L 1 rfl)) ?_
    refine x_up (pc' := 22) (fun _ _ _ _ _ L => lv_iadd hx hb dX4_pinnedIn_21) ?_
    obtain ⟨b8, rfl, hp5⟩ := hp4
    refine x_iald X dX4_pinnedIn_22 hp5 (fun v9 hp6 => ?_)
    refine x_pc (pc' := 23) rfl ?_
    refine x_up (pc' := 24) (fun _ _ _ _ _ L => lv_iadd hx hb dX4_pinnedIn_23) ?_
    refine x_upL (pc' := 25) (lo' := [(2, .int (y5 + v9)), (3, .int y6), (0, .ref a0), (1, .int x1)]) (fun _ _ _ _ _ L => lv_istore_n hx hb dX4_pinnedIn_24 rfl L (by decide) rfl) ?_
    refine x_upL (pc' := 28) (lo' := [(3, .int (y6 + (1 : Int32))), (2, .int (y5 + v9)), (0, .ref a0), (1, .int x1)]) (fun _ _ _ _ _ L => lv_iinc (v := y6 + (1 : Int32)) hx hb dX4_pinnedIn_25 L (k := 1) rfl rfl (by decide) rfl) ?_
    refine x_up (pc' := 4) (fun _ _ _ _ _ L => lv_goto (tgt := 4) hx hb dX4_pinnedIn_28 (by decide)) ?_
    refine x_lo (lo' := [(2, .int (y5 + v9)), (3, .int (y6 + (1 : Int32))), (0, .ref a0), (1, .int x1)]) [1, 0, 2, 3] rfl ?_
    exact hself3 ((y5 + v9), (y6 + (1 : Int32))) σ4 hp6
-- X4_pins
def P_X4_pins (κ : Nat → Nat) (a0 : Nat) (x1 : Int32) (x2 : Int32) (σ : xS) (K : Int32 → xH → Prop) : Prop :=
  xcall (fun τ L => P_X4_isBlock κ x1 τ L) σ fun v1 σ2 => ((v1 = 0 → (xrc σ2 a0 10 ∧ xcall (fun τ L => P_X4_refused κ a0 (1 : Int32) x1 τ L) σ2 fun v3 σ4 => K v3 σ4.1)) ∧ (¬ v1 = 0 → (xrc σ2 a0 10 ∧ xcall (fun τ L => P_X4_lineWith κ a0 x1 τ L) σ2 fun v5 σ6 => ((v5 = (-1 : Int32) → (xrc σ6 a0 10 ∧ xcall (fun τ L => P_X4_refused κ a0 (3 : Int32) x1 τ L) σ6 fun v7 σ8 => K v7 σ8.1)) ∧ (¬ v5 = (-1 : Int32) → (xgq σ6 a0 10 0 fun v9 => xnn v9 fun b10 => xai .int σ6 b10 ((105 : Int32) + v5) fun v11 => ((v11 = x2 → (((x2 = (1 : Int32) → (xrc σ6 a0 10 ∧ xcall (fun τ L => P_X4_refused κ a0 (4 : Int32) (v5 - v5 / (4 : Int32) * (4 : Int32)) τ L) σ6 fun v12 σ13 => K v12 σ13.1)) ∧ (¬ x2 = (1 : Int32) → (xrc σ6 a0 10 ∧ xcall (fun τ L => P_X4_refused κ a0 (5 : Int32) (v5 - v5 / (4 : Int32) * (4 : Int32)) τ L) σ6 fun v14 σ15 => K v14 σ15.1))))) ∧ (¬ v11 = x2 → (xgq σ6 a0 10 0 fun v16 => xnn v16 fun b17 => xsi κ .int σ6 b17 ((105 : Int32) + v5) x2 fun σ18 => xrc σ18 a0 10 ∧ xcall (fun τ L => P_X4_pinnedIn κ a0 (v5 / (4 : Int32)) τ L) σ18 fun v19 σ20 => xrc σ20 a0 10 ∧ xcall (fun τ L => P_X4_done κ a0 v19 τ L) σ20 fun v21 σ22 => K v21 σ22.1)))))))))
theorem mdX4_pins : yX4_pins.cls ≠ "java/lang/invoke/MethodHandle" ∧ yX4_pins.cls ≠ "java/lang/invoke/VarHandle" ∧ (parseMethodDescriptor yX4_pins.desc).map (fun d => d.parameters.length) = some 2 := by decide +kernel
set_option maxHeartbeats 4000000 in
set_option maxRecDepth 100000 in
theorem R_X4_pins (l : Launch) (hl : l.stackTraces = false) (G : xG) (hG : G.1.2 = x_cl) (a0 : Nat) (x1 : Int32) (x2 : Int32) (σ : xS) (K : Int32 → xH → Prop) (hp : P_X4_pins G.2 a0 x1 x2 σ K) : xM l yX4_pins cX4_pins 4 (Option.some Jvm.ClassFile.FieldType.int) 2 43 G [(.ref a0), .int x1, .int x2] σ (xlift emI K) := by
  refine x_entry (by decide) (Nat.le_of_ble_eq_true rfl) ?_
  intro p e s m args below meth c X hr hin
  have X : xX p s m args meth c G cX4_pins 4 RX4 := X
  have hx := X.1
  have hb := X.2.1
  have hts := X.2.2.2.2.1
  have hown := X.2.2.2.1
  unfold P_X4_pins at hp
  refine x_same (lo' := [(0, .ref a0), (1, .int x1), (2, .int x2)]) rfl ?_
  refine x_up (pc' := 1) (fun _ _ _ _ _ L => lv_iload_n hx hb dX4_pins_0 rfl (lv_at L 1 rfl)) ?_
  refine x_callS (em := emI) (fun r st => .int r :: st) (fun _ _ => rfl) 1 X (fun σ' KK h => R_X4_isBlock l hl G hG x1 σ' KK h) (lw_S q3444 q3445 q119 q3446) mdX4_isBlock ⟨Nat.le_of_ble_eq_true rfl, Nat.le_of_ble_eq_true rfl⟩ rfl rfl (Nat.le_of_ble_eq_true rfl) dX4_pins_1 hp (fun v1 σ2 hp1 => ?_)
  refine x_pc (pc' := 4) rfl ?_
  refine x_ifn (C := v1 = 0) (pt := 14) (pc' := 7) (fun _ _ _ _ _ => lv_if_ne (tgt := 14) hx hb dX4_pins_4 (by decide)) (fun c4 => ?_) (fun c4 => ?_)
  · have hp2 := hp1.1 c4
    refine x_up (pc' := 8) (fun _ _ _ _ _ L => lv_aload_n hx hb dX4_pins_7 rfl (lv_at L 0 rfl)) ?_
    refine x_up (pc' := 9) (fun _ _ _ _ _ L => lv_iconst (v := (1 : Int32)) hx hb dX4_pins_8 (by decide)) ?_
    refine x_up (pc' := 10) (fun _ _ _ _ _ L => lv_iload_n hx hb dX4_pins_9 rfl (lv_at L 1 rfl)) ?_
    refine x_callV (em := emI) (fun r st => .int r :: st) (fun _ _ => rfl) 2 X (kX4 hG) (fun σ' KK h => R_X4_refused l hl G hG a0 (1 : Int32) x1 σ' KK h) (lw_V q3353 q3355 qs58 q119 q3356) ⟨rfl, mdX4_refused⟩ ⟨Nat.le_of_ble_eq_true rfl, Nat.le_of_ble_eq_true rfl⟩ rfl rfl (Nat.le_of_ble_eq_true rfl) dX4_pins_10 hp2.1 hp2.2 (fun v3 σ4 hp3 => ?_)
    refine x_pc (pc' := 13) rfl ?_
    exact x_iret X hr rfl dX4_pins_13 hp3
  · have hp4 := hp1.2 c4
    refine x_up (pc' := 15) (fun _ _ _ _ _ L => lv_aload_n hx hb dX4_pins_14 rfl (lv_at L 0 rfl)) ?_
    refine x_up (pc' := 16) (fun _ _ _ _ _ L => lv_iload_n hx hb dX4_pins_15 rfl (lv_at L 1 rfl)) ?_
    refine x_callV (em := emI) (fun r st => .int r :: st) (fun _ _ => rfl) 1 X (kX4 hG) (fun σ' KK h => R_X4_lineWith l hl G hG a0 x1 σ' KK h) (lw_V q3365 q3367 qs61 q119 q3368) ⟨rfl, mdX4_lineWith⟩ ⟨Nat.le_of_ble_eq_true rfl, Nat.le_of_ble_eq_true rfl⟩ rfl rfl (Nat.le_of_ble_eq_true rfl) dX4_pins_16 hp4.1 hp4.2 (fun v5 σ6 hp5 => ?_)
    refine x_pc (pc' := 19) rfl ?_
    refine x_upL (pc' := 20) (lo' := [(3, .int v5), (0, .ref a0), (1, .int x1), (2, .int x2)]) (fun _ _ _ _ _ L => lv_istore_n hx hb dX4_pins_19 rfl L (by decide) rfl) ?_
    refine x_up (pc' := 21) (fun _ _ _ _ _ L => lv_iload_n hx hb dX4_pins_20 rfl (lv_at L 0 rfl)) ?_
    refine x_up (pc' := 22) (fun _ _ _ _ _ L => lv_iconst (v := (-1 : Int32)) hx hb dX4_pins_21 (by decide)) ?_
    refine x_ifn (C := v5 = (-1 : Int32)) (pt := 32) (pc' := 25) (fun _ _ _ _ _ => lv_icmp_ne (tgt := 32) hx hb dX4_pins_22 (by decide)) (fun c22 => ?_) (fun c22 => ?_)
    · have hp6 := hp5.1 c22
      refine x_up (pc' := 26) (fun _ _ _ _ _ L => lv_aload_n hx hb dX4_pins_25 rfl (lv_at L 1 rfl)) ?_
      refine x_up (pc' := 27) (fun _ _ _ _ _ L => lv_iconst (v := (3 : Int32)) hx hb dX4_pins_26 (by decide)) ?_
      refine x_up (pc' := 28) (fun _ _ _ _ _ L => lv_iload_n hx hb dX4_pins_27 rfl (lv_at L 2 rfl)) ?_
      refine x_callV (em := emI) (fun r st => .int r :: st) (fun _ _ => rfl) 2 X (kX4 hG) (fun σ' KK h => R_X4_refused l hl G hG a0 (3 : Int32) x1 σ' KK h) (lw_V q3353 q3355 qs58 q119 q3356) ⟨rfl, mdX4_refused⟩ ⟨Nat.le_of_ble_eq_true rfl, Nat.le_of_ble_eq_true rfl⟩ rfl rfl (Nat.le_of_ble_eq_true rfl) dX4_pins_28 hp6.1 hp6.2 (fun v7 σ8 hp7 => ?_)
      refine x_pc (pc' := 31) rfl ?_
      exact x_iret X hr rfl dX4_pins_31 hp7
    · have hp8 := hp5.2 c22
      refine x_up (pc' := 33) (fun _ _ _ _ _ L => lv_aload_n hx hb dX4_pins_32 rfl (lv_at L 1 rfl)) ?_
      refine x_gq X (kX4 hG) 0 (by decide) q3266 (fun _ h => h) dX4_pins_33 hp8 (fun v9 hp9 => ?_)
      refine x_pc (pc' := 36) rfl ?_
      refine x_up (pc' := 38) (fun _ _ _ _ _ L => lv_bipush (v := (105 : Int32)) hx hb dX4_pins_36 (by decide)) ?_
      refine x_up (pc' := 39) (fun _ _ _ _ _ L => lv_iload_n hx hb dX4_pins_38 rfl (lv_at L 0 rfl)) ?_
      refine x_up (pc' := 40) (fun _ _ _ _ _ L => lv_iadd hx hb dX4_pins_39) ?_
      obtain ⟨b10, rfl, hp10⟩ := hp9
      refine x_iald X dX4_pins_40 hp10 (fun v11 hp11 => ?_)
      refine x_pc (pc' := 41) rfl ?_
      refine x_up (pc' := 42) (fun _ _ _ _ _ L => lv_iload_n hx hb dX4_pins_41 rfl (lv_at L 3 rfl)) ?_
      refine x_ifn (C := v11 = x2) (pt := 63) (pc' := 45) (fun _ _ _ _ _ => lv_icmp_ne (tgt := 63) hx hb dX4_pins_42 (by decide)) (fun c42 => ?_) (fun c42 => ?_)
      · have hp12 := hp11.1 c42
        refine x_up (pc' := 46) (fun _ _ _ _ _ L => lv_aload_n hx hb dX4_pins_45 rfl (lv_at L 1 rfl)) ?_
        refine x_up (pc' := 47) (fun _ _ _ _ _ L => lv_iload_n hx hb dX4_pins_46 rfl (lv_at L 3 rfl)) ?_
        refine x_up (pc' := 48) (fun _ _ _ _ _ L => lv_iconst (v := (1 : Int32)) hx hb dX4_pins_47 (by decide)) ?_
        refine x_ifn (C := x2 = (1 : Int32)) (pt := 55) (pc' := 51) (fun _ _ _ _ _ => lv_icmp_ne (tgt := 55) hx hb dX4_pins_48 (by decide)) (fun c48 => ?_) (fun c48 => ?_)
        · have hp13 := hp12.1 c48
          refine x_up (pc' := 52) (fun _ _ _ _ _ L => lv_iconst (v := (4 : Int32)) hx hb dX4_pins_51 (by decide)) ?_
          refine x_up (pc' := 56) (fun _ _ _ _ _ L => lv_goto (tgt := 56) hx hb dX4_pins_52 (by decide)) ?_
          refine x_up (pc' := 57) (fun _ _ _ _ _ L => lv_iload_n hx hb dX4_pins_56 rfl (lv_at L 0 rfl)) ?_
          refine x_up (pc' := 58) (fun _ _ _ _ _ L => lv_iconst (v := (4 : Int32)) hx hb dX4_pins_57 (by decide)) ?_
          refine x_up (pc' := 59) (fun _ _ _ _ _ L => lv_irem hx hb dX4_pins_58 (by decide)) ?_
          refine x_callV (em := emI) (fun r st => .int r :: st) (fun _ _ => rfl) 2 X (kX4 hG) (fun σ' KK h => R_X4_refused l hl G hG a0 (4 : Int32) (v5 - v5 / (4 : Int32) * (4 : Int32)) σ' KK h) (lw_V q3353 q3355 qs58 q119 q3356) ⟨rfl, mdX4_refused⟩ ⟨Nat.le_of_ble_eq_true rfl, Nat.le_of_ble_eq_true rfl⟩ rfl rfl (Nat.le_of_ble_eq_true rfl) dX4_pins_59 hp13.1 hp13.2 (fun v12 σ13 hp14 => ?_)
          refine x_pc (pc' := 62) rfl ?_
          exact x_iret X hr rfl dX4_pins_62 hp14
        · have hp15 := hp12.2 c48
          refine x_up (pc' := 56) (fun _ _ _ _ _ L => lv_iconst (v := (5 : Int32)) hx hb dX4_pins_55 (by decide)) ?_
          refine x_up (pc' := 57) (fun _ _ _ _ _ L => lv_iload_n hx hb dX4_pins_56 rfl (lv_at L 0 rfl)) ?_
          refine x_up (pc' := 58) (fun _ _ _ _ _ L => lv_iconst (v := (4 : Int32)) hx hb dX4_pins_57 (by decide)) ?_
          refine x_up (pc' := 59) (fun _ _ _ _ _ L => lv_irem hx hb dX4_pins_58 (by decide)) ?_
          refine x_callV (em := emI) (fun r st => .int r :: st) (fun _ _ => rfl) 2 X (kX4 hG) (fun σ' KK h => R_X4_refused l hl G hG a0 (5 : Int32) (v5 - v5 / (4 : Int32) * (4 : Int32)) σ' KK h) (lw_V q3353 q3355 qs58 q119 q3356) ⟨rfl, mdX4_refused⟩ ⟨Nat.le_of_ble_eq_true rfl, Nat.le_of_ble_eq_true rfl⟩ rfl rfl (Nat.le_of_ble_eq_true rfl) dX4_pins_59 hp15.1 hp15.2 (fun v14 σ15 hp16 => ?_)
          refine x_pc (pc' := 62) rfl ?_
          exact x_iret X hr rfl dX4_pins_62 hp16
      · have hp17 := hp11.2 c42
        refine x_up (pc' := 64) (fun _ _ _ _ _ L => lv_aload_n hx hb dX4_pins_63 rfl (lv_at L 1 rfl)) ?_
        refine x_gq X (kX4 hG) 0 (by decide) q3266 (fun _ h => h) dX4_pins_64 hp17 (fun v16 hp18 => ?_)
        refine x_pc (pc' := 67) rfl ?_
        refine x_up (pc' := 69) (fun _ _ _ _ _ L => lv_bipush (v := (105 : Int32)) hx hb dX4_pins_67 (by decide)) ?_
        refine x_up (pc' := 70) (fun _ _ _ _ _ L => lv_iload_n hx hb dX4_pins_69 rfl (lv_at L 0 rfl)) ?_
        refine x_up (pc' := 71) (fun _ _ _ _ _ L => lv_iadd hx hb dX4_pins_70) ?_
        refine x_up (pc' := 72) (fun _ _ _ _ _ L => lv_iload_n hx hb dX4_pins_71 rfl (lv_at L 3 rfl)) ?_
        obtain ⟨b17, rfl, hp19⟩ := hp18
        refine x_iast X dX4_pins_72 hp19 (fun σ18 hp20 => ?_)
        refine x_pc (pc' := 73) rfl ?_
        refine x_up (pc' := 74) (fun _ _ _ _ _ L => lv_aload_n hx hb dX4_pins_73 rfl (lv_at L 1 rfl)) ?_
        refine x_up (pc' := 75) (fun _ _ _ _ _ L => lv_aload_n hx hb dX4_pins_74 rfl (lv_at L 1 rfl)) ?_
        refine x_up (pc' := 76) (fun _ _ _ _ _ L => lv_iload_n hx hb dX4_pins_75 rfl (lv_at L 0 rfl)) ?_
        refine x_up (pc' := 77) (fun _ _ _ _ _ L => lv_iconst (v := (4 : Int32)) hx hb dX4_pins_76 (by decide)) ?_
        refine x_up (pc' := 78) (fun _ _ _ _ _ L => lv_idiv hx hb dX4_pins_77 (by decide)) ?_
        refine x_callV (em := emI) (fun r st => .int r :: st) (fun _ _ => rfl) 1 X (kX4 hG) (fun σ' KK h => R_X4_pinnedIn l hl G hG a0 (v5 / (4 : Int32)) σ' KK h) (lw_V q3447 q3449 qs76 q119 q3450) ⟨rfl, mdX4_pinnedIn⟩ ⟨Nat.le_of_ble_eq_true rfl, Nat.le_of_ble_eq_true rfl⟩ rfl rfl (Nat.le_of_ble_eq_true rfl) dX4_pins_78 hp20.1 hp20.2 (fun v19 σ20 hp21 => ?_)
        refine x_pc (pc' := 81) rfl ?_
        refine x_callV (em := emI) (fun r st => .int r :: st) (fun _ _ => rfl) 1 X (kX4 hG) (fun σ' KK h => R_X4_done l hl G hG a0 v19 σ' KK h) (lw_V q3404 q3406 qs70 q119 q3407) ⟨rfl, mdX4_done⟩ ⟨Nat.le_of_ble_eq_true rfl, Nat.le_of_ble_eq_true rfl⟩ rfl rfl (Nat.le_of_ble_eq_true rfl) dX4_pins_81 hp21.1 hp21.2 (fun v21 σ22 hp22 => ?_)
        refine x_pc (pc' := 84) rfl ?_
        exact x_iret X hr rfl dX4_pins_84 hp22
-- X4_pin
def P_X4_pin (κ : Nat → Nat) (a0 : Nat) (x1 : Int32) (σ : xS) (K : Int32 → xH → Prop) : Prop :=
  xrc σ a0 10 ∧ xcall (fun τ L => P_X4_looksBack κ a0 τ L) σ fun _ σ1 => xrc σ1 a0 10 ∧ xcall (fun τ L => P_X4_pins κ a0 x1 (1 : Int32) τ L) σ1 fun v2 σ3 => xrc σ3 a0 10 ∧ xcall (fun τ L => P_X4_kept κ a0 v2 τ L) σ3 fun v4 σ5 => K v4 σ5.1
theorem mdX4_pin : yX4_pin.cls ≠ "java/lang/invoke/MethodHandle" ∧ yX4_pin.cls ≠ "java/lang/invoke/VarHandle" ∧ (parseMethodDescriptor yX4_pin.desc).map (fun d => d.parameters.length) = some 1 := by decide +kernel
set_option maxHeartbeats 4000000 in
set_option maxRecDepth 100000 in
theorem R_X4_pin (l : Launch) (hl : l.stackTraces = false) (G : xG) (hG : G.1.2 = x_cl) (a0 : Nat) (x1 : Int32) (σ : xS) (K : Int32 → xH → Prop) (hp : P_X4_pin G.2 a0 x1 σ K) : xM l yX4_pin cX4_pin 2 (Option.some Jvm.ClassFile.FieldType.int) 3 66 G [(.ref a0), .int x1] σ (xlift emI K) := by
  refine x_entry (by decide) (Nat.le_of_ble_eq_true rfl) ?_
  intro p e s m args below meth c X hr hin
  have X : xX p s m args meth c G cX4_pin 2 RX4 := X
  have hx := X.1
  have hb := X.2.1
  have hts := X.2.2.2.2.1
  have hown := X.2.2.2.1
  unfold P_X4_pin at hp
  refine x_same (lo' := [(0, .ref a0), (1, .int x1)]) rfl ?_
  refine x_up (pc' := 1) (fun _ _ _ _ _ L => lv_aload_n hx hb dX4_pin_0 rfl (lv_at L 0 rfl)) ?_
  refine x_callV (em := emV) (fun r st => st) (fun _ _ => rfl) 0 X (kX4 hG) (fun σ' KK h => R_X4_looksBack l hl G hG a0 σ' KK h) (lw_V q3336 q3338 qs56 q119 q3339) ⟨rfl, mdX4_looksBack⟩ ⟨Nat.le_of_ble_eq_true rfl, Nat.le_of_ble_eq_true rfl⟩ rfl rfl (Nat.le_of_ble_eq_true rfl) dX4_pin_1 hp.1 hp.2 (fun _ σ1 hp1 => ?_)
  refine x_pc (pc' := 4) rfl ?_
  refine x_up (pc' := 5) (fun _ _ _ _ _ L => lv_aload_n hx hb dX4_pin_4 rfl (lv_at L 0 rfl)) ?_
  refine x_up (pc' := 6) (fun _ _ _ _ _ L => lv_aload_n hx hb dX4_pin_5 rfl (lv_at L 0 rfl)) ?_
  refine x_up (pc' := 7) (fun _ _ _ _ _ L => lv_iload_n hx hb dX4_pin_6 rfl (lv_at L 1 rfl)) ?_
  refine x_up (pc' := 8) (fun _ _ _ _ _ L => lv_iconst (v := (1 : Int32)) hx hb dX4_pin_7 (by decide)) ?_
  refine x_callV (em := emI) (fun r st => .int r :: st) (fun _ _ => rfl) 2 X (kX4 hG) (fun σ' KK h => R_X4_pins l hl G hG a0 x1 (1 : Int32) σ' KK h) (lw_V q3440 q3442 qs75 q119 q3443) ⟨rfl, mdX4_pins⟩ ⟨Nat.le_of_ble_eq_true rfl, Nat.le_of_ble_eq_true rfl⟩ rfl rfl (Nat.le_of_ble_eq_true rfl) dX4_pin_8 hp1.1 hp1.2 (fun v2 σ3 hp2 => ?_)
  refine x_pc (pc' := 11) rfl ?_
  refine x_callV (em := emI) (fun r st => .int r :: st) (fun _ _ => rfl) 1 X (kX4 hG) (fun σ' KK h => R_X4_kept l hl G hG a0 v2 σ' KK h) (lw_V q3408 q3410 qs71 q119 q3411) ⟨rfl, mdX4_kept⟩ ⟨Nat.le_of_ble_eq_true rfl, Nat.le_of_ble_eq_true rfl⟩ rfl rfl (Nat.le_of_ble_eq_true rfl) dX4_pin_11 hp2.1 hp2.2 (fun v4 σ5 hp3 => ?_)
  refine x_pc (pc' := 14) rfl ?_
  exact x_iret X hr rfl dX4_pin_14 hp3
-- X4_free
def P_X4_free (κ : Nat → Nat) (a0 : Nat) (x1 : Int32) (σ : xS) (K : Int32 → xH → Prop) : Prop :=
  xrc σ a0 10 ∧ xcall (fun τ L => P_X4_looksBack κ a0 τ L) σ fun _ σ1 => xrc σ1 a0 10 ∧ xcall (fun τ L => P_X4_pins κ a0 x1 (0 : Int32) τ L) σ1 fun v2 σ3 => xrc σ3 a0 10 ∧ xcall (fun τ L => P_X4_kept κ a0 v2 τ L) σ3 fun v4 σ5 => K v4 σ5.1
theorem mdX4_free : yX4_free.cls ≠ "java/lang/invoke/MethodHandle" ∧ yX4_free.cls ≠ "java/lang/invoke/VarHandle" ∧ (parseMethodDescriptor yX4_free.desc).map (fun d => d.parameters.length) = some 1 := by decide +kernel
set_option maxHeartbeats 4000000 in
set_option maxRecDepth 100000 in
theorem R_X4_free (l : Launch) (hl : l.stackTraces = false) (G : xG) (hG : G.1.2 = x_cl) (a0 : Nat) (x1 : Int32) (σ : xS) (K : Int32 → xH → Prop) (hp : P_X4_free G.2 a0 x1 σ K) : xM l yX4_free cX4_free 2 (Option.some Jvm.ClassFile.FieldType.int) 3 66 G [(.ref a0), .int x1] σ (xlift emI K) := by
  refine x_entry (by decide) (Nat.le_of_ble_eq_true rfl) ?_
  intro p e s m args below meth c X hr hin
  have X : xX p s m args meth c G cX4_free 2 RX4 := X
  have hx := X.1
  have hb := X.2.1
  have hts := X.2.2.2.2.1
  have hown := X.2.2.2.1
  unfold P_X4_free at hp
  refine x_same (lo' := [(0, .ref a0), (1, .int x1)]) rfl ?_
  refine x_up (pc' := 1) (fun _ _ _ _ _ L => lv_aload_n hx hb dX4_free_0 rfl (lv_at L 0 rfl)) ?_
  refine x_callV (em := emV) (fun r st => st) (fun _ _ => rfl) 0 X (kX4 hG) (fun σ' KK h => R_X4_looksBack l hl G hG a0 σ' KK h) (lw_V q3336 q3338 qs56 q119 q3339) ⟨rfl, mdX4_looksBack⟩ ⟨Nat.le_of_ble_eq_true rfl, Nat.le_of_ble_eq_true rfl⟩ rfl rfl (Nat.le_of_ble_eq_true rfl) dX4_free_1 hp.1 hp.2 (fun _ σ1 hp1 => ?_)
  refine x_pc (pc' := 4) rfl ?_
  refine x_up (pc' := 5) (fun _ _ _ _ _ L => lv_aload_n hx hb dX4_free_4 rfl (lv_at L 0 rfl)) ?_
  refine x_up (pc' := 6) (fun _ _ _ _ _ L => lv_aload_n hx hb dX4_free_5 rfl (lv_at L 0 rfl)) ?_
  refine x_up (pc' := 7) (fun _ _ _ _ _ L => lv_iload_n hx hb dX4_free_6 rfl (lv_at L 1 rfl)) ?_
  refine x_up (pc' := 8) (fun _ _ _ _ _ L => lv_iconst (v := (0 : Int32)) hx hb dX4_free_7 (by decide)) ?_
  refine x_callV (em := emI) (fun r st => .int r :: st) (fun _ _ => rfl) 2 X (kX4 hG) (fun σ' KK h => R_X4_pins l hl G hG a0 x1 (0 : Int32) σ' KK h) (lw_V q3440 q3442 qs75 q119 q3443) ⟨rfl, mdX4_pins⟩ ⟨Nat.le_of_ble_eq_true rfl, Nat.le_of_ble_eq_true rfl⟩ rfl rfl (Nat.le_of_ble_eq_true rfl) dX4_free_8 hp1.1 hp1.2 (fun v2 σ3 hp2 => ?_)
  refine x_pc (pc' := 11) rfl ?_
  refine x_callV (em := emI) (fun r st => .int r :: st) (fun _ _ => rfl) 1 X (kX4 hG) (fun σ' KK h => R_X4_kept l hl G hG a0 v2 σ' KK h) (lw_V q3408 q3410 qs71 q119 q3411) ⟨rfl, mdX4_kept⟩ ⟨Nat.le_of_ble_eq_true rfl, Nat.le_of_ble_eq_true rfl⟩ rfl rfl (Nat.le_of_ble_eq_true rfl) dX4_free_11 hp2.1 hp2.2 (fun v4 σ5 hp3 => ?_)
  refine x_pc (pc' := 14) rfl ?_
  exact x_iret X hr rfl dX4_free_14 hp3
-- X4_dirtyWords
def B_X4_dirtyWords_4 (κ : Nat → Nat) (K : Int32 → xH → Prop) (f0 : Nat) : ((Int32 × Int32) → xS → Prop) → (Int32 × Int32) → xS → Prop := fun self5003 w5001 σ5002 =>
  (((16 : Int32) ≤ w5001.2 → (K w5001.1 σ5002.1)) ∧ (¬ (16 : Int32) ≤ w5001.2 → (xgq σ5002 f0 10 0 fun v5004 => xnn v5004 fun b5005 => xai .int σ5002 b5005 ((89 : Int32) + w5001.2) fun v5006 => xcall (fun τ L => P_X4_ones κ v5006 τ L) σ5002 fun v5007 σ5008 => self5003 ((w5001.1 + v5007), (w5001.2 + (1 : Int32))) σ5008)))
def P_X4_dirtyWords (κ : Nat → Nat) (a0 : Nat) (σ : xS) (K : Int32 → xH → Prop) : Prop :=
  xwhile (B_X4_dirtyWords_4 κ K a0) ((0 : Int32), (0 : Int32)) σ
theorem mdX4_dirtyWords : yX4_dirtyWords.cls ≠ "java/lang/invoke/MethodHandle" ∧ yX4_dirtyWords.cls ≠ "java/lang/invoke/VarHandle" ∧ (parseMethodDescriptor yX4_dirtyWords.desc).map (fun d => d.parameters.length) = some 0 := by decide +kernel
set_option maxHeartbeats 4000000 in
set_option maxRecDepth 100000 in
theorem R_X4_dirtyWords (l : Launch) (hl : l.stackTraces = false) (G : xG) (hG : G.1.2 = x_cl) (a0 : Nat) (σ : xS) (K : Int32 → xH → Prop) (hp : P_X4_dirtyWords G.2 a0 σ K) : xM l yX4_dirtyWords cX4_dirtyWords 3 (Option.some Jvm.ClassFile.FieldType.int) 1 22 G [(.ref a0)] σ (xlift emI K) := by
  refine x_entry (by decide) (Nat.le_of_ble_eq_true rfl) ?_
  intro p e s m args below meth c X hr hin
  have X : xX p s m args meth c G cX4_dirtyWords 3 RX4 := X
  have hx := X.1
  have hb := X.2.1
  have hts := X.2.2.2.2.1
  have hown := X.2.2.2.1
  unfold P_X4_dirtyWords at hp
  refine x_same (lo' := [(0, .ref a0)]) rfl ?_
  refine x_up (pc' := 1) (fun _ _ _ _ _ L => lv_iconst (v := (0 : Int32)) hx hb dX4_dirtyWords_0 (by decide)) ?_
  refine x_upL (pc' := 2) (lo' := [(1, .int (0 : Int32)), (0, .ref a0)]) (fun _ _ _ _ _ L => lv_istore_n hx hb dX4_dirtyWords_1 rfl L (by decide) rfl) ?_
  refine x_up (pc' := 3) (fun _ _ _ _ _ L => lv_iconst (v := (0 : Int32)) hx hb dX4_dirtyWords_2 (by decide)) ?_
  refine x_upL (pc' := 4) (lo' := [(2, .int (0 : Int32)), (1, .int (0 : Int32)), (0, .ref a0)]) (fun _ _ _ _ _ L => lv_istore_n hx hb dX4_dirtyWords_3 rfl L (by decide) rfl) ?_
  refine x_lo (lo' := [(1, .int (0 : Int32)), (2, .int (0 : Int32)), (0, .ref a0)]) [1, 0, 2] rfl ?_
  refine x_while (v0 := ((0 : Int32), (0 : Int32))) (fun w1 => [(1, .int w1.1), (2, .int w1.2), (0, .ref a0)]) hp (fun self2 hself3 => ?_)
  rintro ⟨y5, y6⟩ σ4 hp1
  unfold B_X4_dirtyWords_4 at hp1
  refine x_same (lo' := [(1, .int y5), (2, .int y6), (0, .ref a0)]) rfl ?_
  refine x_up (pc' := 5) (fun _ _ _ _ _ L => lv_iload_n hx hb dX4_dirtyWords_4 rfl (lv_at L 1 rfl)) ?_
  refine x_up (pc' := 7) (fun _ _ _ _ _ L => lv_bipush (v := (16 : Int32)) hx hb dX4_dirtyWords_5 (by decide)) ?_
  refine x_if (C := (16 : Int32) ≤ y6) (pt := 31) (pc' := 10) (fun _ _ _ _ _ => lv_icmp_ge (tgt := 31) hx hb dX4_dirtyWords_7 (by decide)) (fun c7 => ?_) (fun c7 => ?_)
  · have hp2 := hp1.1 c7
    refine x_up (pc' := 32) (fun _ _ _ _ _ L => lv_iload_n hx hb dX4_dirtyWords_31 rfl (lv_at L 0 rfl)) ?_
    exact x_iret X hr rfl dX4_dirtyWords_32 hp2
  · have hp3 := hp1.2 c7
    refine x_up (pc' := 11) (fun _ _ _ _ _ L => lv_iload_n hx hb dX4_dirtyWords_10 rfl (lv_at L 0 rfl)) ?_
    refine x_up (pc' := 12) (fun _ _ _ _ _ L => lv_aload_n hx hb dX4_dirtyWords_11 rfl (lv_at L 2 rfl)) ?_
    refine x_gq X (kX4 hG) 0 (by decide) q3266 (fun _ h => h) dX4_dirtyWords_12 hp3 (fun v7 hp4 => ?_)
    refine x_pc (pc' := 15) rfl ?_
    refine x_up (pc' := 17) (fun _ _ _ _ _ L => lv_bipush (v := (89 : Int32)) hx hb dX4_dirtyWords_15 (by decide)) ?_
    refine x_up (pc' := 18) (fun _ _ _ _ _ L => lv_iload_n hx hb dX4_dirtyWords_17 rfl (lv_at L 1 rfl)) ?_
    refine x_up (pc' := 19) (fun _ _ _ _ _ L => lv_iadd hx hb dX4_dirtyWords_18) ?_
    obtain ⟨b8, rfl, hp5⟩ := hp4
    refine x_iald X dX4_dirtyWords_19 hp5 (fun v9 hp6 => ?_)
    refine x_pc (pc' := 20) rfl ?_
    refine x_callS (em := emI) (fun r st => .int r :: st) (fun _ _ => rfl) 1 X (fun σ' KK h => R_X4_ones l hl G hG v9 σ' KK h) (lw_S q3381 q3382 q119 q3383) mdX4_ones ⟨Nat.le_of_ble_eq_true rfl, Nat.le_of_ble_eq_true rfl⟩ rfl rfl (Nat.le_of_ble_eq_true rfl) dX4_dirtyWords_20 hp6 (fun v10 σ11 hp7 => ?_)
    refine x_pc (pc' := 23) rfl ?_
    refine x_up (pc' := 24) (fun _ _ _ _ _ L => lv_iadd hx hb dX4_dirtyWords_23) ?_
    refine x_upL (pc' := 25) (lo' := [(1, .int (y5 + v10)), (2, .int y6), (0, .ref a0)]) (fun _ _ _ _ _ L => lv_istore_n hx hb dX4_dirtyWords_24 rfl L (by decide) rfl) ?_
    refine x_upL (pc' := 28) (lo' := [(2, .int (y6 + (1 : Int32))), (1, .int (y5 + v10)), (0, .ref a0)]) (fun _ _ _ _ _ L => lv_iinc (v := y6 + (1 : Int32)) hx hb dX4_dirtyWords_25 L (k := 1) rfl rfl (by decide) rfl) ?_
    refine x_up (pc' := 4) (fun _ _ _ _ _ L => lv_goto (tgt := 4) hx hb dX4_dirtyWords_28 (by decide)) ?_
    refine x_lo (lo' := [(1, .int (y5 + v10)), (2, .int (y6 + (1 : Int32))), (0, .ref a0)]) [1, 0, 2] rfl ?_
    exact hself3 ((y5 + v10), (y6 + (1 : Int32))) σ11 hp7
-- X4_writesAllBack
def B_X4_writesAllBack_16 (κ : Nat → Nat) (kx17104 : Int32 → xS → Prop) (f0 : Nat) (f2 : Int32) : ((Int32 × Int32) → xS → Prop) → (Int32 × Int32) → xS → Prop := fun self17103 w17101 σ17102 =>
  xgq σ17102 f0 10 0 fun v17105 => xnn v17105 fun b17106 => xai .int σ17102 b17106 (2 : Int32) fun v17107 => ((v17107 ≤ w17101.2 → (kx17104 w17101.1 σ17102)) ∧ (¬ v17107 ≤ w17101.2 → (xrc σ17102 f0 10 ∧ xcall (fun τ L => P_X4_writesBack κ f0 (((4 : Int32) * f2) + w17101.2) τ L) σ17102 fun v17108 σ17109 => self17103 ((w17101.1 + v17108), (w17101.2 + (1 : Int32))) σ17109)))
def B_X4_writesAllBack_4 (κ : Nat → Nat) (K : Int32 → xH → Prop) (f0 : Nat) : ((Int32 × Int32) → xS → Prop) → (Int32 × Int32) → xS → Prop := fun self5003 w5001 σ5002 =>
  xgq σ5002 f0 10 0 fun v5004 => xnn v5004 fun b5005 => xai .int σ5002 b5005 (1 : Int32) fun v5006 => ((v5006 ≤ w5001.2 → (K w5001.1 σ5002.1)) ∧ (¬ v5006 ≤ w5001.2 → (xwhile (B_X4_writesAllBack_16 κ (fun e5007 σ5008 => self5003 (e5007, (w5001.2 + (1 : Int32))) σ5008) f0 w5001.2) (w5001.1, (0 : Int32)) σ5002)))
def P_X4_writesAllBack (κ : Nat → Nat) (a0 : Nat) (σ : xS) (K : Int32 → xH → Prop) : Prop :=
  xwhile (B_X4_writesAllBack_4 κ K a0) ((0 : Int32), (0 : Int32)) σ
theorem mdX4_writesAllBack : yX4_writesAllBack.cls ≠ "java/lang/invoke/MethodHandle" ∧ yX4_writesAllBack.cls ≠ "java/lang/invoke/VarHandle" ∧ (parseMethodDescriptor yX4_writesAllBack.desc).map (fun d => d.parameters.length) = some 0 := by decide +kernel
set_option maxHeartbeats 4000000 in
set_option maxRecDepth 100000 in
theorem R_X4_writesAllBack (l : Launch) (hl : l.stackTraces = false) (G : xG) (hG : G.1.2 = x_cl) (a0 : Nat) (σ : xS) (K : Int32 → xH → Prop) (hp : P_X4_writesAllBack G.2 a0 σ K) : xM l yX4_writesAllBack cX4_writesAllBack 4 (Option.some Jvm.ClassFile.FieldType.int) 2 46 G [(.ref a0)] σ (xlift emI K) := by
  refine x_entry (by decide) (Nat.le_of_ble_eq_true rfl) ?_
  intro p e s m args below meth c X hr hin
  have X : xX p s m args meth c G cX4_writesAllBack 4 RX4 := X
  have hx := X.1
  have hb := X.2.1
  have hts := X.2.2.2.2.1
  have hown := X.2.2.2.1
  unfold P_X4_writesAllBack at hp
  refine x_same (lo' := [(0, .ref a0)]) rfl ?_
  refine x_up (pc' := 1) (fun _ _ _ _ _ L => lv_iconst (v := (0 : Int32)) hx hb dX4_writesAllBack_0 (by decide)) ?_
  refine x_upL (pc' := 2) (lo' := [(1, .int (0 : Int32)), (0, .ref a0)]) (fun _ _ _ _ _ L => lv_istore_n hx hb dX4_writesAllBack_1 rfl L (by decide) rfl) ?_
  refine x_up (pc' := 3) (fun _ _ _ _ _ L => lv_iconst (v := (0 : Int32)) hx hb dX4_writesAllBack_2 (by decide)) ?_
  refine x_upL (pc' := 4) (lo' := [(2, .int (0 : Int32)), (1, .int (0 : Int32)), (0, .ref a0)]) (fun _ _ _ _ _ L => lv_istore_n hx hb dX4_writesAllBack_3 rfl L (by decide) rfl) ?_
  refine x_lo (lo' := [(1, .int (0 : Int32)), (2, .int (0 : Int32)), (0, .ref a0)]) [1, 0, 2] rfl ?_
  refine x_while (v0 := ((0 : Int32), (0 : Int32))) (fun w1 => [(1, .int w1.1), (2, .int w1.2), (0, .ref a0)]) hp (fun self2 hself3 => ?_)
  rintro ⟨y5, y6⟩ σ4 hp1
  unfold B_X4_writesAllBack_4 at hp1
  refine x_same (lo' := [(1, .int y5), (2, .int y6), (0, .ref a0)]) rfl ?_
  refine x_up (pc' := 5) (fun _ _ _ _ _ L => lv_iload_n hx hb dX4_writesAllBack_4 rfl (lv_at L 1 rfl)) ?_
  refine x_up (pc' := 6) (fun _ _ _ _ _ L => lv_aload_n hx hb dX4_writesAllBack_5 rfl (lv_at L 2 rfl)) ?_
  refine x_gq X (kX4 hG) 0 (by decide) q3266 (fun _ h => h) dX4_writesAllBack_6 hp1 (fun v7 hp2 => ?_)
  refine x_pc (pc' := 9) rfl ?_
  refine x_up (pc' := 10) (fun _ _ _ _ _ L => lv_iconst (v := (1 : Int32)) hx hb dX4_writesAllBack_9 (by decide)) ?_
  obtain ⟨b8, rfl, hp3⟩ := hp2
  refine x_iald X dX4_writesAllBack_10 hp3 (fun v9 hp4 => ?_)
  refine x_pc (pc' := 11) rfl ?_
  refine x_if (C := v9 ≤ y6) (pt := 50) (pc' := 14) (fun _ _ _ _ _ => lv_icmp_ge (tgt := 50) hx hb dX4_writesAllBack_11 (by decide)) (fun c11 => ?_) (fun c11 => ?_)
  · have hp5 := hp4.1 c11
    refine x_up (pc' := 51) (fun _ _ _ _ _ L => lv_iload_n hx hb dX4_writesAllBack_50 rfl (lv_at L 0 rfl)) ?_
    exact x_iret X hr rfl dX4_writesAllBack_51 hp5
  · have hp6 := hp4.2 c11
    refine x_up (pc' := 15) (fun _ _ _ _ _ L => lv_iconst (v := (0 : Int32)) hx hb dX4_writesAllBack_14 (by decide)) ?_
    refine x_upL (pc' := 16) (lo' := [(3, .int (0 : Int32)), (1, .int y5), (2, .int y6), (0, .ref a0)]) (fun _ _ _ _ _ L => lv_istore_n hx hb dX4_writesAllBack_15 rfl L (by decide) rfl) ?_
    refine x_lo (lo' := [(1, .int y5), (3, .int (0 : Int32)), (0, .ref a0), (2, .int y6)]) [1, 0, 3, 2] rfl ?_
    refine x_while (v0 := (y5, (0 : Int32))) (fun w10 => [(1, .int w10.1), (3, .int w10.2), (0, .ref a0), (2, .int y6)]) hp6 (fun self11 hself12 => ?_)
    rintro ⟨y14, y15⟩ σ13 hp7
    unfold B_X4_writesAllBack_16 at hp7
    refine x_same (lo' := [(1, .int y14), (3, .int y15), (0, .ref a0), (2, .int y6)]) rfl ?_
    refine x_up (pc' := 17) (fun _ _ _ _ _ L => lv_iload_n hx hb dX4_writesAllBack_16 rfl (lv_at L 1 rfl)) ?_
    refine x_up (pc' := 18) (fun _ _ _ _ _ L => lv_aload_n hx hb dX4_writesAllBack_17 rfl (lv_at L 2 rfl)) ?_
    refine x_gq X (kX4 hG) 0 (by decide) q3266 (fun _ h => h) dX4_writesAllBack_18 hp7 (fun v16 hp8 => ?_)
    refine x_pc (pc' := 21) rfl ?_
    refine x_up (pc' := 22) (fun _ _ _ _ _ L => lv_iconst (v := (2 : Int32)) hx hb dX4_writesAllBack_21 (by decide)) ?_
    obtain ⟨b17, rfl, hp9⟩ := hp8
    refine x_iald X dX4_writesAllBack_22 hp9 (fun v18 hp10 => ?_)
    refine x_pc (pc' := 23) rfl ?_
    refine x_if (C := v18 ≤ y15) (pt := 44) (pc' := 26) (fun _ _ _ _ _ => lv_icmp_ge (tgt := 44) hx hb dX4_writesAllBack_23 (by decide)) (fun c23 => ?_) (fun c23 => ?_)
    · have hp11 := hp10.1 c23
      refine x_upL (pc' := 47) (lo' := [(2, .int (y6 + (1 : Int32))), (1, .int y14), (3, .int y15), (0, .ref a0)]) (fun _ _ _ _ _ L => lv_iinc (v := y6 + (1 : Int32)) hx hb dX4_writesAllBack_44 L (k := 3) rfl rfl (by decide) rfl) ?_
      refine x_up (pc' := 4) (fun _ _ _ _ _ L => lv_goto (tgt := 4) hx hb dX4_writesAllBack_47 (by decide)) ?_
      refine x_lo (lo' := [(1, .int y14), (2, .int (y6 + (1 : Int32))), (0, .ref a0)]) [1, 0, 3] rfl ?_
      exact hself3 (y14, (y6 + (1 : Int32))) σ13 hp11
    · have hp12 := hp10.2 c23
      refine x_up (pc' := 27) (fun _ _ _ _ _ L => lv_iload_n hx hb dX4_writesAllBack_26 rfl (lv_at L 0 rfl)) ?_
      refine x_up (pc' := 28) (fun _ _ _ _ _ L => lv_aload_n hx hb dX4_writesAllBack_27 rfl (lv_at L 2 rfl)) ?_
      refine x_up (pc' := 29) (fun _ _ _ _ _ L => lv_iconst (v := (4 : Int32)) hx hb dX4_writesAllBack_28 (by decide)) ?_
      refine x_up (pc' := 30) (fun _ _ _ _ _ L => lv_iload_n hx hb dX4_writesAllBack_29 rfl (lv_at L 3 rfl)) ?_
      refine x_up (pc' := 31) (fun _ _ _ _ _ L => lv_imul hx hb dX4_writesAllBack_30) ?_
      refine x_up (pc' := 32) (fun _ _ _ _ _ L => lv_iload_n hx hb dX4_writesAllBack_31 rfl (lv_at L 1 rfl)) ?_
      refine x_up (pc' := 33) (fun _ _ _ _ _ L => lv_iadd hx hb dX4_writesAllBack_32) ?_
      refine x_callV (em := emI) (fun r st => .int r :: st) (fun _ _ => rfl) 1 X (kX4 hG) (fun σ' KK h => R_X4_writesBack l hl G hG a0 (((4 : Int32) * y6) + y15) σ' KK h) (lw_V q3392 q3394 qs67 q119 q3395) ⟨rfl, mdX4_writesBack⟩ ⟨Nat.le_of_ble_eq_true rfl, Nat.le_of_ble_eq_true rfl⟩ rfl rfl (Nat.le_of_ble_eq_true rfl) dX4_writesAllBack_33 hp12.1 hp12.2 (fun v19 σ20 hp13 => ?_)
      refine x_pc (pc' := 36) rfl ?_
      refine x_up (pc' := 37) (fun _ _ _ _ _ L => lv_iadd hx hb dX4_writesAllBack_36) ?_
      refine x_upL (pc' := 38) (lo' := [(1, .int (y14 + v19)), (3, .int y15), (0, .ref a0), (2, .int y6)]) (fun _ _ _ _ _ L => lv_istore_n hx hb dX4_writesAllBack_37 rfl L (by decide) rfl) ?_
      refine x_upL (pc' := 41) (lo' := [(3, .int (y15 + (1 : Int32))), (1, .int (y14 + v19)), (0, .ref a0), (2, .int y6)]) (fun _ _ _ _ _ L => lv_iinc (v := y15 + (1 : Int32)) hx hb dX4_writesAllBack_38 L (k := 1) rfl rfl (by decide) rfl) ?_
      refine x_up (pc' := 16) (fun _ _ _ _ _ L => lv_goto (tgt := 16) hx hb dX4_writesAllBack_41 (by decide)) ?_
      refine x_lo (lo' := [(1, .int (y14 + v19)), (3, .int (y15 + (1 : Int32))), (0, .ref a0), (2, .int y6)]) [1, 0, 2, 3] rfl ?_
      exact hself12 ((y14 + v19), (y15 + (1 : Int32))) σ20 hp13
-- X4_flushes
def P_X4_flushes (κ : Nat → Nat) (a0 : Nat) (σ : xS) (K : Int32 → xH → Prop) : Prop :=
  xrc σ a0 10 ∧ xcall (fun τ L => P_X4_dirtyWords κ a0 τ L) σ fun v1 σ2 => ((v1 = 0 → (xrc σ2 a0 10 ∧ xcall (fun τ L => P_X4_refused κ a0 (6 : Int32) (0 : Int32) τ L) σ2 fun v3 σ4 => K v3 σ4.1)) ∧ (¬ v1 = 0 → (xrc σ2 a0 10 ∧ xcall (fun τ L => P_X4_writesAllBack κ a0 τ L) σ2 fun v5 σ6 => xrc σ6 a0 10 ∧ xcall (fun τ L => P_X4_done κ a0 v5 τ L) σ6 fun v7 σ8 => K v7 σ8.1)))
theorem mdX4_flushes : yX4_flushes.cls ≠ "java/lang/invoke/MethodHandle" ∧ yX4_flushes.cls ≠ "java/lang/invoke/VarHandle" ∧ (parseMethodDescriptor yX4_flushes.desc).map (fun d => d.parameters.length) = some 0 := by decide +kernel
set_option maxHeartbeats 4000000 in
set_option maxRecDepth 100000 in
theorem R_X4_flushes (l : Launch) (hl : l.stackTraces = false) (G : xG) (hG : G.1.2 = x_cl) (a0 : Nat) (σ : xS) (K : Int32 → xH → Prop) (hp : P_X4_flushes G.2 a0 σ K) : xM l yX4_flushes cX4_flushes 1 (Option.some Jvm.ClassFile.FieldType.int) 3 69 G [(.ref a0)] σ (xlift emI K) := by
  refine x_entry (by decide) (Nat.le_of_ble_eq_true rfl) ?_
  intro p e s m args below meth c X hr hin
  have X : xX p s m args meth c G cX4_flushes 1 RX4 := X
  have hx := X.1
  have hb := X.2.1
  have hts := X.2.2.2.2.1
  have hown := X.2.2.2.1
  unfold P_X4_flushes at hp
  refine x_same (lo' := [(0, .ref a0)]) rfl ?_
  refine x_up (pc' := 1) (fun _ _ _ _ _ L => lv_aload_n hx hb dX4_flushes_0 rfl (lv_at L 0 rfl)) ?_
  refine x_callV (em := emI) (fun r st => .int r :: st) (fun _ _ => rfl) 0 X (kX4 hG) (fun σ' KK h => R_X4_dirtyWords l hl G hG a0 σ' KK h) (lw_V q3463 q3465 qs78 q119 q3466) ⟨rfl, mdX4_dirtyWords⟩ ⟨Nat.le_of_ble_eq_true rfl, Nat.le_of_ble_eq_true rfl⟩ rfl rfl (Nat.le_of_ble_eq_true rfl) dX4_flushes_1 hp.1 hp.2 (fun v1 σ2 hp1 => ?_)
  refine x_pc (pc' := 4) rfl ?_
  refine x_ifn (C := v1 = 0) (pt := 17) (pc' := 7) (fun _ _ _ _ _ => lv_if_ne (tgt := 17) hx hb dX4_flushes_4 (by decide)) (fun c4 => ?_) (fun c4 => ?_)
  · have hp2 := hp1.1 c4
    refine x_up (pc' := 8) (fun _ _ _ _ _ L => lv_aload_n hx hb dX4_flushes_7 rfl (lv_at L 0 rfl)) ?_
    refine x_up (pc' := 10) (fun _ _ _ _ _ L => lv_bipush (v := (6 : Int32)) hx hb dX4_flushes_8 (by decide)) ?_
    refine x_up (pc' := 11) (fun _ _ _ _ _ L => lv_iconst (v := (0 : Int32)) hx hb dX4_flushes_10 (by decide)) ?_
    refine x_callV (em := emI) (fun r st => .int r :: st) (fun _ _ => rfl) 2 X (kX4 hG) (fun σ' KK h => R_X4_refused l hl G hG a0 (6 : Int32) (0 : Int32) σ' KK h) (lw_V q3353 q3355 qs58 q119 q3356) ⟨rfl, mdX4_refused⟩ ⟨Nat.le_of_ble_eq_true rfl, Nat.le_of_ble_eq_true rfl⟩ rfl rfl (Nat.le_of_ble_eq_true rfl) dX4_flushes_11 hp2.1 hp2.2 (fun v3 σ4 hp3 => ?_)
    refine x_pc (pc' := 14) rfl ?_
    refine x_up (pc' := 25) (fun _ _ _ _ _ L => lv_goto (tgt := 25) hx hb dX4_flushes_14 (by decide)) ?_
    exact x_iret X hr rfl dX4_flushes_25 hp3
  · have hp4 := hp1.2 c4
    refine x_up (pc' := 18) (fun _ _ _ _ _ L => lv_aload_n hx hb dX4_flushes_17 rfl (lv_at L 0 rfl)) ?_
    refine x_up (pc' := 19) (fun _ _ _ _ _ L => lv_aload_n hx hb dX4_flushes_18 rfl (lv_at L 0 rfl)) ?_
    refine x_callV (em := emI) (fun r st => .int r :: st) (fun _ _ => rfl) 0 X (kX4 hG) (fun σ' KK h => R_X4_writesAllBack l hl G hG a0 σ' KK h) (lw_V q3467 q3469 qs79 q119 q3470) ⟨rfl, mdX4_writesAllBack⟩ ⟨Nat.le_of_ble_eq_true rfl, Nat.le_of_ble_eq_true rfl⟩ rfl rfl (Nat.le_of_ble_eq_true rfl) dX4_flushes_19 hp4.1 hp4.2 (fun v5 σ6 hp5 => ?_)
    refine x_pc (pc' := 22) rfl ?_
    refine x_callV (em := emI) (fun r st => .int r :: st) (fun _ _ => rfl) 1 X (kX4 hG) (fun σ' KK h => R_X4_done l hl G hG a0 v5 σ' KK h) (lw_V q3404 q3406 qs70 q119 q3407) ⟨rfl, mdX4_done⟩ ⟨Nat.le_of_ble_eq_true rfl, Nat.le_of_ble_eq_true rfl⟩ rfl rfl (Nat.le_of_ble_eq_true rfl) dX4_flushes_22 hp5.1 hp5.2 (fun v7 σ8 hp6 => ?_)
    refine x_pc (pc' := 25) rfl ?_
    exact x_iret X hr rfl dX4_flushes_25 hp6
-- X4_flush
def P_X4_flush (κ : Nat → Nat) (a0 : Nat) (σ : xS) (K : Int32 → xH → Prop) : Prop :=
  xrc σ a0 10 ∧ xcall (fun τ L => P_X4_looksBack κ a0 τ L) σ fun _ σ1 => xrc σ1 a0 10 ∧ xcall (fun τ L => P_X4_flushes κ a0 τ L) σ1 fun v2 σ3 => xrc σ3 a0 10 ∧ xcall (fun τ L => P_X4_kept κ a0 v2 τ L) σ3 fun v4 σ5 => K v4 σ5.1
theorem mdX4_flush : yX4_flush.cls ≠ "java/lang/invoke/MethodHandle" ∧ yX4_flush.cls ≠ "java/lang/invoke/VarHandle" ∧ (parseMethodDescriptor yX4_flush.desc).map (fun d => d.parameters.length) = some 0 := by decide +kernel
set_option maxHeartbeats 4000000 in
set_option maxRecDepth 100000 in
theorem R_X4_flush (l : Launch) (hl : l.stackTraces = false) (G : xG) (hG : G.1.2 = x_cl) (a0 : Nat) (σ : xS) (K : Int32 → xH → Prop) (hp : P_X4_flush G.2 a0 σ K) : xM l yX4_flush cX4_flush 1 (Option.some Jvm.ClassFile.FieldType.int) 4 89 G [(.ref a0)] σ (xlift emI K) := by
  refine x_entry (by decide) (Nat.le_of_ble_eq_true rfl) ?_
  intro p e s m args below meth c X hr hin
  have X : xX p s m args meth c G cX4_flush 1 RX4 := X
  have hx := X.1
  have hb := X.2.1
  have hts := X.2.2.2.2.1
  have hown := X.2.2.2.1
  unfold P_X4_flush at hp
  refine x_same (lo' := [(0, .ref a0)]) rfl ?_
  refine x_up (pc' := 1) (fun _ _ _ _ _ L => lv_aload_n hx hb dX4_flush_0 rfl (lv_at L 0 rfl)) ?_
  refine x_callV (em := emV) (fun r st => st) (fun _ _ => rfl) 0 X (kX4 hG) (fun σ' KK h => R_X4_looksBack l hl G hG a0 σ' KK h) (lw_V q3336 q3338 qs56 q119 q3339) ⟨rfl, mdX4_looksBack⟩ ⟨Nat.le_of_ble_eq_true rfl, Nat.le_of_ble_eq_true rfl⟩ rfl rfl (Nat.le_of_ble_eq_true rfl) dX4_flush_1 hp.1 hp.2 (fun _ σ1 hp1 => ?_)
  refine x_pc (pc' := 4) rfl ?_
  refine x_up (pc' := 5) (fun _ _ _ _ _ L => lv_aload_n hx hb dX4_flush_4 rfl (lv_at L 0 rfl)) ?_
  refine x_up (pc' := 6) (fun _ _ _ _ _ L => lv_aload_n hx hb dX4_flush_5 rfl (lv_at L 0 rfl)) ?_
  refine x_callV (em := emI) (fun r st => .int r :: st) (fun _ _ => rfl) 0 X (kX4 hG) (fun σ' KK h => R_X4_flushes l hl G hG a0 σ' KK h) (lw_V q3459 q3461 qs77 q119 q3462) ⟨rfl, mdX4_flushes⟩ ⟨Nat.le_of_ble_eq_true rfl, Nat.le_of_ble_eq_true rfl⟩ rfl rfl (Nat.le_of_ble_eq_true rfl) dX4_flush_6 hp1.1 hp1.2 (fun v2 σ3 hp2 => ?_)
  refine x_pc (pc' := 9) rfl ?_
  refine x_callV (em := emI) (fun r st => .int r :: st) (fun _ _ => rfl) 1 X (kX4 hG) (fun σ' KK h => R_X4_kept l hl G hG a0 v2 σ' KK h) (lw_V q3408 q3410 qs71 q119 q3411) ⟨rfl, mdX4_kept⟩ ⟨Nat.le_of_ble_eq_true rfl, Nat.le_of_ble_eq_true rfl⟩ rfl rfl (Nat.le_of_ble_eq_true rfl) dX4_flush_9 hp2.1 hp2.2 (fun v4 σ5 hp3 => ?_)
  refine x_pc (pc' := 12) rfl ?_
  exact x_iret X hr rfl dX4_flush_12 hp3
-- X4_shape
def B_X4_shape_80 (κ : Nat → Nat) (K : Int32 → xH → Prop) (f0 : Nat) (f3 : Int32) : (Int32 → xS → Prop) → Int32 → xS → Prop := fun self81003 w81001 σ81002 =>
  (((16 : Int32) ≤ w81001 → (xrc σ81002 f0 10 ∧ xcall (fun τ L => P_X4_done κ f0 f3 τ L) σ81002 fun v81004 σ81005 => xrc σ81005 f0 10 ∧ xcall (fun τ L => P_X4_kept κ f0 v81004 τ L) σ81005 fun v81006 σ81007 => K v81006 σ81007.1)) ∧ (¬ (16 : Int32) ≤ w81001 → (xgq σ81002 f0 10 0 fun v81008 => xnn v81008 fun b81009 => xsi κ .int σ81002 b81009 ((235 : Int32) + w81001) (0 : Int32) fun σ81010 => self81003 (w81001 + (1 : Int32)) σ81010)))
def P_X4_shape (κ : Nat → Nat) (a0 : Nat) (x1 : Int32) (x2 : Int32) (σ : xS) (K : Int32 → xH → Prop) : Prop :=
  xcall (fun τ L => P_X4_in κ x1 (1 : Int32) (4 : Int32) τ L) σ fun v1 σ2 => ((v1 = 0 → (xrc σ2 a0 10 ∧ xcall (fun τ L => P_X4_refused κ a0 (1 : Int32) x1 τ L) σ2 fun v3 σ4 => K v3 σ4.1)) ∧ (¬ v1 = 0 → (xcall (fun τ L => P_X4_in κ x2 (1 : Int32) (4 : Int32) τ L) σ2 fun v5 σ6 => ((v5 = 0 → (xrc σ6 a0 10 ∧ xcall (fun τ L => P_X4_refused κ a0 (1 : Int32) x2 τ L) σ6 fun v7 σ8 => K v7 σ8.1)) ∧ (¬ v5 = 0 → (xrc σ6 a0 10 ∧ xcall (fun τ L => P_X4_looksBack κ a0 τ L) σ6 fun _ σ9 => xrc σ9 a0 10 ∧ xcall (fun τ L => P_X4_writesAllBack κ a0 τ L) σ9 fun v10 σ11 => xrc σ11 a0 10 ∧ xcall (fun τ L => P_X4_empties κ a0 τ L) σ11 fun _ σ12 => xgq σ12 a0 10 0 fun v13 => xnn v13 fun b14 => xsi κ .int σ12 b14 (1 : Int32) x1 fun σ15 => xgq σ15 a0 10 0 fun v16 => xnn v16 fun b17 => xsi κ .int σ15 b17 (2 : Int32) x2 fun σ18 => xgq σ18 a0 10 0 fun v19 => xnn v19 fun b20 => xsi κ .int σ18 b20 (233 : Int32) (0 : Int32) fun σ21 => xgq σ21 a0 10 0 fun v22 => xnn v22 fun b23 => xsi κ .int σ21 b23 (234 : Int32) (0 : Int32) fun σ24 => xwhile (B_X4_shape_80 κ K a0 v10) (0 : Int32) σ24))))))
theorem mdX4_shape : yX4_shape.cls ≠ "java/lang/invoke/MethodHandle" ∧ yX4_shape.cls ≠ "java/lang/invoke/VarHandle" ∧ (parseMethodDescriptor yX4_shape.desc).map (fun d => d.parameters.length) = some 2 := by decide +kernel
set_option maxHeartbeats 4000000 in
set_option maxRecDepth 100000 in
theorem R_X4_shape (l : Launch) (hl : l.stackTraces = false) (G : xG) (hG : G.1.2 = x_cl) (a0 : Nat) (x1 : Int32) (x2 : Int32) (σ : xS) (K : Int32 → xH → Prop) (hp : P_X4_shape G.2 a0 x1 x2 σ K) : xM l yX4_shape cX4_shape 5 (Option.some Jvm.ClassFile.FieldType.int) 3 69 G [(.ref a0), .int x1, .int x2] σ (xlift emI K) := by
  refine x_entry (by decide) (Nat.le_of_ble_eq_true rfl) ?_
  intro p e s m args below meth c X hr hin
  have X : xX p s m args meth c G cX4_shape 5 RX4 := X
  have hx := X.1
  have hb := X.2.1
  have hts := X.2.2.2.2.1
  have hown := X.2.2.2.1
  unfold P_X4_shape at hp
  refine x_same (lo' := [(0, .ref a0), (1, .int x1), (2, .int x2)]) rfl ?_
  refine x_up (pc' := 1) (fun _ _ _ _ _ L => lv_iload_n hx hb dX4_shape_0 rfl (lv_at L 1 rfl)) ?_
  refine x_up (pc' := 2) (fun _ _ _ _ _ L => lv_iconst (v := (1 : Int32)) hx hb dX4_shape_1 (by decide)) ?_
  refine x_up (pc' := 3) (fun _ _ _ _ _ L => lv_iconst (v := (4 : Int32)) hx hb dX4_shape_2 (by decide)) ?_
  refine x_callS (em := emI) (fun r st => .int r :: st) (fun _ _ => rfl) 3 X (fun σ' KK h => R_X4_in l hl G hG x1 (1 : Int32) (4 : Int32) σ' KK h) (lw_S q3350 q3351 q119 q3352) mdX4_in ⟨Nat.le_of_ble_eq_true rfl, Nat.le_of_ble_eq_true rfl⟩ rfl rfl (Nat.le_of_ble_eq_true rfl) dX4_shape_3 hp (fun v1 σ2 hp1 => ?_)
  refine x_pc (pc' := 6) rfl ?_
  refine x_ifn (C := v1 = 0) (pt := 16) (pc' := 9) (fun _ _ _ _ _ => lv_if_ne (tgt := 16) hx hb dX4_shape_6 (by decide)) (fun c6 => ?_) (fun c6 => ?_)
  · have hp2 := hp1.1 c6
    refine x_up (pc' := 10) (fun _ _ _ _ _ L => lv_aload_n hx hb dX4_shape_9 rfl (lv_at L 0 rfl)) ?_
    refine x_up (pc' := 11) (fun _ _ _ _ _ L => lv_iconst (v := (1 : Int32)) hx hb dX4_shape_10 (by decide)) ?_
    refine x_up (pc' := 12) (fun _ _ _ _ _ L => lv_iload_n hx hb dX4_shape_11 rfl (lv_at L 1 rfl)) ?_
    refine x_callV (em := emI) (fun r st => .int r :: st) (fun _ _ => rfl) 2 X (kX4 hG) (fun σ' KK h => R_X4_refused l hl G hG a0 (1 : Int32) x1 σ' KK h) (lw_V q3353 q3355 qs58 q119 q3356) ⟨rfl, mdX4_refused⟩ ⟨Nat.le_of_ble_eq_true rfl, Nat.le_of_ble_eq_true rfl⟩ rfl rfl (Nat.le_of_ble_eq_true rfl) dX4_shape_12 hp2.1 hp2.2 (fun v3 σ4 hp3 => ?_)
    refine x_pc (pc' := 15) rfl ?_
    exact x_iret X hr rfl dX4_shape_15 hp3
  · have hp4 := hp1.2 c6
    refine x_up (pc' := 17) (fun _ _ _ _ _ L => lv_iload_n hx hb dX4_shape_16 rfl (lv_at L 2 rfl)) ?_
    refine x_up (pc' := 18) (fun _ _ _ _ _ L => lv_iconst (v := (1 : Int32)) hx hb dX4_shape_17 (by decide)) ?_
    refine x_up (pc' := 19) (fun _ _ _ _ _ L => lv_iconst (v := (4 : Int32)) hx hb dX4_shape_18 (by decide)) ?_
    refine x_callS (em := emI) (fun r st => .int r :: st) (fun _ _ => rfl) 3 X (fun σ' KK h => R_X4_in l hl G hG x2 (1 : Int32) (4 : Int32) σ' KK h) (lw_S q3350 q3351 q119 q3352) mdX4_in ⟨Nat.le_of_ble_eq_true rfl, Nat.le_of_ble_eq_true rfl⟩ rfl rfl (Nat.le_of_ble_eq_true rfl) dX4_shape_19 hp4 (fun v5 σ6 hp5 => ?_)
    refine x_pc (pc' := 22) rfl ?_
    refine x_ifn (C := v5 = 0) (pt := 32) (pc' := 25) (fun _ _ _ _ _ => lv_if_ne (tgt := 32) hx hb dX4_shape_22 (by decide)) (fun c22 => ?_) (fun c22 => ?_)
    · have hp6 := hp5.1 c22
      refine x_up (pc' := 26) (fun _ _ _ _ _ L => lv_aload_n hx hb dX4_shape_25 rfl (lv_at L 0 rfl)) ?_
      refine x_up (pc' := 27) (fun _ _ _ _ _ L => lv_iconst (v := (1 : Int32)) hx hb dX4_shape_26 (by decide)) ?_
      refine x_up (pc' := 28) (fun _ _ _ _ _ L => lv_iload_n hx hb dX4_shape_27 rfl (lv_at L 2 rfl)) ?_
      refine x_callV (em := emI) (fun r st => .int r :: st) (fun _ _ => rfl) 2 X (kX4 hG) (fun σ' KK h => R_X4_refused l hl G hG a0 (1 : Int32) x2 σ' KK h) (lw_V q3353 q3355 qs58 q119 q3356) ⟨rfl, mdX4_refused⟩ ⟨Nat.le_of_ble_eq_true rfl, Nat.le_of_ble_eq_true rfl⟩ rfl rfl (Nat.le_of_ble_eq_true rfl) dX4_shape_28 hp6.1 hp6.2 (fun v7 σ8 hp7 => ?_)
      refine x_pc (pc' := 31) rfl ?_
      exact x_iret X hr rfl dX4_shape_31 hp7
    · have hp8 := hp5.2 c22
      refine x_up (pc' := 33) (fun _ _ _ _ _ L => lv_aload_n hx hb dX4_shape_32 rfl (lv_at L 0 rfl)) ?_
      refine x_callV (em := emV) (fun r st => st) (fun _ _ => rfl) 0 X (kX4 hG) (fun σ' KK h => R_X4_looksBack l hl G hG a0 σ' KK h) (lw_V q3336 q3338 qs56 q119 q3339) ⟨rfl, mdX4_looksBack⟩ ⟨Nat.le_of_ble_eq_true rfl, Nat.le_of_ble_eq_true rfl⟩ rfl rfl (Nat.le_of_ble_eq_true rfl) dX4_shape_33 hp8.1 hp8.2 (fun _ σ9 hp9 => ?_)
      refine x_pc (pc' := 36) rfl ?_
      refine x_up (pc' := 37) (fun _ _ _ _ _ L => lv_aload_n hx hb dX4_shape_36 rfl (lv_at L 0 rfl)) ?_
      refine x_callV (em := emI) (fun r st => .int r :: st) (fun _ _ => rfl) 0 X (kX4 hG) (fun σ' KK h => R_X4_writesAllBack l hl G hG a0 σ' KK h) (lw_V q3467 q3469 qs79 q119 q3470) ⟨rfl, mdX4_writesAllBack⟩ ⟨Nat.le_of_ble_eq_true rfl, Nat.le_of_ble_eq_true rfl⟩ rfl rfl (Nat.le_of_ble_eq_true rfl) dX4_shape_37 hp9.1 hp9.2 (fun v10 σ11 hp10 => ?_)
      refine x_pc (pc' := 40) rfl ?_
      refine x_upL (pc' := 41) (lo' := [(3, .int v10), (0, .ref a0), (1, .int x1), (2, .int x2)]) (fun _ _ _ _ _ L => lv_istore_n hx hb dX4_shape_40 rfl L (by decide) rfl) ?_
      refine x_up (pc' := 42) (fun _ _ _ _ _ L => lv_aload_n hx hb dX4_shape_41 rfl (lv_at L 1 rfl)) ?_
      refine x_callV (em := emV) (fun r st => st) (fun _ _ => rfl) 0 X (kX4 hG) (fun σ' KK h => R_X4_empties l hl G hG a0 σ' KK h) (lw_V q3258 q3260 qs54 q119 q3261) ⟨rfl, mdX4_empties⟩ ⟨Nat.le_of_ble_eq_true rfl, Nat.le_of_ble_eq_true rfl⟩ rfl rfl (Nat.le_of_ble_eq_true rfl) dX4_shape_42 hp10.1 hp10.2 (fun _ σ12 hp11 => ?_)
      refine x_pc (pc' := 45) rfl ?_
      refine x_up (pc' := 46) (fun _ _ _ _ _ L => lv_aload_n hx hb dX4_shape_45 rfl (lv_at L 1 rfl)) ?_
      refine x_gq X (kX4 hG) 0 (by decide) q3266 (fun _ h => h) dX4_shape_46 hp11 (fun v13 hp12 => ?_)
      refine x_pc (pc' := 49) rfl ?_
      refine x_up (pc' := 50) (fun _ _ _ _ _ L => lv_iconst (v := (1 : Int32)) hx hb dX4_shape_49 (by decide)) ?_
      refine x_up (pc' := 51) (fun _ _ _ _ _ L => lv_iload_n hx hb dX4_shape_50 rfl (lv_at L 2 rfl)) ?_
      obtain ⟨b14, rfl, hp13⟩ := hp12
      refine x_iast X dX4_shape_51 hp13 (fun σ15 hp14 => ?_)
      refine x_pc (pc' := 52) rfl ?_
      refine x_up (pc' := 53) (fun _ _ _ _ _ L => lv_aload_n hx hb dX4_shape_52 rfl (lv_at L 1 rfl)) ?_
      refine x_gq X (kX4 hG) 0 (by decide) q3266 (fun _ h => h) dX4_shape_53 hp14 (fun v16 hp15 => ?_)
      refine x_pc (pc' := 56) rfl ?_
      refine x_up (pc' := 57) (fun _ _ _ _ _ L => lv_iconst (v := (2 : Int32)) hx hb dX4_shape_56 (by decide)) ?_
      refine x_up (pc' := 58) (fun _ _ _ _ _ L => lv_iload_n hx hb dX4_shape_57 rfl (lv_at L 3 rfl)) ?_
      obtain ⟨b17, rfl, hp16⟩ := hp15
      refine x_iast X dX4_shape_58 hp16 (fun σ18 hp17 => ?_)
      refine x_pc (pc' := 59) rfl ?_
      refine x_up (pc' := 60) (fun _ _ _ _ _ L => lv_aload_n hx hb dX4_shape_59 rfl (lv_at L 1 rfl)) ?_
      refine x_gq X (kX4 hG) 0 (by decide) q3266 (fun _ h => h) dX4_shape_60 hp17 (fun v19 hp18 => ?_)
      refine x_pc (pc' := 63) rfl ?_
      refine x_up (pc' := 66) (fun _ _ _ _ _ L => lv_sipush (v := (233 : Int32)) hx hb dX4_shape_63 (by decide)) ?_
      refine x_up (pc' := 67) (fun _ _ _ _ _ L => lv_iconst (v := (0 : Int32)) hx hb dX4_shape_66 (by decide)) ?_
      obtain ⟨b20, rfl, hp19⟩ := hp18
      refine x_iast X dX4_shape_67 hp19 (fun σ21 hp20 => ?_)
      refine x_pc (pc' := 68) rfl ?_
      refine x_up (pc' := 69) (fun _ _ _ _ _ L => lv_aload_n hx hb dX4_shape_68 rfl (lv_at L 1 rfl)) ?_
      refine x_gq X (kX4 hG) 0 (by decide) q3266 (fun _ h => h) dX4_shape_69 hp20 (fun v22 hp21 => ?_)
      refine x_pc (pc' := 72) rfl ?_
      refine x_up (pc' := 75) (fun _ _ _ _ _ L => lv_sipush (v := (234 : Int32)) hx hb dX4_shape_72 (by decide)) ?_
      refine x_up (pc' := 76) (fun _ _ _ _ _ L => lv_iconst (v := (0 : Int32)) hx hb dX4_shape_75 (by decide)) ?_
      obtain ⟨b23, rfl, hp22⟩ := hp21
      refine x_iast X dX4_shape_76 hp22 (fun σ24 hp23 => ?_)
      refine x_pc (pc' := 77) rfl ?_
      refine x_up (pc' := 78) (fun _ _ _ _ _ L => lv_iconst (v := (0 : Int32)) hx hb dX4_shape_77 (by decide)) ?_
      refine x_upL (pc' := 80) (lo' := [(4, .int (0 : Int32)), (3, .int v10), (0, .ref a0), (1, .int x1), (2, .int x2)]) (fun _ _ _ _ _ L => lv_istore hx hb dX4_shape_78 L (by decide) rfl) ?_
      refine x_lo (lo' := [(4, .int (0 : Int32)), (0, .ref a0), (3, .int v10)]) [0, 2, 1] rfl ?_
      refine x_while (v0 := (0 : Int32)) (fun w25 => [(4, .int w25), (0, .ref a0), (3, .int v10)]) hp23 (fun self26 hself27 => ?_)
      rintro y29 σ28 hp24
      unfold B_X4_shape_80 at hp24
      refine x_same (lo' := [(4, .int y29), (0, .ref a0), (3, .int v10)]) rfl ?_
      refine x_up (pc' := 82) (fun _ _ _ _ _ L => lv_iload hx hb dX4_shape_80 (lv_at L 0 rfl)) ?_
      refine x_up (pc' := 84) (fun _ _ _ _ _ L => lv_bipush (v := (16 : Int32)) hx hb dX4_shape_82 (by decide)) ?_
      refine x_if (C := (16 : Int32) ≤ y29) (pt := 105) (pc' := 87) (fun _ _ _ _ _ => lv_icmp_ge (tgt := 105) hx hb dX4_shape_84 (by decide)) (fun c84 => ?_) (fun c84 => ?_)
      · have hp25 := hp24.1 c84
        refine x_up (pc' := 106) (fun _ _ _ _ _ L => lv_aload_n hx hb dX4_shape_105 rfl (lv_at L 1 rfl)) ?_
        refine x_up (pc' := 107) (fun _ _ _ _ _ L => lv_aload_n hx hb dX4_shape_106 rfl (lv_at L 1 rfl)) ?_
        refine x_up (pc' := 108) (fun _ _ _ _ _ L => lv_iload_n hx hb dX4_shape_107 rfl (lv_at L 2 rfl)) ?_
        refine x_callV (em := emI) (fun r st => .int r :: st) (fun _ _ => rfl) 1 X (kX4 hG) (fun σ' KK h => R_X4_done l hl G hG a0 v10 σ' KK h) (lw_V q3404 q3406 qs70 q119 q3407) ⟨rfl, mdX4_done⟩ ⟨Nat.le_of_ble_eq_true rfl, Nat.le_of_ble_eq_true rfl⟩ rfl rfl (Nat.le_of_ble_eq_true rfl) dX4_shape_108 hp25.1 hp25.2 (fun v30 σ31 hp26 => ?_)
        refine x_pc (pc' := 111) rfl ?_
        refine x_callV (em := emI) (fun r st => .int r :: st) (fun _ _ => rfl) 1 X (kX4 hG) (fun σ' KK h => R_X4_kept l hl G hG a0 v30 σ' KK h) (lw_V q3408 q3410 qs71 q119 q3411) ⟨rfl, mdX4_kept⟩ ⟨Nat.le_of_ble_eq_true rfl, Nat.le_of_ble_eq_true rfl⟩ rfl rfl (Nat.le_of_ble_eq_true rfl) dX4_shape_111 hp26.1 hp26.2 (fun v32 σ33 hp27 => ?_)
        refine x_pc (pc' := 114) rfl ?_
        exact x_iret X hr rfl dX4_shape_114 hp27
      · have hp28 := hp24.2 c84
        refine x_up (pc' := 88) (fun _ _ _ _ _ L => lv_aload_n hx hb dX4_shape_87 rfl (lv_at L 1 rfl)) ?_
        refine x_gq X (kX4 hG) 0 (by decide) q3266 (fun _ h => h) dX4_shape_88 hp28 (fun v34 hp29 => ?_)
        refine x_pc (pc' := 91) rfl ?_
        refine x_up (pc' := 94) (fun _ _ _ _ _ L => lv_sipush (v := (235 : Int32)) hx hb dX4_shape_91 (by decide)) ?_
        refine x_up (pc' := 96) (fun _ _ _ _ _ L => lv_iload hx hb dX4_shape_94 (lv_at L 0 rfl)) ?_
        refine x_up (pc' := 97) (fun _ _ _ _ _ L => lv_iadd hx hb dX4_shape_96) ?_
        refine x_up (pc' := 98) (fun _ _ _ _ _ L => lv_iconst (v := (0 : Int32)) hx hb dX4_shape_97 (by decide)) ?_
        obtain ⟨b35, rfl, hp30⟩ := hp29
        refine x_iast X dX4_shape_98 hp30 (fun σ36 hp31 => ?_)
        refine x_pc (pc' := 99) rfl ?_
        refine x_upL (pc' := 102) (lo' := [(4, .int (y29 + (1 : Int32))), (0, .ref a0), (3, .int v10)]) (fun _ _ _ _ _ L => lv_iinc (v := y29 + (1 : Int32)) hx hb dX4_shape_99 L (k := 0) rfl rfl (by decide) rfl) ?_
        refine x_up (pc' := 80) (fun _ _ _ _ _ L => lv_goto (tgt := 80) hx hb dX4_shape_102 (by decide)) ?_
        refine x_lo (lo' := [(4, .int (y29 + (1 : Int32))), (0, .ref a0), (3, .int v10)]) [0, 1, 2] rfl ?_
        exact hself27 (y29 + (1 : Int32)) σ36 hp31
-- X4_rule
def P_X4_rule (κ : Nat → Nat) (a0 : Nat) (x1 : Int32) (σ : xS) (K : Int32 → xH → Prop) : Prop :=
  xcall (fun τ L => P_X4_in κ x1 (0 : Int32) (3 : Int32) τ L) σ fun v1 σ2 => ((v1 = 0 → (xrc σ2 a0 10 ∧ xcall (fun τ L => P_X4_refused κ a0 (1 : Int32) x1 τ L) σ2 fun v3 σ4 => K v3 σ4.1)) ∧ (¬ v1 = 0 → (xrc σ2 a0 10 ∧ xcall (fun τ L => P_X4_looksBack κ a0 τ L) σ2 fun _ σ5 => xgq σ5 a0 10 0 fun v6 => xnn v6 fun b7 => xai .int σ5 b7 (3 : Int32) fun v8 => xgq σ5 a0 10 0 fun v9 => xnn v9 fun b10 => xsi κ .int σ5 b10 (3 : Int32) x1 fun σ11 => xrc σ11 a0 10 ∧ xcall (fun τ L => P_X4_done κ a0 v8 τ L) σ11 fun v12 σ13 => xrc σ13 a0 10 ∧ xcall (fun τ L => P_X4_kept κ a0 v12 τ L) σ13 fun v14 σ15 => K v14 σ15.1)))
theorem mdX4_rule : yX4_rule.cls ≠ "java/lang/invoke/MethodHandle" ∧ yX4_rule.cls ≠ "java/lang/invoke/VarHandle" ∧ (parseMethodDescriptor yX4_rule.desc).map (fun d => d.parameters.length) = some 1 := by decide +kernel
set_option maxHeartbeats 4000000 in
set_option maxRecDepth 100000 in
theorem R_X4_rule (l : Launch) (hl : l.stackTraces = false) (G : xG) (hG : G.1.2 = x_cl) (a0 : Nat) (x1 : Int32) (σ : xS) (K : Int32 → xH → Prop) (hp : P_X4_rule G.2 a0 x1 σ K) : xM l yX4_rule cX4_rule 3 (Option.some Jvm.ClassFile.FieldType.int) 2 46 G [(.ref a0), .int x1] σ (xlift emI K) := by
  refine x_entry (by decide) (Nat.le_of_ble_eq_true rfl) ?_
  intro p e s m args below meth c X hr hin
  have X : xX p s m args meth c G cX4_rule 3 RX4 := X
  have hx := X.1
  have hb := X.2.1
  have hts := X.2.2.2.2.1
  have hown := X.2.2.2.1
  unfold P_X4_rule at hp
  refine x_same (lo' := [(0, .ref a0), (1, .int x1)]) rfl ?_
  refine x_up (pc' := 1) (fun _ _ _ _ _ L => lv_iload_n hx hb dX4_rule_0 rfl (lv_at L 1 rfl)) ?_
  refine x_up (pc' := 2) (fun _ _ _ _ _ L => lv_iconst (v := (0 : Int32)) hx hb dX4_rule_1 (by decide)) ?_
  refine x_up (pc' := 3) (fun _ _ _ _ _ L => lv_iconst (v := (3 : Int32)) hx hb dX4_rule_2 (by decide)) ?_
  refine x_callS (em := emI) (fun r st => .int r :: st) (fun _ _ => rfl) 3 X (fun σ' KK h => R_X4_in l hl G hG x1 (0 : Int32) (3 : Int32) σ' KK h) (lw_S q3350 q3351 q119 q3352) mdX4_in ⟨Nat.le_of_ble_eq_true rfl, Nat.le_of_ble_eq_true rfl⟩ rfl rfl (Nat.le_of_ble_eq_true rfl) dX4_rule_3 hp (fun v1 σ2 hp1 => ?_)
  refine x_pc (pc' := 6) rfl ?_
  refine x_ifn (C := v1 = 0) (pt := 16) (pc' := 9) (fun _ _ _ _ _ => lv_if_ne (tgt := 16) hx hb dX4_rule_6 (by decide)) (fun c6 => ?_) (fun c6 => ?_)
  · have hp2 := hp1.1 c6
    refine x_up (pc' := 10) (fun _ _ _ _ _ L => lv_aload_n hx hb dX4_rule_9 rfl (lv_at L 0 rfl)) ?_
    refine x_up (pc' := 11) (fun _ _ _ _ _ L => lv_iconst (v := (1 : Int32)) hx hb dX4_rule_10 (by decide)) ?_
    refine x_up (pc' := 12) (fun _ _ _ _ _ L => lv_iload_n hx hb dX4_rule_11 rfl (lv_at L 1 rfl)) ?_
    refine x_callV (em := emI) (fun r st => .int r :: st) (fun _ _ => rfl) 2 X (kX4 hG) (fun σ' KK h => R_X4_refused l hl G hG a0 (1 : Int32) x1 σ' KK h) (lw_V q3353 q3355 qs58 q119 q3356) ⟨rfl, mdX4_refused⟩ ⟨Nat.le_of_ble_eq_true rfl, Nat.le_of_ble_eq_true rfl⟩ rfl rfl (Nat.le_of_ble_eq_true rfl) dX4_rule_12 hp2.1 hp2.2 (fun v3 σ4 hp3 => ?_)
    refine x_pc (pc' := 15) rfl ?_
    exact x_iret X hr rfl dX4_rule_15 hp3
  · have hp4 := hp1.2 c6
    refine x_up (pc' := 17) (fun _ _ _ _ _ L => lv_aload_n hx hb dX4_rule_16 rfl (lv_at L 0 rfl)) ?_
    refine x_callV (em := emV) (fun r st => st) (fun _ _ => rfl) 0 X (kX4 hG) (fun σ' KK h => R_X4_looksBack l hl G hG a0 σ' KK h) (lw_V q3336 q3338 qs56 q119 q3339) ⟨rfl, mdX4_looksBack⟩ ⟨Nat.le_of_ble_eq_true rfl, Nat.le_of_ble_eq_true rfl⟩ rfl rfl (Nat.le_of_ble_eq_true rfl) dX4_rule_17 hp4.1 hp4.2 (fun _ σ5 hp5 => ?_)
    refine x_pc (pc' := 20) rfl ?_
    refine x_up (pc' := 21) (fun _ _ _ _ _ L => lv_aload_n hx hb dX4_rule_20 rfl (lv_at L 0 rfl)) ?_
    refine x_gq X (kX4 hG) 0 (by decide) q3266 (fun _ h => h) dX4_rule_21 hp5 (fun v6 hp6 => ?_)
    refine x_pc (pc' := 24) rfl ?_
    refine x_up (pc' := 25) (fun _ _ _ _ _ L => lv_iconst (v := (3 : Int32)) hx hb dX4_rule_24 (by decide)) ?_
    obtain ⟨b7, rfl, hp7⟩ := hp6
    refine x_iald X dX4_rule_25 hp7 (fun v8 hp8 => ?_)
    refine x_pc (pc' := 26) rfl ?_
    refine x_upL (pc' := 27) (lo' := [(2, .int v8), (0, .ref a0), (1, .int x1)]) (fun _ _ _ _ _ L => lv_istore_n hx hb dX4_rule_26 rfl L (by decide) rfl) ?_
    refine x_up (pc' := 28) (fun _ _ _ _ _ L => lv_aload_n hx hb dX4_rule_27 rfl (lv_at L 1 rfl)) ?_
    refine x_gq X (kX4 hG) 0 (by decide) q3266 (fun _ h => h) dX4_rule_28 hp8 (fun v9 hp9 => ?_)
    refine x_pc (pc' := 31) rfl ?_
    refine x_up (pc' := 32) (fun _ _ _ _ _ L => lv_iconst (v := (3 : Int32)) hx hb dX4_rule_31 (by decide)) ?_
    refine x_up (pc' := 33) (fun _ _ _ _ _ L => lv_iload_n hx hb dX4_rule_32 rfl (lv_at L 2 rfl)) ?_
    obtain ⟨b10, rfl, hp10⟩ := hp9
    refine x_iast X dX4_rule_33 hp10 (fun σ11 hp11 => ?_)
    refine x_pc (pc' := 34) rfl ?_
    refine x_up (pc' := 35) (fun _ _ _ _ _ L => lv_aload_n hx hb dX4_rule_34 rfl (lv_at L 1 rfl)) ?_
    refine x_up (pc' := 36) (fun _ _ _ _ _ L => lv_aload_n hx hb dX4_rule_35 rfl (lv_at L 1 rfl)) ?_
    refine x_up (pc' := 37) (fun _ _ _ _ _ L => lv_iload_n hx hb dX4_rule_36 rfl (lv_at L 0 rfl)) ?_
    refine x_callV (em := emI) (fun r st => .int r :: st) (fun _ _ => rfl) 1 X (kX4 hG) (fun σ' KK h => R_X4_done l hl G hG a0 v8 σ' KK h) (lw_V q3404 q3406 qs70 q119 q3407) ⟨rfl, mdX4_done⟩ ⟨Nat.le_of_ble_eq_true rfl, Nat.le_of_ble_eq_true rfl⟩ rfl rfl (Nat.le_of_ble_eq_true rfl) dX4_rule_37 hp11.1 hp11.2 (fun v12 σ13 hp12 => ?_)
    refine x_pc (pc' := 40) rfl ?_
    refine x_callV (em := emI) (fun r st => .int r :: st) (fun _ _ => rfl) 1 X (kX4 hG) (fun σ' KK h => R_X4_kept l hl G hG a0 v12 σ' KK h) (lw_V q3408 q3410 qs71 q119 q3411) ⟨rfl, mdX4_kept⟩ ⟨Nat.le_of_ble_eq_true rfl, Nat.le_of_ble_eq_true rfl⟩ rfl rfl (Nat.le_of_ble_eq_true rfl) dX4_rule_40 hp12.1 hp12.2 (fun v14 σ15 hp13 => ?_)
    refine x_pc (pc' := 43) rfl ?_
    exact x_iret X hr rfl dX4_rule_43 hp13
-- X4_through
def P_X4_through (κ : Nat → Nat) (a0 : Nat) (x1 : Int32) (σ : xS) (K : Int32 → xH → Prop) : Prop :=
  xrc σ a0 10 ∧ xcall (fun τ L => P_X4_looksBack κ a0 τ L) σ fun _ σ1 => xgq σ1 a0 10 0 fun v2 => ((x1 = 0 → (xnn v2 fun b3 => xsi κ .int σ1 b3 (4 : Int32) (0 : Int32) fun σ4 => xrc σ4 a0 10 ∧ xcall (fun τ L => P_X4_dirtyWords κ a0 τ L) σ4 fun v5 σ6 => xrc σ6 a0 10 ∧ xcall (fun τ L => P_X4_done κ a0 v5 τ L) σ6 fun v7 σ8 => xrc σ8 a0 10 ∧ xcall (fun τ L => P_X4_kept κ a0 v7 τ L) σ8 fun v9 σ10 => K v9 σ10.1)) ∧ (¬ x1 = 0 → (xnn v2 fun b11 => xsi κ .int σ1 b11 (4 : Int32) (1 : Int32) fun σ12 => xrc σ12 a0 10 ∧ xcall (fun τ L => P_X4_dirtyWords κ a0 τ L) σ12 fun v13 σ14 => xrc σ14 a0 10 ∧ xcall (fun τ L => P_X4_done κ a0 v13 τ L) σ14 fun v15 σ16 => xrc σ16 a0 10 ∧ xcall (fun τ L => P_X4_kept κ a0 v15 τ L) σ16 fun v17 σ18 => K v17 σ18.1)))
theorem mdX4_through : yX4_through.cls ≠ "java/lang/invoke/MethodHandle" ∧ yX4_through.cls ≠ "java/lang/invoke/VarHandle" ∧ (parseMethodDescriptor yX4_through.desc).map (fun d => d.parameters.length) = some 1 := by decide +kernel
set_option maxHeartbeats 4000000 in
set_option maxRecDepth 100000 in
theorem R_X4_through (l : Launch) (hl : l.stackTraces = false) (G : xG) (hG : G.1.2 = x_cl) (a0 : Nat) (x1 : Int32) (σ : xS) (K : Int32 → xH → Prop) (hp : P_X4_through G.2 a0 x1 σ K) : xM l yX4_through cX4_through 2 (Option.some Jvm.ClassFile.FieldType.int) 2 46 G [(.ref a0), .int x1] σ (xlift emI K) := by
  refine x_entry (by decide) (Nat.le_of_ble_eq_true rfl) ?_
  intro p e s m args below meth c X hr hin
  have X : xX p s m args meth c G cX4_through 2 RX4 := X
  have hx := X.1
  have hb := X.2.1
  have hts := X.2.2.2.2.1
  have hown := X.2.2.2.1
  unfold P_X4_through at hp
  refine x_same (lo' := [(0, .ref a0), (1, .int x1)]) rfl ?_
  refine x_up (pc' := 1) (fun _ _ _ _ _ L => lv_aload_n hx hb dX4_through_0 rfl (lv_at L 0 rfl)) ?_
  refine x_callV (em := emV) (fun r st => st) (fun _ _ => rfl) 0 X (kX4 hG) (fun σ' KK h => R_X4_looksBack l hl G hG a0 σ' KK h) (lw_V q3336 q3338 qs56 q119 q3339) ⟨rfl, mdX4_looksBack⟩ ⟨Nat.le_of_ble_eq_true rfl, Nat.le_of_ble_eq_true rfl⟩ rfl rfl (Nat.le_of_ble_eq_true rfl) dX4_through_1 hp.1 hp.2 (fun _ σ1 hp1 => ?_)
  refine x_pc (pc' := 4) rfl ?_
  refine x_up (pc' := 5) (fun _ _ _ _ _ L => lv_aload_n hx hb dX4_through_4 rfl (lv_at L 0 rfl)) ?_
  refine x_gq X (kX4 hG) 0 (by decide) q3266 (fun _ h => h) dX4_through_5 hp1 (fun v2 hp2 => ?_)
  refine x_pc (pc' := 8) rfl ?_
  refine x_up (pc' := 9) (fun _ _ _ _ _ L => lv_iconst (v := (4 : Int32)) hx hb dX4_through_8 (by decide)) ?_
  refine x_up (pc' := 10) (fun _ _ _ _ _ L => lv_iload_n hx hb dX4_through_9 rfl (lv_at L 1 rfl)) ?_
  refine x_if (C := x1 = 0) (pt := 17) (pc' := 13) (fun _ _ _ _ _ => lv_if_eq (tgt := 17) hx hb dX4_through_10 (by decide)) (fun c10 => ?_) (fun c10 => ?_)
  · have hp3 := hp2.1 c10
    refine x_up (pc' := 18) (fun _ _ _ _ _ L => lv_iconst (v := (0 : Int32)) hx hb dX4_through_17 (by decide)) ?_
    obtain ⟨b3, rfl, hp4⟩ := hp3
    refine x_iast X dX4_through_18 hp4 (fun σ4 hp5 => ?_)
    refine x_pc (pc' := 19) rfl ?_
    refine x_up (pc' := 20) (fun _ _ _ _ _ L => lv_aload_n hx hb dX4_through_19 rfl (lv_at L 0 rfl)) ?_
    refine x_up (pc' := 21) (fun _ _ _ _ _ L => lv_aload_n hx hb dX4_through_20 rfl (lv_at L 0 rfl)) ?_
    refine x_up (pc' := 22) (fun _ _ _ _ _ L => lv_aload_n hx hb dX4_through_21 rfl (lv_at L 0 rfl)) ?_
    refine x_callV (em := emI) (fun r st => .int r :: st) (fun _ _ => rfl) 0 X (kX4 hG) (fun σ' KK h => R_X4_dirtyWords l hl G hG a0 σ' KK h) (lw_V q3463 q3465 qs78 q119 q3466) ⟨rfl, mdX4_dirtyWords⟩ ⟨Nat.le_of_ble_eq_true rfl, Nat.le_of_ble_eq_true rfl⟩ rfl rfl (Nat.le_of_ble_eq_true rfl) dX4_through_22 hp5.1 hp5.2 (fun v5 σ6 hp6 => ?_)
    refine x_pc (pc' := 25) rfl ?_
    refine x_callV (em := emI) (fun r st => .int r :: st) (fun _ _ => rfl) 1 X (kX4 hG) (fun σ' KK h => R_X4_done l hl G hG a0 v5 σ' KK h) (lw_V q3404 q3406 qs70 q119 q3407) ⟨rfl, mdX4_done⟩ ⟨Nat.le_of_ble_eq_true rfl, Nat.le_of_ble_eq_true rfl⟩ rfl rfl (Nat.le_of_ble_eq_true rfl) dX4_through_25 hp6.1 hp6.2 (fun v7 σ8 hp7 => ?_)
    refine x_pc (pc' := 28) rfl ?_
    refine x_callV (em := emI) (fun r st => .int r :: st) (fun _ _ => rfl) 1 X (kX4 hG) (fun σ' KK h => R_X4_kept l hl G hG a0 v7 σ' KK h) (lw_V q3408 q3410 qs71 q119 q3411) ⟨rfl, mdX4_kept⟩ ⟨Nat.le_of_ble_eq_true rfl, Nat.le_of_ble_eq_true rfl⟩ rfl rfl (Nat.le_of_ble_eq_true rfl) dX4_through_28 hp7.1 hp7.2 (fun v9 σ10 hp8 => ?_)
    refine x_pc (pc' := 31) rfl ?_
    exact x_iret X hr rfl dX4_through_31 hp8
  · have hp9 := hp2.2 c10
    refine x_up (pc' := 14) (fun _ _ _ _ _ L => lv_iconst (v := (1 : Int32)) hx hb dX4_through_13 (by decide)) ?_
    refine x_up (pc' := 18) (fun _ _ _ _ _ L => lv_goto (tgt := 18) hx hb dX4_through_14 (by decide)) ?_
    obtain ⟨b11, rfl, hp10⟩ := hp9
    refine x_iast X dX4_through_18 hp10 (fun σ12 hp11 => ?_)
    refine x_pc (pc' := 19) rfl ?_
    refine x_up (pc' := 20) (fun _ _ _ _ _ L => lv_aload_n hx hb dX4_through_19 rfl (lv_at L 0 rfl)) ?_
    refine x_up (pc' := 21) (fun _ _ _ _ _ L => lv_aload_n hx hb dX4_through_20 rfl (lv_at L 0 rfl)) ?_
    refine x_up (pc' := 22) (fun _ _ _ _ _ L => lv_aload_n hx hb dX4_through_21 rfl (lv_at L 0 rfl)) ?_
    refine x_callV (em := emI) (fun r st => .int r :: st) (fun _ _ => rfl) 0 X (kX4 hG) (fun σ' KK h => R_X4_dirtyWords l hl G hG a0 σ' KK h) (lw_V q3463 q3465 qs78 q119 q3466) ⟨rfl, mdX4_dirtyWords⟩ ⟨Nat.le_of_ble_eq_true rfl, Nat.le_of_ble_eq_true rfl⟩ rfl rfl (Nat.le_of_ble_eq_true rfl) dX4_through_22 hp11.1 hp11.2 (fun v13 σ14 hp12 => ?_)
    refine x_pc (pc' := 25) rfl ?_
    refine x_callV (em := emI) (fun r st => .int r :: st) (fun _ _ => rfl) 1 X (kX4 hG) (fun σ' KK h => R_X4_done l hl G hG a0 v13 σ' KK h) (lw_V q3404 q3406 qs70 q119 q3407) ⟨rfl, mdX4_done⟩ ⟨Nat.le_of_ble_eq_true rfl, Nat.le_of_ble_eq_true rfl⟩ rfl rfl (Nat.le_of_ble_eq_true rfl) dX4_through_25 hp12.1 hp12.2 (fun v15 σ16 hp13 => ?_)
    refine x_pc (pc' := 28) rfl ?_
    refine x_callV (em := emI) (fun r st => .int r :: st) (fun _ _ => rfl) 1 X (kX4 hG) (fun σ' KK h => R_X4_kept l hl G hG a0 v15 σ' KK h) (lw_V q3408 q3410 qs71 q119 q3411) ⟨rfl, mdX4_kept⟩ ⟨Nat.le_of_ble_eq_true rfl, Nat.le_of_ble_eq_true rfl⟩ rfl rfl (Nat.le_of_ble_eq_true rfl) dX4_through_28 hp13.1 hp13.2 (fun v17 σ18 hp14 => ?_)
    refine x_pc (pc' := 31) rfl ?_
    exact x_iret X hr rfl dX4_through_31 hp14
-- X4_wordNow
def P_X4_wordNow (κ : Nat → Nat) (a0 : Nat) (x1 : Int32) (σ : xS) (K : Int32 → xH → Prop) : Prop :=
  xrc σ a0 10 ∧ xcall (fun τ L => P_X4_lineWith κ a0 (x1 / (4 : Int32)) τ L) σ fun v1 σ2 => ((v1 = (-1 : Int32) → (xgq σ2 a0 10 0 fun v3 => xnn v3 fun b4 => xai .int σ2 b4 ((5 : Int32) + x1) fun v5 => K v5 σ2.1)) ∧ (¬ v1 = (-1 : Int32) → (xgq σ2 a0 10 0 fun v6 => xnn v6 fun b7 => xai .int σ2 b7 (((169 : Int32) + ((4 : Int32) * v1)) + (x1 - x1 / (4 : Int32) * (4 : Int32))) fun v8 => K v8 σ2.1)))
theorem mdX4_wordNow : yX4_wordNow.cls ≠ "java/lang/invoke/MethodHandle" ∧ yX4_wordNow.cls ≠ "java/lang/invoke/VarHandle" ∧ (parseMethodDescriptor yX4_wordNow.desc).map (fun d => d.parameters.length) = some 1 := by decide +kernel
set_option maxHeartbeats 4000000 in
set_option maxRecDepth 100000 in
theorem R_X4_wordNow (l : Launch) (hl : l.stackTraces = false) (G : xG) (hG : G.1.2 = x_cl) (a0 : Nat) (x1 : Int32) (σ : xS) (K : Int32 → xH → Prop) (hp : P_X4_wordNow G.2 a0 x1 σ K) : xM l yX4_wordNow cX4_wordNow 3 (Option.some Jvm.ClassFile.FieldType.int) 1 22 G [(.ref a0), .int x1] σ (xlift emI K) := by
  refine x_entry (by decide) (Nat.le_of_ble_eq_true rfl) ?_
  intro p e s m args below meth c X hr hin
  have X : xX p s m args meth c G cX4_wordNow 3 RX4 := X
  have hx := X.1
  have hb := X.2.1
  have hts := X.2.2.2.2.1
  have hown := X.2.2.2.1
  unfold P_X4_wordNow at hp
  refine x_same (lo' := [(0, .ref a0), (1, .int x1)]) rfl ?_
  refine x_up (pc' := 1) (fun _ _ _ _ _ L => lv_aload_n hx hb dX4_wordNow_0 rfl (lv_at L 0 rfl)) ?_
  refine x_up (pc' := 2) (fun _ _ _ _ _ L => lv_iload_n hx hb dX4_wordNow_1 rfl (lv_at L 1 rfl)) ?_
  refine x_up (pc' := 3) (fun _ _ _ _ _ L => lv_iconst (v := (4 : Int32)) hx hb dX4_wordNow_2 (by decide)) ?_
  refine x_up (pc' := 4) (fun _ _ _ _ _ L => lv_idiv hx hb dX4_wordNow_3 (by decide)) ?_
  refine x_callV (em := emI) (fun r st => .int r :: st) (fun _ _ => rfl) 1 X (kX4 hG) (fun σ' KK h => R_X4_lineWith l hl G hG a0 (x1 / (4 : Int32)) σ' KK h) (lw_V q3365 q3367 qs61 q119 q3368) ⟨rfl, mdX4_lineWith⟩ ⟨Nat.le_of_ble_eq_true rfl, Nat.le_of_ble_eq_true rfl⟩ rfl rfl (Nat.le_of_ble_eq_true rfl) dX4_wordNow_4 hp.1 hp.2 (fun v1 σ2 hp1 => ?_)
  refine x_pc (pc' := 7) rfl ?_
  refine x_upL (pc' := 8) (lo' := [(2, .int v1), (0, .ref a0), (1, .int x1)]) (fun _ _ _ _ _ L => lv_istore_n hx hb dX4_wordNow_7 rfl L (by decide) rfl) ?_
  refine x_up (pc' := 9) (fun _ _ _ _ _ L => lv_iload_n hx hb dX4_wordNow_8 rfl (lv_at L 0 rfl)) ?_
  refine x_up (pc' := 10) (fun _ _ _ _ _ L => lv_iconst (v := (-1 : Int32)) hx hb dX4_wordNow_9 (by decide)) ?_
  refine x_ifn (C := v1 = (-1 : Int32)) (pt := 24) (pc' := 13) (fun _ _ _ _ _ => lv_icmp_ne (tgt := 24) hx hb dX4_wordNow_10 (by decide)) (fun c10 => ?_) (fun c10 => ?_)
  · have hp2 := hp1.1 c10
    refine x_up (pc' := 14) (fun _ _ _ _ _ L => lv_aload_n hx hb dX4_wordNow_13 rfl (lv_at L 1 rfl)) ?_
    refine x_gq X (kX4 hG) 0 (by decide) q3266 (fun _ h => h) dX4_wordNow_14 hp2 (fun v3 hp3 => ?_)
    refine x_pc (pc' := 17) rfl ?_
    refine x_up (pc' := 18) (fun _ _ _ _ _ L => lv_iconst (v := (5 : Int32)) hx hb dX4_wordNow_17 (by decide)) ?_
    refine x_up (pc' := 19) (fun _ _ _ _ _ L => lv_iload_n hx hb dX4_wordNow_18 rfl (lv_at L 2 rfl)) ?_
    refine x_up (pc' := 20) (fun _ _ _ _ _ L => lv_iadd hx hb dX4_wordNow_19) ?_
    obtain ⟨b4, rfl, hp4⟩ := hp3
    refine x_iald X dX4_wordNow_20 hp4 (fun v5 hp5 => ?_)
    refine x_pc (pc' := 21) rfl ?_
    refine x_up (pc' := 40) (fun _ _ _ _ _ L => lv_goto (tgt := 40) hx hb dX4_wordNow_21 (by decide)) ?_
    exact x_iret X hr rfl dX4_wordNow_40 hp5
  · have hp6 := hp1.2 c10
    refine x_up (pc' := 25) (fun _ _ _ _ _ L => lv_aload_n hx hb dX4_wordNow_24 rfl (lv_at L 1 rfl)) ?_
    refine x_gq X (kX4 hG) 0 (by decide) q3266 (fun _ h => h) dX4_wordNow_25 hp6 (fun v6 hp7 => ?_)
    refine x_pc (pc' := 28) rfl ?_
    refine x_up (pc' := 31) (fun _ _ _ _ _ L => lv_sipush (v := (169 : Int32)) hx hb dX4_wordNow_28 (by decide)) ?_
    refine x_up (pc' := 32) (fun _ _ _ _ _ L => lv_iconst (v := (4 : Int32)) hx hb dX4_wordNow_31 (by decide)) ?_
    refine x_up (pc' := 33) (fun _ _ _ _ _ L => lv_iload_n hx hb dX4_wordNow_32 rfl (lv_at L 0 rfl)) ?_
    refine x_up (pc' := 34) (fun _ _ _ _ _ L => lv_imul hx hb dX4_wordNow_33) ?_
    refine x_up (pc' := 35) (fun _ _ _ _ _ L => lv_iadd hx hb dX4_wordNow_34) ?_
    refine x_up (pc' := 36) (fun _ _ _ _ _ L => lv_iload_n hx hb dX4_wordNow_35 rfl (lv_at L 2 rfl)) ?_
    refine x_up (pc' := 37) (fun _ _ _ _ _ L => lv_iconst (v := (4 : Int32)) hx hb dX4_wordNow_36 (by decide)) ?_
    refine x_up (pc' := 38) (fun _ _ _ _ _ L => lv_irem hx hb dX4_wordNow_37 (by decide)) ?_
    refine x_up (pc' := 39) (fun _ _ _ _ _ L => lv_iadd hx hb dX4_wordNow_38) ?_
    obtain ⟨b7, rfl, hp8⟩ := hp7
    refine x_iald X dX4_wordNow_39 hp8 (fun v8 hp9 => ?_)
    refine x_pc (pc' := 40) rfl ?_
    exact x_iret X hr rfl dX4_wordNow_40 hp9
-- X4_wordAt
def P_X4_wordAt (κ : Nat → Nat) (a0 : Nat) (x1 : Int32) (σ : xS) (K : Int32 → xH → Prop) : Prop :=
  xcall (fun τ L => P_X4_isAddress κ x1 τ L) σ fun v1 σ2 => ((v1 = 0 → (xrc σ2 a0 10 ∧ xcall (fun τ L => P_X4_fails κ a0 (1 : Int32) τ L) σ2 fun v3 σ4 => K v3 σ4.1)) ∧ (¬ v1 = 0 → (xrc σ2 a0 10 ∧ xcall (fun τ L => P_X4_wordNow κ a0 x1 τ L) σ2 fun v5 σ6 => xrc σ6 a0 10 ∧ xcall (fun τ L => P_X4_done κ a0 v5 τ L) σ6 fun v7 σ8 => K v7 σ8.1)))
theorem mdX4_wordAt : yX4_wordAt.cls ≠ "java/lang/invoke/MethodHandle" ∧ yX4_wordAt.cls ≠ "java/lang/invoke/VarHandle" ∧ (parseMethodDescriptor yX4_wordAt.desc).map (fun d => d.parameters.length) = some 1 := by decide +kernel
set_option maxHeartbeats 4000000 in
set_option maxRecDepth 100000 in
theorem R_X4_wordAt (l : Launch) (hl : l.stackTraces = false) (G : xG) (hG : G.1.2 = x_cl) (a0 : Nat) (x1 : Int32) (σ : xS) (K : Int32 → xH → Prop) (hp : P_X4_wordAt G.2 a0 x1 σ K) : xM l yX4_wordAt cX4_wordAt 2 (Option.some Jvm.ClassFile.FieldType.int) 2 44 G [(.ref a0), .int x1] σ (xlift emI K) := by
  refine x_entry (by decide) (Nat.le_of_ble_eq_true rfl) ?_
  intro p e s m args below meth c X hr hin
  have X : xX p s m args meth c G cX4_wordAt 2 RX4 := X
  have hx := X.1
  have hb := X.2.1
  have hts := X.2.2.2.2.1
  have hown := X.2.2.2.1
  unfold P_X4_wordAt at hp
  refine x_same (lo' := [(0, .ref a0), (1, .int x1)]) rfl ?_
  refine x_up (pc' := 1) (fun _ _ _ _ _ L => lv_iload_n hx hb dX4_wordAt_0 rfl (lv_at L 1 rfl)) ?_
  refine x_callS (em := emI) (fun r st => .int r :: st) (fun _ _ => rfl) 1 X (fun σ' KK h => R_X4_isAddress l hl G hG x1 σ' KK h) (lw_S q3347 q3348 q119 q3349) mdX4_isAddress ⟨Nat.le_of_ble_eq_true rfl, Nat.le_of_ble_eq_true rfl⟩ rfl rfl (Nat.le_of_ble_eq_true rfl) dX4_wordAt_1 hp (fun v1 σ2 hp1 => ?_)
  refine x_pc (pc' := 4) rfl ?_
  refine x_if (C := v1 = 0) (pt := 19) (pc' := 7) (fun _ _ _ _ _ => lv_if_eq (tgt := 19) hx hb dX4_wordAt_4 (by decide)) (fun c4 => ?_) (fun c4 => ?_)
  · have hp2 := hp1.1 c4
    refine x_up (pc' := 20) (fun _ _ _ _ _ L => lv_aload_n hx hb dX4_wordAt_19 rfl (lv_at L 0 rfl)) ?_
    refine x_up (pc' := 21) (fun _ _ _ _ _ L => lv_iconst (v := (1 : Int32)) hx hb dX4_wordAt_20 (by decide)) ?_
    refine x_callV (em := emI) (fun r st => .int r :: st) (fun _ _ => rfl) 1 X (kX4 hG) (fun σ' KK h => R_X4_fails l hl G hG a0 (1 : Int32) σ' KK h) (lw_V q3357 q3359 qs59 q119 q3360) ⟨rfl, mdX4_fails⟩ ⟨Nat.le_of_ble_eq_true rfl, Nat.le_of_ble_eq_true rfl⟩ rfl rfl (Nat.le_of_ble_eq_true rfl) dX4_wordAt_21 hp2.1 hp2.2 (fun v3 σ4 hp3 => ?_)
    refine x_pc (pc' := 24) rfl ?_
    exact x_iret X hr rfl dX4_wordAt_24 hp3
  · have hp4 := hp1.2 c4
    refine x_up (pc' := 8) (fun _ _ _ _ _ L => lv_aload_n hx hb dX4_wordAt_7 rfl (lv_at L 0 rfl)) ?_
    refine x_up (pc' := 9) (fun _ _ _ _ _ L => lv_aload_n hx hb dX4_wordAt_8 rfl (lv_at L 0 rfl)) ?_
    refine x_up (pc' := 10) (fun _ _ _ _ _ L => lv_iload_n hx hb dX4_wordAt_9 rfl (lv_at L 1 rfl)) ?_
    refine x_callV (em := emI) (fun r st => .int r :: st) (fun _ _ => rfl) 1 X (kX4 hG) (fun σ' KK h => R_X4_wordNow l hl G hG a0 x1 σ' KK h) (lw_V q3487 q3489 qs80 q119 q3490) ⟨rfl, mdX4_wordNow⟩ ⟨Nat.le_of_ble_eq_true rfl, Nat.le_of_ble_eq_true rfl⟩ rfl rfl (Nat.le_of_ble_eq_true rfl) dX4_wordAt_10 hp4.1 hp4.2 (fun v5 σ6 hp5 => ?_)
    refine x_pc (pc' := 13) rfl ?_
    refine x_callV (em := emI) (fun r st => .int r :: st) (fun _ _ => rfl) 1 X (kX4 hG) (fun σ' KK h => R_X4_done l hl G hG a0 v5 σ' KK h) (lw_V q3404 q3406 qs70 q119 q3407) ⟨rfl, mdX4_done⟩ ⟨Nat.le_of_ble_eq_true rfl, Nat.le_of_ble_eq_true rfl⟩ rfl rfl (Nat.le_of_ble_eq_true rfl) dX4_wordAt_13 hp5.1 hp5.2 (fun v7 σ8 hp6 => ?_)
    refine x_pc (pc' := 16) rfl ?_
    refine x_up (pc' := 24) (fun _ _ _ _ _ L => lv_goto (tgt := 24) hx hb dX4_wordAt_16 (by decide)) ?_
    exact x_iret X hr rfl dX4_wordAt_24 hp6
-- X4_wordAgain
def P_X4_wordAgain (κ : Nat → Nat) (a0 : Nat) (x1 : Int32) (σ : xS) (K : Int32 → xH → Prop) : Prop :=
  xcall (fun τ L => P_X4_isAddress κ x1 τ L) σ fun v1 σ2 => ((v1 = 0 → (xrc σ2 a0 10 ∧ xcall (fun τ L => P_X4_fails κ a0 (1 : Int32) τ L) σ2 fun v3 σ4 => K v3 σ4.1)) ∧ (¬ v1 = 0 → (xgq σ2 a0 10 0 fun v5 => xnn v5 fun b6 => xai .int σ2 b6 ((293 : Int32) + x1) fun v7 => xrc σ2 a0 10 ∧ xcall (fun τ L => P_X4_done κ a0 v7 τ L) σ2 fun v8 σ9 => K v8 σ9.1)))
theorem mdX4_wordAgain : yX4_wordAgain.cls ≠ "java/lang/invoke/MethodHandle" ∧ yX4_wordAgain.cls ≠ "java/lang/invoke/VarHandle" ∧ (parseMethodDescriptor yX4_wordAgain.desc).map (fun d => d.parameters.length) = some 1 := by decide +kernel
set_option maxHeartbeats 4000000 in
set_option maxRecDepth 100000 in
theorem R_X4_wordAgain (l : Launch) (hl : l.stackTraces = false) (G : xG) (hG : G.1.2 = x_cl) (a0 : Nat) (x1 : Int32) (σ : xS) (K : Int32 → xH → Prop) (hp : P_X4_wordAgain G.2 a0 x1 σ K) : xM l yX4_wordAgain cX4_wordAgain 2 (Option.some Jvm.ClassFile.FieldType.int) 2 42 G [(.ref a0), .int x1] σ (xlift emI K) := by
  refine x_entry (by decide) (Nat.le_of_ble_eq_true rfl) ?_
  intro p e s m args below meth c X hr hin
  have X : xX p s m args meth c G cX4_wordAgain 2 RX4 := X
  have hx := X.1
  have hb := X.2.1
  have hts := X.2.2.2.2.1
  have hown := X.2.2.2.1
  unfold P_X4_wordAgain at hp
  refine x_same (lo' := [(0, .ref a0), (1, .int x1)]) rfl ?_
  refine x_up (pc' := 1) (fun _ _ _ _ _ L => lv_iload_n hx hb dX4_wordAgain_0 rfl (lv_at L 1 rfl)) ?_
  refine x_callS (em := emI) (fun r st => .int r :: st) (fun _ _ => rfl) 1 X (fun σ' KK h => R_X4_isAddress l hl G hG x1 σ' KK h) (lw_S q3347 q3348 q119 q3349) mdX4_isAddress ⟨Nat.le_of_ble_eq_true rfl, Nat.le_of_ble_eq_true rfl⟩ rfl rfl (Nat.le_of_ble_eq_true rfl) dX4_wordAgain_1 hp (fun v1 σ2 hp1 => ?_)
  refine x_pc (pc' := 4) rfl ?_
  refine x_if (C := v1 = 0) (pt := 24) (pc' := 7) (fun _ _ _ _ _ => lv_if_eq (tgt := 24) hx hb dX4_wordAgain_4 (by decide)) (fun c4 => ?_) (fun c4 => ?_)
  · have hp2 := hp1.1 c4
    refine x_up (pc' := 25) (fun _ _ _ _ _ L => lv_aload_n hx hb dX4_wordAgain_24 rfl (lv_at L 0 rfl)) ?_
    refine x_up (pc' := 26) (fun _ _ _ _ _ L => lv_iconst (v := (1 : Int32)) hx hb dX4_wordAgain_25 (by decide)) ?_
    refine x_callV (em := emI) (fun r st => .int r :: st) (fun _ _ => rfl) 1 X (kX4 hG) (fun σ' KK h => R_X4_fails l hl G hG a0 (1 : Int32) σ' KK h) (lw_V q3357 q3359 qs59 q119 q3360) ⟨rfl, mdX4_fails⟩ ⟨Nat.le_of_ble_eq_true rfl, Nat.le_of_ble_eq_true rfl⟩ rfl rfl (Nat.le_of_ble_eq_true rfl) dX4_wordAgain_26 hp2.1 hp2.2 (fun v3 σ4 hp3 => ?_)
    refine x_pc (pc' := 29) rfl ?_
    exact x_iret X hr rfl dX4_wordAgain_29 hp3
  · have hp4 := hp1.2 c4
    refine x_up (pc' := 8) (fun _ _ _ _ _ L => lv_aload_n hx hb dX4_wordAgain_7 rfl (lv_at L 0 rfl)) ?_
    refine x_up (pc' := 9) (fun _ _ _ _ _ L => lv_aload_n hx hb dX4_wordAgain_8 rfl (lv_at L 0 rfl)) ?_
    refine x_gq X (kX4 hG) 0 (by decide) q3266 (fun _ h => h) dX4_wordAgain_9 hp4 (fun v5 hp5 => ?_)
    refine x_pc (pc' := 12) rfl ?_
    refine x_up (pc' := 15) (fun _ _ _ _ _ L => lv_sipush (v := (293 : Int32)) hx hb dX4_wordAgain_12 (by decide)) ?_
    refine x_up (pc' := 16) (fun _ _ _ _ _ L => lv_iload_n hx hb dX4_wordAgain_15 rfl (lv_at L 1 rfl)) ?_
    refine x_up (pc' := 17) (fun _ _ _ _ _ L => lv_iadd hx hb dX4_wordAgain_16) ?_
    obtain ⟨b6, rfl, hp6⟩ := hp5
    refine x_iald X dX4_wordAgain_17 hp6 (fun v7 hp7 => ?_)
    refine x_pc (pc' := 18) rfl ?_
    refine x_callV (em := emI) (fun r st => .int r :: st) (fun _ _ => rfl) 1 X (kX4 hG) (fun σ' KK h => R_X4_done l hl G hG a0 v7 σ' KK h) (lw_V q3404 q3406 qs70 q119 q3407) ⟨rfl, mdX4_done⟩ ⟨Nat.le_of_ble_eq_true rfl, Nat.le_of_ble_eq_true rfl⟩ rfl rfl (Nat.le_of_ble_eq_true rfl) dX4_wordAgain_18 hp7.1 hp7.2 (fun v8 σ9 hp8 => ?_)
    refine x_pc (pc' := 21) rfl ?_
    refine x_up (pc' := 29) (fun _ _ _ _ _ L => lv_goto (tgt := 29) hx hb dX4_wordAgain_21 (by decide)) ?_
    exact x_iret X hr rfl dX4_wordAgain_29 hp8
-- X4_stored
def P_X4_stored (κ : Nat → Nat) (a0 : Nat) (x1 : Int32) (σ : xS) (K : Int32 → xH → Prop) : Prop :=
  xcall (fun τ L => P_X4_isAddress κ x1 τ L) σ fun v1 σ2 => ((v1 = 0 → (xrc σ2 a0 10 ∧ xcall (fun τ L => P_X4_fails κ a0 (1 : Int32) τ L) σ2 fun v3 σ4 => K v3 σ4.1)) ∧ (¬ v1 = 0 → (xgq σ2 a0 10 0 fun v5 => xnn v5 fun b6 => xai .int σ2 b6 ((5 : Int32) + x1) fun v7 => xrc σ2 a0 10 ∧ xcall (fun τ L => P_X4_done κ a0 v7 τ L) σ2 fun v8 σ9 => K v8 σ9.1)))
theorem mdX4_stored : yX4_stored.cls ≠ "java/lang/invoke/MethodHandle" ∧ yX4_stored.cls ≠ "java/lang/invoke/VarHandle" ∧ (parseMethodDescriptor yX4_stored.desc).map (fun d => d.parameters.length) = some 1 := by decide +kernel
set_option maxHeartbeats 4000000 in
set_option maxRecDepth 100000 in
theorem R_X4_stored (l : Launch) (hl : l.stackTraces = false) (G : xG) (hG : G.1.2 = x_cl) (a0 : Nat) (x1 : Int32) (σ : xS) (K : Int32 → xH → Prop) (hp : P_X4_stored G.2 a0 x1 σ K) : xM l yX4_stored cX4_stored 2 (Option.some Jvm.ClassFile.FieldType.int) 2 42 G [(.ref a0), .int x1] σ (xlift emI K) := by
  refine x_entry (by decide) (Nat.le_of_ble_eq_true rfl) ?_
  intro p e s m args below meth c X hr hin
  have X : xX p s m args meth c G cX4_stored 2 RX4 := X
  have hx := X.1
  have hb := X.2.1
  have hts := X.2.2.2.2.1
  have hown := X.2.2.2.1
  unfold P_X4_stored at hp
  refine x_same (lo' := [(0, .ref a0), (1, .int x1)]) rfl ?_
  refine x_up (pc' := 1) (fun _ _ _ _ _ L => lv_iload_n hx hb dX4_stored_0 rfl (lv_at L 1 rfl)) ?_
  refine x_callS (em := emI) (fun r st => .int r :: st) (fun _ _ => rfl) 1 X (fun σ' KK h => R_X4_isAddress l hl G hG x1 σ' KK h) (lw_S q3347 q3348 q119 q3349) mdX4_isAddress ⟨Nat.le_of_ble_eq_true rfl, Nat.le_of_ble_eq_true rfl⟩ rfl rfl (Nat.le_of_ble_eq_true rfl) dX4_stored_1 hp (fun v1 σ2 hp1 => ?_)
  refine x_pc (pc' := 4) rfl ?_
  refine x_if (C := v1 = 0) (pt := 22) (pc' := 7) (fun _ _ _ _ _ => lv_if_eq (tgt := 22) hx hb dX4_stored_4 (by decide)) (fun c4 => ?_) (fun c4 => ?_)
  · have hp2 := hp1.1 c4
    refine x_up (pc' := 23) (fun _ _ _ _ _ L => lv_aload_n hx hb dX4_stored_22 rfl (lv_at L 0 rfl)) ?_
    refine x_up (pc' := 24) (fun _ _ _ _ _ L => lv_iconst (v := (1 : Int32)) hx hb dX4_stored_23 (by decide)) ?_
    refine x_callV (em := emI) (fun r st => .int r :: st) (fun _ _ => rfl) 1 X (kX4 hG) (fun σ' KK h => R_X4_fails l hl G hG a0 (1 : Int32) σ' KK h) (lw_V q3357 q3359 qs59 q119 q3360) ⟨rfl, mdX4_fails⟩ ⟨Nat.le_of_ble_eq_true rfl, Nat.le_of_ble_eq_true rfl⟩ rfl rfl (Nat.le_of_ble_eq_true rfl) dX4_stored_24 hp2.1 hp2.2 (fun v3 σ4 hp3 => ?_)
    refine x_pc (pc' := 27) rfl ?_
    exact x_iret X hr rfl dX4_stored_27 hp3
  · have hp4 := hp1.2 c4
    refine x_up (pc' := 8) (fun _ _ _ _ _ L => lv_aload_n hx hb dX4_stored_7 rfl (lv_at L 0 rfl)) ?_
    refine x_up (pc' := 9) (fun _ _ _ _ _ L => lv_aload_n hx hb dX4_stored_8 rfl (lv_at L 0 rfl)) ?_
    refine x_gq X (kX4 hG) 0 (by decide) q3266 (fun _ h => h) dX4_stored_9 hp4 (fun v5 hp5 => ?_)
    refine x_pc (pc' := 12) rfl ?_
    refine x_up (pc' := 13) (fun _ _ _ _ _ L => lv_iconst (v := (5 : Int32)) hx hb dX4_stored_12 (by decide)) ?_
    refine x_up (pc' := 14) (fun _ _ _ _ _ L => lv_iload_n hx hb dX4_stored_13 rfl (lv_at L 1 rfl)) ?_
    refine x_up (pc' := 15) (fun _ _ _ _ _ L => lv_iadd hx hb dX4_stored_14) ?_
    obtain ⟨b6, rfl, hp6⟩ := hp5
    refine x_iald X dX4_stored_15 hp6 (fun v7 hp7 => ?_)
    refine x_pc (pc' := 16) rfl ?_
    refine x_callV (em := emI) (fun r st => .int r :: st) (fun _ _ => rfl) 1 X (kX4 hG) (fun σ' KK h => R_X4_done l hl G hG a0 v7 σ' KK h) (lw_V q3404 q3406 qs70 q119 q3407) ⟨rfl, mdX4_done⟩ ⟨Nat.le_of_ble_eq_true rfl, Nat.le_of_ble_eq_true rfl⟩ rfl rfl (Nat.le_of_ble_eq_true rfl) dX4_stored_16 hp7.1 hp7.2 (fun v8 σ9 hp8 => ?_)
    refine x_pc (pc' := 19) rfl ?_
    refine x_up (pc' := 27) (fun _ _ _ _ _ L => lv_goto (tgt := 27) hx hb dX4_stored_19 (by decide)) ?_
    exact x_iret X hr rfl dX4_stored_27 hp8
-- X4_isSet
def P_X4_isSet (κ : Nat → Nat) (a0 : Nat) (x1 : Int32) (σ : xS) (K : Int32 → xH → Prop) : Prop :=
  xgq σ a0 10 0 fun v1 => xnn v1 fun b2 => xai .int σ b2 (1 : Int32) fun v3 => xcall (fun τ L => P_X4_in κ x1 (0 : Int32) (v3 - (1 : Int32)) τ L) σ fun v4 σ5 => (narrow .boolean (.int v4) = .int v4 ∧ K v4 σ5.1)
theorem mdX4_isSet : yX4_isSet.cls ≠ "java/lang/invoke/MethodHandle" ∧ yX4_isSet.cls ≠ "java/lang/invoke/VarHandle" ∧ (parseMethodDescriptor yX4_isSet.desc).map (fun d => d.parameters.length) = some 1 := by decide +kernel
set_option maxHeartbeats 4000000 in
set_option maxRecDepth 100000 in
theorem R_X4_isSet (l : Launch) (hl : l.stackTraces = false) (G : xG) (hG : G.1.2 = x_cl) (a0 : Nat) (x1 : Int32) (σ : xS) (K : Int32 → xH → Prop) (hp : P_X4_isSet G.2 a0 x1 σ K) : xM l yX4_isSet cX4_isSet 2 (Option.some Jvm.ClassFile.FieldType.boolean) 1 22 G [(.ref a0), .int x1] σ (xlift emI K) := by
  refine x_entry (by decide) (Nat.le_of_ble_eq_true rfl) ?_
  intro p e s m args below meth c X hr hin
  have X : xX p s m args meth c G cX4_isSet 2 RX4 := X
  have hx := X.1
  have hb := X.2.1
  have hts := X.2.2.2.2.1
  have hown := X.2.2.2.1
  unfold P_X4_isSet at hp
  refine x_same (lo' := [(0, .ref a0), (1, .int x1)]) rfl ?_
  refine x_up (pc' := 1) (fun _ _ _ _ _ L => lv_iload_n hx hb dX4_isSet_0 rfl (lv_at L 1 rfl)) ?_
  refine x_up (pc' := 2) (fun _ _ _ _ _ L => lv_iconst (v := (0 : Int32)) hx hb dX4_isSet_1 (by decide)) ?_
  refine x_up (pc' := 3) (fun _ _ _ _ _ L => lv_aload_n hx hb dX4_isSet_2 rfl (lv_at L 0 rfl)) ?_
  refine x_gq X (kX4 hG) 0 (by decide) q3266 (fun _ h => h) dX4_isSet_3 hp (fun v1 hp1 => ?_)
  refine x_pc (pc' := 6) rfl ?_
  refine x_up (pc' := 7) (fun _ _ _ _ _ L => lv_iconst (v := (1 : Int32)) hx hb dX4_isSet_6 (by decide)) ?_
  obtain ⟨b2, rfl, hp2⟩ := hp1
  refine x_iald X dX4_isSet_7 hp2 (fun v3 hp3 => ?_)
  refine x_pc (pc' := 8) rfl ?_
  refine x_up (pc' := 9) (fun _ _ _ _ _ L => lv_iconst (v := (1 : Int32)) hx hb dX4_isSet_8 (by decide)) ?_
  refine x_up (pc' := 10) (fun _ _ _ _ _ L => lv_isub hx hb dX4_isSet_9) ?_
  refine x_callS (em := emI) (fun r st => .int r :: st) (fun _ _ => rfl) 3 X (fun σ' KK h => R_X4_in l hl G hG x1 (0 : Int32) (v3 - (1 : Int32)) σ' KK h) (lw_S q3350 q3351 q119 q3352) mdX4_in ⟨Nat.le_of_ble_eq_true rfl, Nat.le_of_ble_eq_true rfl⟩ rfl rfl (Nat.le_of_ble_eq_true rfl) dX4_isSet_10 hp3 (fun v4 σ5 hp4 => ?_)
  refine x_pc (pc' := 13) rfl ?_
  exact x_iret X hr hp4.1 dX4_isSet_13 hp4.2
-- X4_lineOf
def P_X4_lineOf (κ : Nat → Nat) (a0 : Nat) (x1 : Int32) (x2 : Int32) (x3 : Int32) (σ : xS) (K : Int32 → xH → Prop) : Prop :=
  xrc σ a0 10 ∧ xcall (fun τ L => P_X4_isSet κ a0 x1 τ L) σ fun v1 σ2 => ((v1 = 0 → (xrc σ2 a0 10 ∧ xcall (fun τ L => P_X4_fails κ a0 (1 : Int32) τ L) σ2 fun v3 σ4 => K v3 σ4.1)) ∧ (¬ v1 = 0 → (xgq σ2 a0 10 0 fun v5 => xnn v5 fun b6 => xai .int σ2 b6 (2 : Int32) fun v7 => xcall (fun τ L => P_X4_in κ x2 (0 : Int32) (v7 - (1 : Int32)) τ L) σ2 fun v8 σ9 => ((v8 = 0 → (xrc σ9 a0 10 ∧ xcall (fun τ L => P_X4_fails κ a0 (1 : Int32) τ L) σ9 fun v10 σ11 => K v10 σ11.1)) ∧ (¬ v8 = 0 → (xcall (fun τ L => P_X4_in κ x3 (0 : Int32) (5 : Int32) τ L) σ9 fun v12 σ13 => ((v12 = 0 → (xrc σ13 a0 10 ∧ xcall (fun τ L => P_X4_fails κ a0 (2 : Int32) τ L) σ13 fun v14 σ15 => K v14 σ15.1)) ∧ (¬ v12 = 0 → (xgq σ13 a0 10 0 fun v16 => xnn v16 fun b17 => xai .int σ13 b17 ((73 : Int32) + (((4 : Int32) * x1) + x2)) fun v18 => ((v18 = (-1 : Int32) → ((((1 : Int32) = 0 → (xgq σ13 a0 10 0 fun v19 => xnn v19 fun b20 => xai .int σ13 b20 (((73 : Int32) + ((16 : Int32) * x3)) + (((4 : Int32) * x1) + x2)) fun v21 => xrc σ13 a0 10 ∧ xcall (fun τ L => P_X4_done κ a0 v21 τ L) σ13 fun v22 σ23 => K v22 σ23.1)) ∧ (¬ (1 : Int32) = 0 → (((x3 ≤ (2 : Int32) → (xgq σ13 a0 10 0 fun v24 => xnn v24 fun b25 => xai .int σ13 b25 (((73 : Int32) + ((16 : Int32) * x3)) + (((4 : Int32) * x1) + x2)) fun v26 => xrc σ13 a0 10 ∧ xcall (fun τ L => P_X4_done κ a0 v26 τ L) σ13 fun v27 σ28 => K v27 σ28.1)) ∧ (¬ x3 ≤ (2 : Int32) → (xrc σ13 a0 10 ∧ xcall (fun τ L => P_X4_done κ a0 (-1 : Int32) τ L) σ13 fun v29 σ30 => K v29 σ30.1)))))))) ∧ (¬ v18 = (-1 : Int32) → ((((0 : Int32) = 0 → (xgq σ13 a0 10 0 fun v31 => xnn v31 fun b32 => xai .int σ13 b32 (((73 : Int32) + ((16 : Int32) * x3)) + (((4 : Int32) * x1) + x2)) fun v33 => xrc σ13 a0 10 ∧ xcall (fun τ L => P_X4_done κ a0 v33 τ L) σ13 fun v34 σ35 => K v34 σ35.1)) ∧ (¬ (0 : Int32) = 0 → (((x3 ≤ (2 : Int32) → (xgq σ13 a0 10 0 fun v36 => xnn v36 fun b37 => xai .int σ13 b37 (((73 : Int32) + ((16 : Int32) * x3)) + (((4 : Int32) * x1) + x2)) fun v38 => xrc σ13 a0 10 ∧ xcall (fun τ L => P_X4_done κ a0 v38 τ L) σ13 fun v39 σ40 => K v39 σ40.1)) ∧ (¬ x3 ≤ (2 : Int32) → (xrc σ13 a0 10 ∧ xcall (fun τ L => P_X4_done κ a0 (-1 : Int32) τ L) σ13 fun v41 σ42 => K v41 σ42.1))))))))))))))))))
theorem mdX4_lineOf : yX4_lineOf.cls ≠ "java/lang/invoke/MethodHandle" ∧ yX4_lineOf.cls ≠ "java/lang/invoke/VarHandle" ∧ (parseMethodDescriptor yX4_lineOf.desc).map (fun d => d.parameters.length) = some 3 := by decide +kernel
set_option maxHeartbeats 4000000 in
set_option maxRecDepth 100000 in
theorem R_X4_lineOf (l : Launch) (hl : l.stackTraces = false) (G : xG) (hG : G.1.2 = x_cl) (a0 : Nat) (x1 : Int32) (x2 : Int32) (x3 : Int32) (σ : xS) (K : Int32 → xH → Prop) (hp : P_X4_lineOf G.2 a0 x1 x2 x3 σ K) : xM l yX4_lineOf cX4_lineOf 6 (Option.some Jvm.ClassFile.FieldType.int) 2 43 G [(.ref a0), .int x1, .int x2, .int x3] σ (xlift emI K) := by
  refine x_entry (by decide) (Nat.le_of_ble_eq_true rfl) ?_
  intro p e s m args below meth c X hr hin
  have X : xX p s m args meth c G cX4_lineOf 6 RX4 := X
  have hx := X.1
  have hb := X.2.1
  have hts := X.2.2.2.2.1
  have hown := X.2.2.2.1
  unfold P_X4_lineOf at hp
  refine x_same (lo' := [(0, .ref a0), (1, .int x1), (2, .int x2), (3, .int x3)]) rfl ?_
  refine x_up (pc' := 1) (fun _ _ _ _ _ L => lv_aload_n hx hb dX4_lineOf_0 rfl (lv_at L 0 rfl)) ?_
  refine x_up (pc' := 2) (fun _ _ _ _ _ L => lv_iload_n hx hb dX4_lineOf_1 rfl (lv_at L 1 rfl)) ?_
  refine x_callV (em := emI) (fun r st => .int r :: st) (fun _ _ => rfl) 1 X (kX4 hG) (fun σ' KK h => R_X4_isSet l hl G hG a0 x1 σ' KK h) (lw_V q3503 q3505 qs81 q119 q3506) ⟨rfl, mdX4_isSet⟩ ⟨Nat.le_of_ble_eq_true rfl, Nat.le_of_ble_eq_true rfl⟩ rfl rfl (Nat.le_of_ble_eq_true rfl) dX4_lineOf_2 hp.1 hp.2 (fun v1 σ2 hp1 => ?_)
  refine x_pc (pc' := 5) rfl ?_
  refine x_if (C := v1 = 0) (pt := 24) (pc' := 8) (fun _ _ _ _ _ => lv_if_eq (tgt := 24) hx hb dX4_lineOf_5 (by decide)) (fun c5 => ?_) (fun c5 => ?_)
  · have hp2 := hp1.1 c5
    refine x_up (pc' := 25) (fun _ _ _ _ _ L => lv_aload_n hx hb dX4_lineOf_24 rfl (lv_at L 0 rfl)) ?_
    refine x_up (pc' := 26) (fun _ _ _ _ _ L => lv_iconst (v := (1 : Int32)) hx hb dX4_lineOf_25 (by decide)) ?_
    refine x_callV (em := emI) (fun r st => .int r :: st) (fun _ _ => rfl) 1 X (kX4 hG) (fun σ' KK h => R_X4_fails l hl G hG a0 (1 : Int32) σ' KK h) (lw_V q3357 q3359 qs59 q119 q3360) ⟨rfl, mdX4_fails⟩ ⟨Nat.le_of_ble_eq_true rfl, Nat.le_of_ble_eq_true rfl⟩ rfl rfl (Nat.le_of_ble_eq_true rfl) dX4_lineOf_26 hp2.1 hp2.2 (fun v3 σ4 hp3 => ?_)
    refine x_pc (pc' := 29) rfl ?_
    exact x_iret X hr rfl dX4_lineOf_29 hp3
  · have hp4 := hp1.2 c5
    refine x_up (pc' := 9) (fun _ _ _ _ _ L => lv_iload_n hx hb dX4_lineOf_8 rfl (lv_at L 2 rfl)) ?_
    refine x_up (pc' := 10) (fun _ _ _ _ _ L => lv_iconst (v := (0 : Int32)) hx hb dX4_lineOf_9 (by decide)) ?_
    refine x_up (pc' := 11) (fun _ _ _ _ _ L => lv_aload_n hx hb dX4_lineOf_10 rfl (lv_at L 0 rfl)) ?_
    refine x_gq X (kX4 hG) 0 (by decide) q3266 (fun _ h => h) dX4_lineOf_11 hp4 (fun v5 hp5 => ?_)
    refine x_pc (pc' := 14) rfl ?_
    refine x_up (pc' := 15) (fun _ _ _ _ _ L => lv_iconst (v := (2 : Int32)) hx hb dX4_lineOf_14 (by decide)) ?_
    obtain ⟨b6, rfl, hp6⟩ := hp5
    refine x_iald X dX4_lineOf_15 hp6 (fun v7 hp7 => ?_)
    refine x_pc (pc' := 16) rfl ?_
    refine x_up (pc' := 17) (fun _ _ _ _ _ L => lv_iconst (v := (1 : Int32)) hx hb dX4_lineOf_16 (by decide)) ?_
    refine x_up (pc' := 18) (fun _ _ _ _ _ L => lv_isub hx hb dX4_lineOf_17) ?_
    refine x_callS (em := emI) (fun r st => .int r :: st) (fun _ _ => rfl) 3 X (fun σ' KK h => R_X4_in l hl G hG x2 (0 : Int32) (v7 - (1 : Int32)) σ' KK h) (lw_S q3350 q3351 q119 q3352) mdX4_in ⟨Nat.le_of_ble_eq_true rfl, Nat.le_of_ble_eq_true rfl⟩ rfl rfl (Nat.le_of_ble_eq_true rfl) dX4_lineOf_18 hp7 (fun v8 σ9 hp8 => ?_)
    refine x_pc (pc' := 21) rfl ?_
    refine x_ifn (C := v8 = 0) (pt := 30) (pc' := 24) (fun _ _ _ _ _ => lv_if_ne (tgt := 30) hx hb dX4_lineOf_21 (by decide)) (fun c21 => ?_) (fun c21 => ?_)
    · have hp9 := hp8.1 c21
      refine x_up (pc' := 25) (fun _ _ _ _ _ L => lv_aload_n hx hb dX4_lineOf_24 rfl (lv_at L 0 rfl)) ?_
      refine x_up (pc' := 26) (fun _ _ _ _ _ L => lv_iconst (v := (1 : Int32)) hx hb dX4_lineOf_25 (by decide)) ?_
      refine x_callV (em := emI) (fun r st => .int r :: st) (fun _ _ => rfl) 1 X (kX4 hG) (fun σ' KK h => R_X4_fails l hl G hG a0 (1 : Int32) σ' KK h) (lw_V q3357 q3359 qs59 q119 q3360) ⟨rfl, mdX4_fails⟩ ⟨Nat.le_of_ble_eq_true rfl, Nat.le_of_ble_eq_true rfl⟩ rfl rfl (Nat.le_of_ble_eq_true rfl) dX4_lineOf_26 hp9.1 hp9.2 (fun v10 σ11 hp10 => ?_)
      refine x_pc (pc' := 29) rfl ?_
      exact x_iret X hr rfl dX4_lineOf_29 hp10
    · have hp11 := hp8.2 c21
      refine x_up (pc' := 31) (fun _ _ _ _ _ L => lv_iload_n hx hb dX4_lineOf_30 rfl (lv_at L 3 rfl)) ?_
      refine x_up (pc' := 32) (fun _ _ _ _ _ L => lv_iconst (v := (0 : Int32)) hx hb dX4_lineOf_31 (by decide)) ?_
      refine x_up (pc' := 33) (fun _ _ _ _ _ L => lv_iconst (v := (5 : Int32)) hx hb dX4_lineOf_32 (by decide)) ?_
      refine x_callS (em := emI) (fun r st => .int r :: st) (fun _ _ => rfl) 3 X (fun σ' KK h => R_X4_in l hl G hG x3 (0 : Int32) (5 : Int32) σ' KK h) (lw_S q3350 q3351 q119 q3352) mdX4_in ⟨Nat.le_of_ble_eq_true rfl, Nat.le_of_ble_eq_true rfl⟩ rfl rfl (Nat.le_of_ble_eq_true rfl) dX4_lineOf_33 hp11 (fun v12 σ13 hp12 => ?_)
      refine x_pc (pc' := 36) rfl ?_
      refine x_ifn (C := v12 = 0) (pt := 45) (pc' := 39) (fun _ _ _ _ _ => lv_if_ne (tgt := 45) hx hb dX4_lineOf_36 (by decide)) (fun c36 => ?_) (fun c36 => ?_)
      · have hp13 := hp12.1 c36
        refine x_up (pc' := 40) (fun _ _ _ _ _ L => lv_aload_n hx hb dX4_lineOf_39 rfl (lv_at L 0 rfl)) ?_
        refine x_up (pc' := 41) (fun _ _ _ _ _ L => lv_iconst (v := (2 : Int32)) hx hb dX4_lineOf_40 (by decide)) ?_
        refine x_callV (em := emI) (fun r st => .int r :: st) (fun _ _ => rfl) 1 X (kX4 hG) (fun σ' KK h => R_X4_fails l hl G hG a0 (2 : Int32) σ' KK h) (lw_V q3357 q3359 qs59 q119 q3360) ⟨rfl, mdX4_fails⟩ ⟨Nat.le_of_ble_eq_true rfl, Nat.le_of_ble_eq_true rfl⟩ rfl rfl (Nat.le_of_ble_eq_true rfl) dX4_lineOf_41 hp13.1 hp13.2 (fun v14 σ15 hp14 => ?_)
        refine x_pc (pc' := 44) rfl ?_
        exact x_iret X hr rfl dX4_lineOf_44 hp14
      · have hp15 := hp12.2 c36
        refine x_up (pc' := 46) (fun _ _ _ _ _ L => lv_iconst (v := (4 : Int32)) hx hb dX4_lineOf_45 (by decide)) ?_
        refine x_up (pc' := 47) (fun _ _ _ _ _ L => lv_iload_n hx hb dX4_lineOf_46 rfl (lv_at L 1 rfl)) ?_
        refine x_up (pc' := 48) (fun _ _ _ _ _ L => lv_imul hx hb dX4_lineOf_47) ?_
        refine x_up (pc' := 49) (fun _ _ _ _ _ L => lv_iload_n hx hb dX4_lineOf_48 rfl (lv_at L 2 rfl)) ?_
        refine x_up (pc' := 50) (fun _ _ _ _ _ L => lv_iadd hx hb dX4_lineOf_49) ?_
        refine x_upL (pc' := 52) (lo' := [(4, .int (((4 : Int32) * x1) + x2)), (0, .ref a0), (1, .int x1), (2, .int x2), (3, .int x3)]) (fun _ _ _ _ _ L => lv_istore hx hb dX4_lineOf_50 L (by decide) rfl) ?_
        refine x_up (pc' := 53) (fun _ _ _ _ _ L => lv_aload_n hx hb dX4_lineOf_52 rfl (lv_at L 1 rfl)) ?_
        refine x_gq X (kX4 hG) 0 (by decide) q3266 (fun _ h => h) dX4_lineOf_53 hp15 (fun v16 hp16 => ?_)
        refine x_pc (pc' := 56) rfl ?_
        refine x_up (pc' := 58) (fun _ _ _ _ _ L => lv_bipush (v := (73 : Int32)) hx hb dX4_lineOf_56 (by decide)) ?_
        refine x_up (pc' := 60) (fun _ _ _ _ _ L => lv_iload hx hb dX4_lineOf_58 (lv_at L 0 rfl)) ?_
        refine x_up (pc' := 61) (fun _ _ _ _ _ L => lv_iadd hx hb dX4_lineOf_60) ?_
        obtain ⟨b17, rfl, hp17⟩ := hp16
        refine x_iald X dX4_lineOf_61 hp17 (fun v18 hp18 => ?_)
        refine x_pc (pc' := 62) rfl ?_
        refine x_up (pc' := 63) (fun _ _ _ _ _ L => lv_iconst (v := (-1 : Int32)) hx hb dX4_lineOf_62 (by decide)) ?_
        refine x_ifn (C := v18 = (-1 : Int32)) (pt := 70) (pc' := 66) (fun _ _ _ _ _ => lv_icmp_ne (tgt := 70) hx hb dX4_lineOf_63 (by decide)) (fun c63 => ?_) (fun c63 => ?_)
        · have hp19 := hp18.1 c63
          refine x_up (pc' := 67) (fun _ _ _ _ _ L => lv_iconst (v := (1 : Int32)) hx hb dX4_lineOf_66 (by decide)) ?_
          refine x_up (pc' := 71) (fun _ _ _ _ _ L => lv_goto (tgt := 71) hx hb dX4_lineOf_67 (by decide)) ?_
          refine x_upL (pc' := 73) (lo' := [(5, .int (1 : Int32)), (4, .int (((4 : Int32) * x1) + x2)), (0, .ref a0), (1, .int x1), (2, .int x2), (3, .int x3)]) (fun _ _ _ _ _ L => lv_istore hx hb dX4_lineOf_71 L (by decide) rfl) ?_
          refine x_up (pc' := 74) (fun _ _ _ _ _ L => lv_aload_n hx hb dX4_lineOf_73 rfl (lv_at L 2 rfl)) ?_
          refine x_up (pc' := 76) (fun _ _ _ _ _ L => lv_iload hx hb dX4_lineOf_74 (lv_at L 0 rfl)) ?_
          refine x_if (C := (1 : Int32) = 0) (pt := 88) (pc' := 79) (fun _ _ _ _ _ => lv_if_eq (tgt := 88) hx hb dX4_lineOf_76 (by decide)) (fun c76 => ?_) (fun c76 => ?_)
          · have hp20 := hp19.1 c76
            refine x_up (pc' := 89) (fun _ _ _ _ _ L => lv_aload_n hx hb dX4_lineOf_88 rfl (lv_at L 2 rfl)) ?_
            refine x_gq X (kX4 hG) 0 (by decide) q3266 (fun _ h => h) dX4_lineOf_89 hp20 (fun v19 hp21 => ?_)
            refine x_pc (pc' := 92) rfl ?_
            refine x_up (pc' := 94) (fun _ _ _ _ _ L => lv_bipush (v := (73 : Int32)) hx hb dX4_lineOf_92 (by decide)) ?_
            refine x_up (pc' := 96) (fun _ _ _ _ _ L => lv_bipush (v := (16 : Int32)) hx hb dX4_lineOf_94 (by decide)) ?_
            refine x_up (pc' := 97) (fun _ _ _ _ _ L => lv_iload_n hx hb dX4_lineOf_96 rfl (lv_at L 5 rfl)) ?_
            refine x_up (pc' := 98) (fun _ _ _ _ _ L => lv_imul hx hb dX4_lineOf_97) ?_
            refine x_up (pc' := 99) (fun _ _ _ _ _ L => lv_iadd hx hb dX4_lineOf_98) ?_
            refine x_up (pc' := 101) (fun _ _ _ _ _ L => lv_iload hx hb dX4_lineOf_99 (lv_at L 1 rfl)) ?_
            refine x_up (pc' := 102) (fun _ _ _ _ _ L => lv_iadd hx hb dX4_lineOf_101) ?_
            obtain ⟨b20, rfl, hp22⟩ := hp21
            refine x_iald X dX4_lineOf_102 hp22 (fun v21 hp23 => ?_)
            refine x_pc (pc' := 103) rfl ?_
            refine x_callV (em := emI) (fun r st => .int r :: st) (fun _ _ => rfl) 1 X (kX4 hG) (fun σ' KK h => R_X4_done l hl G hG a0 v21 σ' KK h) (lw_V q3404 q3406 qs70 q119 q3407) ⟨rfl, mdX4_done⟩ ⟨Nat.le_of_ble_eq_true rfl, Nat.le_of_ble_eq_true rfl⟩ rfl rfl (Nat.le_of_ble_eq_true rfl) dX4_lineOf_103 hp23.1 hp23.2 (fun v22 σ23 hp24 => ?_)
            refine x_pc (pc' := 106) rfl ?_
            exact x_iret X hr rfl dX4_lineOf_106 hp24
          · have hp25 := hp19.2 c76
            refine x_up (pc' := 80) (fun _ _ _ _ _ L => lv_iload_n hx hb dX4_lineOf_79 rfl (lv_at L 5 rfl)) ?_
            refine x_up (pc' := 81) (fun _ _ _ _ _ L => lv_iconst (v := (2 : Int32)) hx hb dX4_lineOf_80 (by decide)) ?_
            refine x_if (C := x3 ≤ (2 : Int32)) (pt := 88) (pc' := 84) (fun _ _ _ _ _ => lv_icmp_le (tgt := 88) hx hb dX4_lineOf_81 (by decide)) (fun c81 => ?_) (fun c81 => ?_)
            · have hp26 := hp25.1 c81
              refine x_up (pc' := 89) (fun _ _ _ _ _ L => lv_aload_n hx hb dX4_lineOf_88 rfl (lv_at L 2 rfl)) ?_
              refine x_gq X (kX4 hG) 0 (by decide) q3266 (fun _ h => h) dX4_lineOf_89 hp26 (fun v24 hp27 => ?_)
              refine x_pc (pc' := 92) rfl ?_
              refine x_up (pc' := 94) (fun _ _ _ _ _ L => lv_bipush (v := (73 : Int32)) hx hb dX4_lineOf_92 (by decide)) ?_
              refine x_up (pc' := 96) (fun _ _ _ _ _ L => lv_bipush (v := (16 : Int32)) hx hb dX4_lineOf_94 (by decide)) ?_
              refine x_up (pc' := 97) (fun _ _ _ _ _ L => lv_iload_n hx hb dX4_lineOf_96 rfl (lv_at L 5 rfl)) ?_
              refine x_up (pc' := 98) (fun _ _ _ _ _ L => lv_imul hx hb dX4_lineOf_97) ?_
              refine x_up (pc' := 99) (fun _ _ _ _ _ L => lv_iadd hx hb dX4_lineOf_98) ?_
              refine x_up (pc' := 101) (fun _ _ _ _ _ L => lv_iload hx hb dX4_lineOf_99 (lv_at L 1 rfl)) ?_
              refine x_up (pc' := 102) (fun _ _ _ _ _ L => lv_iadd hx hb dX4_lineOf_101) ?_
              obtain ⟨b25, rfl, hp28⟩ := hp27
              refine x_iald X dX4_lineOf_102 hp28 (fun v26 hp29 => ?_)
              refine x_pc (pc' := 103) rfl ?_
              refine x_callV (em := emI) (fun r st => .int r :: st) (fun _ _ => rfl) 1 X (kX4 hG) (fun σ' KK h => R_X4_done l hl G hG a0 v26 σ' KK h) (lw_V q3404 q3406 qs70 q119 q3407) ⟨rfl, mdX4_done⟩ ⟨Nat.le_of_ble_eq_true rfl, Nat.le_of_ble_eq_true rfl⟩ rfl rfl (Nat.le_of_ble_eq_true rfl) dX4_lineOf_103 hp29.1 hp29.2 (fun v27 σ28 hp30 => ?_)
              refine x_pc (pc' := 106) rfl ?_
              exact x_iret X hr rfl dX4_lineOf_106 hp30
            · have hp31 := hp25.2 c81
              refine x_up (pc' := 85) (fun _ _ _ _ _ L => lv_iconst (v := (-1 : Int32)) hx hb dX4_lineOf_84 (by decide)) ?_
              refine x_up (pc' := 103) (fun _ _ _ _ _ L => lv_goto (tgt := 103) hx hb dX4_lineOf_85 (by decide)) ?_
              refine x_callV (em := emI) (fun r st => .int r :: st) (fun _ _ => rfl) 1 X (kX4 hG) (fun σ' KK h => R_X4_done l hl G hG a0 (-1 : Int32) σ' KK h) (lw_V q3404 q3406 qs70 q119 q3407) ⟨rfl, mdX4_done⟩ ⟨Nat.le_of_ble_eq_true rfl, Nat.le_of_ble_eq_true rfl⟩ rfl rfl (Nat.le_of_ble_eq_true rfl) dX4_lineOf_103 hp31.1 hp31.2 (fun v29 σ30 hp32 => ?_)
              refine x_pc (pc' := 106) rfl ?_
              exact x_iret X hr rfl dX4_lineOf_106 hp32
        · have hp33 := hp18.2 c63
          refine x_up (pc' := 71) (fun _ _ _ _ _ L => lv_iconst (v := (0 : Int32)) hx hb dX4_lineOf_70 (by decide)) ?_
          refine x_upL (pc' := 73) (lo' := [(5, .int (0 : Int32)), (4, .int (((4 : Int32) * x1) + x2)), (0, .ref a0), (1, .int x1), (2, .int x2), (3, .int x3)]) (fun _ _ _ _ _ L => lv_istore hx hb dX4_lineOf_71 L (by decide) rfl) ?_
          refine x_up (pc' := 74) (fun _ _ _ _ _ L => lv_aload_n hx hb dX4_lineOf_73 rfl (lv_at L 2 rfl)) ?_
          refine x_up (pc' := 76) (fun _ _ _ _ _ L => lv_iload hx hb dX4_lineOf_74 (lv_at L 0 rfl)) ?_
          refine x_if (C := (0 : Int32) = 0) (pt := 88) (pc' := 79) (fun _ _ _ _ _ => lv_if_eq (tgt := 88) hx hb dX4_lineOf_76 (by decide)) (fun c76 => ?_) (fun c76 => ?_)
          · have hp34 := hp33.1 c76
            refine x_up (pc' := 89) (fun _ _ _ _ _ L => lv_aload_n hx hb dX4_lineOf_88 rfl (lv_at L 2 rfl)) ?_
            refine x_gq X (kX4 hG) 0 (by decide) q3266 (fun _ h => h) dX4_lineOf_89 hp34 (fun v31 hp35 => ?_)
            refine x_pc (pc' := 92) rfl ?_
            refine x_up (pc' := 94) (fun _ _ _ _ _ L => lv_bipush (v := (73 : Int32)) hx hb dX4_lineOf_92 (by decide)) ?_
            refine x_up (pc' := 96) (fun _ _ _ _ _ L => lv_bipush (v := (16 : Int32)) hx hb dX4_lineOf_94 (by decide)) ?_
            refine x_up (pc' := 97) (fun _ _ _ _ _ L => lv_iload_n hx hb dX4_lineOf_96 rfl (lv_at L 5 rfl)) ?_
            refine x_up (pc' := 98) (fun _ _ _ _ _ L => lv_imul hx hb dX4_lineOf_97) ?_
            refine x_up (pc' := 99) (fun _ _ _ _ _ L => lv_iadd hx hb dX4_lineOf_98) ?_
            refine x_up (pc' := 101) (fun _ _ _ _ _ L => lv_iload hx hb dX4_lineOf_99 (lv_at L 1 rfl)) ?_
            refine x_up (pc' := 102) (fun _ _ _ _ _ L => lv_iadd hx hb dX4_lineOf_101) ?_
            obtain ⟨b32, rfl, hp36⟩ := hp35
            refine x_iald X dX4_lineOf_102 hp36 (fun v33 hp37 => ?_)
            refine x_pc (pc' := 103) rfl ?_
            refine x_callV (em := emI) (fun r st => .int r :: st) (fun _ _ => rfl) 1 X (kX4 hG) (fun σ' KK h => R_X4_done l hl G hG a0 v33 σ' KK h) (lw_V q3404 q3406 qs70 q119 q3407) ⟨rfl, mdX4_done⟩ ⟨Nat.le_of_ble_eq_true rfl, Nat.le_of_ble_eq_true rfl⟩ rfl rfl (Nat.le_of_ble_eq_true rfl) dX4_lineOf_103 hp37.1 hp37.2 (fun v34 σ35 hp38 => ?_)
            refine x_pc (pc' := 106) rfl ?_
            exact x_iret X hr rfl dX4_lineOf_106 hp38
          · have hp39 := hp33.2 c76
            refine x_up (pc' := 80) (fun _ _ _ _ _ L => lv_iload_n hx hb dX4_lineOf_79 rfl (lv_at L 5 rfl)) ?_
            refine x_up (pc' := 81) (fun _ _ _ _ _ L => lv_iconst (v := (2 : Int32)) hx hb dX4_lineOf_80 (by decide)) ?_
            refine x_if (C := x3 ≤ (2 : Int32)) (pt := 88) (pc' := 84) (fun _ _ _ _ _ => lv_icmp_le (tgt := 88) hx hb dX4_lineOf_81 (by decide)) (fun c81 => ?_) (fun c81 => ?_)
            · have hp40 := hp39.1 c81
              refine x_up (pc' := 89) (fun _ _ _ _ _ L => lv_aload_n hx hb dX4_lineOf_88 rfl (lv_at L 2 rfl)) ?_
              refine x_gq X (kX4 hG) 0 (by decide) q3266 (fun _ h => h) dX4_lineOf_89 hp40 (fun v36 hp41 => ?_)
              refine x_pc (pc' := 92) rfl ?_
              refine x_up (pc' := 94) (fun _ _ _ _ _ L => lv_bipush (v := (73 : Int32)) hx hb dX4_lineOf_92 (by decide)) ?_
              refine x_up (pc' := 96) (fun _ _ _ _ _ L => lv_bipush (v := (16 : Int32)) hx hb dX4_lineOf_94 (by decide)) ?_
              refine x_up (pc' := 97) (fun _ _ _ _ _ L => lv_iload_n hx hb dX4_lineOf_96 rfl (lv_at L 5 rfl)) ?_
              refine x_up (pc' := 98) (fun _ _ _ _ _ L => lv_imul hx hb dX4_lineOf_97) ?_
              refine x_up (pc' := 99) (fun _ _ _ _ _ L => lv_iadd hx hb dX4_lineOf_98) ?_
              refine x_up (pc' := 101) (fun _ _ _ _ _ L => lv_iload hx hb dX4_lineOf_99 (lv_at L 1 rfl)) ?_
              refine x_up (pc' := 102) (fun _ _ _ _ _ L => lv_iadd hx hb dX4_lineOf_101) ?_
              obtain ⟨b37, rfl, hp42⟩ := hp41
              refine x_iald X dX4_lineOf_102 hp42 (fun v38 hp43 => ?_)
              refine x_pc (pc' := 103) rfl ?_
              refine x_callV (em := emI) (fun r st => .int r :: st) (fun _ _ => rfl) 1 X (kX4 hG) (fun σ' KK h => R_X4_done l hl G hG a0 v38 σ' KK h) (lw_V q3404 q3406 qs70 q119 q3407) ⟨rfl, mdX4_done⟩ ⟨Nat.le_of_ble_eq_true rfl, Nat.le_of_ble_eq_true rfl⟩ rfl rfl (Nat.le_of_ble_eq_true rfl) dX4_lineOf_103 hp43.1 hp43.2 (fun v39 σ40 hp44 => ?_)
              refine x_pc (pc' := 106) rfl ?_
              exact x_iret X hr rfl dX4_lineOf_106 hp44
            · have hp45 := hp39.2 c81
              refine x_up (pc' := 85) (fun _ _ _ _ _ L => lv_iconst (v := (-1 : Int32)) hx hb dX4_lineOf_84 (by decide)) ?_
              refine x_up (pc' := 103) (fun _ _ _ _ _ L => lv_goto (tgt := 103) hx hb dX4_lineOf_85 (by decide)) ?_
              refine x_callV (em := emI) (fun r st => .int r :: st) (fun _ _ => rfl) 1 X (kX4 hG) (fun σ' KK h => R_X4_done l hl G hG a0 (-1 : Int32) σ' KK h) (lw_V q3404 q3406 qs70 q119 q3407) ⟨rfl, mdX4_done⟩ ⟨Nat.le_of_ble_eq_true rfl, Nat.le_of_ble_eq_true rfl⟩ rfl rfl (Nat.le_of_ble_eq_true rfl) dX4_lineOf_103 hp45.1 hp45.2 (fun v41 σ42 hp46 => ?_)
              refine x_pc (pc' := 106) rfl ?_
              exact x_iret X hr rfl dX4_lineOf_106 hp46
-- X4_holder
def P_X4_holder (κ : Nat → Nat) (a0 : Nat) (x1 : Int32) (σ : xS) (K : Int32 → xH → Prop) : Prop :=
  xcall (fun τ L => P_X4_isBlock κ x1 τ L) σ fun v1 σ2 => ((v1 = 0 → (xrc σ2 a0 10 ∧ xcall (fun τ L => P_X4_fails κ a0 (1 : Int32) τ L) σ2 fun v3 σ4 => K v3 σ4.1)) ∧ (¬ v1 = 0 → (xrc σ2 a0 10 ∧ xcall (fun τ L => P_X4_lineWith κ a0 x1 τ L) σ2 fun v5 σ6 => ((v5 = (-1 : Int32) → (xrc σ6 a0 10 ∧ xcall (fun τ L => P_X4_fails κ a0 (2 : Int32) τ L) σ6 fun v7 σ8 => K v7 σ8.1)) ∧ (¬ v5 = (-1 : Int32) → (xrc σ6 a0 10 ∧ xcall (fun τ L => P_X4_done κ a0 (v5 - v5 / (4 : Int32) * (4 : Int32)) τ L) σ6 fun v9 σ10 => K v9 σ10.1))))))
theorem mdX4_holder : yX4_holder.cls ≠ "java/lang/invoke/MethodHandle" ∧ yX4_holder.cls ≠ "java/lang/invoke/VarHandle" ∧ (parseMethodDescriptor yX4_holder.desc).map (fun d => d.parameters.length) = some 1 := by decide +kernel
set_option maxHeartbeats 4000000 in
set_option maxRecDepth 100000 in
theorem R_X4_holder (l : Launch) (hl : l.stackTraces = false) (G : xG) (hG : G.1.2 = x_cl) (a0 : Nat) (x1 : Int32) (σ : xS) (K : Int32 → xH → Prop) (hp : P_X4_holder G.2 a0 x1 σ K) : xM l yX4_holder cX4_holder 3 (Option.some Jvm.ClassFile.FieldType.int) 2 42 G [(.ref a0), .int x1] σ (xlift emI K) := by
  refine x_entry (by decide) (Nat.le_of_ble_eq_true rfl) ?_
  intro p e s m args below meth c X hr hin
  have X : xX p s m args meth c G cX4_holder 3 RX4 := X
  have hx := X.1
  have hb := X.2.1
  have hts := X.2.2.2.2.1
  have hown := X.2.2.2.1
  unfold P_X4_holder at hp
  refine x_same (lo' := [(0, .ref a0), (1, .int x1)]) rfl ?_
  refine x_up (pc' := 1) (fun _ _ _ _ _ L => lv_iload_n hx hb dX4_holder_0 rfl (lv_at L 1 rfl)) ?_
  refine x_callS (em := emI) (fun r st => .int r :: st) (fun _ _ => rfl) 1 X (fun σ' KK h => R_X4_isBlock l hl G hG x1 σ' KK h) (lw_S q3444 q3445 q119 q3446) mdX4_isBlock ⟨Nat.le_of_ble_eq_true rfl, Nat.le_of_ble_eq_true rfl⟩ rfl rfl (Nat.le_of_ble_eq_true rfl) dX4_holder_1 hp (fun v1 σ2 hp1 => ?_)
  refine x_pc (pc' := 4) rfl ?_
  refine x_ifn (C := v1 = 0) (pt := 13) (pc' := 7) (fun _ _ _ _ _ => lv_if_ne (tgt := 13) hx hb dX4_holder_4 (by decide)) (fun c4 => ?_) (fun c4 => ?_)
  · have hp2 := hp1.1 c4
    refine x_up (pc' := 8) (fun _ _ _ _ _ L => lv_aload_n hx hb dX4_holder_7 rfl (lv_at L 0 rfl)) ?_
    refine x_up (pc' := 9) (fun _ _ _ _ _ L => lv_iconst (v := (1 : Int32)) hx hb dX4_holder_8 (by decide)) ?_
    refine x_callV (em := emI) (fun r st => .int r :: st) (fun _ _ => rfl) 1 X (kX4 hG) (fun σ' KK h => R_X4_fails l hl G hG a0 (1 : Int32) σ' KK h) (lw_V q3357 q3359 qs59 q119 q3360) ⟨rfl, mdX4_fails⟩ ⟨Nat.le_of_ble_eq_true rfl, Nat.le_of_ble_eq_true rfl⟩ rfl rfl (Nat.le_of_ble_eq_true rfl) dX4_holder_9 hp2.1 hp2.2 (fun v3 σ4 hp3 => ?_)
    refine x_pc (pc' := 12) rfl ?_
    exact x_iret X hr rfl dX4_holder_12 hp3
  · have hp4 := hp1.2 c4
    refine x_up (pc' := 14) (fun _ _ _ _ _ L => lv_aload_n hx hb dX4_holder_13 rfl (lv_at L 0 rfl)) ?_
    refine x_up (pc' := 15) (fun _ _ _ _ _ L => lv_iload_n hx hb dX4_holder_14 rfl (lv_at L 1 rfl)) ?_
    refine x_callV (em := emI) (fun r st => .int r :: st) (fun _ _ => rfl) 1 X (kX4 hG) (fun σ' KK h => R_X4_lineWith l hl G hG a0 x1 σ' KK h) (lw_V q3365 q3367 qs61 q119 q3368) ⟨rfl, mdX4_lineWith⟩ ⟨Nat.le_of_ble_eq_true rfl, Nat.le_of_ble_eq_true rfl⟩ rfl rfl (Nat.le_of_ble_eq_true rfl) dX4_holder_15 hp4.1 hp4.2 (fun v5 σ6 hp5 => ?_)
    refine x_pc (pc' := 18) rfl ?_
    refine x_upL (pc' := 19) (lo' := [(2, .int v5), (0, .ref a0), (1, .int x1)]) (fun _ _ _ _ _ L => lv_istore_n hx hb dX4_holder_18 rfl L (by decide) rfl) ?_
    refine x_up (pc' := 20) (fun _ _ _ _ _ L => lv_iload_n hx hb dX4_holder_19 rfl (lv_at L 0 rfl)) ?_
    refine x_up (pc' := 21) (fun _ _ _ _ _ L => lv_iconst (v := (-1 : Int32)) hx hb dX4_holder_20 (by decide)) ?_
    refine x_ifn (C := v5 = (-1 : Int32)) (pt := 32) (pc' := 24) (fun _ _ _ _ _ => lv_icmp_ne (tgt := 32) hx hb dX4_holder_21 (by decide)) (fun c21 => ?_) (fun c21 => ?_)
    · have hp6 := hp5.1 c21
      refine x_up (pc' := 25) (fun _ _ _ _ _ L => lv_aload_n hx hb dX4_holder_24 rfl (lv_at L 1 rfl)) ?_
      refine x_up (pc' := 26) (fun _ _ _ _ _ L => lv_iconst (v := (2 : Int32)) hx hb dX4_holder_25 (by decide)) ?_
      refine x_callV (em := emI) (fun r st => .int r :: st) (fun _ _ => rfl) 1 X (kX4 hG) (fun σ' KK h => R_X4_fails l hl G hG a0 (2 : Int32) σ' KK h) (lw_V q3357 q3359 qs59 q119 q3360) ⟨rfl, mdX4_fails⟩ ⟨Nat.le_of_ble_eq_true rfl, Nat.le_of_ble_eq_true rfl⟩ rfl rfl (Nat.le_of_ble_eq_true rfl) dX4_holder_26 hp6.1 hp6.2 (fun v7 σ8 hp7 => ?_)
      refine x_pc (pc' := 29) rfl ?_
      refine x_up (pc' := 39) (fun _ _ _ _ _ L => lv_goto (tgt := 39) hx hb dX4_holder_29 (by decide)) ?_
      exact x_iret X hr rfl dX4_holder_39 hp7
    · have hp8 := hp5.2 c21
      refine x_up (pc' := 33) (fun _ _ _ _ _ L => lv_aload_n hx hb dX4_holder_32 rfl (lv_at L 1 rfl)) ?_
      refine x_up (pc' := 34) (fun _ _ _ _ _ L => lv_iload_n hx hb dX4_holder_33 rfl (lv_at L 0 rfl)) ?_
      refine x_up (pc' := 35) (fun _ _ _ _ _ L => lv_iconst (v := (4 : Int32)) hx hb dX4_holder_34 (by decide)) ?_
      refine x_up (pc' := 36) (fun _ _ _ _ _ L => lv_irem hx hb dX4_holder_35 (by decide)) ?_
      refine x_callV (em := emI) (fun r st => .int r :: st) (fun _ _ => rfl) 1 X (kX4 hG) (fun σ' KK h => R_X4_done l hl G hG a0 (v5 - v5 / (4 : Int32) * (4 : Int32)) σ' KK h) (lw_V q3404 q3406 qs70 q119 q3407) ⟨rfl, mdX4_done⟩ ⟨Nat.le_of_ble_eq_true rfl, Nat.le_of_ble_eq_true rfl⟩ rfl rfl (Nat.le_of_ble_eq_true rfl) dX4_holder_36 hp8.1 hp8.2 (fun v9 σ10 hp9 => ?_)
      refine x_pc (pc' := 39) rfl ?_
      exact x_iret X hr rfl dX4_holder_39 hp9
-- X4_comesTo
def P_X4_comesTo (κ : Nat → Nat) (a0 : Nat) (x1 : Int32) (σ : xS) (K : Int32 → xH → Prop) : Prop :=
  xcall (fun τ L => P_X4_isBlock κ x1 τ L) σ fun v1 σ2 => ((v1 = 0 → (xrc σ2 a0 10 ∧ xcall (fun τ L => P_X4_fails κ a0 (1 : Int32) τ L) σ2 fun v3 σ4 => K v3 σ4.1)) ∧ (¬ v1 = 0 → (xrc σ2 a0 10 ∧ xcall (fun τ L => P_X4_lineWith κ a0 x1 τ L) σ2 fun v5 σ6 => ((v5 = (-1 : Int32) → (xrc σ6 a0 10 ∧ xcall (fun τ L => P_X4_lineFor κ a0 x1 τ L) σ6 fun v7 σ8 => ((v7 = (-1 : Int32) → (xrc σ8 a0 10 ∧ xcall (fun τ L => P_X4_fails κ a0 (2 : Int32) τ L) σ8 fun v9 σ10 => K v9 σ10.1)) ∧ (¬ v7 = (-1 : Int32) → (xrc σ8 a0 10 ∧ xcall (fun τ L => P_X4_done κ a0 (v7 - v7 / (4 : Int32) * (4 : Int32)) τ L) σ8 fun v11 σ12 => K v11 σ12.1))))) ∧ (¬ v5 = (-1 : Int32) → ((((-1 : Int32) = (-1 : Int32) → (xrc σ6 a0 10 ∧ xcall (fun τ L => P_X4_fails κ a0 (2 : Int32) τ L) σ6 fun v13 σ14 => K v13 σ14.1)) ∧ (¬ (-1 : Int32) = (-1 : Int32) → (xrc σ6 a0 10 ∧ xcall (fun τ L => P_X4_done κ a0 ((-1 : Int32) - (-1 : Int32) / (4 : Int32) * (4 : Int32)) τ L) σ6 fun v15 σ16 => K v15 σ16.1)))))))))
theorem mdX4_comesTo : yX4_comesTo.cls ≠ "java/lang/invoke/MethodHandle" ∧ yX4_comesTo.cls ≠ "java/lang/invoke/VarHandle" ∧ (parseMethodDescriptor yX4_comesTo.desc).map (fun d => d.parameters.length) = some 1 := by decide +kernel
set_option maxHeartbeats 4000000 in
set_option maxRecDepth 100000 in
theorem R_X4_comesTo (l : Launch) (hl : l.stackTraces = false) (G : xG) (hG : G.1.2 = x_cl) (a0 : Nat) (x1 : Int32) (σ : xS) (K : Int32 → xH → Prop) (hp : P_X4_comesTo G.2 a0 x1 σ K) : xM l yX4_comesTo cX4_comesTo 3 (Option.some Jvm.ClassFile.FieldType.int) 3 69 G [(.ref a0), .int x1] σ (xlift emI K) := by
  refine x_entry (by decide) (Nat.le_of_ble_eq_true rfl) ?_
  intro p e s m args below meth c X hr hin
  have X : xX p s m args meth c G cX4_comesTo 3 RX4 := X
  have hx := X.1
  have hb := X.2.1
  have hts := X.2.2.2.2.1
  have hown := X.2.2.2.1
  unfold P_X4_comesTo at hp
  refine x_same (lo' := [(0, .ref a0), (1, .int x1)]) rfl ?_
  refine x_up (pc' := 1) (fun _ _ _ _ _ L => lv_iload_n hx hb dX4_comesTo_0 rfl (lv_at L 1 rfl)) ?_
  refine x_callS (em := emI) (fun r st => .int r :: st) (fun _ _ => rfl) 1 X (fun σ' KK h => R_X4_isBlock l hl G hG x1 σ' KK h) (lw_S q3444 q3445 q119 q3446) mdX4_isBlock ⟨Nat.le_of_ble_eq_true rfl, Nat.le_of_ble_eq_true rfl⟩ rfl rfl (Nat.le_of_ble_eq_true rfl) dX4_comesTo_1 hp (fun v1 σ2 hp1 => ?_)
  refine x_pc (pc' := 4) rfl ?_
  refine x_ifn (C := v1 = 0) (pt := 13) (pc' := 7) (fun _ _ _ _ _ => lv_if_ne (tgt := 13) hx hb dX4_comesTo_4 (by decide)) (fun c4 => ?_) (fun c4 => ?_)
  · have hp2 := hp1.1 c4
    refine x_up (pc' := 8) (fun _ _ _ _ _ L => lv_aload_n hx hb dX4_comesTo_7 rfl (lv_at L 0 rfl)) ?_
    refine x_up (pc' := 9) (fun _ _ _ _ _ L => lv_iconst (v := (1 : Int32)) hx hb dX4_comesTo_8 (by decide)) ?_
    refine x_callV (em := emI) (fun r st => .int r :: st) (fun _ _ => rfl) 1 X (kX4 hG) (fun σ' KK h => R_X4_fails l hl G hG a0 (1 : Int32) σ' KK h) (lw_V q3357 q3359 qs59 q119 q3360) ⟨rfl, mdX4_fails⟩ ⟨Nat.le_of_ble_eq_true rfl, Nat.le_of_ble_eq_true rfl⟩ rfl rfl (Nat.le_of_ble_eq_true rfl) dX4_comesTo_9 hp2.1 hp2.2 (fun v3 σ4 hp3 => ?_)
    refine x_pc (pc' := 12) rfl ?_
    exact x_iret X hr rfl dX4_comesTo_12 hp3
  · have hp4 := hp1.2 c4
    refine x_up (pc' := 14) (fun _ _ _ _ _ L => lv_aload_n hx hb dX4_comesTo_13 rfl (lv_at L 0 rfl)) ?_
    refine x_up (pc' := 15) (fun _ _ _ _ _ L => lv_iload_n hx hb dX4_comesTo_14 rfl (lv_at L 1 rfl)) ?_
    refine x_callV (em := emI) (fun r st => .int r :: st) (fun _ _ => rfl) 1 X (kX4 hG) (fun σ' KK h => R_X4_lineWith l hl G hG a0 x1 σ' KK h) (lw_V q3365 q3367 qs61 q119 q3368) ⟨rfl, mdX4_lineWith⟩ ⟨Nat.le_of_ble_eq_true rfl, Nat.le_of_ble_eq_true rfl⟩ rfl rfl (Nat.le_of_ble_eq_true rfl) dX4_comesTo_15 hp4.1 hp4.2 (fun v5 σ6 hp5 => ?_)
    refine x_pc (pc' := 18) rfl ?_
    refine x_up (pc' := 19) (fun _ _ _ _ _ L => lv_iconst (v := (-1 : Int32)) hx hb dX4_comesTo_18 (by decide)) ?_
    refine x_ifn (C := v5 = (-1 : Int32)) (pt := 30) (pc' := 22) (fun _ _ _ _ _ => lv_icmp_ne (tgt := 30) hx hb dX4_comesTo_19 (by decide)) (fun c19 => ?_) (fun c19 => ?_)
    · have hp6 := hp5.1 c19
      refine x_up (pc' := 23) (fun _ _ _ _ _ L => lv_aload_n hx hb dX4_comesTo_22 rfl (lv_at L 0 rfl)) ?_
      refine x_up (pc' := 24) (fun _ _ _ _ _ L => lv_iload_n hx hb dX4_comesTo_23 rfl (lv_at L 1 rfl)) ?_
      refine x_callV (em := emI) (fun r st => .int r :: st) (fun _ _ => rfl) 1 X (kX4 hG) (fun σ' KK h => R_X4_lineFor l hl G hG a0 x1 σ' KK h) (lw_V q3369 q3371 qs62 q119 q3372) ⟨rfl, mdX4_lineFor⟩ ⟨Nat.le_of_ble_eq_true rfl, Nat.le_of_ble_eq_true rfl⟩ rfl rfl (Nat.le_of_ble_eq_true rfl) dX4_comesTo_24 hp6.1 hp6.2 (fun v7 σ8 hp7 => ?_)
      refine x_pc (pc' := 27) rfl ?_
      refine x_up (pc' := 31) (fun _ _ _ _ _ L => lv_goto (tgt := 31) hx hb dX4_comesTo_27 (by decide)) ?_
      refine x_upL (pc' := 32) (lo' := [(2, .int v7), (0, .ref a0), (1, .int x1)]) (fun _ _ _ _ _ L => lv_istore_n hx hb dX4_comesTo_31 rfl L (by decide) rfl) ?_
      refine x_up (pc' := 33) (fun _ _ _ _ _ L => lv_iload_n hx hb dX4_comesTo_32 rfl (lv_at L 0 rfl)) ?_
      refine x_up (pc' := 34) (fun _ _ _ _ _ L => lv_iconst (v := (-1 : Int32)) hx hb dX4_comesTo_33 (by decide)) ?_
      refine x_ifn (C := v7 = (-1 : Int32)) (pt := 45) (pc' := 37) (fun _ _ _ _ _ => lv_icmp_ne (tgt := 45) hx hb dX4_comesTo_34 (by decide)) (fun c34 => ?_) (fun c34 => ?_)
      · have hp8 := hp7.1 c34
        refine x_up (pc' := 38) (fun _ _ _ _ _ L => lv_aload_n hx hb dX4_comesTo_37 rfl (lv_at L 1 rfl)) ?_
        refine x_up (pc' := 39) (fun _ _ _ _ _ L => lv_iconst (v := (2 : Int32)) hx hb dX4_comesTo_38 (by decide)) ?_
        refine x_callV (em := emI) (fun r st => .int r :: st) (fun _ _ => rfl) 1 X (kX4 hG) (fun σ' KK h => R_X4_fails l hl G hG a0 (2 : Int32) σ' KK h) (lw_V q3357 q3359 qs59 q119 q3360) ⟨rfl, mdX4_fails⟩ ⟨Nat.le_of_ble_eq_true rfl, Nat.le_of_ble_eq_true rfl⟩ rfl rfl (Nat.le_of_ble_eq_true rfl) dX4_comesTo_39 hp8.1 hp8.2 (fun v9 σ10 hp9 => ?_)
        refine x_pc (pc' := 42) rfl ?_
        refine x_up (pc' := 52) (fun _ _ _ _ _ L => lv_goto (tgt := 52) hx hb dX4_comesTo_42 (by decide)) ?_
        exact x_iret X hr rfl dX4_comesTo_52 hp9
      · have hp10 := hp7.2 c34
        refine x_up (pc' := 46) (fun _ _ _ _ _ L => lv_aload_n hx hb dX4_comesTo_45 rfl (lv_at L 1 rfl)) ?_
        refine x_up (pc' := 47) (fun _ _ _ _ _ L => lv_iload_n hx hb dX4_comesTo_46 rfl (lv_at L 0 rfl)) ?_
        refine x_up (pc' := 48) (fun _ _ _ _ _ L => lv_iconst (v := (4 : Int32)) hx hb dX4_comesTo_47 (by decide)) ?_
        refine x_up (pc' := 49) (fun _ _ _ _ _ L => lv_irem hx hb dX4_comesTo_48 (by decide)) ?_
        refine x_callV (em := emI) (fun r st => .int r :: st) (fun _ _ => rfl) 1 X (kX4 hG) (fun σ' KK h => R_X4_done l hl G hG a0 (v7 - v7 / (4 : Int32) * (4 : Int32)) σ' KK h) (lw_V q3404 q3406 qs70 q119 q3407) ⟨rfl, mdX4_done⟩ ⟨Nat.le_of_ble_eq_true rfl, Nat.le_of_ble_eq_true rfl⟩ rfl rfl (Nat.le_of_ble_eq_true rfl) dX4_comesTo_49 hp10.1 hp10.2 (fun v11 σ12 hp11 => ?_)
        refine x_pc (pc' := 52) rfl ?_
        exact x_iret X hr rfl dX4_comesTo_52 hp11
    · have hp12 := hp5.2 c19
      refine x_up (pc' := 31) (fun _ _ _ _ _ L => lv_iconst (v := (-1 : Int32)) hx hb dX4_comesTo_30 (by decide)) ?_
      refine x_upL (pc' := 32) (lo' := [(2, .int (-1 : Int32)), (0, .ref a0), (1, .int x1)]) (fun _ _ _ _ _ L => lv_istore_n hx hb dX4_comesTo_31 rfl L (by decide) rfl) ?_
      refine x_up (pc' := 33) (fun _ _ _ _ _ L => lv_iload_n hx hb dX4_comesTo_32 rfl (lv_at L 0 rfl)) ?_
      refine x_up (pc' := 34) (fun _ _ _ _ _ L => lv_iconst (v := (-1 : Int32)) hx hb dX4_comesTo_33 (by decide)) ?_
      refine x_ifn (C := (-1 : Int32) = (-1 : Int32)) (pt := 45) (pc' := 37) (fun _ _ _ _ _ => lv_icmp_ne (tgt := 45) hx hb dX4_comesTo_34 (by decide)) (fun c34 => ?_) (fun c34 => ?_)
      · have hp13 := hp12.1 c34
        refine x_up (pc' := 38) (fun _ _ _ _ _ L => lv_aload_n hx hb dX4_comesTo_37 rfl (lv_at L 1 rfl)) ?_
        refine x_up (pc' := 39) (fun _ _ _ _ _ L => lv_iconst (v := (2 : Int32)) hx hb dX4_comesTo_38 (by decide)) ?_
        refine x_callV (em := emI) (fun r st => .int r :: st) (fun _ _ => rfl) 1 X (kX4 hG) (fun σ' KK h => R_X4_fails l hl G hG a0 (2 : Int32) σ' KK h) (lw_V q3357 q3359 qs59 q119 q3360) ⟨rfl, mdX4_fails⟩ ⟨Nat.le_of_ble_eq_true rfl, Nat.le_of_ble_eq_true rfl⟩ rfl rfl (Nat.le_of_ble_eq_true rfl) dX4_comesTo_39 hp13.1 hp13.2 (fun v13 σ14 hp14 => ?_)
        refine x_pc (pc' := 42) rfl ?_
        refine x_up (pc' := 52) (fun _ _ _ _ _ L => lv_goto (tgt := 52) hx hb dX4_comesTo_42 (by decide)) ?_
        exact x_iret X hr rfl dX4_comesTo_52 hp14
      · have hp15 := hp12.2 c34
        refine x_up (pc' := 46) (fun _ _ _ _ _ L => lv_aload_n hx hb dX4_comesTo_45 rfl (lv_at L 1 rfl)) ?_
        refine x_up (pc' := 47) (fun _ _ _ _ _ L => lv_iload_n hx hb dX4_comesTo_46 rfl (lv_at L 0 rfl)) ?_
        refine x_up (pc' := 48) (fun _ _ _ _ _ L => lv_iconst (v := (4 : Int32)) hx hb dX4_comesTo_47 (by decide)) ?_
        refine x_up (pc' := 49) (fun _ _ _ _ _ L => lv_irem hx hb dX4_comesTo_48 (by decide)) ?_
        refine x_callV (em := emI) (fun r st => .int r :: st) (fun _ _ => rfl) 1 X (kX4 hG) (fun σ' KK h => R_X4_done l hl G hG a0 ((-1 : Int32) - (-1 : Int32) / (4 : Int32) * (4 : Int32)) σ' KK h) (lw_V q3404 q3406 qs70 q119 q3407) ⟨rfl, mdX4_done⟩ ⟨Nat.le_of_ble_eq_true rfl, Nat.le_of_ble_eq_true rfl⟩ rfl rfl (Nat.le_of_ble_eq_true rfl) dX4_comesTo_49 hp15.1 hp15.2 (fun v15 σ16 hp16 => ?_)
        refine x_pc (pc' := 52) rfl ?_
        exact x_iret X hr rfl dX4_comesTo_52 hp16
-- X4_giving
def B_X4_giving_32 (κ : Nat → Nat) (kx33104 : Int32 → xS → Prop) (f0 : Nat) (f1 : Int32) (f2 : Int32) (f3 : Int32) : ((Int32 × Int32) → xS → Prop) → (Int32 × Int32) → xS → Prop := fun self33103 w33101 σ33102 =>
  xgq σ33102 f0 10 0 fun v33105 => xnn v33105 fun b33106 => xai .int σ33102 b33106 (2 : Int32) fun v33107 => ((v33107 ≤ w33101.2 → (kx33104 w33101.1 σ33102)) ∧ (¬ v33107 ≤ w33101.2 → (((w33101.2 = f3 → (self33103 ((w33101.1 + (0 : Int32)), (w33101.2 + (1 : Int32))) σ33102)) ∧ (¬ w33101.2 = f3 → (xrc σ33102 f0 10 ∧ xcall (fun τ L => P_X4_canGive κ f0 (((4 : Int32) * f1) + w33101.2) τ L) σ33102 fun v33108 σ33109 => ((v33108 = 0 → (self33103 ((w33101.1 + (0 : Int32)), (w33101.2 + (1 : Int32))) σ33109)) ∧ (¬ v33108 = 0 → (xrc σ33109 f0 10 ∧ xcall (fun τ L => P_X4_isAhead κ f0 (((4 : Int32) * f1) + w33101.2) (((4 : Int32) * f1) + f3) τ L) σ33109 fun v33110 σ33111 => ((v33110 = 0 → (self33103 ((w33101.1 + (0 : Int32)), (w33101.2 + (1 : Int32))) σ33111)) ∧ (¬ v33110 = 0 → (self33103 ((w33101.1 + (1 : Int32)), (w33101.2 + (1 : Int32))) σ33111))))))))))))
def B_X4_giving_16 (κ : Nat → Nat) (K : Int32 → xH → Prop) (f0 : Nat) (f1 : Int32) (f2 : Int32) : (Int32 → xS → Prop) → Int32 → xS → Prop := fun self17003 w17001 σ17002 =>
  xgq σ17002 f0 10 0 fun v17004 => xnn v17004 fun b17005 => xai .int σ17002 b17005 (2 : Int32) fun v17006 => ((v17006 ≤ w17001 → (xrc σ17002 f0 10 ∧ xcall (fun τ L => P_X4_fails κ f0 (2 : Int32) τ L) σ17002 fun v17007 σ17008 => K v17007 σ17008.1)) ∧ (¬ v17006 ≤ w17001 → (xwhile (B_X4_giving_32 κ (fun e17009 σ17010 => xrc σ17010 f0 10 ∧ xcall (fun τ L => P_X4_canGive κ f0 (((4 : Int32) * f1) + w17001) τ L) σ17010 fun v17011 σ17012 => ((v17011 = 0 → (self17003 (w17001 + (1 : Int32)) σ17012)) ∧ (¬ v17011 = 0 → (((e17009 = f2 → (xrc σ17012 f0 10 ∧ xcall (fun τ L => P_X4_done κ f0 w17001 τ L) σ17012 fun v17013 σ17014 => K v17013 σ17014.1)) ∧ (¬ e17009 = f2 → (self17003 (w17001 + (1 : Int32)) σ17012))))))) f0 f1 f2 w17001) ((0 : Int32), (0 : Int32)) σ17002)))
def P_X4_giving (κ : Nat → Nat) (a0 : Nat) (x1 : Int32) (x2 : Int32) (σ : xS) (K : Int32 → xH → Prop) : Prop :=
  xrc σ a0 10 ∧ xcall (fun τ L => P_X4_isSet κ a0 x1 τ L) σ fun v1 σ2 => ((v1 = 0 → (xrc σ2 a0 10 ∧ xcall (fun τ L => P_X4_fails κ a0 (1 : Int32) τ L) σ2 fun v3 σ4 => K v3 σ4.1)) ∧ (¬ v1 = 0 → (xwhile (B_X4_giving_16 κ K a0 x1 x2) (0 : Int32) σ2)))
theorem mdX4_giving : yX4_giving.cls ≠ "java/lang/invoke/MethodHandle" ∧ yX4_giving.cls ≠ "java/lang/invoke/VarHandle" ∧ (parseMethodDescriptor yX4_giving.desc).map (fun d => d.parameters.length) = some 2 := by decide +kernel
set_option maxHeartbeats 4000000 in
set_option maxRecDepth 100000 in
theorem R_X4_giving (l : Launch) (hl : l.stackTraces = false) (G : xG) (hG : G.1.2 = x_cl) (a0 : Nat) (x1 : Int32) (x2 : Int32) (σ : xS) (K : Int32 → xH → Prop) (hp : P_X4_giving G.2 a0 x1 x2 σ K) : xM l yX4_giving cX4_giving 6 (Option.some Jvm.ClassFile.FieldType.int) 2 45 G [(.ref a0), .int x1, .int x2] σ (xlift emI K) := by
  refine x_entry (by decide) (Nat.le_of_ble_eq_true rfl) ?_
  intro p e s m args below meth c X hr hin
  have X : xX p s m args meth c G cX4_giving 6 RX4 := X
  have hx := X.1
  have hb := X.2.1
  have hts := X.2.2.2.2.1
  have hown := X.2.2.2.1
  unfold P_X4_giving at hp
  refine x_same (lo' := [(0, .ref a0), (1, .int x1), (2, .int x2)]) rfl ?_
  refine x_up (pc' := 1) (fun _ _ _ _ _ L => lv_aload_n hx hb dX4_giving_0 rfl (lv_at L 0 rfl)) ?_
  refine x_up (pc' := 2) (fun _ _ _ _ _ L => lv_iload_n hx hb dX4_giving_1 rfl (lv_at L 1 rfl)) ?_
  refine x_callV (em := emI) (fun r st => .int r :: st) (fun _ _ => rfl) 1 X (kX4 hG) (fun σ' KK h => R_X4_isSet l hl G hG a0 x1 σ' KK h) (lw_V q3503 q3505 qs81 q119 q3506) ⟨rfl, mdX4_isSet⟩ ⟨Nat.le_of_ble_eq_true rfl, Nat.le_of_ble_eq_true rfl⟩ rfl rfl (Nat.le_of_ble_eq_true rfl) dX4_giving_2 hp.1 hp.2 (fun v1 σ2 hp1 => ?_)
  refine x_pc (pc' := 5) rfl ?_
  refine x_ifn (C := v1 = 0) (pt := 14) (pc' := 8) (fun _ _ _ _ _ => lv_if_ne (tgt := 14) hx hb dX4_giving_5 (by decide)) (fun c5 => ?_) (fun c5 => ?_)
  · have hp2 := hp1.1 c5
    refine x_up (pc' := 9) (fun _ _ _ _ _ L => lv_aload_n hx hb dX4_giving_8 rfl (lv_at L 0 rfl)) ?_
    refine x_up (pc' := 10) (fun _ _ _ _ _ L => lv_iconst (v := (1 : Int32)) hx hb dX4_giving_9 (by decide)) ?_
    refine x_callV (em := emI) (fun r st => .int r :: st) (fun _ _ => rfl) 1 X (kX4 hG) (fun σ' KK h => R_X4_fails l hl G hG a0 (1 : Int32) σ' KK h) (lw_V q3357 q3359 qs59 q119 q3360) ⟨rfl, mdX4_fails⟩ ⟨Nat.le_of_ble_eq_true rfl, Nat.le_of_ble_eq_true rfl⟩ rfl rfl (Nat.le_of_ble_eq_true rfl) dX4_giving_10 hp2.1 hp2.2 (fun v3 σ4 hp3 => ?_)
    refine x_pc (pc' := 13) rfl ?_
    exact x_iret X hr rfl dX4_giving_13 hp3
  · have hp4 := hp1.2 c5
    refine x_up (pc' := 15) (fun _ _ _ _ _ L => lv_iconst (v := (0 : Int32)) hx hb dX4_giving_14 (by decide)) ?_
    refine x_upL (pc' := 16) (lo' := [(3, .int (0 : Int32)), (0, .ref a0), (1, .int x1), (2, .int x2)]) (fun _ _ _ _ _ L => lv_istore_n hx hb dX4_giving_15 rfl L (by decide) rfl) ?_
    refine x_lo (lo' := [(3, .int (0 : Int32)), (0, .ref a0), (1, .int x1), (2, .int x2)]) [0, 1, 2, 3] rfl ?_
    refine x_while (v0 := (0 : Int32)) (fun w5 => [(3, .int w5), (0, .ref a0), (1, .int x1), (2, .int x2)]) hp4 (fun self6 hself7 => ?_)
    rintro y9 σ8 hp5
    unfold B_X4_giving_16 at hp5
    refine x_same (lo' := [(3, .int y9), (0, .ref a0), (1, .int x1), (2, .int x2)]) rfl ?_
    refine x_up (pc' := 17) (fun _ _ _ _ _ L => lv_iload_n hx hb dX4_giving_16 rfl (lv_at L 0 rfl)) ?_
    refine x_up (pc' := 18) (fun _ _ _ _ _ L => lv_aload_n hx hb dX4_giving_17 rfl (lv_at L 1 rfl)) ?_
    refine x_gq X (kX4 hG) 0 (by decide) q3266 (fun _ h => h) dX4_giving_18 hp5 (fun v10 hp6 => ?_)
    refine x_pc (pc' := 21) rfl ?_
    refine x_up (pc' := 22) (fun _ _ _ _ _ L => lv_iconst (v := (2 : Int32)) hx hb dX4_giving_21 (by decide)) ?_
    obtain ⟨b11, rfl, hp7⟩ := hp6
    refine x_iald X dX4_giving_22 hp7 (fun v12 hp8 => ?_)
    refine x_pc (pc' := 23) rfl ?_
    refine x_if (C := v12 ≤ y9) (pt := 126) (pc' := 26) (fun _ _ _ _ _ => lv_icmp_ge (tgt := 126) hx hb dX4_giving_23 (by decide)) (fun c23 => ?_) (fun c23 => ?_)
    · have hp9 := hp8.1 c23
      refine x_up (pc' := 127) (fun _ _ _ _ _ L => lv_aload_n hx hb dX4_giving_126 rfl (lv_at L 1 rfl)) ?_
      refine x_up (pc' := 128) (fun _ _ _ _ _ L => lv_iconst (v := (2 : Int32)) hx hb dX4_giving_127 (by decide)) ?_
      refine x_callV (em := emI) (fun r st => .int r :: st) (fun _ _ => rfl) 1 X (kX4 hG) (fun σ' KK h => R_X4_fails l hl G hG a0 (2 : Int32) σ' KK h) (lw_V q3357 q3359 qs59 q119 q3360) ⟨rfl, mdX4_fails⟩ ⟨Nat.le_of_ble_eq_true rfl, Nat.le_of_ble_eq_true rfl⟩ rfl rfl (Nat.le_of_ble_eq_true rfl) dX4_giving_128 hp9.1 hp9.2 (fun v13 σ14 hp10 => ?_)
      refine x_pc (pc' := 131) rfl ?_
      exact x_iret X hr rfl dX4_giving_131 hp10
    · have hp11 := hp8.2 c23
      refine x_up (pc' := 27) (fun _ _ _ _ _ L => lv_iconst (v := (0 : Int32)) hx hb dX4_giving_26 (by decide)) ?_
      refine x_upL (pc' := 29) (lo' := [(4, .int (0 : Int32)), (3, .int y9), (0, .ref a0), (1, .int x1), (2, .int x2)]) (fun _ _ _ _ _ L => lv_istore hx hb dX4_giving_27 L (by decide) rfl) ?_
      refine x_up (pc' := 30) (fun _ _ _ _ _ L => lv_iconst (v := (0 : Int32)) hx hb dX4_giving_29 (by decide)) ?_
      refine x_upL (pc' := 32) (lo' := [(5, .int (0 : Int32)), (4, .int (0 : Int32)), (3, .int y9), (0, .ref a0), (1, .int x1), (2, .int x2)]) (fun _ _ _ _ _ L => lv_istore hx hb dX4_giving_30 L (by decide) rfl) ?_
      refine x_lo (lo' := [(4, .int (0 : Int32)), (5, .int (0 : Int32)), (0, .ref a0), (1, .int x1), (2, .int x2), (3, .int y9)]) [1, 0, 3, 4, 5, 2] rfl ?_
      refine x_while (v0 := ((0 : Int32), (0 : Int32))) (fun w15 => [(4, .int w15.1), (5, .int w15.2), (0, .ref a0), (1, .int x1), (2, .int x2), (3, .int y9)]) hp11 (fun self16 hself17 => ?_)
      rintro ⟨y19, y20⟩ σ18 hp12
      unfold B_X4_giving_32 at hp12
      refine x_same (lo' := [(4, .int y19), (5, .int y20), (0, .ref a0), (1, .int x1), (2, .int x2), (3, .int y9)]) rfl ?_
      refine x_up (pc' := 34) (fun _ _ _ _ _ L => lv_iload hx hb dX4_giving_32 (lv_at L 1 rfl)) ?_
      refine x_up (pc' := 35) (fun _ _ _ _ _ L => lv_aload_n hx hb dX4_giving_34 rfl (lv_at L 2 rfl)) ?_
      refine x_gq X (kX4 hG) 0 (by decide) q3266 (fun _ h => h) dX4_giving_35 hp12 (fun v21 hp13 => ?_)
      refine x_pc (pc' := 38) rfl ?_
      refine x_up (pc' := 39) (fun _ _ _ _ _ L => lv_iconst (v := (2 : Int32)) hx hb dX4_giving_38 (by decide)) ?_
      obtain ⟨b22, rfl, hp14⟩ := hp13
      refine x_iald X dX4_giving_39 hp14 (fun v23 hp15 => ?_)
      refine x_pc (pc' := 40) rfl ?_
      refine x_if (C := v23 ≤ y20) (pt := 96) (pc' := 43) (fun _ _ _ _ _ => lv_icmp_ge (tgt := 96) hx hb dX4_giving_40 (by decide)) (fun c40 => ?_) (fun c40 => ?_)
      · have hp16 := hp15.1 c40
        refine x_up (pc' := 97) (fun _ _ _ _ _ L => lv_aload_n hx hb dX4_giving_96 rfl (lv_at L 2 rfl)) ?_
        refine x_up (pc' := 98) (fun _ _ _ _ _ L => lv_iconst (v := (4 : Int32)) hx hb dX4_giving_97 (by decide)) ?_
        refine x_up (pc' := 99) (fun _ _ _ _ _ L => lv_iload_n hx hb dX4_giving_98 rfl (lv_at L 3 rfl)) ?_
        refine x_up (pc' := 100) (fun _ _ _ _ _ L => lv_imul hx hb dX4_giving_99) ?_
        refine x_up (pc' := 101) (fun _ _ _ _ _ L => lv_iload_n hx hb dX4_giving_100 rfl (lv_at L 5 rfl)) ?_
        refine x_up (pc' := 102) (fun _ _ _ _ _ L => lv_iadd hx hb dX4_giving_101) ?_
        refine x_callV (em := emI) (fun r st => .int r :: st) (fun _ _ => rfl) 1 X (kX4 hG) (fun σ' KK h => R_X4_canGive l hl G hG a0 (((4 : Int32) * x1) + y9) σ' KK h) (lw_V q3373 q3375 qs63 q119 q3376) ⟨rfl, mdX4_canGive⟩ ⟨Nat.le_of_ble_eq_true rfl, Nat.le_of_ble_eq_true rfl⟩ rfl rfl (Nat.le_of_ble_eq_true rfl) dX4_giving_102 hp16.1 hp16.2 (fun v24 σ25 hp17 => ?_)
        refine x_pc (pc' := 105) rfl ?_
        refine x_if (C := v24 = 0) (pt := 120) (pc' := 108) (fun _ _ _ _ _ => lv_if_eq (tgt := 120) hx hb dX4_giving_105 (by decide)) (fun c105 => ?_) (fun c105 => ?_)
        · have hp18 := hp17.1 c105
          refine x_upL (pc' := 123) (lo' := [(3, .int (y9 + (1 : Int32))), (4, .int y19), (5, .int y20), (0, .ref a0), (1, .int x1), (2, .int x2)]) (fun _ _ _ _ _ L => lv_iinc (v := y9 + (1 : Int32)) hx hb dX4_giving_120 L (k := 5) rfl rfl (by decide) rfl) ?_
          refine x_up (pc' := 16) (fun _ _ _ _ _ L => lv_goto (tgt := 16) hx hb dX4_giving_123 (by decide)) ?_
          refine x_lo (lo' := [(3, .int (y9 + (1 : Int32))), (0, .ref a0), (1, .int x1), (2, .int x2)]) [0, 3, 4, 5] rfl ?_
          exact hself7 (y9 + (1 : Int32)) σ25 hp18
        · have hp19 := hp17.2 c105
          refine x_up (pc' := 110) (fun _ _ _ _ _ L => lv_iload hx hb dX4_giving_108 (lv_at L 0 rfl)) ?_
          refine x_up (pc' := 111) (fun _ _ _ _ _ L => lv_iload_n hx hb dX4_giving_110 rfl (lv_at L 4 rfl)) ?_
          refine x_ifn (C := y19 = x2) (pt := 120) (pc' := 114) (fun _ _ _ _ _ => lv_icmp_ne (tgt := 120) hx hb dX4_giving_111 (by decide)) (fun c111 => ?_) (fun c111 => ?_)
          · have hp20 := hp19.1 c111
            refine x_up (pc' := 115) (fun _ _ _ _ _ L => lv_aload_n hx hb dX4_giving_114 rfl (lv_at L 2 rfl)) ?_
            refine x_up (pc' := 116) (fun _ _ _ _ _ L => lv_iload_n hx hb dX4_giving_115 rfl (lv_at L 5 rfl)) ?_
            refine x_callV (em := emI) (fun r st => .int r :: st) (fun _ _ => rfl) 1 X (kX4 hG) (fun σ' KK h => R_X4_done l hl G hG a0 y9 σ' KK h) (lw_V q3404 q3406 qs70 q119 q3407) ⟨rfl, mdX4_done⟩ ⟨Nat.le_of_ble_eq_true rfl, Nat.le_of_ble_eq_true rfl⟩ rfl rfl (Nat.le_of_ble_eq_true rfl) dX4_giving_116 hp20.1 hp20.2 (fun v26 σ27 hp21 => ?_)
            refine x_pc (pc' := 119) rfl ?_
            exact x_iret X hr rfl dX4_giving_119 hp21
          · have hp22 := hp19.2 c111
            refine x_upL (pc' := 123) (lo' := [(3, .int (y9 + (1 : Int32))), (4, .int y19), (5, .int y20), (0, .ref a0), (1, .int x1), (2, .int x2)]) (fun _ _ _ _ _ L => lv_iinc (v := y9 + (1 : Int32)) hx hb dX4_giving_120 L (k := 5) rfl rfl (by decide) rfl) ?_
            refine x_up (pc' := 16) (fun _ _ _ _ _ L => lv_goto (tgt := 16) hx hb dX4_giving_123 (by decide)) ?_
            refine x_lo (lo' := [(3, .int (y9 + (1 : Int32))), (0, .ref a0), (1, .int x1), (2, .int x2)]) [0, 3, 4, 5] rfl ?_
            exact hself7 (y9 + (1 : Int32)) σ25 hp22
      · have hp23 := hp15.2 c40
        refine x_up (pc' := 45) (fun _ _ _ _ _ L => lv_iload hx hb dX4_giving_43 (lv_at L 0 rfl)) ?_
        refine x_up (pc' := 47) (fun _ _ _ _ _ L => lv_iload hx hb dX4_giving_45 (lv_at L 1 rfl)) ?_
        refine x_up (pc' := 48) (fun _ _ _ _ _ L => lv_iload_n hx hb dX4_giving_47 rfl (lv_at L 5 rfl)) ?_
        refine x_if (C := y20 = y9) (pt := 86) (pc' := 51) (fun _ _ _ _ _ => lv_icmp_eq (tgt := 86) hx hb dX4_giving_48 (by decide)) (fun c48 => ?_) (fun c48 => ?_)
        · have hp24 := hp23.1 c48
          refine x_up (pc' := 87) (fun _ _ _ _ _ L => lv_iconst (v := (0 : Int32)) hx hb dX4_giving_86 (by decide)) ?_
          refine x_up (pc' := 88) (fun _ _ _ _ _ L => lv_iadd hx hb dX4_giving_87) ?_
          refine x_upL (pc' := 90) (lo' := [(4, .int (y19 + (0 : Int32))), (5, .int y20), (0, .ref a0), (1, .int x1), (2, .int x2), (3, .int y9)]) (fun _ _ _ _ _ L => lv_istore hx hb dX4_giving_88 L (by decide) rfl) ?_
          refine x_upL (pc' := 93) (lo' := [(5, .int (y20 + (1 : Int32))), (4, .int (y19 + (0 : Int32))), (0, .ref a0), (1, .int x1), (2, .int x2), (3, .int y9)]) (fun _ _ _ _ _ L => lv_iinc (v := y20 + (1 : Int32)) hx hb dX4_giving_90 L (k := 1) rfl rfl (by decide) rfl) ?_
          refine x_up (pc' := 32) (fun _ _ _ _ _ L => lv_goto (tgt := 32) hx hb dX4_giving_93 (by decide)) ?_
          refine x_lo (lo' := [(4, .int (y19 + (0 : Int32))), (5, .int (y20 + (1 : Int32))), (0, .ref a0), (1, .int x1), (2, .int x2), (3, .int y9)]) [1, 0, 2, 3, 4, 5] rfl ?_
          exact hself17 ((y19 + (0 : Int32)), (y20 + (1 : Int32))) σ18 hp24
        · have hp25 := hp23.2 c48
          refine x_up (pc' := 52) (fun _ _ _ _ _ L => lv_aload_n hx hb dX4_giving_51 rfl (lv_at L 2 rfl)) ?_
          refine x_up (pc' := 53) (fun _ _ _ _ _ L => lv_iconst (v := (4 : Int32)) hx hb dX4_giving_52 (by decide)) ?_
          refine x_up (pc' := 54) (fun _ _ _ _ _ L => lv_iload_n hx hb dX4_giving_53 rfl (lv_at L 3 rfl)) ?_
          refine x_up (pc' := 55) (fun _ _ _ _ _ L => lv_imul hx hb dX4_giving_54) ?_
          refine x_up (pc' := 57) (fun _ _ _ _ _ L => lv_iload hx hb dX4_giving_55 (lv_at L 1 rfl)) ?_
          refine x_up (pc' := 58) (fun _ _ _ _ _ L => lv_iadd hx hb dX4_giving_57) ?_
          refine x_callV (em := emI) (fun r st => .int r :: st) (fun _ _ => rfl) 1 X (kX4 hG) (fun σ' KK h => R_X4_canGive l hl G hG a0 (((4 : Int32) * x1) + y20) σ' KK h) (lw_V q3373 q3375 qs63 q119 q3376) ⟨rfl, mdX4_canGive⟩ ⟨Nat.le_of_ble_eq_true rfl, Nat.le_of_ble_eq_true rfl⟩ rfl rfl (Nat.le_of_ble_eq_true rfl) dX4_giving_58 hp25.1 hp25.2 (fun v28 σ29 hp26 => ?_)
          refine x_pc (pc' := 61) rfl ?_
          refine x_if (C := v28 = 0) (pt := 86) (pc' := 64) (fun _ _ _ _ _ => lv_if_eq (tgt := 86) hx hb dX4_giving_61 (by decide)) (fun c61 => ?_) (fun c61 => ?_)
          · have hp27 := hp26.1 c61
            refine x_up (pc' := 87) (fun _ _ _ _ _ L => lv_iconst (v := (0 : Int32)) hx hb dX4_giving_86 (by decide)) ?_
            refine x_up (pc' := 88) (fun _ _ _ _ _ L => lv_iadd hx hb dX4_giving_87) ?_
            refine x_upL (pc' := 90) (lo' := [(4, .int (y19 + (0 : Int32))), (5, .int y20), (0, .ref a0), (1, .int x1), (2, .int x2), (3, .int y9)]) (fun _ _ _ _ _ L => lv_istore hx hb dX4_giving_88 L (by decide) rfl) ?_
            refine x_upL (pc' := 93) (lo' := [(5, .int (y20 + (1 : Int32))), (4, .int (y19 + (0 : Int32))), (0, .ref a0), (1, .int x1), (2, .int x2), (3, .int y9)]) (fun _ _ _ _ _ L => lv_iinc (v := y20 + (1 : Int32)) hx hb dX4_giving_90 L (k := 1) rfl rfl (by decide) rfl) ?_
            refine x_up (pc' := 32) (fun _ _ _ _ _ L => lv_goto (tgt := 32) hx hb dX4_giving_93 (by decide)) ?_
            refine x_lo (lo' := [(4, .int (y19 + (0 : Int32))), (5, .int (y20 + (1 : Int32))), (0, .ref a0), (1, .int x1), (2, .int x2), (3, .int y9)]) [1, 0, 2, 3, 4, 5] rfl ?_
            exact hself17 ((y19 + (0 : Int32)), (y20 + (1 : Int32))) σ29 hp27
          · have hp28 := hp26.2 c61
            refine x_up (pc' := 65) (fun _ _ _ _ _ L => lv_aload_n hx hb dX4_giving_64 rfl (lv_at L 2 rfl)) ?_
            refine x_up (pc' := 66) (fun _ _ _ _ _ L => lv_iconst (v := (4 : Int32)) hx hb dX4_giving_65 (by decide)) ?_
            refine x_up (pc' := 67) (fun _ _ _ _ _ L => lv_iload_n hx hb dX4_giving_66 rfl (lv_at L 3 rfl)) ?_
            refine x_up (pc' := 68) (fun _ _ _ _ _ L => lv_imul hx hb dX4_giving_67) ?_
            refine x_up (pc' := 70) (fun _ _ _ _ _ L => lv_iload hx hb dX4_giving_68 (lv_at L 1 rfl)) ?_
            refine x_up (pc' := 71) (fun _ _ _ _ _ L => lv_iadd hx hb dX4_giving_70) ?_
            refine x_up (pc' := 72) (fun _ _ _ _ _ L => lv_iconst (v := (4 : Int32)) hx hb dX4_giving_71 (by decide)) ?_
            refine x_up (pc' := 73) (fun _ _ _ _ _ L => lv_iload_n hx hb dX4_giving_72 rfl (lv_at L 3 rfl)) ?_
            refine x_up (pc' := 74) (fun _ _ _ _ _ L => lv_imul hx hb dX4_giving_73) ?_
            refine x_up (pc' := 75) (fun _ _ _ _ _ L => lv_iload_n hx hb dX4_giving_74 rfl (lv_at L 5 rfl)) ?_
            refine x_up (pc' := 76) (fun _ _ _ _ _ L => lv_iadd hx hb dX4_giving_75) ?_
            refine x_callV (em := emI) (fun r st => .int r :: st) (fun _ _ => rfl) 2 X (kX4 hG) (fun σ' KK h => R_X4_isAhead l hl G hG a0 (((4 : Int32) * x1) + y20) (((4 : Int32) * x1) + y9) σ' KK h) (lw_V q3377 q3379 qs64 q119 q3380) ⟨rfl, mdX4_isAhead⟩ ⟨Nat.le_of_ble_eq_true rfl, Nat.le_of_ble_eq_true rfl⟩ rfl rfl (Nat.le_of_ble_eq_true rfl) dX4_giving_76 hp28.1 hp28.2 (fun v30 σ31 hp29 => ?_)
            refine x_pc (pc' := 79) rfl ?_
            refine x_if (C := v30 = 0) (pt := 86) (pc' := 82) (fun _ _ _ _ _ => lv_if_eq (tgt := 86) hx hb dX4_giving_79 (by decide)) (fun c79 => ?_) (fun c79 => ?_)
            · have hp30 := hp29.1 c79
              refine x_up (pc' := 87) (fun _ _ _ _ _ L => lv_iconst (v := (0 : Int32)) hx hb dX4_giving_86 (by decide)) ?_
              refine x_up (pc' := 88) (fun _ _ _ _ _ L => lv_iadd hx hb dX4_giving_87) ?_
              refine x_upL (pc' := 90) (lo' := [(4, .int (y19 + (0 : Int32))), (5, .int y20), (0, .ref a0), (1, .int x1), (2, .int x2), (3, .int y9)]) (fun _ _ _ _ _ L => lv_istore hx hb dX4_giving_88 L (by decide) rfl) ?_
              refine x_upL (pc' := 93) (lo' := [(5, .int (y20 + (1 : Int32))), (4, .int (y19 + (0 : Int32))), (0, .ref a0), (1, .int x1), (2, .int x2), (3, .int y9)]) (fun _ _ _ _ _ L => lv_iinc (v := y20 + (1 : Int32)) hx hb dX4_giving_90 L (k := 1) rfl rfl (by decide) rfl) ?_
              refine x_up (pc' := 32) (fun _ _ _ _ _ L => lv_goto (tgt := 32) hx hb dX4_giving_93 (by decide)) ?_
              refine x_lo (lo' := [(4, .int (y19 + (0 : Int32))), (5, .int (y20 + (1 : Int32))), (0, .ref a0), (1, .int x1), (2, .int x2), (3, .int y9)]) [1, 0, 2, 3, 4, 5] rfl ?_
              exact hself17 ((y19 + (0 : Int32)), (y20 + (1 : Int32))) σ31 hp30
            · have hp31 := hp29.2 c79
              refine x_up (pc' := 83) (fun _ _ _ _ _ L => lv_iconst (v := (1 : Int32)) hx hb dX4_giving_82 (by decide)) ?_
              refine x_up (pc' := 87) (fun _ _ _ _ _ L => lv_goto (tgt := 87) hx hb dX4_giving_83 (by decide)) ?_
              refine x_up (pc' := 88) (fun _ _ _ _ _ L => lv_iadd hx hb dX4_giving_87) ?_
              refine x_upL (pc' := 90) (lo' := [(4, .int (y19 + (1 : Int32))), (5, .int y20), (0, .ref a0), (1, .int x1), (2, .int x2), (3, .int y9)]) (fun _ _ _ _ _ L => lv_istore hx hb dX4_giving_88 L (by decide) rfl) ?_
              refine x_upL (pc' := 93) (lo' := [(5, .int (y20 + (1 : Int32))), (4, .int (y19 + (1 : Int32))), (0, .ref a0), (1, .int x1), (2, .int x2), (3, .int y9)]) (fun _ _ _ _ _ L => lv_iinc (v := y20 + (1 : Int32)) hx hb dX4_giving_90 L (k := 1) rfl rfl (by decide) rfl) ?_
              refine x_up (pc' := 32) (fun _ _ _ _ _ L => lv_goto (tgt := 32) hx hb dX4_giving_93 (by decide)) ?_
              refine x_lo (lo' := [(4, .int (y19 + (1 : Int32))), (5, .int (y20 + (1 : Int32))), (0, .ref a0), (1, .int x1), (2, .int x2), (3, .int y9)]) [1, 0, 2, 3, 4, 5] rfl ?_
              exact hself17 ((y19 + (1 : Int32)), (y20 + (1 : Int32))) σ31 hp31
-- X4_wouldTake
def P_X4_wouldTake (κ : Nat → Nat) (a0 : Nat) (x1 : Int32) (σ : xS) (K : Int32 → xH → Prop) : Prop :=
  xcall (fun τ L => P_X4_isAddress κ x1 τ L) σ fun v1 σ2 => ((v1 = 0 → (xrc σ2 a0 10 ∧ xcall (fun τ L => P_X4_fails κ a0 (1 : Int32) τ L) σ2 fun v3 σ4 => K v3 σ4.1)) ∧ (¬ v1 = 0 → (xrc σ2 a0 10 ∧ xcall (fun τ L => P_X4_lineWith κ a0 (x1 / (4 : Int32)) τ L) σ2 fun v5 σ6 => ((v5 = (-1 : Int32) → (xrc σ6 a0 10 ∧ xcall (fun τ L => P_X4_lineFor κ a0 (x1 / (4 : Int32)) τ L) σ6 fun v7 σ8 => ((v7 = (-1 : Int32) → (xrc σ8 a0 10 ∧ xcall (fun τ L => P_X4_fails κ a0 (2 : Int32) τ L) σ8 fun v9 σ10 => K v9 σ10.1)) ∧ (¬ v7 = (-1 : Int32) → (xgq σ8 a0 10 0 fun v11 => xgq σ8 a0 10 6 fun v12 => xcall (fun τ L => P_X4_copy κ v11 (0 : Int32) v12 (0 : Int32) τ L) σ8 fun _ σ13 => xrc σ13 a0 10 ∧ xcall (fun τ L => P_X4_accesses κ a0 (x1 / (4 : Int32)) τ L) σ13 fun v14 σ15 => xgq σ15 a0 10 0 fun v16 => xnn v16 fun b17 => xai .int σ15 b17 (0 : Int32) fun v18 => xgq σ15 a0 10 6 fun v19 => xnn v19 fun b20 => xai .int σ15 b20 (0 : Int32) fun v21 => xgq σ15 a0 10 6 fun v22 => xgq σ15 a0 10 0 fun v23 => xcall (fun τ L => P_X4_copy κ v22 (0 : Int32) v23 (0 : Int32) τ L) σ15 fun _ σ24 => xrc σ24 a0 10 ∧ xcall (fun τ L => P_X4_done κ a0 (v18 - v21) τ L) σ24 fun v25 σ26 => K v25 σ26.1))))) ∧ (¬ v5 = (-1 : Int32) → (xgq σ6 a0 10 0 fun v27 => xgq σ6 a0 10 6 fun v28 => xcall (fun τ L => P_X4_copy κ v27 (0 : Int32) v28 (0 : Int32) τ L) σ6 fun _ σ29 => xrc σ29 a0 10 ∧ xcall (fun τ L => P_X4_accesses κ a0 (x1 / (4 : Int32)) τ L) σ29 fun v30 σ31 => xgq σ31 a0 10 0 fun v32 => xnn v32 fun b33 => xai .int σ31 b33 (0 : Int32) fun v34 => xgq σ31 a0 10 6 fun v35 => xnn v35 fun b36 => xai .int σ31 b36 (0 : Int32) fun v37 => xgq σ31 a0 10 6 fun v38 => xgq σ31 a0 10 0 fun v39 => xcall (fun τ L => P_X4_copy κ v38 (0 : Int32) v39 (0 : Int32) τ L) σ31 fun _ σ40 => xrc σ40 a0 10 ∧ xcall (fun τ L => P_X4_done κ a0 (v34 - v37) τ L) σ40 fun v41 σ42 => K v41 σ42.1))))))
theorem mdX4_wouldTake : yX4_wouldTake.cls ≠ "java/lang/invoke/MethodHandle" ∧ yX4_wouldTake.cls ≠ "java/lang/invoke/VarHandle" ∧ (parseMethodDescriptor yX4_wouldTake.desc).map (fun d => d.parameters.length) = some 1 := by decide +kernel
set_option maxHeartbeats 4000000 in
set_option maxRecDepth 100000 in
theorem R_X4_wouldTake (l : Launch) (hl : l.stackTraces = false) (G : xG) (hG : G.1.2 = x_cl) (a0 : Nat) (x1 : Int32) (σ : xS) (K : Int32 → xH → Prop) (hp : P_X4_wouldTake G.2 a0 x1 σ K) : xM l yX4_wouldTake cX4_wouldTake 5 (Option.some Jvm.ClassFile.FieldType.int) 4 95 G [(.ref a0), .int x1] σ (xlift emI K) := by
  refine x_entry (by decide) (Nat.le_of_ble_eq_true rfl) ?_
  intro p e s m args below meth c X hr hin
  have X : xX p s m args meth c G cX4_wouldTake 5 RX4 := X
  have hx := X.1
  have hb := X.2.1
  have hts := X.2.2.2.2.1
  have hown := X.2.2.2.1
  unfold P_X4_wouldTake at hp
  refine x_same (lo' := [(0, .ref a0), (1, .int x1)]) rfl ?_
  refine x_up (pc' := 1) (fun _ _ _ _ _ L => lv_iload_n hx hb dX4_wouldTake_0 rfl (lv_at L 1 rfl)) ?_
  refine x_callS (em := emI) (fun r st => .int r :: st) (fun _ _ => rfl) 1 X (fun σ' KK h => R_X4_isAddress l hl G hG x1 σ' KK h) (lw_S q3347 q3348 q119 q3349) mdX4_isAddress ⟨Nat.le_of_ble_eq_true rfl, Nat.le_of_ble_eq_true rfl⟩ rfl rfl (Nat.le_of_ble_eq_true rfl) dX4_wouldTake_1 hp (fun v1 σ2 hp1 => ?_)
  refine x_pc (pc' := 4) rfl ?_
  refine x_ifn (C := v1 = 0) (pt := 13) (pc' := 7) (fun _ _ _ _ _ => lv_if_ne (tgt := 13) hx hb dX4_wouldTake_4 (by decide)) (fun c4 => ?_) (fun c4 => ?_)
  · have hp2 := hp1.1 c4
    refine x_up (pc' := 8) (fun _ _ _ _ _ L => lv_aload_n hx hb dX4_wouldTake_7 rfl (lv_at L 0 rfl)) ?_
    refine x_up (pc' := 9) (fun _ _ _ _ _ L => lv_iconst (v := (1 : Int32)) hx hb dX4_wouldTake_8 (by decide)) ?_
    refine x_callV (em := emI) (fun r st => .int r :: st) (fun _ _ => rfl) 1 X (kX4 hG) (fun σ' KK h => R_X4_fails l hl G hG a0 (1 : Int32) σ' KK h) (lw_V q3357 q3359 qs59 q119 q3360) ⟨rfl, mdX4_fails⟩ ⟨Nat.le_of_ble_eq_true rfl, Nat.le_of_ble_eq_true rfl⟩ rfl rfl (Nat.le_of_ble_eq_true rfl) dX4_wouldTake_9 hp2.1 hp2.2 (fun v3 σ4 hp3 => ?_)
    refine x_pc (pc' := 12) rfl ?_
    exact x_iret X hr rfl dX4_wouldTake_12 hp3
  · have hp4 := hp1.2 c4
    refine x_up (pc' := 14) (fun _ _ _ _ _ L => lv_iload_n hx hb dX4_wouldTake_13 rfl (lv_at L 1 rfl)) ?_
    refine x_up (pc' := 15) (fun _ _ _ _ _ L => lv_iconst (v := (4 : Int32)) hx hb dX4_wouldTake_14 (by decide)) ?_
    refine x_up (pc' := 16) (fun _ _ _ _ _ L => lv_idiv hx hb dX4_wouldTake_15 (by decide)) ?_
    refine x_upL (pc' := 17) (lo' := [(2, .int (x1 / (4 : Int32))), (0, .ref a0), (1, .int x1)]) (fun _ _ _ _ _ L => lv_istore_n hx hb dX4_wouldTake_16 rfl L (by decide) rfl) ?_
    refine x_up (pc' := 18) (fun _ _ _ _ _ L => lv_aload_n hx hb dX4_wouldTake_17 rfl (lv_at L 1 rfl)) ?_
    refine x_up (pc' := 19) (fun _ _ _ _ _ L => lv_iload_n hx hb dX4_wouldTake_18 rfl (lv_at L 0 rfl)) ?_
    refine x_callV (em := emI) (fun r st => .int r :: st) (fun _ _ => rfl) 1 X (kX4 hG) (fun σ' KK h => R_X4_lineWith l hl G hG a0 (x1 / (4 : Int32)) σ' KK h) (lw_V q3365 q3367 qs61 q119 q3368) ⟨rfl, mdX4_lineWith⟩ ⟨Nat.le_of_ble_eq_true rfl, Nat.le_of_ble_eq_true rfl⟩ rfl rfl (Nat.le_of_ble_eq_true rfl) dX4_wouldTake_19 hp4.1 hp4.2 (fun v5 σ6 hp5 => ?_)
    refine x_pc (pc' := 22) rfl ?_
    refine x_up (pc' := 23) (fun _ _ _ _ _ L => lv_iconst (v := (-1 : Int32)) hx hb dX4_wouldTake_22 (by decide)) ?_
    refine x_ifn (C := v5 = (-1 : Int32)) (pt := 41) (pc' := 26) (fun _ _ _ _ _ => lv_icmp_ne (tgt := 41) hx hb dX4_wouldTake_23 (by decide)) (fun c23 => ?_) (fun c23 => ?_)
    · have hp6 := hp5.1 c23
      refine x_up (pc' := 27) (fun _ _ _ _ _ L => lv_aload_n hx hb dX4_wouldTake_26 rfl (lv_at L 1 rfl)) ?_
      refine x_up (pc' := 28) (fun _ _ _ _ _ L => lv_iload_n hx hb dX4_wouldTake_27 rfl (lv_at L 0 rfl)) ?_
      refine x_callV (em := emI) (fun r st => .int r :: st) (fun _ _ => rfl) 1 X (kX4 hG) (fun σ' KK h => R_X4_lineFor l hl G hG a0 (x1 / (4 : Int32)) σ' KK h) (lw_V q3369 q3371 qs62 q119 q3372) ⟨rfl, mdX4_lineFor⟩ ⟨Nat.le_of_ble_eq_true rfl, Nat.le_of_ble_eq_true rfl⟩ rfl rfl (Nat.le_of_ble_eq_true rfl) dX4_wouldTake_28 hp6.1 hp6.2 (fun v7 σ8 hp7 => ?_)
      refine x_pc (pc' := 31) rfl ?_
      refine x_up (pc' := 32) (fun _ _ _ _ _ L => lv_iconst (v := (-1 : Int32)) hx hb dX4_wouldTake_31 (by decide)) ?_
      refine x_ifn (C := v7 = (-1 : Int32)) (pt := 41) (pc' := 35) (fun _ _ _ _ _ => lv_icmp_ne (tgt := 41) hx hb dX4_wouldTake_32 (by decide)) (fun c32 => ?_) (fun c32 => ?_)
      · have hp8 := hp7.1 c32
        refine x_up (pc' := 36) (fun _ _ _ _ _ L => lv_aload_n hx hb dX4_wouldTake_35 rfl (lv_at L 1 rfl)) ?_
        refine x_up (pc' := 37) (fun _ _ _ _ _ L => lv_iconst (v := (2 : Int32)) hx hb dX4_wouldTake_36 (by decide)) ?_
        refine x_callV (em := emI) (fun r st => .int r :: st) (fun _ _ => rfl) 1 X (kX4 hG) (fun σ' KK h => R_X4_fails l hl G hG a0 (2 : Int32) σ' KK h) (lw_V q3357 q3359 qs59 q119 q3360) ⟨rfl, mdX4_fails⟩ ⟨Nat.le_of_ble_eq_true rfl, Nat.le_of_ble_eq_true rfl⟩ rfl rfl (Nat.le_of_ble_eq_true rfl) dX4_wouldTake_37 hp8.1 hp8.2 (fun v9 σ10 hp9 => ?_)
        refine x_pc (pc' := 40) rfl ?_
        exact x_iret X hr rfl dX4_wouldTake_40 hp9
      · have hp10 := hp7.2 c32
        refine x_up (pc' := 42) (fun _ _ _ _ _ L => lv_aload_n hx hb dX4_wouldTake_41 rfl (lv_at L 1 rfl)) ?_
        refine x_gq X (kX4 hG) 0 (by decide) q3266 (fun _ h => h) dX4_wouldTake_42 hp10 (fun v11 hp11 => ?_)
        refine x_pc (pc' := 45) rfl ?_
        refine x_up (pc' := 46) (fun _ _ _ _ _ L => lv_iconst (v := (0 : Int32)) hx hb dX4_wouldTake_45 (by decide)) ?_
        refine x_up (pc' := 47) (fun _ _ _ _ _ L => lv_aload_n hx hb dX4_wouldTake_46 rfl (lv_at L 1 rfl)) ?_
        refine x_gq X (kX4 hG) 6 (by decide) q3272 (fun _ h => h) dX4_wouldTake_47 hp11 (fun v12 hp12 => ?_)
        refine x_pc (pc' := 50) rfl ?_
        refine x_up (pc' := 51) (fun _ _ _ _ _ L => lv_iconst (v := (0 : Int32)) hx hb dX4_wouldTake_50 (by decide)) ?_
        refine x_callS (em := emV) (fun r st => st) (fun _ _ => rfl) 4 X (fun σ' KK h => R_X4_copy l hl G hG v11 (0 : Int32) v12 (0 : Int32) σ' KK h) (lw_S q3340 q3341 q119 q3342) mdX4_copy ⟨Nat.le_of_ble_eq_true rfl, Nat.le_of_ble_eq_true rfl⟩ rfl rfl (Nat.le_of_ble_eq_true rfl) dX4_wouldTake_51 hp12 (fun _ σ13 hp13 => ?_)
        refine x_pc (pc' := 54) rfl ?_
        refine x_up (pc' := 55) (fun _ _ _ _ _ L => lv_aload_n hx hb dX4_wouldTake_54 rfl (lv_at L 1 rfl)) ?_
        refine x_up (pc' := 56) (fun _ _ _ _ _ L => lv_iload_n hx hb dX4_wouldTake_55 rfl (lv_at L 0 rfl)) ?_
        refine x_callV (em := emI) (fun r st => .int r :: st) (fun _ _ => rfl) 1 X (kX4 hG) (fun σ' KK h => R_X4_accesses l hl G hG a0 (x1 / (4 : Int32)) σ' KK h) (lw_V q3361 q3363 qs60 q119 q3364) ⟨rfl, mdX4_accesses⟩ ⟨Nat.le_of_ble_eq_true rfl, Nat.le_of_ble_eq_true rfl⟩ rfl rfl (Nat.le_of_ble_eq_true rfl) dX4_wouldTake_56 hp13.1 hp13.2 (fun v14 σ15 hp14 => ?_)
        refine x_pc (pc' := 59) rfl ?_
        refine x_upL (pc' := 60) (lo' := [(3, .int v14), (2, .int (x1 / (4 : Int32))), (0, .ref a0), (1, .int x1)]) (fun _ _ _ _ _ L => lv_istore_n hx hb dX4_wouldTake_59 rfl L (by decide) rfl) ?_
        refine x_up (pc' := 61) (fun _ _ _ _ _ L => lv_aload_n hx hb dX4_wouldTake_60 rfl (lv_at L 2 rfl)) ?_
        refine x_gq X (kX4 hG) 0 (by decide) q3266 (fun _ h => h) dX4_wouldTake_61 hp14 (fun v16 hp15 => ?_)
        refine x_pc (pc' := 64) rfl ?_
        refine x_up (pc' := 65) (fun _ _ _ _ _ L => lv_iconst (v := (0 : Int32)) hx hb dX4_wouldTake_64 (by decide)) ?_
        obtain ⟨b17, rfl, hp16⟩ := hp15
        refine x_iald X dX4_wouldTake_65 hp16 (fun v18 hp17 => ?_)
        refine x_pc (pc' := 66) rfl ?_
        refine x_up (pc' := 67) (fun _ _ _ _ _ L => lv_aload_n hx hb dX4_wouldTake_66 rfl (lv_at L 2 rfl)) ?_
        refine x_gq X (kX4 hG) 6 (by decide) q3272 (fun _ h => h) dX4_wouldTake_67 hp17 (fun v19 hp18 => ?_)
        refine x_pc (pc' := 70) rfl ?_
        refine x_up (pc' := 71) (fun _ _ _ _ _ L => lv_iconst (v := (0 : Int32)) hx hb dX4_wouldTake_70 (by decide)) ?_
        obtain ⟨b20, rfl, hp19⟩ := hp18
        refine x_iald X dX4_wouldTake_71 hp19 (fun v21 hp20 => ?_)
        refine x_pc (pc' := 72) rfl ?_
        refine x_up (pc' := 73) (fun _ _ _ _ _ L => lv_isub hx hb dX4_wouldTake_72) ?_
        refine x_upL (pc' := 75) (lo' := [(4, .int (v18 - v21)), (3, .int v14), (2, .int (x1 / (4 : Int32))), (0, .ref a0), (1, .int x1)]) (fun _ _ _ _ _ L => lv_istore hx hb dX4_wouldTake_73 L (by decide) rfl) ?_
        refine x_up (pc' := 76) (fun _ _ _ _ _ L => lv_aload_n hx hb dX4_wouldTake_75 rfl (lv_at L 3 rfl)) ?_
        refine x_gq X (kX4 hG) 6 (by decide) q3272 (fun _ h => h) dX4_wouldTake_76 hp20 (fun v22 hp21 => ?_)
        refine x_pc (pc' := 79) rfl ?_
        refine x_up (pc' := 80) (fun _ _ _ _ _ L => lv_iconst (v := (0 : Int32)) hx hb dX4_wouldTake_79 (by decide)) ?_
        refine x_up (pc' := 81) (fun _ _ _ _ _ L => lv_aload_n hx hb dX4_wouldTake_80 rfl (lv_at L 3 rfl)) ?_
        refine x_gq X (kX4 hG) 0 (by decide) q3266 (fun _ h => h) dX4_wouldTake_81 hp21 (fun v23 hp22 => ?_)
        refine x_pc (pc' := 84) rfl ?_
        refine x_up (pc' := 85) (fun _ _ _ _ _ L => lv_iconst (v := (0 : Int32)) hx hb dX4_wouldTake_84 (by decide)) ?_
        refine x_callS (em := emV) (fun r st => st) (fun _ _ => rfl) 4 X (fun σ' KK h => R_X4_copy l hl G hG v22 (0 : Int32) v23 (0 : Int32) σ' KK h) (lw_S q3340 q3341 q119 q3342) mdX4_copy ⟨Nat.le_of_ble_eq_true rfl, Nat.le_of_ble_eq_true rfl⟩ rfl rfl (Nat.le_of_ble_eq_true rfl) dX4_wouldTake_85 hp22 (fun _ σ24 hp23 => ?_)
        refine x_pc (pc' := 88) rfl ?_
        refine x_up (pc' := 89) (fun _ _ _ _ _ L => lv_aload_n hx hb dX4_wouldTake_88 rfl (lv_at L 3 rfl)) ?_
        refine x_up (pc' := 91) (fun _ _ _ _ _ L => lv_iload hx hb dX4_wouldTake_89 (lv_at L 0 rfl)) ?_
        refine x_callV (em := emI) (fun r st => .int r :: st) (fun _ _ => rfl) 1 X (kX4 hG) (fun σ' KK h => R_X4_done l hl G hG a0 (v18 - v21) σ' KK h) (lw_V q3404 q3406 qs70 q119 q3407) ⟨rfl, mdX4_done⟩ ⟨Nat.le_of_ble_eq_true rfl, Nat.le_of_ble_eq_true rfl⟩ rfl rfl (Nat.le_of_ble_eq_true rfl) dX4_wouldTake_91 hp23.1 hp23.2 (fun v25 σ26 hp24 => ?_)
        refine x_pc (pc' := 94) rfl ?_
        exact x_iret X hr rfl dX4_wouldTake_94 hp24
    · have hp25 := hp5.2 c23
      refine x_up (pc' := 42) (fun _ _ _ _ _ L => lv_aload_n hx hb dX4_wouldTake_41 rfl (lv_at L 1 rfl)) ?_
      refine x_gq X (kX4 hG) 0 (by decide) q3266 (fun _ h => h) dX4_wouldTake_42 hp25 (fun v27 hp26 => ?_)
      refine x_pc (pc' := 45) rfl ?_
      refine x_up (pc' := 46) (fun _ _ _ _ _ L => lv_iconst (v := (0 : Int32)) hx hb dX4_wouldTake_45 (by decide)) ?_
      refine x_up (pc' := 47) (fun _ _ _ _ _ L => lv_aload_n hx hb dX4_wouldTake_46 rfl (lv_at L 1 rfl)) ?_
      refine x_gq X (kX4 hG) 6 (by decide) q3272 (fun _ h => h) dX4_wouldTake_47 hp26 (fun v28 hp27 => ?_)
      refine x_pc (pc' := 50) rfl ?_
      refine x_up (pc' := 51) (fun _ _ _ _ _ L => lv_iconst (v := (0 : Int32)) hx hb dX4_wouldTake_50 (by decide)) ?_
      refine x_callS (em := emV) (fun r st => st) (fun _ _ => rfl) 4 X (fun σ' KK h => R_X4_copy l hl G hG v27 (0 : Int32) v28 (0 : Int32) σ' KK h) (lw_S q3340 q3341 q119 q3342) mdX4_copy ⟨Nat.le_of_ble_eq_true rfl, Nat.le_of_ble_eq_true rfl⟩ rfl rfl (Nat.le_of_ble_eq_true rfl) dX4_wouldTake_51 hp27 (fun _ σ29 hp28 => ?_)
      refine x_pc (pc' := 54) rfl ?_
      refine x_up (pc' := 55) (fun _ _ _ _ _ L => lv_aload_n hx hb dX4_wouldTake_54 rfl (lv_at L 1 rfl)) ?_
      refine x_up (pc' := 56) (fun _ _ _ _ _ L => lv_iload_n hx hb dX4_wouldTake_55 rfl (lv_at L 0 rfl)) ?_
      refine x_callV (em := emI) (fun r st => .int r :: st) (fun _ _ => rfl) 1 X (kX4 hG) (fun σ' KK h => R_X4_accesses l hl G hG a0 (x1 / (4 : Int32)) σ' KK h) (lw_V q3361 q3363 qs60 q119 q3364) ⟨rfl, mdX4_accesses⟩ ⟨Nat.le_of_ble_eq_true rfl, Nat.le_of_ble_eq_true rfl⟩ rfl rfl (Nat.le_of_ble_eq_true rfl) dX4_wouldTake_56 hp28.1 hp28.2 (fun v30 σ31 hp29 => ?_)
      refine x_pc (pc' := 59) rfl ?_
      refine x_upL (pc' := 60) (lo' := [(3, .int v30), (2, .int (x1 / (4 : Int32))), (0, .ref a0), (1, .int x1)]) (fun _ _ _ _ _ L => lv_istore_n hx hb dX4_wouldTake_59 rfl L (by decide) rfl) ?_
      refine x_up (pc' := 61) (fun _ _ _ _ _ L => lv_aload_n hx hb dX4_wouldTake_60 rfl (lv_at L 2 rfl)) ?_
      refine x_gq X (kX4 hG) 0 (by decide) q3266 (fun _ h => h) dX4_wouldTake_61 hp29 (fun v32 hp30 => ?_)
      refine x_pc (pc' := 64) rfl ?_
      refine x_up (pc' := 65) (fun _ _ _ _ _ L => lv_iconst (v := (0 : Int32)) hx hb dX4_wouldTake_64 (by decide)) ?_
      obtain ⟨b33, rfl, hp31⟩ := hp30
      refine x_iald X dX4_wouldTake_65 hp31 (fun v34 hp32 => ?_)
      refine x_pc (pc' := 66) rfl ?_
      refine x_up (pc' := 67) (fun _ _ _ _ _ L => lv_aload_n hx hb dX4_wouldTake_66 rfl (lv_at L 2 rfl)) ?_
      refine x_gq X (kX4 hG) 6 (by decide) q3272 (fun _ h => h) dX4_wouldTake_67 hp32 (fun v35 hp33 => ?_)
      refine x_pc (pc' := 70) rfl ?_
      refine x_up (pc' := 71) (fun _ _ _ _ _ L => lv_iconst (v := (0 : Int32)) hx hb dX4_wouldTake_70 (by decide)) ?_
      obtain ⟨b36, rfl, hp34⟩ := hp33
      refine x_iald X dX4_wouldTake_71 hp34 (fun v37 hp35 => ?_)
      refine x_pc (pc' := 72) rfl ?_
      refine x_up (pc' := 73) (fun _ _ _ _ _ L => lv_isub hx hb dX4_wouldTake_72) ?_
      refine x_upL (pc' := 75) (lo' := [(4, .int (v34 - v37)), (3, .int v30), (2, .int (x1 / (4 : Int32))), (0, .ref a0), (1, .int x1)]) (fun _ _ _ _ _ L => lv_istore hx hb dX4_wouldTake_73 L (by decide) rfl) ?_
      refine x_up (pc' := 76) (fun _ _ _ _ _ L => lv_aload_n hx hb dX4_wouldTake_75 rfl (lv_at L 3 rfl)) ?_
      refine x_gq X (kX4 hG) 6 (by decide) q3272 (fun _ h => h) dX4_wouldTake_76 hp35 (fun v38 hp36 => ?_)
      refine x_pc (pc' := 79) rfl ?_
      refine x_up (pc' := 80) (fun _ _ _ _ _ L => lv_iconst (v := (0 : Int32)) hx hb dX4_wouldTake_79 (by decide)) ?_
      refine x_up (pc' := 81) (fun _ _ _ _ _ L => lv_aload_n hx hb dX4_wouldTake_80 rfl (lv_at L 3 rfl)) ?_
      refine x_gq X (kX4 hG) 0 (by decide) q3266 (fun _ h => h) dX4_wouldTake_81 hp36 (fun v39 hp37 => ?_)
      refine x_pc (pc' := 84) rfl ?_
      refine x_up (pc' := 85) (fun _ _ _ _ _ L => lv_iconst (v := (0 : Int32)) hx hb dX4_wouldTake_84 (by decide)) ?_
      refine x_callS (em := emV) (fun r st => st) (fun _ _ => rfl) 4 X (fun σ' KK h => R_X4_copy l hl G hG v38 (0 : Int32) v39 (0 : Int32) σ' KK h) (lw_S q3340 q3341 q119 q3342) mdX4_copy ⟨Nat.le_of_ble_eq_true rfl, Nat.le_of_ble_eq_true rfl⟩ rfl rfl (Nat.le_of_ble_eq_true rfl) dX4_wouldTake_85 hp37 (fun _ σ40 hp38 => ?_)
      refine x_pc (pc' := 88) rfl ?_
      refine x_up (pc' := 89) (fun _ _ _ _ _ L => lv_aload_n hx hb dX4_wouldTake_88 rfl (lv_at L 3 rfl)) ?_
      refine x_up (pc' := 91) (fun _ _ _ _ _ L => lv_iload hx hb dX4_wouldTake_89 (lv_at L 0 rfl)) ?_
      refine x_callV (em := emI) (fun r st => .int r :: st) (fun _ _ => rfl) 1 X (kX4 hG) (fun σ' KK h => R_X4_done l hl G hG a0 (v34 - v37) σ' KK h) (lw_V q3404 q3406 qs70 q119 q3407) ⟨rfl, mdX4_done⟩ ⟨Nat.le_of_ble_eq_true rfl, Nat.le_of_ble_eq_true rfl⟩ rfl rfl (Nat.le_of_ble_eq_true rfl) dX4_wouldTake_91 hp38.1 hp38.2 (fun v41 σ42 hp39 => ?_)
      refine x_pc (pc' := 94) rfl ?_
      exact x_iret X hr rfl dX4_wouldTake_94 hp39
-- X4_causeOf
def P_X4_causeOf (κ : Nat → Nat) (a0 : Nat) (x1 : Int32) (σ : xS) (K : Int32 → xH → Prop) : Prop :=
  xcall (fun τ L => P_X4_isBlock κ x1 τ L) σ fun v1 σ2 => ((v1 = 0 → (xrc σ2 a0 10 ∧ xcall (fun τ L => P_X4_fails κ a0 (1 : Int32) τ L) σ2 fun v3 σ4 => K v3 σ4.1)) ∧ (¬ v1 = 0 → (xrc σ2 a0 10 ∧ xcall (fun τ L => P_X4_lineWith κ a0 x1 τ L) σ2 fun v5 σ6 => ((v5 = (-1 : Int32) → (xrc σ6 a0 10 ∧ xcall (fun τ L => P_X4_causeBy κ a0 x1 τ L) σ6 fun v7 σ8 => xrc σ8 a0 10 ∧ xcall (fun τ L => P_X4_done κ a0 v7 τ L) σ8 fun v9 σ10 => K v9 σ10.1)) ∧ (¬ v5 = (-1 : Int32) → (xrc σ6 a0 10 ∧ xcall (fun τ L => P_X4_fails κ a0 (2 : Int32) τ L) σ6 fun v11 σ12 => K v11 σ12.1))))))
theorem mdX4_causeOf : yX4_causeOf.cls ≠ "java/lang/invoke/MethodHandle" ∧ yX4_causeOf.cls ≠ "java/lang/invoke/VarHandle" ∧ (parseMethodDescriptor yX4_causeOf.desc).map (fun d => d.parameters.length) = some 1 := by decide +kernel
set_option maxHeartbeats 4000000 in
set_option maxRecDepth 100000 in
theorem R_X4_causeOf (l : Launch) (hl : l.stackTraces = false) (G : xG) (hG : G.1.2 = x_cl) (a0 : Nat) (x1 : Int32) (σ : xS) (K : Int32 → xH → Prop) (hp : P_X4_causeOf G.2 a0 x1 σ K) : xM l yX4_causeOf cX4_causeOf 2 (Option.some Jvm.ClassFile.FieldType.int) 2 42 G [(.ref a0), .int x1] σ (xlift emI K) := by
  refine x_entry (by decide) (Nat.le_of_ble_eq_true rfl) ?_
  intro p e s m args below meth c X hr hin
  have X : xX p s m args meth c G cX4_causeOf 2 RX4 := X
  have hx := X.1
  have hb := X.2.1
  have hts := X.2.2.2.2.1
  have hown := X.2.2.2.1
  unfold P_X4_causeOf at hp
  refine x_same (lo' := [(0, .ref a0), (1, .int x1)]) rfl ?_
  refine x_up (pc' := 1) (fun _ _ _ _ _ L => lv_iload_n hx hb dX4_causeOf_0 rfl (lv_at L 1 rfl)) ?_
  refine x_callS (em := emI) (fun r st => .int r :: st) (fun _ _ => rfl) 1 X (fun σ' KK h => R_X4_isBlock l hl G hG x1 σ' KK h) (lw_S q3444 q3445 q119 q3446) mdX4_isBlock ⟨Nat.le_of_ble_eq_true rfl, Nat.le_of_ble_eq_true rfl⟩ rfl rfl (Nat.le_of_ble_eq_true rfl) dX4_causeOf_1 hp (fun v1 σ2 hp1 => ?_)
  refine x_pc (pc' := 4) rfl ?_
  refine x_ifn (C := v1 = 0) (pt := 13) (pc' := 7) (fun _ _ _ _ _ => lv_if_ne (tgt := 13) hx hb dX4_causeOf_4 (by decide)) (fun c4 => ?_) (fun c4 => ?_)
  · have hp2 := hp1.1 c4
    refine x_up (pc' := 8) (fun _ _ _ _ _ L => lv_aload_n hx hb dX4_causeOf_7 rfl (lv_at L 0 rfl)) ?_
    refine x_up (pc' := 9) (fun _ _ _ _ _ L => lv_iconst (v := (1 : Int32)) hx hb dX4_causeOf_8 (by decide)) ?_
    refine x_callV (em := emI) (fun r st => .int r :: st) (fun _ _ => rfl) 1 X (kX4 hG) (fun σ' KK h => R_X4_fails l hl G hG a0 (1 : Int32) σ' KK h) (lw_V q3357 q3359 qs59 q119 q3360) ⟨rfl, mdX4_fails⟩ ⟨Nat.le_of_ble_eq_true rfl, Nat.le_of_ble_eq_true rfl⟩ rfl rfl (Nat.le_of_ble_eq_true rfl) dX4_causeOf_9 hp2.1 hp2.2 (fun v3 σ4 hp3 => ?_)
    refine x_pc (pc' := 12) rfl ?_
    exact x_iret X hr rfl dX4_causeOf_12 hp3
  · have hp4 := hp1.2 c4
    refine x_up (pc' := 14) (fun _ _ _ _ _ L => lv_aload_n hx hb dX4_causeOf_13 rfl (lv_at L 0 rfl)) ?_
    refine x_up (pc' := 15) (fun _ _ _ _ _ L => lv_iload_n hx hb dX4_causeOf_14 rfl (lv_at L 1 rfl)) ?_
    refine x_callV (em := emI) (fun r st => .int r :: st) (fun _ _ => rfl) 1 X (kX4 hG) (fun σ' KK h => R_X4_lineWith l hl G hG a0 x1 σ' KK h) (lw_V q3365 q3367 qs61 q119 q3368) ⟨rfl, mdX4_lineWith⟩ ⟨Nat.le_of_ble_eq_true rfl, Nat.le_of_ble_eq_true rfl⟩ rfl rfl (Nat.le_of_ble_eq_true rfl) dX4_causeOf_15 hp4.1 hp4.2 (fun v5 σ6 hp5 => ?_)
    refine x_pc (pc' := 18) rfl ?_
    refine x_up (pc' := 19) (fun _ _ _ _ _ L => lv_iconst (v := (-1 : Int32)) hx hb dX4_causeOf_18 (by decide)) ?_
    refine x_ifn (C := v5 = (-1 : Int32)) (pt := 34) (pc' := 22) (fun _ _ _ _ _ => lv_icmp_ne (tgt := 34) hx hb dX4_causeOf_19 (by decide)) (fun c19 => ?_) (fun c19 => ?_)
    · have hp6 := hp5.1 c19
      refine x_up (pc' := 23) (fun _ _ _ _ _ L => lv_aload_n hx hb dX4_causeOf_22 rfl (lv_at L 0 rfl)) ?_
      refine x_up (pc' := 24) (fun _ _ _ _ _ L => lv_aload_n hx hb dX4_causeOf_23 rfl (lv_at L 0 rfl)) ?_
      refine x_up (pc' := 25) (fun _ _ _ _ _ L => lv_iload_n hx hb dX4_causeOf_24 rfl (lv_at L 1 rfl)) ?_
      refine x_callV (em := emI) (fun r st => .int r :: st) (fun _ _ => rfl) 1 X (kX4 hG) (fun σ' KK h => R_X4_causeBy l hl G hG a0 x1 σ' KK h) (lw_V q3388 q3390 qs66 q119 q3391) ⟨rfl, mdX4_causeBy⟩ ⟨Nat.le_of_ble_eq_true rfl, Nat.le_of_ble_eq_true rfl⟩ rfl rfl (Nat.le_of_ble_eq_true rfl) dX4_causeOf_25 hp6.1 hp6.2 (fun v7 σ8 hp7 => ?_)
      refine x_pc (pc' := 28) rfl ?_
      refine x_callV (em := emI) (fun r st => .int r :: st) (fun _ _ => rfl) 1 X (kX4 hG) (fun σ' KK h => R_X4_done l hl G hG a0 v7 σ' KK h) (lw_V q3404 q3406 qs70 q119 q3407) ⟨rfl, mdX4_done⟩ ⟨Nat.le_of_ble_eq_true rfl, Nat.le_of_ble_eq_true rfl⟩ rfl rfl (Nat.le_of_ble_eq_true rfl) dX4_causeOf_28 hp7.1 hp7.2 (fun v9 σ10 hp8 => ?_)
      refine x_pc (pc' := 31) rfl ?_
      refine x_up (pc' := 39) (fun _ _ _ _ _ L => lv_goto (tgt := 39) hx hb dX4_causeOf_31 (by decide)) ?_
      exact x_iret X hr rfl dX4_causeOf_39 hp8
    · have hp9 := hp5.2 c19
      refine x_up (pc' := 35) (fun _ _ _ _ _ L => lv_aload_n hx hb dX4_causeOf_34 rfl (lv_at L 0 rfl)) ?_
      refine x_up (pc' := 36) (fun _ _ _ _ _ L => lv_iconst (v := (2 : Int32)) hx hb dX4_causeOf_35 (by decide)) ?_
      refine x_callV (em := emI) (fun r st => .int r :: st) (fun _ _ => rfl) 1 X (kX4 hG) (fun σ' KK h => R_X4_fails l hl G hG a0 (2 : Int32) σ' KK h) (lw_V q3357 q3359 qs59 q119 q3360) ⟨rfl, mdX4_fails⟩ ⟨Nat.le_of_ble_eq_true rfl, Nat.le_of_ble_eq_true rfl⟩ rfl rfl (Nat.le_of_ble_eq_true rfl) dX4_causeOf_36 hp9.1 hp9.2 (fun v11 σ12 hp10 => ?_)
      refine x_pc (pc' := 39) rfl ?_
      exact x_iret X hr rfl dX4_causeOf_39 hp10
-- X4_freeIn
def P_X4_freeIn (κ : Nat → Nat) (a0 : Nat) (x1 : Int32) (σ : xS) (K : Int32 → xH → Prop) : Prop :=
  xcall (fun τ L => P_X4_in κ x1 (0 : Int32) (3 : Int32) τ L) σ fun v1 σ2 => ((v1 = 0 → (xrc σ2 a0 10 ∧ xcall (fun τ L => P_X4_fails κ a0 (1 : Int32) τ L) σ2 fun v3 σ4 => K v3 σ4.1)) ∧ (¬ v1 = 0 → (xgq σ2 a0 10 0 fun v5 => xnn v5 fun b6 => xai .int σ2 b6 ((69 : Int32) + x1) fun v7 => xgq σ2 a0 10 0 fun v8 => xnn v8 fun b9 => xai .int σ2 b9 (0 : Int32) fun v10 => ((v7 ≤ v10 → (xrc σ2 a0 10 ∧ xcall (fun τ L => P_X4_done κ a0 (0 : Int32) τ L) σ2 fun v11 σ12 => K v11 σ12.1)) ∧ (¬ v7 ≤ v10 → (xgq σ2 a0 10 0 fun v13 => xnn v13 fun b14 => xai .int σ2 b14 ((69 : Int32) + x1) fun v15 => xgq σ2 a0 10 0 fun v16 => xnn v16 fun b17 => xai .int σ2 b17 (0 : Int32) fun v18 => xrc σ2 a0 10 ∧ xcall (fun τ L => P_X4_done κ a0 (v15 - v18) τ L) σ2 fun v19 σ20 => K v19 σ20.1))))))
theorem mdX4_freeIn : yX4_freeIn.cls ≠ "java/lang/invoke/MethodHandle" ∧ yX4_freeIn.cls ≠ "java/lang/invoke/VarHandle" ∧ (parseMethodDescriptor yX4_freeIn.desc).map (fun d => d.parameters.length) = some 1 := by decide +kernel
set_option maxHeartbeats 4000000 in
set_option maxRecDepth 100000 in
theorem R_X4_freeIn (l : Launch) (hl : l.stackTraces = false) (G : xG) (hG : G.1.2 = x_cl) (a0 : Nat) (x1 : Int32) (σ : xS) (K : Int32 → xH → Prop) (hp : P_X4_freeIn G.2 a0 x1 σ K) : xM l yX4_freeIn cX4_freeIn 2 (Option.some Jvm.ClassFile.FieldType.int) 1 22 G [(.ref a0), .int x1] σ (xlift emI K) := by
  refine x_entry (by decide) (Nat.le_of_ble_eq_true rfl) ?_
  intro p e s m args below meth c X hr hin
  have X : xX p s m args meth c G cX4_freeIn 2 RX4 := X
  have hx := X.1
  have hb := X.2.1
  have hts := X.2.2.2.2.1
  have hown := X.2.2.2.1
  unfold P_X4_freeIn at hp
  refine x_same (lo' := [(0, .ref a0), (1, .int x1)]) rfl ?_
  refine x_up (pc' := 1) (fun _ _ _ _ _ L => lv_iload_n hx hb dX4_freeIn_0 rfl (lv_at L 1 rfl)) ?_
  refine x_up (pc' := 2) (fun _ _ _ _ _ L => lv_iconst (v := (0 : Int32)) hx hb dX4_freeIn_1 (by decide)) ?_
  refine x_up (pc' := 3) (fun _ _ _ _ _ L => lv_iconst (v := (3 : Int32)) hx hb dX4_freeIn_2 (by decide)) ?_
  refine x_callS (em := emI) (fun r st => .int r :: st) (fun _ _ => rfl) 3 X (fun σ' KK h => R_X4_in l hl G hG x1 (0 : Int32) (3 : Int32) σ' KK h) (lw_S q3350 q3351 q119 q3352) mdX4_in ⟨Nat.le_of_ble_eq_true rfl, Nat.le_of_ble_eq_true rfl⟩ rfl rfl (Nat.le_of_ble_eq_true rfl) dX4_freeIn_3 hp (fun v1 σ2 hp1 => ?_)
  refine x_pc (pc' := 6) rfl ?_
  refine x_ifn (C := v1 = 0) (pt := 15) (pc' := 9) (fun _ _ _ _ _ => lv_if_ne (tgt := 15) hx hb dX4_freeIn_6 (by decide)) (fun c6 => ?_) (fun c6 => ?_)
  · have hp2 := hp1.1 c6
    refine x_up (pc' := 10) (fun _ _ _ _ _ L => lv_aload_n hx hb dX4_freeIn_9 rfl (lv_at L 0 rfl)) ?_
    refine x_up (pc' := 11) (fun _ _ _ _ _ L => lv_iconst (v := (1 : Int32)) hx hb dX4_freeIn_10 (by decide)) ?_
    refine x_callV (em := emI) (fun r st => .int r :: st) (fun _ _ => rfl) 1 X (kX4 hG) (fun σ' KK h => R_X4_fails l hl G hG a0 (1 : Int32) σ' KK h) (lw_V q3357 q3359 qs59 q119 q3360) ⟨rfl, mdX4_fails⟩ ⟨Nat.le_of_ble_eq_true rfl, Nat.le_of_ble_eq_true rfl⟩ rfl rfl (Nat.le_of_ble_eq_true rfl) dX4_freeIn_11 hp2.1 hp2.2 (fun v3 σ4 hp3 => ?_)
    refine x_pc (pc' := 14) rfl ?_
    exact x_iret X hr rfl dX4_freeIn_14 hp3
  · have hp4 := hp1.2 c6
    refine x_up (pc' := 16) (fun _ _ _ _ _ L => lv_aload_n hx hb dX4_freeIn_15 rfl (lv_at L 0 rfl)) ?_
    refine x_up (pc' := 17) (fun _ _ _ _ _ L => lv_aload_n hx hb dX4_freeIn_16 rfl (lv_at L 0 rfl)) ?_
    refine x_gq X (kX4 hG) 0 (by decide) q3266 (fun _ h => h) dX4_freeIn_17 hp4 (fun v5 hp5 => ?_)
    refine x_pc (pc' := 20) rfl ?_
    refine x_up (pc' := 22) (fun _ _ _ _ _ L => lv_bipush (v := (69 : Int32)) hx hb dX4_freeIn_20 (by decide)) ?_
    refine x_up (pc' := 23) (fun _ _ _ _ _ L => lv_iload_n hx hb dX4_freeIn_22 rfl (lv_at L 1 rfl)) ?_
    refine x_up (pc' := 24) (fun _ _ _ _ _ L => lv_iadd hx hb dX4_freeIn_23) ?_
    obtain ⟨b6, rfl, hp6⟩ := hp5
    refine x_iald X dX4_freeIn_24 hp6 (fun v7 hp7 => ?_)
    refine x_pc (pc' := 25) rfl ?_
    refine x_up (pc' := 26) (fun _ _ _ _ _ L => lv_aload_n hx hb dX4_freeIn_25 rfl (lv_at L 0 rfl)) ?_
    refine x_gq X (kX4 hG) 0 (by decide) q3266 (fun _ h => h) dX4_freeIn_26 hp7 (fun v8 hp8 => ?_)
    refine x_pc (pc' := 29) rfl ?_
    refine x_up (pc' := 30) (fun _ _ _ _ _ L => lv_iconst (v := (0 : Int32)) hx hb dX4_freeIn_29 (by decide)) ?_
    obtain ⟨b9, rfl, hp9⟩ := hp8
    refine x_iald X dX4_freeIn_30 hp9 (fun v10 hp10 => ?_)
    refine x_pc (pc' := 31) rfl ?_
    refine x_if (C := v7 ≤ v10) (pt := 53) (pc' := 34) (fun _ _ _ _ _ => lv_icmp_le (tgt := 53) hx hb dX4_freeIn_31 (by decide)) (fun c31 => ?_) (fun c31 => ?_)
    · have hp11 := hp10.1 c31
      refine x_up (pc' := 54) (fun _ _ _ _ _ L => lv_iconst (v := (0 : Int32)) hx hb dX4_freeIn_53 (by decide)) ?_
      refine x_callV (em := emI) (fun r st => .int r :: st) (fun _ _ => rfl) 1 X (kX4 hG) (fun σ' KK h => R_X4_done l hl G hG a0 (0 : Int32) σ' KK h) (lw_V q3404 q3406 qs70 q119 q3407) ⟨rfl, mdX4_done⟩ ⟨Nat.le_of_ble_eq_true rfl, Nat.le_of_ble_eq_true rfl⟩ rfl rfl (Nat.le_of_ble_eq_true rfl) dX4_freeIn_54 hp11.1 hp11.2 (fun v11 σ12 hp12 => ?_)
      refine x_pc (pc' := 57) rfl ?_
      exact x_iret X hr rfl dX4_freeIn_57 hp12
    · have hp13 := hp10.2 c31
      refine x_up (pc' := 35) (fun _ _ _ _ _ L => lv_aload_n hx hb dX4_freeIn_34 rfl (lv_at L 0 rfl)) ?_
      refine x_gq X (kX4 hG) 0 (by decide) q3266 (fun _ h => h) dX4_freeIn_35 hp13 (fun v13 hp14 => ?_)
      refine x_pc (pc' := 38) rfl ?_
      refine x_up (pc' := 40) (fun _ _ _ _ _ L => lv_bipush (v := (69 : Int32)) hx hb dX4_freeIn_38 (by decide)) ?_
      refine x_up (pc' := 41) (fun _ _ _ _ _ L => lv_iload_n hx hb dX4_freeIn_40 rfl (lv_at L 1 rfl)) ?_
      refine x_up (pc' := 42) (fun _ _ _ _ _ L => lv_iadd hx hb dX4_freeIn_41) ?_
      obtain ⟨b14, rfl, hp15⟩ := hp14
      refine x_iald X dX4_freeIn_42 hp15 (fun v15 hp16 => ?_)
      refine x_pc (pc' := 43) rfl ?_
      refine x_up (pc' := 44) (fun _ _ _ _ _ L => lv_aload_n hx hb dX4_freeIn_43 rfl (lv_at L 0 rfl)) ?_
      refine x_gq X (kX4 hG) 0 (by decide) q3266 (fun _ h => h) dX4_freeIn_44 hp16 (fun v16 hp17 => ?_)
      refine x_pc (pc' := 47) rfl ?_
      refine x_up (pc' := 48) (fun _ _ _ _ _ L => lv_iconst (v := (0 : Int32)) hx hb dX4_freeIn_47 (by decide)) ?_
      obtain ⟨b17, rfl, hp18⟩ := hp17
      refine x_iald X dX4_freeIn_48 hp18 (fun v18 hp19 => ?_)
      refine x_pc (pc' := 49) rfl ?_
      refine x_up (pc' := 50) (fun _ _ _ _ _ L => lv_isub hx hb dX4_freeIn_49) ?_
      refine x_up (pc' := 54) (fun _ _ _ _ _ L => lv_goto (tgt := 54) hx hb dX4_freeIn_50 (by decide)) ?_
      refine x_callV (em := emI) (fun r st => .int r :: st) (fun _ _ => rfl) 1 X (kX4 hG) (fun σ' KK h => R_X4_done l hl G hG a0 (v15 - v18) σ' KK h) (lw_V q3404 q3406 qs70 q119 q3407) ⟨rfl, mdX4_done⟩ ⟨Nat.le_of_ble_eq_true rfl, Nat.le_of_ble_eq_true rfl⟩ rfl rfl (Nat.le_of_ble_eq_true rfl) dX4_freeIn_54 hp19.1 hp19.2 (fun v19 σ20 hp20 => ?_)
      refine x_pc (pc' := 57) rfl ?_
      exact x_iret X hr rfl dX4_freeIn_57 hp20
-- X4_latest
def P_X4_latest (κ : Nat → Nat) (a0 : Nat) (x1 : Int32) (σ : xS) (K : Int32 → xH → Prop) : Prop :=
  xgq σ a0 10 0 fun v1 => xnn v1 fun b2 => xai .int σ b2 (234 : Int32) fun v3 => xcall (fun τ L => P_X4_in κ x1 (0 : Int32) (v3 - (1 : Int32)) τ L) σ fun v4 σ5 => ((v4 = 0 → (xrc σ5 a0 10 ∧ xcall (fun τ L => P_X4_fails κ a0 (1 : Int32) τ L) σ5 fun v6 σ7 => K v6 σ7.1)) ∧ (¬ v4 = 0 → (xgq σ5 a0 10 0 fun v8 => xnn v8 fun b9 => xai .int σ5 b9 ((235 : Int32) + x1) fun v10 => xrc σ5 a0 10 ∧ xcall (fun τ L => P_X4_done κ a0 v10 τ L) σ5 fun v11 σ12 => K v11 σ12.1)))
theorem mdX4_latest : yX4_latest.cls ≠ "java/lang/invoke/MethodHandle" ∧ yX4_latest.cls ≠ "java/lang/invoke/VarHandle" ∧ (parseMethodDescriptor yX4_latest.desc).map (fun d => d.parameters.length) = some 1 := by decide +kernel
set_option maxHeartbeats 4000000 in
set_option maxRecDepth 100000 in
theorem R_X4_latest (l : Launch) (hl : l.stackTraces = false) (G : xG) (hG : G.1.2 = x_cl) (a0 : Nat) (x1 : Int32) (σ : xS) (K : Int32 → xH → Prop) (hp : P_X4_latest G.2 a0 x1 σ K) : xM l yX4_latest cX4_latest 2 (Option.some Jvm.ClassFile.FieldType.int) 1 22 G [(.ref a0), .int x1] σ (xlift emI K) := by
  refine x_entry (by decide) (Nat.le_of_ble_eq_true rfl) ?_
  intro p e s m args below meth c X hr hin
  have X : xX p s m args meth c G cX4_latest 2 RX4 := X
  have hx := X.1
  have hb := X.2.1
  have hts := X.2.2.2.2.1
  have hown := X.2.2.2.1
  unfold P_X4_latest at hp
  refine x_same (lo' := [(0, .ref a0), (1, .int x1)]) rfl ?_
  refine x_up (pc' := 1) (fun _ _ _ _ _ L => lv_iload_n hx hb dX4_latest_0 rfl (lv_at L 1 rfl)) ?_
  refine x_up (pc' := 2) (fun _ _ _ _ _ L => lv_iconst (v := (0 : Int32)) hx hb dX4_latest_1 (by decide)) ?_
  refine x_up (pc' := 3) (fun _ _ _ _ _ L => lv_aload_n hx hb dX4_latest_2 rfl (lv_at L 0 rfl)) ?_
  refine x_gq X (kX4 hG) 0 (by decide) q3266 (fun _ h => h) dX4_latest_3 hp (fun v1 hp1 => ?_)
  refine x_pc (pc' := 6) rfl ?_
  refine x_up (pc' := 9) (fun _ _ _ _ _ L => lv_sipush (v := (234 : Int32)) hx hb dX4_latest_6 (by decide)) ?_
  obtain ⟨b2, rfl, hp2⟩ := hp1
  refine x_iald X dX4_latest_9 hp2 (fun v3 hp3 => ?_)
  refine x_pc (pc' := 10) rfl ?_
  refine x_up (pc' := 11) (fun _ _ _ _ _ L => lv_iconst (v := (1 : Int32)) hx hb dX4_latest_10 (by decide)) ?_
  refine x_up (pc' := 12) (fun _ _ _ _ _ L => lv_isub hx hb dX4_latest_11) ?_
  refine x_callS (em := emI) (fun r st => .int r :: st) (fun _ _ => rfl) 3 X (fun σ' KK h => R_X4_in l hl G hG x1 (0 : Int32) (v3 - (1 : Int32)) σ' KK h) (lw_S q3350 q3351 q119 q3352) mdX4_in ⟨Nat.le_of_ble_eq_true rfl, Nat.le_of_ble_eq_true rfl⟩ rfl rfl (Nat.le_of_ble_eq_true rfl) dX4_latest_12 hp3 (fun v4 σ5 hp4 => ?_)
  refine x_pc (pc' := 15) rfl ?_
  refine x_if (C := v4 = 0) (pt := 35) (pc' := 18) (fun _ _ _ _ _ => lv_if_eq (tgt := 35) hx hb dX4_latest_15 (by decide)) (fun c15 => ?_) (fun c15 => ?_)
  · have hp5 := hp4.1 c15
    refine x_up (pc' := 36) (fun _ _ _ _ _ L => lv_aload_n hx hb dX4_latest_35 rfl (lv_at L 0 rfl)) ?_
    refine x_up (pc' := 37) (fun _ _ _ _ _ L => lv_iconst (v := (1 : Int32)) hx hb dX4_latest_36 (by decide)) ?_
    refine x_callV (em := emI) (fun r st => .int r :: st) (fun _ _ => rfl) 1 X (kX4 hG) (fun σ' KK h => R_X4_fails l hl G hG a0 (1 : Int32) σ' KK h) (lw_V q3357 q3359 qs59 q119 q3360) ⟨rfl, mdX4_fails⟩ ⟨Nat.le_of_ble_eq_true rfl, Nat.le_of_ble_eq_true rfl⟩ rfl rfl (Nat.le_of_ble_eq_true rfl) dX4_latest_37 hp5.1 hp5.2 (fun v6 σ7 hp6 => ?_)
    refine x_pc (pc' := 40) rfl ?_
    exact x_iret X hr rfl dX4_latest_40 hp6
  · have hp7 := hp4.2 c15
    refine x_up (pc' := 19) (fun _ _ _ _ _ L => lv_aload_n hx hb dX4_latest_18 rfl (lv_at L 0 rfl)) ?_
    refine x_up (pc' := 20) (fun _ _ _ _ _ L => lv_aload_n hx hb dX4_latest_19 rfl (lv_at L 0 rfl)) ?_
    refine x_gq X (kX4 hG) 0 (by decide) q3266 (fun _ h => h) dX4_latest_20 hp7 (fun v8 hp8 => ?_)
    refine x_pc (pc' := 23) rfl ?_
    refine x_up (pc' := 26) (fun _ _ _ _ _ L => lv_sipush (v := (235 : Int32)) hx hb dX4_latest_23 (by decide)) ?_
    refine x_up (pc' := 27) (fun _ _ _ _ _ L => lv_iload_n hx hb dX4_latest_26 rfl (lv_at L 1 rfl)) ?_
    refine x_up (pc' := 28) (fun _ _ _ _ _ L => lv_iadd hx hb dX4_latest_27) ?_
    obtain ⟨b9, rfl, hp9⟩ := hp8
    refine x_iald X dX4_latest_28 hp9 (fun v10 hp10 => ?_)
    refine x_pc (pc' := 29) rfl ?_
    refine x_callV (em := emI) (fun r st => .int r :: st) (fun _ _ => rfl) 1 X (kX4 hG) (fun σ' KK h => R_X4_done l hl G hG a0 v10 σ' KK h) (lw_V q3404 q3406 qs70 q119 q3407) ⟨rfl, mdX4_done⟩ ⟨Nat.le_of_ble_eq_true rfl, Nat.le_of_ble_eq_true rfl⟩ rfl rfl (Nat.le_of_ble_eq_true rfl) dX4_latest_29 hp10.1 hp10.2 (fun v11 σ12 hp11 => ?_)
    refine x_pc (pc' := 32) rfl ?_
    refine x_up (pc' := 40) (fun _ _ _ _ _ L => lv_goto (tgt := 40) hx hb dX4_latest_32 (by decide)) ?_
    exact x_iret X hr rfl dX4_latest_40 hp11
-- X4_ranked
def B_X4_ranked_13 (κ : Nat → Nat) (kx14104 : Int32 → xS → Prop) (f0 : Nat) (f1 : Int32) (f2 : Int32) : ((Int32 × Int32) → xS → Prop) → (Int32 × Int32) → xS → Prop := fun self14103 w14101 σ14102 =>
  (((16 : Int32) ≤ w14101.2 → (kx14104 w14101.1 σ14102)) ∧ (¬ (16 : Int32) ≤ w14101.2 → (xgq σ14102 f0 10 0 fun v14105 => xnn v14105 fun b14106 => xai .int σ14102 b14106 ((251 : Int32) + w14101.2) fun v14107 => xgq σ14102 f0 10 0 fun v14108 => xnn v14108 fun b14109 => xai .int σ14102 b14109 ((251 : Int32) + f2) fun v14110 => xgq σ14102 f0 10 0 fun v14111 => xnn v14111 fun b14112 => xai .int σ14102 b14112 ((267 : Int32) + f2) fun v14113 => xgq σ14102 f0 10 0 fun v14114 => xnn v14114 fun b14115 => xai .int σ14102 b14115 ((267 : Int32) + w14101.2) fun v14116 => ((0 < (v14107 - v14110) → (self14103 ((w14101.1 + (1 : Int32)), (w14101.2 + (1 : Int32))) σ14102)) ∧ (¬ 0 < (v14107 - v14110) → ((((v14107 - v14110) = 0 → (((0 < (v14113 - v14116) → (self14103 ((w14101.1 + (1 : Int32)), (w14101.2 + (1 : Int32))) σ14102)) ∧ (¬ 0 < (v14113 - v14116) → ((((v14113 - v14116) = 0 → (((f2 ≤ w14101.2 → (self14103 ((w14101.1 + (0 : Int32)), (w14101.2 + (1 : Int32))) σ14102)) ∧ (¬ f2 ≤ w14101.2 → (self14103 ((w14101.1 + (1 : Int32)), (w14101.2 + (1 : Int32))) σ14102))))) ∧ (¬ (v14113 - v14116) = 0 → (self14103 ((w14101.1 + (0 : Int32)), (w14101.2 + (1 : Int32))) σ14102)))))))) ∧ (¬ (v14107 - v14110) = 0 → (self14103 ((w14101.1 + (0 : Int32)), (w14101.2 + (1 : Int32))) σ14102)))))))))
def B_X4_ranked_2 (κ : Nat → Nat) (K : Int32 → xH → Prop) (f0 : Nat) (f1 : Int32) : (Int32 → xS → Prop) → Int32 → xS → Prop := fun self3003 w3001 σ3002 =>
  (((16 : Int32) ≤ w3001 → (xrc σ3002 f0 10 ∧ xcall (fun τ L => P_X4_fails κ f0 (1 : Int32) τ L) σ3002 fun v3004 σ3005 => K v3004 σ3005.1)) ∧ (¬ (16 : Int32) ≤ w3001 → (xwhile (B_X4_ranked_13 κ (fun e3006 σ3007 => ((e3006 = f1 → (xrc σ3007 f0 10 ∧ xcall (fun τ L => P_X4_done κ f0 w3001 τ L) σ3007 fun v3008 σ3009 => K v3008 σ3009.1)) ∧ (¬ e3006 = f1 → (self3003 (w3001 + (1 : Int32)) σ3007)))) f0 f1 w3001) ((0 : Int32), (0 : Int32)) σ3002)))
def P_X4_ranked (κ : Nat → Nat) (a0 : Nat) (x1 : Int32) (σ : xS) (K : Int32 → xH → Prop) : Prop :=
  xwhile (B_X4_ranked_2 κ K a0 x1) (0 : Int32) σ
theorem mdX4_ranked : yX4_ranked.cls ≠ "java/lang/invoke/MethodHandle" ∧ yX4_ranked.cls ≠ "java/lang/invoke/VarHandle" ∧ (parseMethodDescriptor yX4_ranked.desc).map (fun d => d.parameters.length) = some 1 := by decide +kernel
set_option maxHeartbeats 4000000 in
set_option maxRecDepth 100000 in
theorem R_X4_ranked (l : Launch) (hl : l.stackTraces = false) (G : xG) (hG : G.1.2 = x_cl) (a0 : Nat) (x1 : Int32) (σ : xS) (K : Int32 → xH → Prop) (hp : P_X4_ranked G.2 a0 x1 σ K) : xM l yX4_ranked cX4_ranked 7 (Option.some Jvm.ClassFile.FieldType.int) 1 21 G [(.ref a0), .int x1] σ (xlift emI K) := by
  refine x_entry (by decide) (Nat.le_of_ble_eq_true rfl) ?_
  intro p e s m args below meth c X hr hin
  have X : xX p s m args meth c G cX4_ranked 7 RX4 := X
  have hx := X.1
  have hb := X.2.1
  have hts := X.2.2.2.2.1
  have hown := X.2.2.2.1
  unfold P_X4_ranked at hp
  refine x_same (lo' := [(0, .ref a0), (1, .int x1)]) rfl ?_
  refine x_up (pc' := 1) (fun _ _ _ _ _ L => lv_iconst (v := (0 : Int32)) hx hb dX4_ranked_0 (by decide)) ?_
  refine x_upL (pc' := 2) (lo' := [(2, .int (0 : Int32)), (0, .ref a0), (1, .int x1)]) (fun _ _ _ _ _ L => lv_istore_n hx hb dX4_ranked_1 rfl L (by decide) rfl) ?_
  refine x_lo (lo' := [(2, .int (0 : Int32)), (0, .ref a0), (1, .int x1)]) [0, 1, 2] rfl ?_
  refine x_while (v0 := (0 : Int32)) (fun w1 => [(2, .int w1), (0, .ref a0), (1, .int x1)]) hp (fun self2 hself3 => ?_)
  rintro y5 σ4 hp1
  unfold B_X4_ranked_2 at hp1
  refine x_same (lo' := [(2, .int y5), (0, .ref a0), (1, .int x1)]) rfl ?_
  refine x_up (pc' := 3) (fun _ _ _ _ _ L => lv_iload_n hx hb dX4_ranked_2 rfl (lv_at L 0 rfl)) ?_
  refine x_up (pc' := 5) (fun _ _ _ _ _ L => lv_bipush (v := (16 : Int32)) hx hb dX4_ranked_3 (by decide)) ?_
  refine x_if (C := (16 : Int32) ≤ y5) (pt := 125) (pc' := 8) (fun _ _ _ _ _ => lv_icmp_ge (tgt := 125) hx hb dX4_ranked_5 (by decide)) (fun c5 => ?_) (fun c5 => ?_)
  · have hp2 := hp1.1 c5
    refine x_up (pc' := 126) (fun _ _ _ _ _ L => lv_aload_n hx hb dX4_ranked_125 rfl (lv_at L 1 rfl)) ?_
    refine x_up (pc' := 127) (fun _ _ _ _ _ L => lv_iconst (v := (1 : Int32)) hx hb dX4_ranked_126 (by decide)) ?_
    refine x_callV (em := emI) (fun r st => .int r :: st) (fun _ _ => rfl) 1 X (kX4 hG) (fun σ' KK h => R_X4_fails l hl G hG a0 (1 : Int32) σ' KK h) (lw_V q3357 q3359 qs59 q119 q3360) ⟨rfl, mdX4_fails⟩ ⟨Nat.le_of_ble_eq_true rfl, Nat.le_of_ble_eq_true rfl⟩ rfl rfl (Nat.le_of_ble_eq_true rfl) dX4_ranked_127 hp2.1 hp2.2 (fun v6 σ7 hp3 => ?_)
    refine x_pc (pc' := 130) rfl ?_
    exact x_iret X hr rfl dX4_ranked_130 hp3
  · have hp4 := hp1.2 c5
    refine x_up (pc' := 9) (fun _ _ _ _ _ L => lv_iconst (v := (0 : Int32)) hx hb dX4_ranked_8 (by decide)) ?_
    refine x_upL (pc' := 10) (lo' := [(3, .int (0 : Int32)), (2, .int y5), (0, .ref a0), (1, .int x1)]) (fun _ _ _ _ _ L => lv_istore_n hx hb dX4_ranked_9 rfl L (by decide) rfl) ?_
    refine x_up (pc' := 11) (fun _ _ _ _ _ L => lv_iconst (v := (0 : Int32)) hx hb dX4_ranked_10 (by decide)) ?_
    refine x_upL (pc' := 13) (lo' := [(4, .int (0 : Int32)), (3, .int (0 : Int32)), (2, .int y5), (0, .ref a0), (1, .int x1)]) (fun _ _ _ _ _ L => lv_istore hx hb dX4_ranked_11 L (by decide) rfl) ?_
    refine x_lo (lo' := [(3, .int (0 : Int32)), (4, .int (0 : Int32)), (0, .ref a0), (1, .int x1), (2, .int y5)]) [1, 0, 3, 4, 2] rfl ?_
    refine x_while (v0 := ((0 : Int32), (0 : Int32))) (fun w8 => [(3, .int w8.1), (4, .int w8.2), (0, .ref a0), (1, .int x1), (2, .int y5)]) hp4 (fun self9 hself10 => ?_)
    rintro ⟨y12, y13⟩ σ11 hp5
    unfold B_X4_ranked_13 at hp5
    refine x_same (lo' := [(3, .int y12), (4, .int y13), (0, .ref a0), (1, .int x1), (2, .int y5)]) rfl ?_
    refine x_up (pc' := 15) (fun _ _ _ _ _ L => lv_iload hx hb dX4_ranked_13 (lv_at L 1 rfl)) ?_
    refine x_up (pc' := 17) (fun _ _ _ _ _ L => lv_bipush (v := (16 : Int32)) hx hb dX4_ranked_15 (by decide)) ?_
    refine x_if (C := (16 : Int32) ≤ y13) (pt := 108) (pc' := 20) (fun _ _ _ _ _ => lv_icmp_ge (tgt := 108) hx hb dX4_ranked_17 (by decide)) (fun c17 => ?_) (fun c17 => ?_)
    · have hp6 := hp5.1 c17
      refine x_up (pc' := 109) (fun _ _ _ _ _ L => lv_iload_n hx hb dX4_ranked_108 rfl (lv_at L 0 rfl)) ?_
      refine x_up (pc' := 110) (fun _ _ _ _ _ L => lv_iload_n hx hb dX4_ranked_109 rfl (lv_at L 3 rfl)) ?_
      refine x_ifn (C := y12 = x1) (pt := 119) (pc' := 113) (fun _ _ _ _ _ => lv_icmp_ne (tgt := 119) hx hb dX4_ranked_110 (by decide)) (fun c110 => ?_) (fun c110 => ?_)
      · have hp7 := hp6.1 c110
        refine x_up (pc' := 114) (fun _ _ _ _ _ L => lv_aload_n hx hb dX4_ranked_113 rfl (lv_at L 2 rfl)) ?_
        refine x_up (pc' := 115) (fun _ _ _ _ _ L => lv_iload_n hx hb dX4_ranked_114 rfl (lv_at L 4 rfl)) ?_
        refine x_callV (em := emI) (fun r st => .int r :: st) (fun _ _ => rfl) 1 X (kX4 hG) (fun σ' KK h => R_X4_done l hl G hG a0 y5 σ' KK h) (lw_V q3404 q3406 qs70 q119 q3407) ⟨rfl, mdX4_done⟩ ⟨Nat.le_of_ble_eq_true rfl, Nat.le_of_ble_eq_true rfl⟩ rfl rfl (Nat.le_of_ble_eq_true rfl) dX4_ranked_115 hp7.1 hp7.2 (fun v14 σ15 hp8 => ?_)
        refine x_pc (pc' := 118) rfl ?_
        exact x_iret X hr rfl dX4_ranked_118 hp8
      · have hp9 := hp6.2 c110
        refine x_upL (pc' := 122) (lo' := [(2, .int (y5 + (1 : Int32))), (3, .int y12), (4, .int y13), (0, .ref a0), (1, .int x1)]) (fun _ _ _ _ _ L => lv_iinc (v := y5 + (1 : Int32)) hx hb dX4_ranked_119 L (k := 4) rfl rfl (by decide) rfl) ?_
        refine x_up (pc' := 2) (fun _ _ _ _ _ L => lv_goto (tgt := 2) hx hb dX4_ranked_122 (by decide)) ?_
        refine x_lo (lo' := [(2, .int (y5 + (1 : Int32))), (0, .ref a0), (1, .int x1)]) [0, 3, 4] rfl ?_
        exact hself3 (y5 + (1 : Int32)) σ11 hp9
    · have hp10 := hp5.2 c17
      refine x_up (pc' := 21) (fun _ _ _ _ _ L => lv_aload_n hx hb dX4_ranked_20 rfl (lv_at L 2 rfl)) ?_
      refine x_gq X (kX4 hG) 0 (by decide) q3266 (fun _ h => h) dX4_ranked_21 hp10 (fun v16 hp11 => ?_)
      refine x_pc (pc' := 24) rfl ?_
      refine x_up (pc' := 27) (fun _ _ _ _ _ L => lv_sipush (v := (251 : Int32)) hx hb dX4_ranked_24 (by decide)) ?_
      refine x_up (pc' := 29) (fun _ _ _ _ _ L => lv_iload hx hb dX4_ranked_27 (lv_at L 1 rfl)) ?_
      refine x_up (pc' := 30) (fun _ _ _ _ _ L => lv_iadd hx hb dX4_ranked_29) ?_
      obtain ⟨b17, rfl, hp12⟩ := hp11
      refine x_iald X dX4_ranked_30 hp12 (fun v18 hp13 => ?_)
      refine x_pc (pc' := 31) rfl ?_
      refine x_up (pc' := 32) (fun _ _ _ _ _ L => lv_aload_n hx hb dX4_ranked_31 rfl (lv_at L 2 rfl)) ?_
      refine x_gq X (kX4 hG) 0 (by decide) q3266 (fun _ h => h) dX4_ranked_32 hp13 (fun v19 hp14 => ?_)
      refine x_pc (pc' := 35) rfl ?_
      refine x_up (pc' := 38) (fun _ _ _ _ _ L => lv_sipush (v := (251 : Int32)) hx hb dX4_ranked_35 (by decide)) ?_
      refine x_up (pc' := 39) (fun _ _ _ _ _ L => lv_iload_n hx hb dX4_ranked_38 rfl (lv_at L 4 rfl)) ?_
      refine x_up (pc' := 40) (fun _ _ _ _ _ L => lv_iadd hx hb dX4_ranked_39) ?_
      obtain ⟨b20, rfl, hp15⟩ := hp14
      refine x_iald X dX4_ranked_40 hp15 (fun v21 hp16 => ?_)
      refine x_pc (pc' := 41) rfl ?_
      refine x_up (pc' := 42) (fun _ _ _ _ _ L => lv_isub hx hb dX4_ranked_41) ?_
      refine x_upL (pc' := 44) (lo' := [(5, .int (v18 - v21)), (3, .int y12), (4, .int y13), (0, .ref a0), (1, .int x1), (2, .int y5)]) (fun _ _ _ _ _ L => lv_istore hx hb dX4_ranked_42 L (by decide) rfl) ?_
      refine x_up (pc' := 45) (fun _ _ _ _ _ L => lv_aload_n hx hb dX4_ranked_44 rfl (lv_at L 3 rfl)) ?_
      refine x_gq X (kX4 hG) 0 (by decide) q3266 (fun _ h => h) dX4_ranked_45 hp16 (fun v22 hp17 => ?_)
      refine x_pc (pc' := 48) rfl ?_
      refine x_up (pc' := 51) (fun _ _ _ _ _ L => lv_sipush (v := (267 : Int32)) hx hb dX4_ranked_48 (by decide)) ?_
      refine x_up (pc' := 52) (fun _ _ _ _ _ L => lv_iload_n hx hb dX4_ranked_51 rfl (lv_at L 5 rfl)) ?_
      refine x_up (pc' := 53) (fun _ _ _ _ _ L => lv_iadd hx hb dX4_ranked_52) ?_
      obtain ⟨b23, rfl, hp18⟩ := hp17
      refine x_iald X dX4_ranked_53 hp18 (fun v24 hp19 => ?_)
      refine x_pc (pc' := 54) rfl ?_
      refine x_up (pc' := 55) (fun _ _ _ _ _ L => lv_aload_n hx hb dX4_ranked_54 rfl (lv_at L 3 rfl)) ?_
      refine x_gq X (kX4 hG) 0 (by decide) q3266 (fun _ h => h) dX4_ranked_55 hp19 (fun v25 hp20 => ?_)
      refine x_pc (pc' := 58) rfl ?_
      refine x_up (pc' := 61) (fun _ _ _ _ _ L => lv_sipush (v := (267 : Int32)) hx hb dX4_ranked_58 (by decide)) ?_
      refine x_up (pc' := 63) (fun _ _ _ _ _ L => lv_iload hx hb dX4_ranked_61 (lv_at L 2 rfl)) ?_
      refine x_up (pc' := 64) (fun _ _ _ _ _ L => lv_iadd hx hb dX4_ranked_63) ?_
      obtain ⟨b26, rfl, hp21⟩ := hp20
      refine x_iald X dX4_ranked_64 hp21 (fun v27 hp22 => ?_)
      refine x_pc (pc' := 65) rfl ?_
      refine x_up (pc' := 66) (fun _ _ _ _ _ L => lv_isub hx hb dX4_ranked_65) ?_
      refine x_upL (pc' := 68) (lo' := [(6, .int (v24 - v27)), (5, .int (v18 - v21)), (3, .int y12), (4, .int y13), (0, .ref a0), (1, .int x1), (2, .int y5)]) (fun _ _ _ _ _ L => lv_istore hx hb dX4_ranked_66 L (by decide) rfl) ?_
      refine x_up (pc' := 69) (fun _ _ _ _ _ L => lv_iload_n hx hb dX4_ranked_68 rfl (lv_at L 2 rfl)) ?_
      refine x_up (pc' := 71) (fun _ _ _ _ _ L => lv_iload hx hb dX4_ranked_69 (lv_at L 1 rfl)) ?_
      refine x_if (C := 0 < (v18 - v21)) (pt := 95) (pc' := 74) (fun _ _ _ _ _ => lv_if_gt (tgt := 95) hx hb dX4_ranked_71 (by decide)) (fun c71 => ?_) (fun c71 => ?_)
      · have hp23 := hp22.1 c71
        refine x_up (pc' := 96) (fun _ _ _ _ _ L => lv_iconst (v := (1 : Int32)) hx hb dX4_ranked_95 (by decide)) ?_
        refine x_up (pc' := 100) (fun _ _ _ _ _ L => lv_goto (tgt := 100) hx hb dX4_ranked_96 (by decide)) ?_
        refine x_up (pc' := 101) (fun _ _ _ _ _ L => lv_iadd hx hb dX4_ranked_100) ?_
        refine x_upL (pc' := 102) (lo' := [(3, .int (y12 + (1 : Int32))), (6, .int (v24 - v27)), (5, .int (v18 - v21)), (4, .int y13), (0, .ref a0), (1, .int x1), (2, .int y5)]) (fun _ _ _ _ _ L => lv_istore_n hx hb dX4_ranked_101 rfl L (by decide) rfl) ?_
        refine x_upL (pc' := 105) (lo' := [(4, .int (y13 + (1 : Int32))), (3, .int (y12 + (1 : Int32))), (6, .int (v24 - v27)), (5, .int (v18 - v21)), (0, .ref a0), (1, .int x1), (2, .int y5)]) (fun _ _ _ _ _ L => lv_iinc (v := y13 + (1 : Int32)) hx hb dX4_ranked_102 L (k := 3) rfl rfl (by decide) rfl) ?_
        refine x_up (pc' := 13) (fun _ _ _ _ _ L => lv_goto (tgt := 13) hx hb dX4_ranked_105 (by decide)) ?_
        refine x_lo (lo' := [(3, .int (y12 + (1 : Int32))), (4, .int (y13 + (1 : Int32))), (0, .ref a0), (1, .int x1), (2, .int y5)]) [1, 0, 4, 5, 6] rfl ?_
        exact hself10 ((y12 + (1 : Int32)), (y13 + (1 : Int32))) σ11 hp23
      · have hp24 := hp22.2 c71
        refine x_up (pc' := 76) (fun _ _ _ _ _ L => lv_iload hx hb dX4_ranked_74 (lv_at L 1 rfl)) ?_
        refine x_ifn (C := (v18 - v21) = 0) (pt := 99) (pc' := 79) (fun _ _ _ _ _ => lv_if_ne (tgt := 99) hx hb dX4_ranked_76 (by decide)) (fun c76 => ?_) (fun c76 => ?_)
        · have hp25 := hp24.1 c76
          refine x_up (pc' := 81) (fun _ _ _ _ _ L => lv_iload hx hb dX4_ranked_79 (lv_at L 0 rfl)) ?_
          refine x_if (C := 0 < (v24 - v27)) (pt := 95) (pc' := 84) (fun _ _ _ _ _ => lv_if_gt (tgt := 95) hx hb dX4_ranked_81 (by decide)) (fun c81 => ?_) (fun c81 => ?_)
          · have hp26 := hp25.1 c81
            refine x_up (pc' := 96) (fun _ _ _ _ _ L => lv_iconst (v := (1 : Int32)) hx hb dX4_ranked_95 (by decide)) ?_
            refine x_up (pc' := 100) (fun _ _ _ _ _ L => lv_goto (tgt := 100) hx hb dX4_ranked_96 (by decide)) ?_
            refine x_up (pc' := 101) (fun _ _ _ _ _ L => lv_iadd hx hb dX4_ranked_100) ?_
            refine x_upL (pc' := 102) (lo' := [(3, .int (y12 + (1 : Int32))), (6, .int (v24 - v27)), (5, .int (v18 - v21)), (4, .int y13), (0, .ref a0), (1, .int x1), (2, .int y5)]) (fun _ _ _ _ _ L => lv_istore_n hx hb dX4_ranked_101 rfl L (by decide) rfl) ?_
            refine x_upL (pc' := 105) (lo' := [(4, .int (y13 + (1 : Int32))), (3, .int (y12 + (1 : Int32))), (6, .int (v24 - v27)), (5, .int (v18 - v21)), (0, .ref a0), (1, .int x1), (2, .int y5)]) (fun _ _ _ _ _ L => lv_iinc (v := y13 + (1 : Int32)) hx hb dX4_ranked_102 L (k := 3) rfl rfl (by decide) rfl) ?_
            refine x_up (pc' := 13) (fun _ _ _ _ _ L => lv_goto (tgt := 13) hx hb dX4_ranked_105 (by decide)) ?_
            refine x_lo (lo' := [(3, .int (y12 + (1 : Int32))), (4, .int (y13 + (1 : Int32))), (0, .ref a0), (1, .int x1), (2, .int y5)]) [1, 0, 4, 5, 6] rfl ?_
            exact hself10 ((y12 + (1 : Int32)), (y13 + (1 : Int32))) σ11 hp26
          · have hp27 := hp25.2 c81
            refine x_up (pc' := 86) (fun _ _ _ _ _ L => lv_iload hx hb dX4_ranked_84 (lv_at L 0 rfl)) ?_
            refine x_ifn (C := (v24 - v27) = 0) (pt := 99) (pc' := 89) (fun _ _ _ _ _ => lv_if_ne (tgt := 99) hx hb dX4_ranked_86 (by decide)) (fun c86 => ?_) (fun c86 => ?_)
            · have hp28 := hp27.1 c86
              refine x_up (pc' := 91) (fun _ _ _ _ _ L => lv_iload hx hb dX4_ranked_89 (lv_at L 3 rfl)) ?_
              refine x_up (pc' := 92) (fun _ _ _ _ _ L => lv_iload_n hx hb dX4_ranked_91 rfl (lv_at L 6 rfl)) ?_
              refine x_if (C := y5 ≤ y13) (pt := 99) (pc' := 95) (fun _ _ _ _ _ => lv_icmp_ge (tgt := 99) hx hb dX4_ranked_92 (by decide)) (fun c92 => ?_) (fun c92 => ?_)
              · have hp29 := hp28.1 c92
                refine x_up (pc' := 100) (fun _ _ _ _ _ L => lv_iconst (v := (0 : Int32)) hx hb dX4_ranked_99 (by decide)) ?_
                refine x_up (pc' := 101) (fun _ _ _ _ _ L => lv_iadd hx hb dX4_ranked_100) ?_
                refine x_upL (pc' := 102) (lo' := [(3, .int (y12 + (0 : Int32))), (6, .int (v24 - v27)), (5, .int (v18 - v21)), (4, .int y13), (0, .ref a0), (1, .int x1), (2, .int y5)]) (fun _ _ _ _ _ L => lv_istore_n hx hb dX4_ranked_101 rfl L (by decide) rfl) ?_
                refine x_upL (pc' := 105) (lo' := [(4, .int (y13 + (1 : Int32))), (3, .int (y12 + (0 : Int32))), (6, .int (v24 - v27)), (5, .int (v18 - v21)), (0, .ref a0), (1, .int x1), (2, .int y5)]) (fun _ _ _ _ _ L => lv_iinc (v := y13 + (1 : Int32)) hx hb dX4_ranked_102 L (k := 3) rfl rfl (by decide) rfl) ?_
                refine x_up (pc' := 13) (fun _ _ _ _ _ L => lv_goto (tgt := 13) hx hb dX4_ranked_105 (by decide)) ?_
                refine x_lo (lo' := [(3, .int (y12 + (0 : Int32))), (4, .int (y13 + (1 : Int32))), (0, .ref a0), (1, .int x1), (2, .int y5)]) [1, 0, 4, 5, 6] rfl ?_
                exact hself10 ((y12 + (0 : Int32)), (y13 + (1 : Int32))) σ11 hp29
              · have hp30 := hp28.2 c92
                refine x_up (pc' := 96) (fun _ _ _ _ _ L => lv_iconst (v := (1 : Int32)) hx hb dX4_ranked_95 (by decide)) ?_
                refine x_up (pc' := 100) (fun _ _ _ _ _ L => lv_goto (tgt := 100) hx hb dX4_ranked_96 (by decide)) ?_
                refine x_up (pc' := 101) (fun _ _ _ _ _ L => lv_iadd hx hb dX4_ranked_100) ?_
                refine x_upL (pc' := 102) (lo' := [(3, .int (y12 + (1 : Int32))), (6, .int (v24 - v27)), (5, .int (v18 - v21)), (4, .int y13), (0, .ref a0), (1, .int x1), (2, .int y5)]) (fun _ _ _ _ _ L => lv_istore_n hx hb dX4_ranked_101 rfl L (by decide) rfl) ?_
                refine x_upL (pc' := 105) (lo' := [(4, .int (y13 + (1 : Int32))), (3, .int (y12 + (1 : Int32))), (6, .int (v24 - v27)), (5, .int (v18 - v21)), (0, .ref a0), (1, .int x1), (2, .int y5)]) (fun _ _ _ _ _ L => lv_iinc (v := y13 + (1 : Int32)) hx hb dX4_ranked_102 L (k := 3) rfl rfl (by decide) rfl) ?_
                refine x_up (pc' := 13) (fun _ _ _ _ _ L => lv_goto (tgt := 13) hx hb dX4_ranked_105 (by decide)) ?_
                refine x_lo (lo' := [(3, .int (y12 + (1 : Int32))), (4, .int (y13 + (1 : Int32))), (0, .ref a0), (1, .int x1), (2, .int y5)]) [1, 0, 4, 5, 6] rfl ?_
                exact hself10 ((y12 + (1 : Int32)), (y13 + (1 : Int32))) σ11 hp30
            · have hp31 := hp27.2 c86
              refine x_up (pc' := 100) (fun _ _ _ _ _ L => lv_iconst (v := (0 : Int32)) hx hb dX4_ranked_99 (by decide)) ?_
              refine x_up (pc' := 101) (fun _ _ _ _ _ L => lv_iadd hx hb dX4_ranked_100) ?_
              refine x_upL (pc' := 102) (lo' := [(3, .int (y12 + (0 : Int32))), (6, .int (v24 - v27)), (5, .int (v18 - v21)), (4, .int y13), (0, .ref a0), (1, .int x1), (2, .int y5)]) (fun _ _ _ _ _ L => lv_istore_n hx hb dX4_ranked_101 rfl L (by decide) rfl) ?_
              refine x_upL (pc' := 105) (lo' := [(4, .int (y13 + (1 : Int32))), (3, .int (y12 + (0 : Int32))), (6, .int (v24 - v27)), (5, .int (v18 - v21)), (0, .ref a0), (1, .int x1), (2, .int y5)]) (fun _ _ _ _ _ L => lv_iinc (v := y13 + (1 : Int32)) hx hb dX4_ranked_102 L (k := 3) rfl rfl (by decide) rfl) ?_
              refine x_up (pc' := 13) (fun _ _ _ _ _ L => lv_goto (tgt := 13) hx hb dX4_ranked_105 (by decide)) ?_
              refine x_lo (lo' := [(3, .int (y12 + (0 : Int32))), (4, .int (y13 + (1 : Int32))), (0, .ref a0), (1, .int x1), (2, .int y5)]) [1, 0, 4, 5, 6] rfl ?_
              exact hself10 ((y12 + (0 : Int32)), (y13 + (1 : Int32))) σ11 hp31
        · have hp32 := hp24.2 c76
          refine x_up (pc' := 100) (fun _ _ _ _ _ L => lv_iconst (v := (0 : Int32)) hx hb dX4_ranked_99 (by decide)) ?_
          refine x_up (pc' := 101) (fun _ _ _ _ _ L => lv_iadd hx hb dX4_ranked_100) ?_
          refine x_upL (pc' := 102) (lo' := [(3, .int (y12 + (0 : Int32))), (6, .int (v24 - v27)), (5, .int (v18 - v21)), (4, .int y13), (0, .ref a0), (1, .int x1), (2, .int y5)]) (fun _ _ _ _ _ L => lv_istore_n hx hb dX4_ranked_101 rfl L (by decide) rfl) ?_
          refine x_upL (pc' := 105) (lo' := [(4, .int (y13 + (1 : Int32))), (3, .int (y12 + (0 : Int32))), (6, .int (v24 - v27)), (5, .int (v18 - v21)), (0, .ref a0), (1, .int x1), (2, .int y5)]) (fun _ _ _ _ _ L => lv_iinc (v := y13 + (1 : Int32)) hx hb dX4_ranked_102 L (k := 3) rfl rfl (by decide) rfl) ?_
          refine x_up (pc' := 13) (fun _ _ _ _ _ L => lv_goto (tgt := 13) hx hb dX4_ranked_105 (by decide)) ?_
          refine x_lo (lo' := [(3, .int (y12 + (0 : Int32))), (4, .int (y13 + (1 : Int32))), (0, .ref a0), (1, .int x1), (2, .int y5)]) [1, 0, 4, 5, 6] rfl ?_
          exact hself10 ((y12 + (0 : Int32)), (y13 + (1 : Int32))) σ11 hp32
