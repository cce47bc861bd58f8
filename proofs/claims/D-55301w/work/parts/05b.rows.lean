-- X4_nextDirty
def B_X4_nextDirty_15 (κ : Nat → Nat) (K : Int32 → xH → Prop) (f0 : Nat) : (Int32 → xS → Prop) → Int32 → xS → Prop := fun self16003 w16001 σ16002 =>
  (((64 : Int32) ≤ w16001 → (xrc σ16002 f0 10 ∧ xcall (fun τ L => P_X4_fails κ f0 (2 : Int32) τ L) σ16002 fun v16004 σ16005 => K v16004 σ16005.1)) ∧ (¬ (64 : Int32) ≤ w16001 → (xrc σ16002 f0 10 ∧ xcall (fun τ L => P_X4_lineWith κ f0 (w16001 / (4 : Int32)) τ L) σ16002 fun v16006 σ16007 => ((v16006 = (-1 : Int32) → (self16003 (w16001 + (1 : Int32)) σ16007)) ∧ (¬ v16006 = (-1 : Int32) → (xgq σ16007 f0 10 0 fun v16008 => xnn v16008 fun b16009 => xai .int σ16007 b16009 ((89 : Int32) + v16006) fun v16010 => ((((v16010 >>> ((w16001 - w16001 / (4 : Int32) * (4 : Int32)) &&& 31)) &&& (1 : Int32)) = (1 : Int32) → (xrc σ16007 f0 10 ∧ xcall (fun τ L => P_X4_done κ f0 w16001 τ L) σ16007 fun v16011 σ16012 => K v16011 σ16012.1)) ∧ (¬ ((v16010 >>> ((w16001 - w16001 / (4 : Int32) * (4 : Int32)) &&& 31)) &&& (1 : Int32)) = (1 : Int32) → (self16003 (w16001 + (1 : Int32)) σ16007)))))))))
def P_X4_nextDirty (κ : Nat → Nat) (a0 : Nat) (x1 : Int32) (σ : xS) (K : Int32 → xH → Prop) : Prop :=
  xcall (fun τ L => P_X4_isAddress κ x1 τ L) σ fun v1 σ2 => ((v1 = 0 → (xrc σ2 a0 10 ∧ xcall (fun τ L => P_X4_fails κ a0 (1 : Int32) τ L) σ2 fun v3 σ4 => K v3 σ4.1)) ∧ (¬ v1 = 0 → (xwhile (B_X4_nextDirty_15 κ K a0) x1 σ2)))
theorem mdX4_nextDirty : yX4_nextDirty.cls ≠ "java/lang/invoke/MethodHandle" ∧ yX4_nextDirty.cls ≠ "java/lang/invoke/VarHandle" ∧ (parseMethodDescriptor yX4_nextDirty.desc).map (fun d => d.parameters.length) = some 1 := by decide +kernel
set_option maxHeartbeats 4000000 in
set_option maxRecDepth 100000 in
theorem R_X4_nextDirty (l : Launch) (hl : l.stackTraces = false) (G : xG) (hG : G.1.2 = x_cl) (a0 : Nat) (x1 : Int32) (σ : xS) (K : Int32 → xH → Prop) (hp : P_X4_nextDirty G.2 a0 x1 σ K) : xM l yX4_nextDirty cX4_nextDirty 4 (Option.some Jvm.ClassFile.FieldType.int) 2 42 G [(.ref a0), .int x1] σ (xlift emI K) := by
  refine x_entry (by decide) (Nat.le_of_ble_eq_true rfl) ?_
  intro p e s m args below meth c X hr hin
  have X : xX p s m args meth c G cX4_nextDirty 4 RX4 := X
  have hx := X.1
  have hb := X.2.1
  have hts := X.2.2.2.2.1
  have hown := X.2.2.2.1
  unfold P_X4_nextDirty at hp
  refine x_same (lo' := [(0, .ref a0), (1, .int x1)]) rfl ?_
  refine x_up (pc' := 1) (fun _ _ _ _ _ L => lv_iload_n hx hb dX4_nextDirty_0 rfl (lv_at L 1 rfl)) ?_
  refine x_callS (em := emI) (fun r st => .int r :: st) (fun _ _ => rfl) 1 X (fun σ' KK h => R_X4_isAddress l hl G hG x1 σ' KK h) (lw_S q3347 q3348 q119 q3349) mdX4_isAddress ⟨Nat.le_of_ble_eq_true rfl, Nat.le_of_ble_eq_true rfl⟩ rfl rfl (Nat.le_of_ble_eq_true rfl) dX4_nextDirty_1 hp (fun v1 σ2 hp1 => ?_)
  refine x_pc (pc' := 4) rfl ?_
  refine x_ifn (C := v1 = 0) (pt := 13) (pc' := 7) (fun _ _ _ _ _ => lv_if_ne (tgt := 13) hx hb dX4_nextDirty_4 (by decide)) (fun c4 => ?_) (fun c4 => ?_)
  · have hp2 := hp1.1 c4
    refine x_up (pc' := 8) (fun _ _ _ _ _ L => lv_aload_n hx hb dX4_nextDirty_7 rfl (lv_at L 0 rfl)) ?_
    refine x_up (pc' := 9) (fun _ _ _ _ _ L => lv_iconst (v := (1 : Int32)) hx hb dX4_nextDirty_8 (by decide)) ?_
    refine x_callV (em := emI) (fun r st => .int r :: st) (fun _ _ => rfl) 1 X (kX4 hG) (fun σ' KK h => R_X4_fails l hl G hG a0 (1 : Int32) σ' KK h) (lw_V q3357 q3359 qs59 q119 q3360) ⟨rfl, mdX4_fails⟩ ⟨Nat.le_of_ble_eq_true rfl, Nat.le_of_ble_eq_true rfl⟩ rfl rfl (Nat.le_of_ble_eq_true rfl) dX4_nextDirty_9 hp2.1 hp2.2 (fun v3 σ4 hp3 => ?_)
    refine x_pc (pc' := 12) rfl ?_
    exact x_iret X hr rfl dX4_nextDirty_12 hp3
  · have hp4 := hp1.2 c4
    refine x_up (pc' := 14) (fun _ _ _ _ _ L => lv_iload_n hx hb dX4_nextDirty_13 rfl (lv_at L 1 rfl)) ?_
    refine x_upL (pc' := 15) (lo' := [(2, .int x1), (0, .ref a0), (1, .int x1)]) (fun _ _ _ _ _ L => lv_istore_n hx hb dX4_nextDirty_14 rfl L (by decide) rfl) ?_
    refine x_lo (lo' := [(2, .int x1), (0, .ref a0)]) [0, 1] rfl ?_
    refine x_while (v0 := x1) (fun w5 => [(2, .int w5), (0, .ref a0)]) hp4 (fun self6 hself7 => ?_)
    rintro y9 σ8 hp5
    unfold B_X4_nextDirty_15 at hp5
    refine x_same (lo' := [(2, .int y9), (0, .ref a0)]) rfl ?_
    refine x_up (pc' := 16) (fun _ _ _ _ _ L => lv_iload_n hx hb dX4_nextDirty_15 rfl (lv_at L 0 rfl)) ?_
    refine x_up (pc' := 18) (fun _ _ _ _ _ L => lv_bipush (v := (64 : Int32)) hx hb dX4_nextDirty_16 (by decide)) ?_
    refine x_if (C := (64 : Int32) ≤ y9) (pt := 65) (pc' := 21) (fun _ _ _ _ _ => lv_icmp_ge (tgt := 65) hx hb dX4_nextDirty_18 (by decide)) (fun c18 => ?_) (fun c18 => ?_)
    · have hp6 := hp5.1 c18
      refine x_up (pc' := 66) (fun _ _ _ _ _ L => lv_aload_n hx hb dX4_nextDirty_65 rfl (lv_at L 1 rfl)) ?_
      refine x_up (pc' := 67) (fun _ _ _ _ _ L => lv_iconst (v := (2 : Int32)) hx hb dX4_nextDirty_66 (by decide)) ?_
      refine x_callV (em := emI) (fun r st => .int r :: st) (fun _ _ => rfl) 1 X (kX4 hG) (fun σ' KK h => R_X4_fails l hl G hG a0 (2 : Int32) σ' KK h) (lw_V q3357 q3359 qs59 q119 q3360) ⟨rfl, mdX4_fails⟩ ⟨Nat.le_of_ble_eq_true rfl, Nat.le_of_ble_eq_true rfl⟩ rfl rfl (Nat.le_of_ble_eq_true rfl) dX4_nextDirty_67 hp6.1 hp6.2 (fun v10 σ11 hp7 => ?_)
      refine x_pc (pc' := 70) rfl ?_
      exact x_iret X hr rfl dX4_nextDirty_70 hp7
    · have hp8 := hp5.2 c18
      refine x_up (pc' := 22) (fun _ _ _ _ _ L => lv_aload_n hx hb dX4_nextDirty_21 rfl (lv_at L 1 rfl)) ?_
      refine x_up (pc' := 23) (fun _ _ _ _ _ L => lv_iload_n hx hb dX4_nextDirty_22 rfl (lv_at L 0 rfl)) ?_
      refine x_up (pc' := 24) (fun _ _ _ _ _ L => lv_iconst (v := (4 : Int32)) hx hb dX4_nextDirty_23 (by decide)) ?_
      refine x_up (pc' := 25) (fun _ _ _ _ _ L => lv_idiv hx hb dX4_nextDirty_24 (by decide)) ?_
      refine x_callV (em := emI) (fun r st => .int r :: st) (fun _ _ => rfl) 1 X (kX4 hG) (fun σ' KK h => R_X4_lineWith l hl G hG a0 (y9 / (4 : Int32)) σ' KK h) (lw_V q3365 q3367 qs61 q119 q3368) ⟨rfl, mdX4_lineWith⟩ ⟨Nat.le_of_ble_eq_true rfl, Nat.le_of_ble_eq_true rfl⟩ rfl rfl (Nat.le_of_ble_eq_true rfl) dX4_nextDirty_25 hp8.1 hp8.2 (fun v12 σ13 hp9 => ?_)
      refine x_pc (pc' := 28) rfl ?_
      refine x_upL (pc' := 29) (lo' := [(3, .int v12), (2, .int y9), (0, .ref a0)]) (fun _ _ _ _ _ L => lv_istore_n hx hb dX4_nextDirty_28 rfl L (by decide) rfl) ?_
      refine x_up (pc' := 30) (fun _ _ _ _ _ L => lv_iload_n hx hb dX4_nextDirty_29 rfl (lv_at L 0 rfl)) ?_
      refine x_up (pc' := 31) (fun _ _ _ _ _ L => lv_iconst (v := (-1 : Int32)) hx hb dX4_nextDirty_30 (by decide)) ?_
      refine x_if (C := v12 = (-1 : Int32)) (pt := 59) (pc' := 34) (fun _ _ _ _ _ => lv_icmp_eq (tgt := 59) hx hb dX4_nextDirty_31 (by decide)) (fun c31 => ?_) (fun c31 => ?_)
      · have hp10 := hp9.1 c31
        refine x_upL (pc' := 62) (lo' := [(2, .int (y9 + (1 : Int32))), (3, .int v12), (0, .ref a0)]) (fun _ _ _ _ _ L => lv_iinc (v := y9 + (1 : Int32)) hx hb dX4_nextDirty_59 L (k := 1) rfl rfl (by decide) rfl) ?_
        refine x_up (pc' := 15) (fun _ _ _ _ _ L => lv_goto (tgt := 15) hx hb dX4_nextDirty_62 (by decide)) ?_
        refine x_lo (lo' := [(2, .int (y9 + (1 : Int32))), (0, .ref a0)]) [0, 2] rfl ?_
        exact hself7 (y9 + (1 : Int32)) σ13 hp10
      · have hp11 := hp9.2 c31
        refine x_up (pc' := 35) (fun _ _ _ _ _ L => lv_aload_n hx hb dX4_nextDirty_34 rfl (lv_at L 2 rfl)) ?_
        refine x_gq X (kX4 hG) 0 (by decide) q3266 (fun _ h => h) dX4_nextDirty_35 hp11 (fun v14 hp12 => ?_)
        refine x_pc (pc' := 38) rfl ?_
        refine x_up (pc' := 40) (fun _ _ _ _ _ L => lv_bipush (v := (89 : Int32)) hx hb dX4_nextDirty_38 (by decide)) ?_
        refine x_up (pc' := 41) (fun _ _ _ _ _ L => lv_iload_n hx hb dX4_nextDirty_40 rfl (lv_at L 0 rfl)) ?_
        refine x_up (pc' := 42) (fun _ _ _ _ _ L => lv_iadd hx hb dX4_nextDirty_41) ?_
        obtain ⟨b15, rfl, hp13⟩ := hp12
        refine x_iald X dX4_nextDirty_42 hp13 (fun v16 hp14 => ?_)
        refine x_pc (pc' := 43) rfl ?_
        refine x_up (pc' := 44) (fun _ _ _ _ _ L => lv_iload_n hx hb dX4_nextDirty_43 rfl (lv_at L 1 rfl)) ?_
        refine x_up (pc' := 45) (fun _ _ _ _ _ L => lv_iconst (v := (4 : Int32)) hx hb dX4_nextDirty_44 (by decide)) ?_
        refine x_up (pc' := 46) (fun _ _ _ _ _ L => lv_irem hx hb dX4_nextDirty_45 (by decide)) ?_
        refine x_up (pc' := 47) (fun _ _ _ _ _ L => lv_ishr hx hb dX4_nextDirty_46) ?_
        refine x_up (pc' := 48) (fun _ _ _ _ _ L => lv_iconst (v := (1 : Int32)) hx hb dX4_nextDirty_47 (by decide)) ?_
        refine x_up (pc' := 49) (fun _ _ _ _ _ L => lv_iand hx hb dX4_nextDirty_48) ?_
        refine x_up (pc' := 50) (fun _ _ _ _ _ L => lv_iconst (v := (1 : Int32)) hx hb dX4_nextDirty_49 (by decide)) ?_
        refine x_ifn (C := ((v16 >>> ((y9 - y9 / (4 : Int32) * (4 : Int32)) &&& 31)) &&& (1 : Int32)) = (1 : Int32)) (pt := 59) (pc' := 53) (fun _ _ _ _ _ => lv_icmp_ne (tgt := 59) hx hb dX4_nextDirty_50 (by decide)) (fun c50 => ?_) (fun c50 => ?_)
        · have hp15 := hp14.1 c50
          refine x_up (pc' := 54) (fun _ _ _ _ _ L => lv_aload_n hx hb dX4_nextDirty_53 rfl (lv_at L 2 rfl)) ?_
          refine x_up (pc' := 55) (fun _ _ _ _ _ L => lv_iload_n hx hb dX4_nextDirty_54 rfl (lv_at L 1 rfl)) ?_
          refine x_callV (em := emI) (fun r st => .int r :: st) (fun _ _ => rfl) 1 X (kX4 hG) (fun σ' KK h => R_X4_done l hl G hG a0 y9 σ' KK h) (lw_V q3404 q3406 qs70 q119 q3407) ⟨rfl, mdX4_done⟩ ⟨Nat.le_of_ble_eq_true rfl, Nat.le_of_ble_eq_true rfl⟩ rfl rfl (Nat.le_of_ble_eq_true rfl) dX4_nextDirty_55 hp15.1 hp15.2 (fun v17 σ18 hp16 => ?_)
          refine x_pc (pc' := 58) rfl ?_
          exact x_iret X hr rfl dX4_nextDirty_58 hp16
        · have hp17 := hp14.2 c50
          refine x_upL (pc' := 62) (lo' := [(2, .int (y9 + (1 : Int32))), (3, .int v12), (0, .ref a0)]) (fun _ _ _ _ _ L => lv_iinc (v := y9 + (1 : Int32)) hx hb dX4_nextDirty_59 L (k := 1) rfl rfl (by decide) rfl) ?_
          refine x_up (pc' := 15) (fun _ _ _ _ _ L => lv_goto (tgt := 15) hx hb dX4_nextDirty_62 (by decide)) ?_
          refine x_lo (lo' := [(2, .int (y9 + (1 : Int32))), (0, .ref a0)]) [0, 2] rfl ?_
          exact hself7 (y9 + (1 : Int32)) σ13 hp17
-- X4_feed
def P_X4_feed (κ : Nat → Nat) (a0 : Nat) (x1 : Int32) (σ : xS) (K : Int32 → xH → Prop) : Prop :=
  xgi σ a0 10 8 fun v1 => ((v1 = (60 : Int32) → (xrc σ a0 10 ∧ xcall (fun τ L => P_X4_fails κ a0 (1 : Int32) τ L) σ fun v2 σ3 => K v2 σ3.1)) ∧ (¬ v1 = (60 : Int32) → (xgq σ a0 10 7 fun v4 => xgi σ a0 10 8 fun v5 => xnn v4 fun b6 => xsi κ .char σ b6 v5 x1 fun σ7 => xgi σ7 a0 10 8 fun v8 => xpi κ σ7 a0 10 8 (v8 + (1 : Int32)) fun σ9 => xgi σ9 a0 10 8 fun v10 => xrc σ9 a0 10 ∧ xcall (fun τ L => P_X4_done κ a0 v10 τ L) σ9 fun v11 σ12 => K v11 σ12.1)))
theorem mdX4_feed : yX4_feed.cls ≠ "java/lang/invoke/MethodHandle" ∧ yX4_feed.cls ≠ "java/lang/invoke/VarHandle" ∧ (parseMethodDescriptor yX4_feed.desc).map (fun d => d.parameters.length) = some 1 := by decide +kernel
set_option maxHeartbeats 4000000 in
set_option maxRecDepth 100000 in
theorem R_X4_feed (l : Launch) (hl : l.stackTraces = false) (G : xG) (hG : G.1.2 = x_cl) (a0 : Nat) (x1 : Int32) (σ : xS) (K : Int32 → xH → Prop) (hp : P_X4_feed G.2 a0 x1 σ K) : xM l yX4_feed cX4_feed 2 (Option.some Jvm.ClassFile.FieldType.int) 1 21 G [(.ref a0), .int x1] σ (xlift emI K) := by
  refine x_entry (by decide) (Nat.le_of_ble_eq_true rfl) ?_
  intro p e s m args below meth c X hr hin
  have X : xX p s m args meth c G cX4_feed 2 RX4 := X
  have hx := X.1
  have hb := X.2.1
  have hts := X.2.2.2.2.1
  have hown := X.2.2.2.1
  unfold P_X4_feed at hp
  refine x_same (lo' := [(0, .ref a0), (1, .int x1)]) rfl ?_
  refine x_up (pc' := 1) (fun _ _ _ _ _ L => lv_aload_n hx hb dX4_feed_0 rfl (lv_at L 0 rfl)) ?_
  refine x_gi X (kX4 hG) 8 (by decide) q3274 (fun _ h => h) dX4_feed_1 hp (fun v1 hp1 => ?_)
  refine x_pc (pc' := 4) rfl ?_
  refine x_up (pc' := 6) (fun _ _ _ _ _ L => lv_bipush (v := (60 : Int32)) hx hb dX4_feed_4 (by decide)) ?_
  refine x_ifn (C := v1 = (60 : Int32)) (pt := 15) (pc' := 9) (fun _ _ _ _ _ => lv_icmp_ne (tgt := 15) hx hb dX4_feed_6 (by decide)) (fun c6 => ?_) (fun c6 => ?_)
  · have hp2 := hp1.1 c6
    refine x_up (pc' := 10) (fun _ _ _ _ _ L => lv_aload_n hx hb dX4_feed_9 rfl (lv_at L 0 rfl)) ?_
    refine x_up (pc' := 11) (fun _ _ _ _ _ L => lv_iconst (v := (1 : Int32)) hx hb dX4_feed_10 (by decide)) ?_
    refine x_callV (em := emI) (fun r st => .int r :: st) (fun _ _ => rfl) 1 X (kX4 hG) (fun σ' KK h => R_X4_fails l hl G hG a0 (1 : Int32) σ' KK h) (lw_V q3357 q3359 qs59 q119 q3360) ⟨rfl, mdX4_fails⟩ ⟨Nat.le_of_ble_eq_true rfl, Nat.le_of_ble_eq_true rfl⟩ rfl rfl (Nat.le_of_ble_eq_true rfl) dX4_feed_11 hp2.1 hp2.2 (fun v2 σ3 hp3 => ?_)
    refine x_pc (pc' := 14) rfl ?_
    exact x_iret X hr rfl dX4_feed_14 hp3
  · have hp4 := hp1.2 c6
    refine x_up (pc' := 16) (fun _ _ _ _ _ L => lv_aload_n hx hb dX4_feed_15 rfl (lv_at L 0 rfl)) ?_
    refine x_gq X (kX4 hG) 7 (by decide) q3273 (fun _ h => h) dX4_feed_16 hp4 (fun v4 hp5 => ?_)
    refine x_pc (pc' := 19) rfl ?_
    refine x_up (pc' := 20) (fun _ _ _ _ _ L => lv_aload_n hx hb dX4_feed_19 rfl (lv_at L 0 rfl)) ?_
    refine x_gi X (kX4 hG) 8 (by decide) q3274 (fun _ h => h) dX4_feed_20 hp5 (fun v5 hp6 => ?_)
    refine x_pc (pc' := 23) rfl ?_
    refine x_up (pc' := 24) (fun _ _ _ _ _ L => lv_iload_n hx hb dX4_feed_23 rfl (lv_at L 1 rfl)) ?_
    obtain ⟨b6, rfl, hp7⟩ := hp6
    refine x_cast X dX4_feed_24 hp7 (fun σ7 hp8 => ?_)
    refine x_pc (pc' := 25) rfl ?_
    refine x_up (pc' := 26) (fun _ _ _ _ _ L => lv_aload_n hx hb dX4_feed_25 rfl (lv_at L 0 rfl)) ?_
    refine x_up (pc' := 27) (fun _ _ _ _ _ L => lv_dup hx hb dX4_feed_26 rfl) ?_
    refine x_gi X (kX4 hG) 8 (by decide) q3274 (fun _ h => h) dX4_feed_27 hp8 (fun v8 hp9 => ?_)
    refine x_pc (pc' := 30) rfl ?_
    refine x_up (pc' := 31) (fun _ _ _ _ _ L => lv_iconst (v := (1 : Int32)) hx hb dX4_feed_30 (by decide)) ?_
    refine x_up (pc' := 32) (fun _ _ _ _ _ L => lv_iadd hx hb dX4_feed_31) ?_
    refine x_pi X (kX4 hG) 8 (by decide) q3274 (fun _ h => h) rfl rfl rfl dX4_feed_32 hp9 (fun σ9 hp10 => ?_)
    refine x_pc (pc' := 35) rfl ?_
    refine x_up (pc' := 36) (fun _ _ _ _ _ L => lv_aload_n hx hb dX4_feed_35 rfl (lv_at L 0 rfl)) ?_
    refine x_up (pc' := 37) (fun _ _ _ _ _ L => lv_aload_n hx hb dX4_feed_36 rfl (lv_at L 0 rfl)) ?_
    refine x_gi X (kX4 hG) 8 (by decide) q3274 (fun _ h => h) dX4_feed_37 hp10 (fun v10 hp11 => ?_)
    refine x_pc (pc' := 40) rfl ?_
    refine x_callV (em := emI) (fun r st => .int r :: st) (fun _ _ => rfl) 1 X (kX4 hG) (fun σ' KK h => R_X4_done l hl G hG a0 v10 σ' KK h) (lw_V q3404 q3406 qs70 q119 q3407) ⟨rfl, mdX4_done⟩ ⟨Nat.le_of_ble_eq_true rfl, Nat.le_of_ble_eq_true rfl⟩ rfl rfl (Nat.le_of_ble_eq_true rfl) dX4_feed_40 hp11.1 hp11.2 (fun v11 σ12 hp12 => ?_)
    refine x_pc (pc' := 43) rfl ?_
    exact x_iret X hr rfl dX4_feed_43 hp12
-- X4_word
def P_X4_word (κ : Nat → Nat) (x0 : Int32) (σ : xS) (K : Option Nat → xH → Prop) : Prop :=
  ((x0 = (0 : Int32) → (K (some (κ 25)) σ.1)) ∧ (¬ x0 = (0 : Int32) → ((x0 = (1 : Int32) → (K (some (κ 26)) σ.1)) ∧ (¬ x0 = (1 : Int32) → ((x0 = (2 : Int32) → (K (some (κ 27)) σ.1)) ∧ (¬ x0 = (2 : Int32) → ((x0 = (3 : Int32) → (K (some (κ 28)) σ.1)) ∧ (¬ x0 = (3 : Int32) → ((x0 = (4 : Int32) → (K (some (κ 15)) σ.1)) ∧ (¬ x0 = (4 : Int32) → ((x0 = (5 : Int32) → (K (some (κ 29)) σ.1)) ∧ (¬ x0 = (5 : Int32) → (K (some (κ 30)) σ.1)))))))))))))
theorem mdX4_word : yX4_word.cls ≠ "java/lang/invoke/MethodHandle" ∧ yX4_word.cls ≠ "java/lang/invoke/VarHandle" ∧ (parseMethodDescriptor yX4_word.desc).map (fun d => d.parameters.length) = some 1 := by decide +kernel
set_option maxHeartbeats 4000000 in
set_option maxRecDepth 100000 in
theorem R_X4_word (l : Launch) (hl : l.stackTraces = false) (G : xG) (hG : G.1.2 = x_cl) (x0 : Int32) (σ : xS) (K : Option Nat → xH → Prop) (hp : P_X4_word G.2 x0 σ K) : xM l yX4_word cX4_word 1 (Option.some (Jvm.ClassFile.FieldType.object "java/lang/String")) 0 0 G [.int x0] σ (xlift emQ K) := by
  refine x_entry (by decide) (Nat.le_of_ble_eq_true rfl) ?_
  intro p e s m args below meth c X hr hin
  have X : xX p s m args meth c G cX4_word 1 RX4 := X
  have hx := X.1
  have hb := X.2.1
  have hts := X.2.2.2.2.1
  have hown := X.2.2.2.1
  unfold P_X4_word at hp
  refine x_same (lo' := [(0, .int x0)]) rfl ?_
  refine x_up (pc' := 1) (fun _ _ _ _ _ L => lv_iload_n hx hb dX4_word_0 rfl (lv_at L 0 rfl)) ?_
  by_cases c1_0 : x0 = (0 : Int32)
  · have hp1 := hp.1 c1_0
    refine x_up (pc' := 40) (fun _ _ _ _ _ L => lv_tableIn (off := 39) (tgt := 40) hx hb dX4_word_1 (by rw [c1_0]; decide) (by rw [c1_0]; decide) (by rw [c1_0]; rfl) (by decide)) ?_
    refine x_ldcS (tx := "read ") (q := G.2 25) X (by simp [x_ss, RX4]) dX4_word_40 ?_
    refine x_pc (pc' := 42) rfl ?_
    exact x_aret X hr (Or.inl ⟨_, rfl⟩) dX4_word_42 (some (G.2 25)) hp1
  have hp2 := hp.2 c1_0
  by_cases c1_1 : x0 = (1 : Int32)
  · have hp3 := hp2.1 c1_1
    refine x_up (pc' := 43) (fun _ _ _ _ _ L => lv_tableIn (off := 42) (tgt := 43) hx hb dX4_word_1 (by rw [c1_1]; decide) (by rw [c1_1]; decide) (by rw [c1_1]; rfl) (by decide)) ?_
    refine x_ldcS (tx := "write ") (q := G.2 26) X (by simp [x_ss, RX4]) dX4_word_43 ?_
    refine x_pc (pc' := 45) rfl ?_
    exact x_aret X hr (Or.inl ⟨_, rfl⟩) dX4_word_45 (some (G.2 26)) hp3
  have hp4 := hp2.2 c1_1
  by_cases c1_2 : x0 = (2 : Int32)
  · have hp5 := hp4.1 c1_2
    refine x_up (pc' := 46) (fun _ _ _ _ _ L => lv_tableIn (off := 45) (tgt := 46) hx hb dX4_word_1 (by rw [c1_2]; decide) (by rw [c1_2]; decide) (by rw [c1_2]; rfl) (by decide)) ?_
    refine x_ldcS (tx := "pin ") (q := G.2 27) X (by simp [x_ss, RX4]) dX4_word_46 ?_
    refine x_pc (pc' := 48) rfl ?_
    exact x_aret X hr (Or.inl ⟨_, rfl⟩) dX4_word_48 (some (G.2 27)) hp5
  have hp6 := hp4.2 c1_2
  by_cases c1_3 : x0 = (3 : Int32)
  · have hp7 := hp6.1 c1_3
    refine x_up (pc' := 49) (fun _ _ _ _ _ L => lv_tableIn (off := 48) (tgt := 49) hx hb dX4_word_1 (by rw [c1_3]; decide) (by rw [c1_3]; decide) (by rw [c1_3]; rfl) (by decide)) ?_
    refine x_ldcS (tx := "free ") (q := G.2 28) X (by simp [x_ss, RX4]) dX4_word_49 ?_
    refine x_pc (pc' := 51) rfl ?_
    exact x_aret X hr (Or.inl ⟨_, rfl⟩) dX4_word_51 (some (G.2 28)) hp7
  have hp8 := hp6.2 c1_3
  by_cases c1_4 : x0 = (4 : Int32)
  · have hp9 := hp8.1 c1_4
    refine x_up (pc' := 52) (fun _ _ _ _ _ L => lv_tableIn (off := 51) (tgt := 52) hx hb dX4_word_1 (by rw [c1_4]; decide) (by rw [c1_4]; decide) (by rw [c1_4]; rfl) (by decide)) ?_
    refine x_ldcS (tx := "flush") (q := G.2 15) X (by simp [x_ss, RX4]) dX4_word_52 ?_
    refine x_pc (pc' := 54) rfl ?_
    exact x_aret X hr (Or.inl ⟨_, rfl⟩) dX4_word_54 (some (G.2 15)) hp9
  have hp10 := hp8.2 c1_4
  by_cases c1_5 : x0 = (5 : Int32)
  · have hp11 := hp10.1 c1_5
    refine x_up (pc' := 55) (fun _ _ _ _ _ L => lv_tableIn (off := 54) (tgt := 55) hx hb dX4_word_1 (by rw [c1_5]; decide) (by rw [c1_5]; decide) (by rw [c1_5]; rfl) (by decide)) ?_
    refine x_ldcS (tx := "device ") (q := G.2 29) X (by simp [x_ss, RX4]) dX4_word_55 ?_
    refine x_pc (pc' := 57) rfl ?_
    exact x_aret X hr (Or.inl ⟨_, rfl⟩) dX4_word_57 (some (G.2 29)) hp11
  have hp12 := hp10.2 c1_5
  refine x_up (pc' := 58) (fun _ _ _ _ _ L => lv_tableOut (tgt := 58) hx hb dX4_word_1 (x_tabOut 0 6 (by decide) (by decide) (by decide) (lt_s (lt_s (lt_s (lt_s (lt_s (lt_s lt_0 c1_0) c1_1) c1_2) c1_3) c1_4) c1_5)) (by decide)) ?_
  refine x_ldcS (tx := "ticks ") (q := G.2 30) X (by simp [x_ss, RX4]) dX4_word_58 ?_
  refine x_pc (pc' := 60) rfl ?_
  exact x_aret X hr (Or.inl ⟨_, rfl⟩) dX4_word_60 (some (G.2 30)) hp12
-- J14_isLatin1
def P_J14_isLatin1 (κ : Nat → Nat) (a0 : Nat) (σ : xS) (K : Int32 → xH → Prop) : Prop :=
  (((1 : Int32) = 0 → (K (0 : Int32) σ.1)) ∧ (¬ (1 : Int32) = 0 → (xgi σ a0 9 1 fun v1 => ((v1 = 0 → (K (1 : Int32) σ.1)) ∧ (¬ v1 = 0 → (K (0 : Int32) σ.1))))))
theorem mdJ14_isLatin1 : yJ14_isLatin1.cls ≠ "java/lang/invoke/MethodHandle" ∧ yJ14_isLatin1.cls ≠ "java/lang/invoke/VarHandle" ∧ (parseMethodDescriptor yJ14_isLatin1.desc).map (fun d => d.parameters.length) = some 0 := by decide +kernel
set_option maxHeartbeats 4000000 in
set_option maxRecDepth 100000 in
theorem R_J14_isLatin1 (l : Launch) (hl : l.stackTraces = false) (G : xG) (hG : G.1.2 = x_cl) (a0 : Nat) (σ : xS) (K : Int32 → xH → Prop) (hp : P_J14_isLatin1 G.2 a0 σ K) : xM l yJ14_isLatin1 cJ14_isLatin1 1 (Option.some Jvm.ClassFile.FieldType.boolean) 0 0 G [(.ref a0)] σ (xlift emI K) := by
  refine x_entry (by decide) (Nat.le_of_ble_eq_true rfl) ?_
  intro p e s m args below meth c X hr hin
  have X : xX p s m args meth c G cJ14_isLatin1 1 RJ14 := X
  have hx := X.1
  have hb := X.2.1
  have hts := X.2.2.2.2.1
  have hown := X.2.2.2.1
  unfold P_J14_isLatin1 at hp
  refine x_same (lo' := [(0, .ref a0)]) rfl ?_
  refine x_gets (C := "java/lang/String") (n := "COMPACT_STRINGS") (d := "Z") (v := .int (1 : Int32)) X (by simp [x_sts]) q682 (fun _ h => h) dJ14_isLatin1_0 ?_
  refine x_pc (pc' := 3) rfl ?_
  refine x_if (C := (1 : Int32) = 0) (pt := 17) (pc' := 6) (fun _ _ _ _ _ => lv_if_eq (tgt := 17) hx hb dJ14_isLatin1_3 (by decide)) (fun c3 => ?_) (fun c3 => ?_)
  · have hp1 := hp.1 c3
    refine x_up (pc' := 18) (fun _ _ _ _ _ L => lv_iconst (v := (0 : Int32)) hx hb dJ14_isLatin1_17 (by decide)) ?_
    exact x_iret X hr rfl dJ14_isLatin1_18 hp1
  · have hp2 := hp.2 c3
    refine x_up (pc' := 7) (fun _ _ _ _ _ L => lv_aload_n hx hb dJ14_isLatin1_6 rfl (lv_at L 0 rfl)) ?_
    refine x_gi X (kJ14 hG) 1 (by decide) q1082 (fun _ h => h) dJ14_isLatin1_7 hp2 (fun v1 hp3 => ?_)
    refine x_pc (pc' := 10) rfl ?_
    refine x_ifn (C := v1 = 0) (pt := 17) (pc' := 13) (fun _ _ _ _ _ => lv_if_ne (tgt := 17) hx hb dJ14_isLatin1_10 (by decide)) (fun c10 => ?_) (fun c10 => ?_)
    · have hp4 := hp3.1 c10
      refine x_up (pc' := 14) (fun _ _ _ _ _ L => lv_iconst (v := (1 : Int32)) hx hb dJ14_isLatin1_13 (by decide)) ?_
      refine x_up (pc' := 18) (fun _ _ _ _ _ L => lv_goto (tgt := 18) hx hb dJ14_isLatin1_14 (by decide)) ?_
      exact x_iret X hr rfl dJ14_isLatin1_18 hp4
    · have hp5 := hp3.2 c10
      refine x_up (pc' := 18) (fun _ _ _ _ _ L => lv_iconst (v := (0 : Int32)) hx hb dJ14_isLatin1_17 (by decide)) ?_
      exact x_iret X hr rfl dJ14_isLatin1_18 hp5
-- J15_length
def P_J15_length (κ : Nat → Nat) (x0 : Option Nat) (σ : xS) (K : Int32 → xH → Prop) : Prop :=
  xnn x0 fun b1 => xan σ b1 fun v2 => K (v2 >>> ((1 : Int32) &&& 31)) σ.1
theorem mdJ15_length : yJ15_length.cls ≠ "java/lang/invoke/MethodHandle" ∧ yJ15_length.cls ≠ "java/lang/invoke/VarHandle" ∧ (parseMethodDescriptor yJ15_length.desc).map (fun d => d.parameters.length) = some 1 := by decide +kernel
set_option maxHeartbeats 4000000 in
set_option maxRecDepth 100000 in
theorem R_J15_length (l : Launch) (hl : l.stackTraces = false) (G : xG) (hG : G.1.2 = x_cl) (x0 : Option Nat) (σ : xS) (K : Int32 → xH → Prop) (hp : P_J15_length G.2 x0 σ K) : xM l yJ15_length cJ15_length 1 (Option.some Jvm.ClassFile.FieldType.int) 0 0 G [va_rf x0] σ (xlift emI K) := by
  refine x_entry (by decide) (by simp [lg_sl, x_catq, x_cati, x_catr, x_catn]) ?_
  intro p e s m args below meth c X hr hin
  have X : xX p s m args meth c G cJ15_length 1 RJ15 := X
  have hx := X.1
  have hb := X.2.1
  have hts := X.2.2.2.2.1
  have hown := X.2.2.2.1
  unfold P_J15_length at hp
  refine x_same (lo' := [(0, va_rf x0)]) (by simp [lv_args, x_catq, x_cati, x_catr, x_catn]) ?_
  refine x_up (pc' := 1) (fun _ _ _ _ _ L => lv_aloadq_n hx hb dJ15_length_0 rfl (lv_at L 0 rfl)) ?_
  obtain ⟨b1, rfl, hp1⟩ := hp
  refine x_alen X dJ15_length_1 hp1 (fun v2 hp2 => ?_)
  refine x_pc (pc' := 2) rfl ?_
  refine x_up (pc' := 3) (fun _ _ _ _ _ L => lv_iconst (v := (1 : Int32)) hx hb dJ15_length_2 (by decide)) ?_
  refine x_up (pc' := 4) (fun _ _ _ _ _ L => lv_ishr hx hb dJ15_length_3) ?_
  exact x_iret X hr rfl dJ15_length_4 hp2
-- J24_checkIndex
def P_J24_checkIndex (κ : Nat → Nat) (x0 : Int32) (x1 : Int32) (x2 : Option Nat) (σ : xS) (K : Int32 → xH → Prop) : Prop :=
  ((x0 < 0 → (False)) ∧ (¬ x0 < 0 → (((x0 < x1 → (K x0 σ.1)) ∧ (¬ x0 < x1 → (False))))))
theorem mdJ24_checkIndex : yJ24_checkIndex.cls ≠ "java/lang/invoke/MethodHandle" ∧ yJ24_checkIndex.cls ≠ "java/lang/invoke/VarHandle" ∧ (parseMethodDescriptor yJ24_checkIndex.desc).map (fun d => d.parameters.length) = some 3 := by decide +kernel
set_option maxHeartbeats 4000000 in
set_option maxRecDepth 100000 in
theorem R_J24_checkIndex (l : Launch) (hl : l.stackTraces = false) (G : xG) (hG : G.1.2 = x_cl) (x0 : Int32) (x1 : Int32) (x2 : Option Nat) (σ : xS) (K : Int32 → xH → Prop) (hp : P_J24_checkIndex G.2 x0 x1 x2 σ K) : xM l yJ24_checkIndex cJ24_checkIndex 3 (Option.some Jvm.ClassFile.FieldType.int) 0 0 G [.int x0, .int x1, va_rf x2] σ (xlift emI K) := by
  refine x_entry (by decide) (by simp [lg_sl, x_catq, x_cati, x_catr, x_catn]) ?_
  intro p e s m args below meth c X hr hin
  have X : xX p s m args meth c G cJ24_checkIndex 3 RJ24 := X
  have hx := X.1
  have hb := X.2.1
  have hts := X.2.2.2.2.1
  have hown := X.2.2.2.1
  unfold P_J24_checkIndex at hp
  refine x_same (lo' := [(0, .int x0), (1, .int x1), (2, va_rf x2)]) (by simp [lv_args, x_catq, x_cati, x_catr, x_catn]) ?_
  refine x_up (pc' := 1) (fun _ _ _ _ _ L => lv_iload_n hx hb dJ24_checkIndex_0 rfl (lv_at L 0 rfl)) ?_
  refine x_if (C := x0 < 0) (pt := 9) (pc' := 4) (fun _ _ _ _ _ => lv_if_lt (tgt := 9) hx hb dJ24_checkIndex_1 (by decide)) (fun c1 => ?_) (fun c1 => ?_)
  · have hp1 := hp.1 c1
    refine x_up (pc' := 10) (fun _ _ _ _ _ L => lv_aloadq_n hx hb dJ24_checkIndex_9 rfl (lv_at L 2 rfl)) ?_
    refine x_up (pc' := 11) (fun _ _ _ _ _ L => lv_iload_n hx hb dJ24_checkIndex_10 rfl (lv_at L 0 rfl)) ?_
    refine x_up (pc' := 12) (fun _ _ _ _ _ L => lv_iload_n hx hb dJ24_checkIndex_11 rfl (lv_at L 1 rfl)) ?_
    exact hp1.elim
  · have hp2 := hp.2 c1
    refine x_up (pc' := 5) (fun _ _ _ _ _ L => lv_iload_n hx hb dJ24_checkIndex_4 rfl (lv_at L 0 rfl)) ?_
    refine x_up (pc' := 6) (fun _ _ _ _ _ L => lv_iload_n hx hb dJ24_checkIndex_5 rfl (lv_at L 1 rfl)) ?_
    refine x_if (C := x0 < x1) (pt := 16) (pc' := 9) (fun _ _ _ _ _ => lv_icmp_lt (tgt := 16) hx hb dJ24_checkIndex_6 (by decide)) (fun c6 => ?_) (fun c6 => ?_)
    · have hp3 := hp2.1 c6
      refine x_up (pc' := 17) (fun _ _ _ _ _ L => lv_iload_n hx hb dJ24_checkIndex_16 rfl (lv_at L 0 rfl)) ?_
      exact x_iret X hr rfl dJ24_checkIndex_17 hp3
    · have hp4 := hp2.2 c6
      refine x_up (pc' := 10) (fun _ _ _ _ _ L => lv_aloadq_n hx hb dJ24_checkIndex_9 rfl (lv_at L 2 rfl)) ?_
      refine x_up (pc' := 11) (fun _ _ _ _ _ L => lv_iload_n hx hb dJ24_checkIndex_10 rfl (lv_at L 0 rfl)) ?_
      refine x_up (pc' := 12) (fun _ _ _ _ _ L => lv_iload_n hx hb dJ24_checkIndex_11 rfl (lv_at L 1 rfl)) ?_
      exact hp4.elim
-- J14_checkIndex
def P_J14_checkIndex (κ : Nat → Nat) (x0 : Int32) (x1 : Int32) (σ : xS) (K : Unit → xH → Prop) : Prop :=
  xcall (fun τ L => P_J24_checkIndex κ x0 x1 (x_op κ 5) τ L) σ fun v1 σ2 => K () σ2.1
theorem mdJ14_checkIndex : yJ14_checkIndex.cls ≠ "java/lang/invoke/MethodHandle" ∧ yJ14_checkIndex.cls ≠ "java/lang/invoke/VarHandle" ∧ (parseMethodDescriptor yJ14_checkIndex.desc).map (fun d => d.parameters.length) = some 2 := by decide +kernel
set_option maxHeartbeats 4000000 in
set_option maxRecDepth 100000 in
theorem R_J14_checkIndex (l : Launch) (hl : l.stackTraces = false) (G : xG) (hG : G.1.2 = x_cl) (x0 : Int32) (x1 : Int32) (σ : xS) (K : Unit → xH → Prop) (hp : P_J14_checkIndex G.2 x0 x1 σ K) : xM l yJ14_checkIndex cJ14_checkIndex 2 (Option.none : Option Jvm.ClassFile.FieldType) 1 22 G [.int x0, .int x1] σ (xlift emV K) := by
  refine x_entry (by decide) (Nat.le_of_ble_eq_true rfl) ?_
  intro p e s m args below meth c X hr hin
  have X : xX p s m args meth c G cJ14_checkIndex 2 RJ14 := X
  have hx := X.1
  have hb := X.2.1
  have hts := X.2.2.2.2.1
  have hown := X.2.2.2.1
  unfold P_J14_checkIndex at hp
  refine x_same (lo' := [(0, .int x0), (1, .int x1)]) rfl ?_
  refine x_up (pc' := 1) (fun _ _ _ _ _ L => lv_iload_n hx hb dJ14_checkIndex_0 rfl (lv_at L 0 rfl)) ?_
  refine x_up (pc' := 2) (fun _ _ _ _ _ L => lv_iload_n hx hb dJ14_checkIndex_1 rfl (lv_at L 1 rfl)) ?_
  refine x_gets (C := "jdk/internal/util/Preconditions") (n := "SIOOBE_FORMATTER") (d := "Ljava/util/function/BiFunction;") (v := va_rf (x_op G.2 5)) X (by simp [x_sts]) q910 (fun _ h => h) dJ14_checkIndex_2 ?_
  refine x_pc (pc' := 5) rfl ?_
  refine x_callS (em := emI) (fun r st => .int r :: st) (fun _ _ => rfl) 3 X (fun σ' KK h => R_J24_checkIndex l hl G hG x0 x1 (x_op G.2 5) σ' KK h) (lw_S q2887 q790 q129 q791) mdJ24_checkIndex ⟨Nat.le_of_ble_eq_true rfl, Nat.le_of_ble_eq_true rfl⟩ rfl rfl (Nat.le_of_ble_eq_true rfl) dJ14_checkIndex_5 hp (fun v1 σ2 hp1 => ?_)
  refine x_pc (pc' := 8) rfl ?_
  refine x_up (pc' := 9) (fun _ _ _ _ _ L => lv_pop hx hb dJ14_checkIndex_8 rfl) ?_
  exact x_vret X hr dJ14_checkIndex_9 hp1
-- J15_checkIndex
def P_J15_checkIndex (κ : Nat → Nat) (x0 : Int32) (x1 : Option Nat) (σ : xS) (K : Unit → xH → Prop) : Prop :=
  xcall (fun τ L => P_J15_length κ x1 τ L) σ fun v1 σ2 => xcall (fun τ L => P_J14_checkIndex κ x0 v1 τ L) σ2 fun _ σ3 => K () σ3.1
theorem mdJ15_checkIndex : yJ15_checkIndex.cls ≠ "java/lang/invoke/MethodHandle" ∧ yJ15_checkIndex.cls ≠ "java/lang/invoke/VarHandle" ∧ (parseMethodDescriptor yJ15_checkIndex.desc).map (fun d => d.parameters.length) = some 2 := by decide +kernel
set_option maxHeartbeats 4000000 in
set_option maxRecDepth 100000 in
theorem R_J15_checkIndex (l : Launch) (hl : l.stackTraces = false) (G : xG) (hG : G.1.2 = x_cl) (x0 : Int32) (x1 : Option Nat) (σ : xS) (K : Unit → xH → Prop) (hp : P_J15_checkIndex G.2 x0 x1 σ K) : xM l yJ15_checkIndex cJ15_checkIndex 2 (Option.none : Option Jvm.ClassFile.FieldType) 2 43 G [.int x0, va_rf x1] σ (xlift emV K) := by
  refine x_entry (by decide) (by simp [lg_sl, x_catq, x_cati, x_catr, x_catn]) ?_
  intro p e s m args below meth c X hr hin
  have X : xX p s m args meth c G cJ15_checkIndex 2 RJ15 := X
  have hx := X.1
  have hb := X.2.1
  have hts := X.2.2.2.2.1
  have hown := X.2.2.2.1
  unfold P_J15_checkIndex at hp
  refine x_same (lo' := [(0, .int x0), (1, va_rf x1)]) (by simp [lv_args, x_catq, x_cati, x_catr, x_catn]) ?_
  refine x_up (pc' := 1) (fun _ _ _ _ _ L => lv_iload_n hx hb dJ15_checkIndex_0 rfl (lv_at L 0 rfl)) ?_
  refine x_up (pc' := 2) (fun _ _ _ _ _ L => lv_aloadq_n hx hb dJ15_checkIndex_1 rfl (lv_at L 1 rfl)) ?_
  refine x_callS (em := emI) (fun r st => .int r :: st) (fun _ _ => rfl) 1 X (fun σ' KK h => R_J15_length l hl G hG x1 σ' KK h) (lw_S q904 q905 q118 q906) mdJ15_length ⟨Nat.le_of_ble_eq_true rfl, Nat.le_of_ble_eq_true rfl⟩ rfl rfl (Nat.le_of_ble_eq_true rfl) dJ15_checkIndex_2 hp (fun v1 σ2 hp1 => ?_)
  refine x_pc (pc' := 5) rfl ?_
  refine x_callS (em := emV) (fun r st => st) (fun _ _ => rfl) 2 X (fun σ' KK h => R_J14_checkIndex l hl G hG x0 v1 σ' KK h) (lw_S q2884 q2885 q117 q2886) mdJ14_checkIndex ⟨Nat.le_of_ble_eq_true rfl, Nat.le_of_ble_eq_true rfl⟩ rfl rfl (Nat.le_of_ble_eq_true rfl) dJ15_checkIndex_5 hp1 (fun _ σ3 hp2 => ?_)
  refine x_pc (pc' := 8) rfl ?_
  exact x_vret X hr dJ15_checkIndex_8 hp2
-- J15_getChar
def P_J15_getChar (κ : Nat → Nat) (x0 : Option Nat) (x1 : Int32) (σ : xS) (K : Int32 → xH → Prop) : Prop :=
  (((1 : Int32) = 0 → (((x1 < 0 → (False)) ∧ (¬ x1 < 0 → (xcall (fun τ L => P_J15_length κ x0 τ L) σ fun v1 σ2 => ((x1 < v1 → (xnn x0 fun b3 => xai .byte σ2 b3 (x1 <<< ((1 : Int32) &&& 31)) fun v4 => xai .byte σ2 b3 ((x1 <<< ((1 : Int32) &&& 31)) + (1 : Int32)) fun v5 => (narrow .char (.int (((((v4 &&& (255 : Int32)) <<< ((0 : Int32) &&& 31)) ||| ((v5 &&& (255 : Int32)) <<< ((8 : Int32) &&& 31))).toUInt32 % 65536).toInt32)) = .int (((((v4 &&& (255 : Int32)) <<< ((0 : Int32) &&& 31)) ||| ((v5 &&& (255 : Int32)) <<< ((8 : Int32) &&& 31))).toUInt32 % 65536).toInt32) ∧ K (((((v4 &&& (255 : Int32)) <<< ((0 : Int32) &&& 31)) ||| ((v5 &&& (255 : Int32)) <<< ((8 : Int32) &&& 31))).toUInt32 % 65536).toInt32) σ2.1))) ∧ (¬ x1 < v1 → (False)))))))) ∧ (¬ (1 : Int32) = 0 → (xnn x0 fun b6 => xai .byte σ b6 (x1 <<< ((1 : Int32) &&& 31)) fun v7 => xai .byte σ b6 ((x1 <<< ((1 : Int32) &&& 31)) + (1 : Int32)) fun v8 => (narrow .char (.int (((((v7 &&& (255 : Int32)) <<< ((0 : Int32) &&& 31)) ||| ((v8 &&& (255 : Int32)) <<< ((8 : Int32) &&& 31))).toUInt32 % 65536).toInt32)) = .int (((((v7 &&& (255 : Int32)) <<< ((0 : Int32) &&& 31)) ||| ((v8 &&& (255 : Int32)) <<< ((8 : Int32) &&& 31))).toUInt32 % 65536).toInt32) ∧ K (((((v7 &&& (255 : Int32)) <<< ((0 : Int32) &&& 31)) ||| ((v8 &&& (255 : Int32)) <<< ((8 : Int32) &&& 31))).toUInt32 % 65536).toInt32) σ.1))))
theorem mdJ15_getChar : yJ15_getChar.cls ≠ "java/lang/invoke/MethodHandle" ∧ yJ15_getChar.cls ≠ "java/lang/invoke/VarHandle" ∧ (parseMethodDescriptor yJ15_getChar.desc).map (fun d => d.parameters.length) = some 2 := by decide +kernel
set_option maxHeartbeats 4000000 in
set_option maxRecDepth 100000 in
theorem R_J15_getChar (l : Launch) (hl : l.stackTraces = false) (G : xG) (hG : G.1.2 = x_cl) (x0 : Option Nat) (x1 : Int32) (σ : xS) (K : Int32 → xH → Prop) (hp : P_J15_getChar G.2 x0 x1 σ K) : xM l yJ15_getChar cJ15_getChar 2 (Option.some Jvm.ClassFile.FieldType.char) 1 20 G [va_rf x0, .int x1] σ (xlift emI K) := by
  refine x_entry (by decide) (by simp [lg_sl, x_catq, x_cati, x_catr, x_catn]) ?_
  intro p e s m args below meth c X hr hin
  have X : xX p s m args meth c G cJ15_getChar 2 RJ15 := X
  have hx := X.1
  have hb := X.2.1
  have hts := X.2.2.2.2.1
  have hown := X.2.2.2.1
  unfold P_J15_getChar at hp
  refine x_same (lo' := [(0, va_rf x0), (1, .int x1)]) (by simp [lv_args, x_catq, x_cati, x_catr, x_catn]) ?_
  refine x_gets (C := "java/lang/StringUTF16") (n := "$assertionsDisabled") (d := "Z") (v := .int (1 : Int32)) X (by simp [x_sts]) q918 (fun _ h => h) dJ15_getChar_0 ?_
  refine x_pc (pc' := 3) rfl ?_
  refine x_ifn (C := (1 : Int32) = 0) (pt := 28) (pc' := 6) (fun _ _ _ _ _ => lv_if_ne (tgt := 28) hx hb dJ15_getChar_3 (by decide)) (fun c3 => ?_) (fun c3 => ?_)
  · have hp1 := hp.1 c3
    refine x_up (pc' := 7) (fun _ _ _ _ _ L => lv_iload_n hx hb dJ15_getChar_6 rfl (lv_at L 1 rfl)) ?_
    refine x_if (C := x1 < 0) (pt := 18) (pc' := 10) (fun _ _ _ _ _ => lv_if_lt (tgt := 18) hx hb dJ15_getChar_7 (by decide)) (fun c7 => ?_) (fun c7 => ?_)
    · have hp2 := hp1.1 c7
      exact hp2.elim
    · have hp3 := hp1.2 c7
      refine x_up (pc' := 11) (fun _ _ _ _ _ L => lv_iload_n hx hb dJ15_getChar_10 rfl (lv_at L 1 rfl)) ?_
      refine x_up (pc' := 12) (fun _ _ _ _ _ L => lv_aloadq_n hx hb dJ15_getChar_11 rfl (lv_at L 0 rfl)) ?_
      refine x_callS (em := emI) (fun r st => .int r :: st) (fun _ _ => rfl) 1 X (fun σ' KK h => R_J15_length l hl G hG x0 σ' KK h) (lw_S q904 q905 q118 q906) mdJ15_length ⟨Nat.le_of_ble_eq_true rfl, Nat.le_of_ble_eq_true rfl⟩ rfl rfl (Nat.le_of_ble_eq_true rfl) dJ15_getChar_12 hp3 (fun v1 σ2 hp4 => ?_)
      refine x_pc (pc' := 15) rfl ?_
      refine x_if (C := x1 < v1) (pt := 28) (pc' := 18) (fun _ _ _ _ _ => lv_icmp_lt (tgt := 28) hx hb dJ15_getChar_15 (by decide)) (fun c15 => ?_) (fun c15 => ?_)
      · have hp5 := hp4.1 c15
        refine x_up (pc' := 29) (fun _ _ _ _ _ L => lv_iload_n hx hb dJ15_getChar_28 rfl (lv_at L 1 rfl)) ?_
        refine x_up (pc' := 30) (fun _ _ _ _ _ L => lv_iconst (v := (1 : Int32)) hx hb dJ15_getChar_29 (by decide)) ?_
        refine x_up (pc' := 31) (fun _ _ _ _ _ L => lv_ishl hx hb dJ15_getChar_30) ?_
        refine x_st (pc' := 32) ([(1, .int (x1 <<< ((1 : Int32) &&& 31))), (0, va_rf x0)]) rfl (by simp [x_catq, x_cati, x_catr, x_catn]) (fun _ _ _ _ _ L => lv_istore_n hx hb dJ15_getChar_31 rfl L (by decide) rfl) ?_
        refine x_up (pc' := 33) (fun _ _ _ _ _ L => lv_aloadq_n hx hb dJ15_getChar_32 rfl (lv_at L 1 rfl)) ?_
        refine x_up (pc' := 34) (fun _ _ _ _ _ L => lv_iload_n hx hb dJ15_getChar_33 rfl (lv_at L 0 rfl)) ?_
        refine x_st (pc' := 37) ([(1, .int ((x1 <<< ((1 : Int32) &&& 31)) + (1 : Int32))), (0, va_rf x0)]) rfl (by simp [x_catq, x_cati, x_catr, x_catn]) (fun _ _ _ _ _ L => lv_iinc hx hb dJ15_getChar_34 L (k := 0) rfl rfl (by decide) rfl) ?_
        obtain ⟨b3, rfl, hp6⟩ := hp5
        refine x_bald X dJ15_getChar_37 hp6 (fun v4 hp7 => ?_)
        refine x_pc (pc' := 38) rfl ?_
        refine x_up (pc' := 41) (fun _ _ _ _ _ L => lv_sipush (v := (255 : Int32)) hx hb dJ15_getChar_38 (by decide)) ?_
        refine x_up (pc' := 42) (fun _ _ _ _ _ L => lv_iand hx hb dJ15_getChar_41) ?_
        refine x_gets (C := "java/lang/StringUTF16") (n := "HI_BYTE_SHIFT") (d := "I") (v := .int (0 : Int32)) X (by simp [x_sts]) q920 (fun _ h => h) dJ15_getChar_42 ?_
        refine x_pc (pc' := 45) rfl ?_
        refine x_up (pc' := 46) (fun _ _ _ _ _ L => lv_ishl hx hb dJ15_getChar_45) ?_
        refine x_up (pc' := 47) (fun _ _ _ _ _ L => lv_aload_n hx hb dJ15_getChar_46 rfl (lv_at L 1 rfl)) ?_
        refine x_up (pc' := 48) (fun _ _ _ _ _ L => lv_iload_n hx hb dJ15_getChar_47 rfl (lv_at L 0 rfl)) ?_
        refine x_bald X dJ15_getChar_48 hp7 (fun v5 hp8 => ?_)
        refine x_pc (pc' := 49) rfl ?_
        refine x_up (pc' := 52) (fun _ _ _ _ _ L => lv_sipush (v := (255 : Int32)) hx hb dJ15_getChar_49 (by decide)) ?_
        refine x_up (pc' := 53) (fun _ _ _ _ _ L => lv_iand hx hb dJ15_getChar_52) ?_
        refine x_gets (C := "java/lang/StringUTF16") (n := "LO_BYTE_SHIFT") (d := "I") (v := .int (8 : Int32)) X (by simp [x_sts]) q922 (fun _ h => h) dJ15_getChar_53 ?_
        refine x_pc (pc' := 56) rfl ?_
        refine x_up (pc' := 57) (fun _ _ _ _ _ L => lv_ishl hx hb dJ15_getChar_56) ?_
        refine x_up (pc' := 58) (fun _ _ _ _ _ L => lv_ior hx hb dJ15_getChar_57) ?_
        refine x_up (pc' := 59) (fun _ _ _ _ _ L => lv_i2c hx hb dJ15_getChar_58 rfl) ?_
        exact x_iret X hr hp8.1 dJ15_getChar_59 hp8.2
      · have hp9 := hp4.2 c15
        exact hp9.elim
  · have hp10 := hp.2 c3
    refine x_up (pc' := 29) (fun _ _ _ _ _ L => lv_iload_n hx hb dJ15_getChar_28 rfl (lv_at L 1 rfl)) ?_
    refine x_up (pc' := 30) (fun _ _ _ _ _ L => lv_iconst (v := (1 : Int32)) hx hb dJ15_getChar_29 (by decide)) ?_
    refine x_up (pc' := 31) (fun _ _ _ _ _ L => lv_ishl hx hb dJ15_getChar_30) ?_
    refine x_st (pc' := 32) ([(1, .int (x1 <<< ((1 : Int32) &&& 31))), (0, va_rf x0)]) rfl (by simp [x_catq, x_cati, x_catr, x_catn]) (fun _ _ _ _ _ L => lv_istore_n hx hb dJ15_getChar_31 rfl L (by decide) rfl) ?_
    refine x_up (pc' := 33) (fun _ _ _ _ _ L => lv_aloadq_n hx hb dJ15_getChar_32 rfl (lv_at L 1 rfl)) ?_
    refine x_up (pc' := 34) (fun _ _ _ _ _ L => lv_iload_n hx hb dJ15_getChar_33 rfl (lv_at L 0 rfl)) ?_
    refine x_st (pc' := 37) ([(1, .int ((x1 <<< ((1 : Int32) &&& 31)) + (1 : Int32))), (0, va_rf x0)]) rfl (by simp [x_catq, x_cati, x_catr, x_catn]) (fun _ _ _ _ _ L => lv_iinc hx hb dJ15_getChar_34 L (k := 0) rfl rfl (by decide) rfl) ?_
    obtain ⟨b6, rfl, hp11⟩ := hp10
    refine x_bald X dJ15_getChar_37 hp11 (fun v7 hp12 => ?_)
    refine x_pc (pc' := 38) rfl ?_
    refine x_up (pc' := 41) (fun _ _ _ _ _ L => lv_sipush (v := (255 : Int32)) hx hb dJ15_getChar_38 (by decide)) ?_
    refine x_up (pc' := 42) (fun _ _ _ _ _ L => lv_iand hx hb dJ15_getChar_41) ?_
    refine x_gets (C := "java/lang/StringUTF16") (n := "HI_BYTE_SHIFT") (d := "I") (v := .int (0 : Int32)) X (by simp [x_sts]) q920 (fun _ h => h) dJ15_getChar_42 ?_
    refine x_pc (pc' := 45) rfl ?_
    refine x_up (pc' := 46) (fun _ _ _ _ _ L => lv_ishl hx hb dJ15_getChar_45) ?_
    refine x_up (pc' := 47) (fun _ _ _ _ _ L => lv_aload_n hx hb dJ15_getChar_46 rfl (lv_at L 1 rfl)) ?_
    refine x_up (pc' := 48) (fun _ _ _ _ _ L => lv_iload_n hx hb dJ15_getChar_47 rfl (lv_at L 0 rfl)) ?_
    refine x_bald X dJ15_getChar_48 hp12 (fun v8 hp13 => ?_)
    refine x_pc (pc' := 49) rfl ?_
    refine x_up (pc' := 52) (fun _ _ _ _ _ L => lv_sipush (v := (255 : Int32)) hx hb dJ15_getChar_49 (by decide)) ?_
    refine x_up (pc' := 53) (fun _ _ _ _ _ L => lv_iand hx hb dJ15_getChar_52) ?_
    refine x_gets (C := "java/lang/StringUTF16") (n := "LO_BYTE_SHIFT") (d := "I") (v := .int (8 : Int32)) X (by simp [x_sts]) q922 (fun _ h => h) dJ15_getChar_53 ?_
    refine x_pc (pc' := 56) rfl ?_
    refine x_up (pc' := 57) (fun _ _ _ _ _ L => lv_ishl hx hb dJ15_getChar_56) ?_
    refine x_up (pc' := 58) (fun _ _ _ _ _ L => lv_ior hx hb dJ15_getChar_57) ?_
    refine x_up (pc' := 59) (fun _ _ _ _ _ L => lv_i2c hx hb dJ15_getChar_58 rfl) ?_
    exact x_iret X hr hp13.1 dJ15_getChar_59 hp13.2
-- J15_charAt
def P_J15_charAt (κ : Nat → Nat) (x0 : Option Nat) (x1 : Int32) (σ : xS) (K : Int32 → xH → Prop) : Prop :=
  xcall (fun τ L => P_J15_checkIndex κ x1 x0 τ L) σ fun _ σ1 => xcall (fun τ L => P_J15_getChar κ x0 x1 τ L) σ1 fun v2 σ3 => (narrow .char (.int v2) = .int v2 ∧ K v2 σ3.1)
theorem mdJ15_charAt : yJ15_charAt.cls ≠ "java/lang/invoke/MethodHandle" ∧ yJ15_charAt.cls ≠ "java/lang/invoke/VarHandle" ∧ (parseMethodDescriptor yJ15_charAt.desc).map (fun d => d.parameters.length) = some 2 := by decide +kernel
set_option maxHeartbeats 4000000 in
set_option maxRecDepth 100000 in
theorem R_J15_charAt (l : Launch) (hl : l.stackTraces = false) (G : xG) (hG : G.1.2 = x_cl) (x0 : Option Nat) (x1 : Int32) (σ : xS) (K : Int32 → xH → Prop) (hp : P_J15_charAt G.2 x0 x1 σ K) : xM l yJ15_charAt cJ15_charAt 2 (Option.some Jvm.ClassFile.FieldType.char) 3 64 G [va_rf x0, .int x1] σ (xlift emI K) := by
  refine x_entry (by decide) (by simp [lg_sl, x_catq, x_cati, x_catr, x_catn]) ?_
  intro p e s m args below meth c X hr hin
  have X : xX p s m args meth c G cJ15_charAt 2 RJ15 := X
  have hx := X.1
  have hb := X.2.1
  have hts := X.2.2.2.2.1
  have hown := X.2.2.2.1
  unfold P_J15_charAt at hp
  refine x_same (lo' := [(0, va_rf x0), (1, .int x1)]) (by simp [lv_args, x_catq, x_cati, x_catr, x_catn]) ?_
  refine x_up (pc' := 1) (fun _ _ _ _ _ L => lv_iload_n hx hb dJ15_charAt_0 rfl (lv_at L 1 rfl)) ?_
  refine x_up (pc' := 2) (fun _ _ _ _ _ L => lv_aloadq_n hx hb dJ15_charAt_1 rfl (lv_at L 0 rfl)) ?_
  refine x_callS (em := emV) (fun r st => st) (fun _ _ => rfl) 2 X (fun σ' KK h => R_J15_checkIndex l hl G hG x1 x0 σ' KK h) (lw_S q2881 q2882 q118 q2883) mdJ15_checkIndex ⟨Nat.le_of_ble_eq_true rfl, Nat.le_of_ble_eq_true rfl⟩ rfl rfl (Nat.le_of_ble_eq_true rfl) dJ15_charAt_2 hp (fun _ σ1 hp1 => ?_)
  refine x_pc (pc' := 5) rfl ?_
  refine x_up (pc' := 6) (fun _ _ _ _ _ L => lv_aloadq_n hx hb dJ15_charAt_5 rfl (lv_at L 0 rfl)) ?_
  refine x_up (pc' := 7) (fun _ _ _ _ _ L => lv_iload_n hx hb dJ15_charAt_6 rfl (lv_at L 1 rfl)) ?_
  refine x_callS (em := emI) (fun r st => .int r :: st) (fun _ _ => rfl) 2 X (fun σ' KK h => R_J15_getChar l hl G hG x0 x1 σ' KK h) (lw_S q1074 q1075 q118 q1076) mdJ15_getChar ⟨Nat.le_of_ble_eq_true rfl, Nat.le_of_ble_eq_true rfl⟩ rfl rfl (Nat.le_of_ble_eq_true rfl) dJ15_charAt_7 hp1 (fun v2 σ3 hp2 => ?_)
  refine x_pc (pc' := 10) rfl ?_
  exact x_iret X hr hp2.1 dJ15_charAt_10 hp2.2
-- J17_charAt
def P_J17_charAt (κ : Nat → Nat) (x0 : Option Nat) (x1 : Int32) (σ : xS) (K : Int32 → xH → Prop) : Prop :=
  xnn x0 fun b1 => xan σ b1 fun v2 => xcall (fun τ L => P_J14_checkIndex κ x1 v2 τ L) σ fun _ σ3 => xai .byte σ3 b1 x1 fun v4 => (narrow .char (.int (((v4 &&& (255 : Int32)).toUInt32 % 65536).toInt32)) = .int (((v4 &&& (255 : Int32)).toUInt32 % 65536).toInt32) ∧ K (((v4 &&& (255 : Int32)).toUInt32 % 65536).toInt32) σ3.1)
theorem mdJ17_charAt : yJ17_charAt.cls ≠ "java/lang/invoke/MethodHandle" ∧ yJ17_charAt.cls ≠ "java/lang/invoke/VarHandle" ∧ (parseMethodDescriptor yJ17_charAt.desc).map (fun d => d.parameters.length) = some 2 := by decide +kernel
set_option maxHeartbeats 4000000 in
set_option maxRecDepth 100000 in
theorem R_J17_charAt (l : Launch) (hl : l.stackTraces = false) (G : xG) (hG : G.1.2 = x_cl) (x0 : Option Nat) (x1 : Int32) (σ : xS) (K : Int32 → xH → Prop) (hp : P_J17_charAt G.2 x0 x1 σ K) : xM l yJ17_charAt cJ17_charAt 2 (Option.some Jvm.ClassFile.FieldType.char) 2 43 G [va_rf x0, .int x1] σ (xlift emI K) := by
  refine x_entry (by decide) (by simp [lg_sl, x_catq, x_cati, x_catr, x_catn]) ?_
  intro p e s m args below meth c X hr hin
  have X : xX p s m args meth c G cJ17_charAt 2 RJ17 := X
  have hx := X.1
  have hb := X.2.1
  have hts := X.2.2.2.2.1
  have hown := X.2.2.2.1
  unfold P_J17_charAt at hp
  refine x_same (lo' := [(0, va_rf x0), (1, .int x1)]) (by simp [lv_args, x_catq, x_cati, x_catr, x_catn]) ?_
  refine x_up (pc' := 1) (fun _ _ _ _ _ L => lv_iload_n hx hb dJ17_charAt_0 rfl (lv_at L 1 rfl)) ?_
  refine x_up (pc' := 2) (fun _ _ _ _ _ L => lv_aloadq_n hx hb dJ17_charAt_1 rfl (lv_at L 0 rfl)) ?_
  obtain ⟨b1, rfl, hp1⟩ := hp
  refine x_alen X dJ17_charAt_2 hp1 (fun v2 hp2 => ?_)
  refine x_pc (pc' := 3) rfl ?_
  refine x_callS (em := emV) (fun r st => st) (fun _ _ => rfl) 2 X (fun σ' KK h => R_J14_checkIndex l hl G hG x1 v2 σ' KK h) (lw_S q2992 q2885 q117 q2886) mdJ14_checkIndex ⟨Nat.le_of_ble_eq_true rfl, Nat.le_of_ble_eq_true rfl⟩ rfl rfl (Nat.le_of_ble_eq_true rfl) dJ17_charAt_3 hp2 (fun _ σ3 hp3 => ?_)
  refine x_pc (pc' := 6) rfl ?_
  refine x_up (pc' := 7) (fun _ _ _ _ _ L => lv_aload_n hx hb dJ17_charAt_6 rfl (lv_at L 0 rfl)) ?_
  refine x_up (pc' := 8) (fun _ _ _ _ _ L => lv_iload_n hx hb dJ17_charAt_7 rfl (lv_at L 1 rfl)) ?_
  refine x_bald X dJ17_charAt_8 hp3 (fun v4 hp4 => ?_)
  refine x_pc (pc' := 9) rfl ?_
  refine x_up (pc' := 12) (fun _ _ _ _ _ L => lv_sipush (v := (255 : Int32)) hx hb dJ17_charAt_9 (by decide)) ?_
  refine x_up (pc' := 13) (fun _ _ _ _ _ L => lv_iand hx hb dJ17_charAt_12) ?_
  refine x_up (pc' := 14) (fun _ _ _ _ _ L => lv_i2c hx hb dJ17_charAt_13 rfl) ?_
  exact x_iret X hr hp4.1 dJ17_charAt_14 hp4.2
-- J14_charAt
def P_J14_charAt (κ : Nat → Nat) (a0 : Nat) (x1 : Int32) (σ : xS) (K : Int32 → xH → Prop) : Prop :=
  xrc σ a0 9 ∧ xcall (fun τ L => P_J14_isLatin1 κ a0 τ L) σ fun v1 σ2 => ((v1 = 0 → (xgq σ2 a0 9 0 fun v3 => xcall (fun τ L => P_J15_charAt κ v3 x1 τ L) σ2 fun v4 σ5 => (narrow .char (.int v4) = .int v4 ∧ K v4 σ5.1))) ∧ (¬ v1 = 0 → (xgq σ2 a0 9 0 fun v6 => xcall (fun τ L => P_J17_charAt κ v6 x1 τ L) σ2 fun v7 σ8 => (narrow .char (.int v7) = .int v7 ∧ K v7 σ8.1))))
theorem mdJ14_charAt : yJ14_charAt.cls ≠ "java/lang/invoke/MethodHandle" ∧ yJ14_charAt.cls ≠ "java/lang/invoke/VarHandle" ∧ (parseMethodDescriptor yJ14_charAt.desc).map (fun d => d.parameters.length) = some 1 := by decide +kernel
set_option maxHeartbeats 4000000 in
set_option maxRecDepth 100000 in
theorem R_J14_charAt (l : Launch) (hl : l.stackTraces = false) (G : xG) (hG : G.1.2 = x_cl) (a0 : Nat) (x1 : Int32) (σ : xS) (K : Int32 → xH → Prop) (hp : P_J14_charAt G.2 a0 x1 σ K) : xM l yJ14_charAt cJ14_charAt 2 (Option.some Jvm.ClassFile.FieldType.char) 4 85 G [(.ref a0), .int x1] σ (xlift emI K) := by
  refine x_entry (by decide) (Nat.le_of_ble_eq_true rfl) ?_
  intro p e s m args below meth c X hr hin
  have X : xX p s m args meth c G cJ14_charAt 2 RJ14 := X
  have hx := X.1
  have hb := X.2.1
  have hts := X.2.2.2.2.1
  have hown := X.2.2.2.1
  unfold P_J14_charAt at hp
  refine x_same (lo' := [(0, .ref a0), (1, .int x1)]) rfl ?_
  refine x_up (pc' := 1) (fun _ _ _ _ _ L => lv_aload_n hx hb dJ14_charAt_0 rfl (lv_at L 0 rfl)) ?_
  refine x_callV (em := emI) (fun r st => .int r :: st) (fun _ _ => rfl) 0 X (kJ14 hG) (fun σ' KK h => R_J14_isLatin1 l hl G hG a0 σ' KK h) (lw_V q2159 q2160 q2161 q117 q2162) ⟨rfl, mdJ14_isLatin1⟩ ⟨Nat.le_of_ble_eq_true rfl, Nat.le_of_ble_eq_true rfl⟩ rfl rfl (Nat.le_of_ble_eq_true rfl) dJ14_charAt_1 hp.1 hp.2 (fun v1 σ2 hp1 => ?_)
  refine x_pc (pc' := 4) rfl ?_
  refine x_if (C := v1 = 0) (pt := 16) (pc' := 7) (fun _ _ _ _ _ => lv_if_eq (tgt := 16) hx hb dJ14_charAt_4 (by decide)) (fun c4 => ?_) (fun c4 => ?_)
  · have hp2 := hp1.1 c4
    refine x_up (pc' := 17) (fun _ _ _ _ _ L => lv_aload_n hx hb dJ14_charAt_16 rfl (lv_at L 0 rfl)) ?_
    refine x_gq X (kJ14 hG) 0 (by decide) q1081 (fun _ h => h) dJ14_charAt_17 hp2 (fun v3 hp3 => ?_)
    refine x_pc (pc' := 20) rfl ?_
    refine x_up (pc' := 21) (fun _ _ _ _ _ L => lv_iload_n hx hb dJ14_charAt_20 rfl (lv_at L 1 rfl)) ?_
    refine x_callS (em := emI) (fun r st => .int r :: st) (fun _ _ => rfl) 2 X (fun σ' KK h => R_J15_charAt l hl G hG v3 x1 σ' KK h) (lw_S q2993 q2994 q118 q2995) mdJ15_charAt ⟨Nat.le_of_ble_eq_true rfl, Nat.le_of_ble_eq_true rfl⟩ rfl rfl (Nat.le_of_ble_eq_true rfl) dJ14_charAt_21 hp3 (fun v4 σ5 hp4 => ?_)
    refine x_pc (pc' := 24) rfl ?_
    exact x_iret X hr hp4.1 dJ14_charAt_24 hp4.2
  · have hp5 := hp1.2 c4
    refine x_up (pc' := 8) (fun _ _ _ _ _ L => lv_aload_n hx hb dJ14_charAt_7 rfl (lv_at L 0 rfl)) ?_
    refine x_gq X (kJ14 hG) 0 (by decide) q1081 (fun _ h => h) dJ14_charAt_8 hp5 (fun v6 hp6 => ?_)
    refine x_pc (pc' := 11) rfl ?_
    refine x_up (pc' := 12) (fun _ _ _ _ _ L => lv_iload_n hx hb dJ14_charAt_11 rfl (lv_at L 1 rfl)) ?_
    refine x_callS (em := emI) (fun r st => .int r :: st) (fun _ _ => rfl) 2 X (fun σ' KK h => R_J17_charAt l hl G hG v6 x1 σ' KK h) (lw_S q2989 q2990 q122 q2991) mdJ17_charAt ⟨Nat.le_of_ble_eq_true rfl, Nat.le_of_ble_eq_true rfl⟩ rfl rfl (Nat.le_of_ble_eq_true rfl) dJ14_charAt_12 hp6 (fun v7 σ8 hp7 => ?_)
    refine x_pc (pc' := 15) rfl ?_
    exact x_iret X hr hp7.1 dJ14_charAt_15 hp7.2
-- X4_here
def P_X4_here (κ : Nat → Nat) (a0 : Nat) (σ : xS) (K : Int32 → xH → Prop) : Prop :=
  xgi σ a0 10 17 fun v1 => xgi σ a0 10 8 fun v2 => ((v2 ≤ v1 → (K (-1 : Int32) σ.1)) ∧ (¬ v2 ≤ v1 → (xgq σ a0 10 7 fun v3 => xgi σ a0 10 17 fun v4 => xnn v3 fun b5 => xai .char σ b5 v4 fun v6 => K v6 σ.1)))
theorem mdX4_here : yX4_here.cls ≠ "java/lang/invoke/MethodHandle" ∧ yX4_here.cls ≠ "java/lang/invoke/VarHandle" ∧ (parseMethodDescriptor yX4_here.desc).map (fun d => d.parameters.length) = some 0 := by decide +kernel
set_option maxHeartbeats 4000000 in
set_option maxRecDepth 100000 in
theorem R_X4_here (l : Launch) (hl : l.stackTraces = false) (G : xG) (hG : G.1.2 = x_cl) (a0 : Nat) (σ : xS) (K : Int32 → xH → Prop) (hp : P_X4_here G.2 a0 σ K) : xM l yX4_here cX4_here 1 (Option.some Jvm.ClassFile.FieldType.int) 0 0 G [(.ref a0)] σ (xlift emI K) := by
  refine x_entry (by decide) (Nat.le_of_ble_eq_true rfl) ?_
  intro p e s m args below meth c X hr hin
  have X : xX p s m args meth c G cX4_here 1 RX4 := X
  have hx := X.1
  have hb := X.2.1
  have hts := X.2.2.2.2.1
  have hown := X.2.2.2.1
  unfold P_X4_here at hp
  refine x_same (lo' := [(0, .ref a0)]) rfl ?_
  refine x_up (pc' := 1) (fun _ _ _ _ _ L => lv_aload_n hx hb dX4_here_0 rfl (lv_at L 0 rfl)) ?_
  refine x_gi X (kX4 hG) 17 (by decide) q3283 (fun _ h => h) dX4_here_1 hp (fun v1 hp1 => ?_)
  refine x_pc (pc' := 4) rfl ?_
  refine x_up (pc' := 5) (fun _ _ _ _ _ L => lv_aload_n hx hb dX4_here_4 rfl (lv_at L 0 rfl)) ?_
  refine x_gi X (kX4 hG) 8 (by decide) q3274 (fun _ h => h) dX4_here_5 hp1 (fun v2 hp2 => ?_)
  refine x_pc (pc' := 8) rfl ?_
  refine x_if (C := v2 ≤ v1) (pt := 23) (pc' := 11) (fun _ _ _ _ _ => lv_icmp_ge (tgt := 23) hx hb dX4_here_8 (by decide)) (fun c8 => ?_) (fun c8 => ?_)
  · have hp3 := hp2.1 c8
    refine x_up (pc' := 24) (fun _ _ _ _ _ L => lv_iconst (v := (-1 : Int32)) hx hb dX4_here_23 (by decide)) ?_
    exact x_iret X hr rfl dX4_here_24 hp3
  · have hp4 := hp2.2 c8
    refine x_up (pc' := 12) (fun _ _ _ _ _ L => lv_aload_n hx hb dX4_here_11 rfl (lv_at L 0 rfl)) ?_
    refine x_gq X (kX4 hG) 7 (by decide) q3273 (fun _ h => h) dX4_here_12 hp4 (fun v3 hp5 => ?_)
    refine x_pc (pc' := 15) rfl ?_
    refine x_up (pc' := 16) (fun _ _ _ _ _ L => lv_aload_n hx hb dX4_here_15 rfl (lv_at L 0 rfl)) ?_
    refine x_gi X (kX4 hG) 17 (by decide) q3283 (fun _ h => h) dX4_here_16 hp5 (fun v4 hp6 => ?_)
    refine x_pc (pc' := 19) rfl ?_
    obtain ⟨b5, rfl, hp7⟩ := hp6
    refine x_cald X dX4_here_19 hp7 (fun v6 hp8 => ?_)
    refine x_pc (pc' := 20) rfl ?_
    refine x_up (pc' := 24) (fun _ _ _ _ _ L => lv_goto (tgt := 24) hx hb dX4_here_20 (by decide)) ?_
    exact x_iret X hr rfl dX4_here_24 hp8
-- X4_isWord
def P_X4_isWord (κ : Nat → Nat) (a0 : Nat) (x1 : Int32) (σ : xS) (K : Int32 → xH → Prop) : Prop :=
  xgi σ a0 10 17 fun v1 => xgi σ a0 10 8 fun v2 => ((v2 ≤ (v1 + (1 : Int32)) → (xcall (fun τ L => P_X4_word κ x1 τ L) σ fun v3 σ4 => xnn v3 fun b5 => xrc σ4 b5 9 ∧ xcall (fun τ L => P_J14_charAt κ b5 (0 : Int32) τ L) σ4 fun v6 σ7 => xrc σ7 a0 10 ∧ xcall (fun τ L => P_X4_here κ a0 τ L) σ7 fun v8 σ9 => ((v6 = v8 → (((x1 = (3 : Int32) → ((((-1 : Int32) = (108 : Int32) → (K (0 : Int32) σ9.1)) ∧ (¬ (-1 : Int32) = (108 : Int32) → (K (1 : Int32) σ9.1))))) ∧ (¬ x1 = (3 : Int32) → (K (1 : Int32) σ9.1))))) ∧ (¬ v6 = v8 → (K (0 : Int32) σ9.1))))) ∧ (¬ v2 ≤ (v1 + (1 : Int32)) → (xgq σ a0 10 7 fun v10 => xgi σ a0 10 17 fun v11 => xnn v10 fun b12 => xai .char σ b12 (v11 + (1 : Int32)) fun v13 => xcall (fun τ L => P_X4_word κ x1 τ L) σ fun v14 σ15 => xnn v14 fun b16 => xrc σ15 b16 9 ∧ xcall (fun τ L => P_J14_charAt κ b16 (0 : Int32) τ L) σ15 fun v17 σ18 => xrc σ18 a0 10 ∧ xcall (fun τ L => P_X4_here κ a0 τ L) σ18 fun v19 σ20 => ((v17 = v19 → (((x1 = (3 : Int32) → (((v13 = (108 : Int32) → (K (0 : Int32) σ20.1)) ∧ (¬ v13 = (108 : Int32) → (K (1 : Int32) σ20.1))))) ∧ (¬ x1 = (3 : Int32) → (K (1 : Int32) σ20.1))))) ∧ (¬ v17 = v19 → (K (0 : Int32) σ20.1))))))
theorem mdX4_isWord : yX4_isWord.cls ≠ "java/lang/invoke/MethodHandle" ∧ yX4_isWord.cls ≠ "java/lang/invoke/VarHandle" ∧ (parseMethodDescriptor yX4_isWord.desc).map (fun d => d.parameters.length) = some 1 := by decide +kernel
set_option maxHeartbeats 4000000 in
set_option maxRecDepth 100000 in
theorem R_X4_isWord (l : Launch) (hl : l.stackTraces = false) (G : xG) (hG : G.1.2 = x_cl) (a0 : Nat) (x1 : Int32) (σ : xS) (K : Int32 → xH → Prop) (hp : P_X4_isWord G.2 a0 x1 σ K) : xM l yX4_isWord cX4_isWord 3 (Option.some Jvm.ClassFile.FieldType.boolean) 5 106 G [(.ref a0), .int x1] σ (xlift emI K) := by
  refine x_entry (by decide) (Nat.le_of_ble_eq_true rfl) ?_
  intro p e s m args below meth c X hr hin
  have X : xX p s m args meth c G cX4_isWord 3 RX4 := X
  have hx := X.1
  have hb := X.2.1
  have hts := X.2.2.2.2.1
  have hown := X.2.2.2.1
  unfold P_X4_isWord at hp
  refine x_same (lo' := [(0, .ref a0), (1, .int x1)]) rfl ?_
  refine x_up (pc' := 1) (fun _ _ _ _ _ L => lv_aload_n hx hb dX4_isWord_0 rfl (lv_at L 0 rfl)) ?_
  refine x_gi X (kX4 hG) 17 (by decide) q3283 (fun _ h => h) dX4_isWord_1 hp (fun v1 hp1 => ?_)
  refine x_pc (pc' := 4) rfl ?_
  refine x_up (pc' := 5) (fun _ _ _ _ _ L => lv_iconst (v := (1 : Int32)) hx hb dX4_isWord_4 (by decide)) ?_
  refine x_up (pc' := 6) (fun _ _ _ _ _ L => lv_iadd hx hb dX4_isWord_5) ?_
  refine x_up (pc' := 7) (fun _ _ _ _ _ L => lv_aload_n hx hb dX4_isWord_6 rfl (lv_at L 0 rfl)) ?_
  refine x_gi X (kX4 hG) 8 (by decide) q3274 (fun _ h => h) dX4_isWord_7 hp1 (fun v2 hp2 => ?_)
  refine x_pc (pc' := 10) rfl ?_
  refine x_if (C := v2 ≤ (v1 + (1 : Int32))) (pt := 27) (pc' := 13) (fun _ _ _ _ _ => lv_icmp_ge (tgt := 27) hx hb dX4_isWord_10 (by decide)) (fun c10 => ?_) (fun c10 => ?_)
  · have hp3 := hp2.1 c10
    refine x_up (pc' := 28) (fun _ _ _ _ _ L => lv_iconst (v := (-1 : Int32)) hx hb dX4_isWord_27 (by decide)) ?_
    refine x_upL (pc' := 29) (lo' := [(2, .int (-1 : Int32)), (0, .ref a0), (1, .int x1)]) (fun _ _ _ _ _ L => lv_istore_n hx hb dX4_isWord_28 rfl L (by decide) rfl) ?_
    refine x_up (pc' := 30) (fun _ _ _ _ _ L => lv_iload_n hx hb dX4_isWord_29 rfl (lv_at L 2 rfl)) ?_
    refine x_callS (em := emQ) (fun r st => va_rf r :: st) (fun _ _ => rfl) 1 X (fun σ' KK h => R_X4_word l hl G hG x1 σ' KK h) (lw_S q3567 q3568 q119 q3569) mdX4_word ⟨Nat.le_of_ble_eq_true rfl, Nat.le_of_ble_eq_true rfl⟩ rfl rfl (Nat.le_of_ble_eq_true rfl) dX4_isWord_30 hp3 (fun v3 σ4 hp4 => ?_)
    refine x_pc (pc' := 33) rfl ?_
    refine x_up (pc' := 34) (fun _ _ _ _ _ L => lv_iconst (v := (0 : Int32)) hx hb dX4_isWord_33 (by decide)) ?_
    obtain ⟨b5, rfl, hp5⟩ := hp4
    refine x_callV (em := emI) (fun r st => .int r :: st) (fun _ _ => rfl) 1 X (kJ14 hG) (fun σ' KK h => R_J14_charAt l hl G hG b5 (0 : Int32) σ' KK h) (lw_V q3577 q2986 q2987 q117 q2988) ⟨rfl, mdJ14_charAt⟩ ⟨Nat.le_of_ble_eq_true rfl, Nat.le_of_ble_eq_true rfl⟩ rfl rfl (Nat.le_of_ble_eq_true rfl) dX4_isWord_34 hp5.1 hp5.2 (fun v6 σ7 hp6 => ?_)
    refine x_pc (pc' := 37) rfl ?_
    refine x_up (pc' := 38) (fun _ _ _ _ _ L => lv_aload_n hx hb dX4_isWord_37 rfl (lv_at L 1 rfl)) ?_
    refine x_callV (em := emI) (fun r st => .int r :: st) (fun _ _ => rfl) 0 X (kX4 hG) (fun σ' KK h => R_X4_here l hl G hG a0 σ' KK h) (lw_V q3578 q3580 qs86 q119 q3581) ⟨rfl, mdX4_here⟩ ⟨Nat.le_of_ble_eq_true rfl, Nat.le_of_ble_eq_true rfl⟩ rfl rfl (Nat.le_of_ble_eq_true rfl) dX4_isWord_38 hp6.1 hp6.2 (fun v8 σ9 hp7 => ?_)
    refine x_pc (pc' := 41) rfl ?_
    refine x_ifn (C := v6 = v8) (pt := 59) (pc' := 44) (fun _ _ _ _ _ => lv_icmp_ne (tgt := 59) hx hb dX4_isWord_41 (by decide)) (fun c41 => ?_) (fun c41 => ?_)
    · have hp8 := hp7.1 c41
      refine x_up (pc' := 45) (fun _ _ _ _ _ L => lv_iload_n hx hb dX4_isWord_44 rfl (lv_at L 2 rfl)) ?_
      refine x_up (pc' := 46) (fun _ _ _ _ _ L => lv_iconst (v := (3 : Int32)) hx hb dX4_isWord_45 (by decide)) ?_
      refine x_ifn (C := x1 = (3 : Int32)) (pt := 55) (pc' := 49) (fun _ _ _ _ _ => lv_icmp_ne (tgt := 55) hx hb dX4_isWord_46 (by decide)) (fun c46 => ?_) (fun c46 => ?_)
      · have hp9 := hp8.1 c46
        refine x_up (pc' := 50) (fun _ _ _ _ _ L => lv_iload_n hx hb dX4_isWord_49 rfl (lv_at L 0 rfl)) ?_
        refine x_up (pc' := 52) (fun _ _ _ _ _ L => lv_bipush (v := (108 : Int32)) hx hb dX4_isWord_50 (by decide)) ?_
        refine x_if (C := (-1 : Int32) = (108 : Int32)) (pt := 59) (pc' := 55) (fun _ _ _ _ _ => lv_icmp_eq (tgt := 59) hx hb dX4_isWord_52 (by decide)) (fun c52 => ?_) (fun c52 => ?_)
        · have hp10 := hp9.1 c52
          refine x_up (pc' := 60) (fun _ _ _ _ _ L => lv_iconst (v := (0 : Int32)) hx hb dX4_isWord_59 (by decide)) ?_
          exact x_iret X hr rfl dX4_isWord_60 hp10
        · have hp11 := hp9.2 c52
          refine x_up (pc' := 56) (fun _ _ _ _ _ L => lv_iconst (v := (1 : Int32)) hx hb dX4_isWord_55 (by decide)) ?_
          refine x_up (pc' := 60) (fun _ _ _ _ _ L => lv_goto (tgt := 60) hx hb dX4_isWord_56 (by decide)) ?_
          exact x_iret X hr rfl dX4_isWord_60 hp11
      · have hp12 := hp8.2 c46
        refine x_up (pc' := 56) (fun _ _ _ _ _ L => lv_iconst (v := (1 : Int32)) hx hb dX4_isWord_55 (by decide)) ?_
        refine x_up (pc' := 60) (fun _ _ _ _ _ L => lv_goto (tgt := 60) hx hb dX4_isWord_56 (by decide)) ?_
        exact x_iret X hr rfl dX4_isWord_60 hp12
    · have hp13 := hp7.2 c41
      refine x_up (pc' := 60) (fun _ _ _ _ _ L => lv_iconst (v := (0 : Int32)) hx hb dX4_isWord_59 (by decide)) ?_
      exact x_iret X hr rfl dX4_isWord_60 hp13
  · have hp14 := hp2.2 c10
    refine x_up (pc' := 14) (fun _ _ _ _ _ L => lv_aload_n hx hb dX4_isWord_13 rfl (lv_at L 0 rfl)) ?_
    refine x_gq X (kX4 hG) 7 (by decide) q3273 (fun _ h => h) dX4_isWord_14 hp14 (fun v10 hp15 => ?_)
    refine x_pc (pc' := 17) rfl ?_
    refine x_up (pc' := 18) (fun _ _ _ _ _ L => lv_aload_n hx hb dX4_isWord_17 rfl (lv_at L 0 rfl)) ?_
    refine x_gi X (kX4 hG) 17 (by decide) q3283 (fun _ h => h) dX4_isWord_18 hp15 (fun v11 hp16 => ?_)
    refine x_pc (pc' := 21) rfl ?_
    refine x_up (pc' := 22) (fun _ _ _ _ _ L => lv_iconst (v := (1 : Int32)) hx hb dX4_isWord_21 (by decide)) ?_
    refine x_up (pc' := 23) (fun _ _ _ _ _ L => lv_iadd hx hb dX4_isWord_22) ?_
    obtain ⟨b12, rfl, hp17⟩ := hp16
    refine x_cald X dX4_isWord_23 hp17 (fun v13 hp18 => ?_)
    refine x_pc (pc' := 24) rfl ?_
    refine x_up (pc' := 28) (fun _ _ _ _ _ L => lv_goto (tgt := 28) hx hb dX4_isWord_24 (by decide)) ?_
    refine x_upL (pc' := 29) (lo' := [(2, .int v13), (0, .ref a0), (1, .int x1)]) (fun _ _ _ _ _ L => lv_istore_n hx hb dX4_isWord_28 rfl L (by decide) rfl) ?_
    refine x_up (pc' := 30) (fun _ _ _ _ _ L => lv_iload_n hx hb dX4_isWord_29 rfl (lv_at L 2 rfl)) ?_
    refine x_callS (em := emQ) (fun r st => va_rf r :: st) (fun _ _ => rfl) 1 X (fun σ' KK h => R_X4_word l hl G hG x1 σ' KK h) (lw_S q3567 q3568 q119 q3569) mdX4_word ⟨Nat.le_of_ble_eq_true rfl, Nat.le_of_ble_eq_true rfl⟩ rfl rfl (Nat.le_of_ble_eq_true rfl) dX4_isWord_30 hp18 (fun v14 σ15 hp19 => ?_)
    refine x_pc (pc' := 33) rfl ?_
    refine x_up (pc' := 34) (fun _ _ _ _ _ L => lv_iconst (v := (0 : Int32)) hx hb dX4_isWord_33 (by decide)) ?_
    obtain ⟨b16, rfl, hp20⟩ := hp19
    refine x_callV (em := emI) (fun r st => .int r :: st) (fun _ _ => rfl) 1 X (kJ14 hG) (fun σ' KK h => R_J14_charAt l hl G hG b16 (0 : Int32) σ' KK h) (lw_V q3577 q2986 q2987 q117 q2988) ⟨rfl, mdJ14_charAt⟩ ⟨Nat.le_of_ble_eq_true rfl, Nat.le_of_ble_eq_true rfl⟩ rfl rfl (Nat.le_of_ble_eq_true rfl) dX4_isWord_34 hp20.1 hp20.2 (fun v17 σ18 hp21 => ?_)
    refine x_pc (pc' := 37) rfl ?_
    refine x_up (pc' := 38) (fun _ _ _ _ _ L => lv_aload_n hx hb dX4_isWord_37 rfl (lv_at L 1 rfl)) ?_
    refine x_callV (em := emI) (fun r st => .int r :: st) (fun _ _ => rfl) 0 X (kX4 hG) (fun σ' KK h => R_X4_here l hl G hG a0 σ' KK h) (lw_V q3578 q3580 qs86 q119 q3581) ⟨rfl, mdX4_here⟩ ⟨Nat.le_of_ble_eq_true rfl, Nat.le_of_ble_eq_true rfl⟩ rfl rfl (Nat.le_of_ble_eq_true rfl) dX4_isWord_38 hp21.1 hp21.2 (fun v19 σ20 hp22 => ?_)
    refine x_pc (pc' := 41) rfl ?_
    refine x_ifn (C := v17 = v19) (pt := 59) (pc' := 44) (fun _ _ _ _ _ => lv_icmp_ne (tgt := 59) hx hb dX4_isWord_41 (by decide)) (fun c41 => ?_) (fun c41 => ?_)
    · have hp23 := hp22.1 c41
      refine x_up (pc' := 45) (fun _ _ _ _ _ L => lv_iload_n hx hb dX4_isWord_44 rfl (lv_at L 2 rfl)) ?_
      refine x_up (pc' := 46) (fun _ _ _ _ _ L => lv_iconst (v := (3 : Int32)) hx hb dX4_isWord_45 (by decide)) ?_
      refine x_ifn (C := x1 = (3 : Int32)) (pt := 55) (pc' := 49) (fun _ _ _ _ _ => lv_icmp_ne (tgt := 55) hx hb dX4_isWord_46 (by decide)) (fun c46 => ?_) (fun c46 => ?_)
      · have hp24 := hp23.1 c46
        refine x_up (pc' := 50) (fun _ _ _ _ _ L => lv_iload_n hx hb dX4_isWord_49 rfl (lv_at L 0 rfl)) ?_
        refine x_up (pc' := 52) (fun _ _ _ _ _ L => lv_bipush (v := (108 : Int32)) hx hb dX4_isWord_50 (by decide)) ?_
        refine x_if (C := v13 = (108 : Int32)) (pt := 59) (pc' := 55) (fun _ _ _ _ _ => lv_icmp_eq (tgt := 59) hx hb dX4_isWord_52 (by decide)) (fun c52 => ?_) (fun c52 => ?_)
        · have hp25 := hp24.1 c52
          refine x_up (pc' := 60) (fun _ _ _ _ _ L => lv_iconst (v := (0 : Int32)) hx hb dX4_isWord_59 (by decide)) ?_
          exact x_iret X hr rfl dX4_isWord_60 hp25
        · have hp26 := hp24.2 c52
          refine x_up (pc' := 56) (fun _ _ _ _ _ L => lv_iconst (v := (1 : Int32)) hx hb dX4_isWord_55 (by decide)) ?_
          refine x_up (pc' := 60) (fun _ _ _ _ _ L => lv_goto (tgt := 60) hx hb dX4_isWord_56 (by decide)) ?_
          exact x_iret X hr rfl dX4_isWord_60 hp26
      · have hp27 := hp23.2 c46
        refine x_up (pc' := 56) (fun _ _ _ _ _ L => lv_iconst (v := (1 : Int32)) hx hb dX4_isWord_55 (by decide)) ?_
        refine x_up (pc' := 60) (fun _ _ _ _ _ L => lv_goto (tgt := 60) hx hb dX4_isWord_56 (by decide)) ?_
        exact x_iret X hr rfl dX4_isWord_60 hp27
    · have hp28 := hp22.2 c41
      refine x_up (pc' := 60) (fun _ _ _ _ _ L => lv_iconst (v := (0 : Int32)) hx hb dX4_isWord_59 (by decide)) ?_
      exact x_iret X hr rfl dX4_isWord_60 hp28
-- J14_coder
def P_J14_coder (κ : Nat → Nat) (a0 : Nat) (σ : xS) (K : Int32 → xH → Prop) : Prop :=
  (((1 : Int32) = 0 → ((narrow .byte (.int (1 : Int32)) = .int (1 : Int32) ∧ K (1 : Int32) σ.1))) ∧ (¬ (1 : Int32) = 0 → (xgi σ a0 9 1 fun v1 => (narrow .byte (.int v1) = .int v1 ∧ K v1 σ.1))))
theorem mdJ14_coder : yJ14_coder.cls ≠ "java/lang/invoke/MethodHandle" ∧ yJ14_coder.cls ≠ "java/lang/invoke/VarHandle" ∧ (parseMethodDescriptor yJ14_coder.desc).map (fun d => d.parameters.length) = some 0 := by decide +kernel
set_option maxHeartbeats 4000000 in
set_option maxRecDepth 100000 in
theorem R_J14_coder (l : Launch) (hl : l.stackTraces = false) (G : xG) (hG : G.1.2 = x_cl) (a0 : Nat) (σ : xS) (K : Int32 → xH → Prop) (hp : P_J14_coder G.2 a0 σ K) : xM l yJ14_coder cJ14_coder 1 (Option.some Jvm.ClassFile.FieldType.byte) 0 0 G [(.ref a0)] σ (xlift emI K) := by
  refine x_entry (by decide) (Nat.le_of_ble_eq_true rfl) ?_
  intro p e s m args below meth c X hr hin
  have X : xX p s m args meth c G cJ14_coder 1 RJ14 := X
  have hx := X.1
  have hb := X.2.1
  have hts := X.2.2.2.2.1
  have hown := X.2.2.2.1
  unfold P_J14_coder at hp
  refine x_same (lo' := [(0, .ref a0)]) rfl ?_
  refine x_gets (C := "java/lang/String") (n := "COMPACT_STRINGS") (d := "Z") (v := .int (1 : Int32)) X (by simp [x_sts]) q682 (fun _ h => h) dJ14_coder_0 ?_
  refine x_pc (pc' := 3) rfl ?_
  refine x_if (C := (1 : Int32) = 0) (pt := 13) (pc' := 6) (fun _ _ _ _ _ => lv_if_eq (tgt := 13) hx hb dJ14_coder_3 (by decide)) (fun c3 => ?_) (fun c3 => ?_)
  · have hp1 := hp.1 c3
    refine x_up (pc' := 14) (fun _ _ _ _ _ L => lv_iconst (v := (1 : Int32)) hx hb dJ14_coder_13 (by decide)) ?_
    exact x_iret X hr hp1.1 dJ14_coder_14 hp1.2
  · have hp2 := hp.2 c3
    refine x_up (pc' := 7) (fun _ _ _ _ _ L => lv_aload_n hx hb dJ14_coder_6 rfl (lv_at L 0 rfl)) ?_
    refine x_gi X (kJ14 hG) 1 (by decide) q1082 (fun _ h => h) dJ14_coder_7 hp2 (fun v1 hp3 => ?_)
    refine x_pc (pc' := 10) rfl ?_
    refine x_up (pc' := 14) (fun _ _ _ _ _ L => lv_goto (tgt := 14) hx hb dJ14_coder_10 (by decide)) ?_
    exact x_iret X hr hp3.1 dJ14_coder_14 hp3.2
-- J14_length
def P_J14_length (κ : Nat → Nat) (a0 : Nat) (σ : xS) (K : Int32 → xH → Prop) : Prop :=
  xgq σ a0 9 0 fun v1 => xnn v1 fun b2 => xan σ b2 fun v3 => xrc σ a0 9 ∧ xcall (fun τ L => P_J14_coder κ a0 τ L) σ fun v4 σ5 => K (v3 >>> (v4 &&& 31)) σ5.1
theorem mdJ14_length : yJ14_length.cls ≠ "java/lang/invoke/MethodHandle" ∧ yJ14_length.cls ≠ "java/lang/invoke/VarHandle" ∧ (parseMethodDescriptor yJ14_length.desc).map (fun d => d.parameters.length) = some 0 := by decide +kernel
set_option maxHeartbeats 4000000 in
set_option maxRecDepth 100000 in
theorem R_J14_length (l : Launch) (hl : l.stackTraces = false) (G : xG) (hG : G.1.2 = x_cl) (a0 : Nat) (σ : xS) (K : Int32 → xH → Prop) (hp : P_J14_length G.2 a0 σ K) : xM l yJ14_length cJ14_length 1 (Option.some Jvm.ClassFile.FieldType.int) 1 20 G [(.ref a0)] σ (xlift emI K) := by
  refine x_entry (by decide) (Nat.le_of_ble_eq_true rfl) ?_
  intro p e s m args below meth c X hr hin
  have X : xX p s m args meth c G cJ14_length 1 RJ14 := X
  have hx := X.1
  have hb := X.2.1
  have hts := X.2.2.2.2.1
  have hown := X.2.2.2.1
  unfold P_J14_length at hp
  refine x_same (lo' := [(0, .ref a0)]) rfl ?_
  refine x_up (pc' := 1) (fun _ _ _ _ _ L => lv_aload_n hx hb dJ14_length_0 rfl (lv_at L 0 rfl)) ?_
  refine x_gq X (kJ14 hG) 0 (by decide) q1081 (fun _ h => h) dJ14_length_1 hp (fun v1 hp1 => ?_)
  refine x_pc (pc' := 4) rfl ?_
  obtain ⟨b2, rfl, hp2⟩ := hp1
  refine x_alen X dJ14_length_4 hp2 (fun v3 hp3 => ?_)
  refine x_pc (pc' := 5) rfl ?_
  refine x_up (pc' := 6) (fun _ _ _ _ _ L => lv_aload_n hx hb dJ14_length_5 rfl (lv_at L 0 rfl)) ?_
  refine x_callV (em := emI) (fun r st => .int r :: st) (fun _ _ => rfl) 0 X (kJ14 hG) (fun σ' KK h => R_J14_coder l hl G hG a0 σ' KK h) (lw_V q928 q929 q930 q117 q931) ⟨rfl, mdJ14_coder⟩ ⟨Nat.le_of_ble_eq_true rfl, Nat.le_of_ble_eq_true rfl⟩ rfl rfl (Nat.le_of_ble_eq_true rfl) dJ14_length_6 hp3.1 hp3.2 (fun v4 σ5 hp4 => ?_)
  refine x_pc (pc' := 9) rfl ?_
  refine x_up (pc' := 10) (fun _ _ _ _ _ L => lv_ishr hx hb dJ14_length_9) ?_
  exact x_iret X hr rfl dJ14_length_10 hp4
-- X4_needs
def P_X4_needs (κ : Nat → Nat) (a0 : Nat) (x1 : Int32) (σ : xS) (K : Unit → xH → Prop) : Prop :=
  xgi σ a0 10 18 fun v1 => ((v1 = 0 → (xrc σ a0 10 ∧ xcall (fun τ L => P_X4_here κ a0 τ L) σ fun v2 σ3 => ((v2 = x1 → (xpi κ σ3 a0 10 18 (0 : Int32) fun σ4 => xgi σ4 a0 10 17 fun v5 => xgi σ4 a0 10 18 fun v6 => ((v6 = 0 → (xpi κ σ4 a0 10 17 (v5 + (1 : Int32)) fun σ7 => K () σ7.1)) ∧ (¬ v6 = 0 → (xpi κ σ4 a0 10 17 (v5 + (0 : Int32)) fun σ8 => K () σ8.1))))) ∧ (¬ v2 = x1 → (xpi κ σ3 a0 10 18 (1 : Int32) fun σ9 => xgi σ9 a0 10 17 fun v10 => xgi σ9 a0 10 18 fun v11 => ((v11 = 0 → (xpi κ σ9 a0 10 17 (v10 + (1 : Int32)) fun σ12 => K () σ12.1)) ∧ (¬ v11 = 0 → (xpi κ σ9 a0 10 17 (v10 + (0 : Int32)) fun σ13 => K () σ13.1)))))))) ∧ (¬ v1 = 0 → (xpi κ σ a0 10 18 (1 : Int32) fun σ14 => xgi σ14 a0 10 17 fun v15 => xgi σ14 a0 10 18 fun v16 => ((v16 = 0 → (xpi κ σ14 a0 10 17 (v15 + (1 : Int32)) fun σ17 => K () σ17.1)) ∧ (¬ v16 = 0 → (xpi κ σ14 a0 10 17 (v15 + (0 : Int32)) fun σ18 => K () σ18.1))))))
theorem mdX4_needs : yX4_needs.cls ≠ "java/lang/invoke/MethodHandle" ∧ yX4_needs.cls ≠ "java/lang/invoke/VarHandle" ∧ (parseMethodDescriptor yX4_needs.desc).map (fun d => d.parameters.length) = some 1 := by decide +kernel
set_option maxHeartbeats 4000000 in
set_option maxRecDepth 100000 in
theorem R_X4_needs (l : Launch) (hl : l.stackTraces = false) (G : xG) (hG : G.1.2 = x_cl) (a0 : Nat) (x1 : Int32) (σ : xS) (K : Unit → xH → Prop) (hp : P_X4_needs G.2 a0 x1 σ K) : xM l yX4_needs cX4_needs 2 (Option.none : Option Jvm.ClassFile.FieldType) 1 20 G [(.ref a0), .int x1] σ (xlift emV K) := by
  refine x_entry (by decide) (Nat.le_of_ble_eq_true rfl) ?_
  intro p e s m args below meth c X hr hin
  have X : xX p s m args meth c G cX4_needs 2 RX4 := X
  have hx := X.1
  have hb := X.2.1
  have hts := X.2.2.2.2.1
  have hown := X.2.2.2.1
  unfold P_X4_needs at hp
  refine x_same (lo' := [(0, .ref a0), (1, .int x1)]) rfl ?_
  refine x_up (pc' := 1) (fun _ _ _ _ _ L => lv_aload_n hx hb dX4_needs_0 rfl (lv_at L 0 rfl)) ?_
  refine x_up (pc' := 2) (fun _ _ _ _ _ L => lv_aload_n hx hb dX4_needs_1 rfl (lv_at L 0 rfl)) ?_
  refine x_gi X (kX4 hG) 18 (by decide) q3284 (fun _ h => h) dX4_needs_2 hp (fun v1 hp1 => ?_)
  refine x_pc (pc' := 5) rfl ?_
  refine x_ifn (C := v1 = 0) (pt := 16) (pc' := 8) (fun _ _ _ _ _ => lv_if_ne (tgt := 16) hx hb dX4_needs_5 (by decide)) (fun c5 => ?_) (fun c5 => ?_)
  · have hp2 := hp1.1 c5
    refine x_up (pc' := 9) (fun _ _ _ _ _ L => lv_aload_n hx hb dX4_needs_8 rfl (lv_at L 0 rfl)) ?_
    refine x_callV (em := emI) (fun r st => .int r :: st) (fun _ _ => rfl) 0 X (kX4 hG) (fun σ' KK h => R_X4_here l hl G hG a0 σ' KK h) (lw_V q3578 q3580 qs86 q119 q3581) ⟨rfl, mdX4_here⟩ ⟨Nat.le_of_ble_eq_true rfl, Nat.le_of_ble_eq_true rfl⟩ rfl rfl (Nat.le_of_ble_eq_true rfl) dX4_needs_9 hp2.1 hp2.2 (fun v2 σ3 hp3 => ?_)
    refine x_pc (pc' := 12) rfl ?_
    refine x_up (pc' := 13) (fun _ _ _ _ _ L => lv_iload_n hx hb dX4_needs_12 rfl (lv_at L 1 rfl)) ?_
    refine x_if (C := v2 = x1) (pt := 20) (pc' := 16) (fun _ _ _ _ _ => lv_icmp_eq (tgt := 20) hx hb dX4_needs_13 (by decide)) (fun c13 => ?_) (fun c13 => ?_)
    · have hp4 := hp3.1 c13
      refine x_up (pc' := 21) (fun _ _ _ _ _ L => lv_iconst (v := (0 : Int32)) hx hb dX4_needs_20 (by decide)) ?_
      refine x_pi X (kX4 hG) 18 (by decide) q3284 (fun _ h => h) rfl rfl rfl dX4_needs_21 hp4 (fun σ4 hp5 => ?_)
      refine x_pc (pc' := 24) rfl ?_
      refine x_up (pc' := 25) (fun _ _ _ _ _ L => lv_aload_n hx hb dX4_needs_24 rfl (lv_at L 0 rfl)) ?_
      refine x_up (pc' := 26) (fun _ _ _ _ _ L => lv_dup hx hb dX4_needs_25 rfl) ?_
      refine x_gi X (kX4 hG) 17 (by decide) q3283 (fun _ h => h) dX4_needs_26 hp5 (fun v5 hp6 => ?_)
      refine x_pc (pc' := 29) rfl ?_
      refine x_up (pc' := 30) (fun _ _ _ _ _ L => lv_aload_n hx hb dX4_needs_29 rfl (lv_at L 0 rfl)) ?_
      refine x_gi X (kX4 hG) 18 (by decide) q3284 (fun _ h => h) dX4_needs_30 hp6 (fun v6 hp7 => ?_)
      refine x_pc (pc' := 33) rfl ?_
      refine x_if (C := v6 = 0) (pt := 40) (pc' := 36) (fun _ _ _ _ _ => lv_if_eq (tgt := 40) hx hb dX4_needs_33 (by decide)) (fun c33 => ?_) (fun c33 => ?_)
      · have hp8 := hp7.1 c33
        refine x_up (pc' := 41) (fun _ _ _ _ _ L => lv_iconst (v := (1 : Int32)) hx hb dX4_needs_40 (by decide)) ?_
        refine x_up (pc' := 42) (fun _ _ _ _ _ L => lv_iadd hx hb dX4_needs_41) ?_
        refine x_pi X (kX4 hG) 17 (by decide) q3283 (fun _ h => h) rfl rfl rfl dX4_needs_42 hp8 (fun σ7 hp9 => ?_)
        refine x_pc (pc' := 45) rfl ?_
        exact x_vret X hr dX4_needs_45 hp9
      · have hp10 := hp7.2 c33
        refine x_up (pc' := 37) (fun _ _ _ _ _ L => lv_iconst (v := (0 : Int32)) hx hb dX4_needs_36 (by decide)) ?_
        refine x_up (pc' := 41) (fun _ _ _ _ _ L => lv_goto (tgt := 41) hx hb dX4_needs_37 (by decide)) ?_
        refine x_up (pc' := 42) (fun _ _ _ _ _ L => lv_iadd hx hb dX4_needs_41) ?_
        refine x_pi X (kX4 hG) 17 (by decide) q3283 (fun _ h => h) rfl rfl rfl dX4_needs_42 hp10 (fun σ8 hp11 => ?_)
        refine x_pc (pc' := 45) rfl ?_
        exact x_vret X hr dX4_needs_45 hp11
    · have hp12 := hp3.2 c13
      refine x_up (pc' := 17) (fun _ _ _ _ _ L => lv_iconst (v := (1 : Int32)) hx hb dX4_needs_16 (by decide)) ?_
      refine x_up (pc' := 21) (fun _ _ _ _ _ L => lv_goto (tgt := 21) hx hb dX4_needs_17 (by decide)) ?_
      refine x_pi X (kX4 hG) 18 (by decide) q3284 (fun _ h => h) rfl rfl rfl dX4_needs_21 hp12 (fun σ9 hp13 => ?_)
      refine x_pc (pc' := 24) rfl ?_
      refine x_up (pc' := 25) (fun _ _ _ _ _ L => lv_aload_n hx hb dX4_needs_24 rfl (lv_at L 0 rfl)) ?_
      refine x_up (pc' := 26) (fun _ _ _ _ _ L => lv_dup hx hb dX4_needs_25 rfl) ?_
      refine x_gi X (kX4 hG) 17 (by decide) q3283 (fun _ h => h) dX4_needs_26 hp13 (fun v10 hp14 => ?_)
      refine x_pc (pc' := 29) rfl ?_
      refine x_up (pc' := 30) (fun _ _ _ _ _ L => lv_aload_n hx hb dX4_needs_29 rfl (lv_at L 0 rfl)) ?_
      refine x_gi X (kX4 hG) 18 (by decide) q3284 (fun _ h => h) dX4_needs_30 hp14 (fun v11 hp15 => ?_)
      refine x_pc (pc' := 33) rfl ?_
      refine x_if (C := v11 = 0) (pt := 40) (pc' := 36) (fun _ _ _ _ _ => lv_if_eq (tgt := 40) hx hb dX4_needs_33 (by decide)) (fun c33 => ?_) (fun c33 => ?_)
      · have hp16 := hp15.1 c33
        refine x_up (pc' := 41) (fun _ _ _ _ _ L => lv_iconst (v := (1 : Int32)) hx hb dX4_needs_40 (by decide)) ?_
        refine x_up (pc' := 42) (fun _ _ _ _ _ L => lv_iadd hx hb dX4_needs_41) ?_
        refine x_pi X (kX4 hG) 17 (by decide) q3283 (fun _ h => h) rfl rfl rfl dX4_needs_42 hp16 (fun σ12 hp17 => ?_)
        refine x_pc (pc' := 45) rfl ?_
        exact x_vret X hr dX4_needs_45 hp17
      · have hp18 := hp15.2 c33
        refine x_up (pc' := 37) (fun _ _ _ _ _ L => lv_iconst (v := (0 : Int32)) hx hb dX4_needs_36 (by decide)) ?_
        refine x_up (pc' := 41) (fun _ _ _ _ _ L => lv_goto (tgt := 41) hx hb dX4_needs_37 (by decide)) ?_
        refine x_up (pc' := 42) (fun _ _ _ _ _ L => lv_iadd hx hb dX4_needs_41) ?_
        refine x_pi X (kX4 hG) 17 (by decide) q3283 (fun _ h => h) rfl rfl rfl dX4_needs_42 hp18 (fun σ13 hp19 => ?_)
        refine x_pc (pc' := 45) rfl ?_
        exact x_vret X hr dX4_needs_45 hp19
  · have hp20 := hp1.2 c5
    refine x_up (pc' := 17) (fun _ _ _ _ _ L => lv_iconst (v := (1 : Int32)) hx hb dX4_needs_16 (by decide)) ?_
    refine x_up (pc' := 21) (fun _ _ _ _ _ L => lv_goto (tgt := 21) hx hb dX4_needs_17 (by decide)) ?_
    refine x_pi X (kX4 hG) 18 (by decide) q3284 (fun _ h => h) rfl rfl rfl dX4_needs_21 hp20 (fun σ14 hp21 => ?_)
    refine x_pc (pc' := 24) rfl ?_
    refine x_up (pc' := 25) (fun _ _ _ _ _ L => lv_aload_n hx hb dX4_needs_24 rfl (lv_at L 0 rfl)) ?_
    refine x_up (pc' := 26) (fun _ _ _ _ _ L => lv_dup hx hb dX4_needs_25 rfl) ?_
    refine x_gi X (kX4 hG) 17 (by decide) q3283 (fun _ h => h) dX4_needs_26 hp21 (fun v15 hp22 => ?_)
    refine x_pc (pc' := 29) rfl ?_
    refine x_up (pc' := 30) (fun _ _ _ _ _ L => lv_aload_n hx hb dX4_needs_29 rfl (lv_at L 0 rfl)) ?_
    refine x_gi X (kX4 hG) 18 (by decide) q3284 (fun _ h => h) dX4_needs_30 hp22 (fun v16 hp23 => ?_)
    refine x_pc (pc' := 33) rfl ?_
    refine x_if (C := v16 = 0) (pt := 40) (pc' := 36) (fun _ _ _ _ _ => lv_if_eq (tgt := 40) hx hb dX4_needs_33 (by decide)) (fun c33 => ?_) (fun c33 => ?_)
    · have hp24 := hp23.1 c33
      refine x_up (pc' := 41) (fun _ _ _ _ _ L => lv_iconst (v := (1 : Int32)) hx hb dX4_needs_40 (by decide)) ?_
      refine x_up (pc' := 42) (fun _ _ _ _ _ L => lv_iadd hx hb dX4_needs_41) ?_
      refine x_pi X (kX4 hG) 17 (by decide) q3283 (fun _ h => h) rfl rfl rfl dX4_needs_42 hp24 (fun σ17 hp25 => ?_)
      refine x_pc (pc' := 45) rfl ?_
      exact x_vret X hr dX4_needs_45 hp25
    · have hp26 := hp23.2 c33
      refine x_up (pc' := 37) (fun _ _ _ _ _ L => lv_iconst (v := (0 : Int32)) hx hb dX4_needs_36 (by decide)) ?_
      refine x_up (pc' := 41) (fun _ _ _ _ _ L => lv_goto (tgt := 41) hx hb dX4_needs_37 (by decide)) ?_
      refine x_up (pc' := 42) (fun _ _ _ _ _ L => lv_iadd hx hb dX4_needs_41) ?_
      refine x_pi X (kX4 hG) 17 (by decide) q3283 (fun _ h => h) rfl rfl rfl dX4_needs_42 hp26 (fun σ18 hp27 => ?_)
      refine x_pc (pc' := 45) rfl ?_
      exact x_vret X hr dX4_needs_45 hp27
-- X4_readsWord
def B_X4_readsWord_2 (κ : Nat → Nat) (kx3004 : Int32 → xS → Prop) (f0 : Nat) : (Int32 → xS → Prop) → Int32 → xS → Prop := fun self3003 w3001 σ3002 =>
  (((6 : Int32) ≤ w3001 → (kx3004 w3001 σ3002)) ∧ (¬ (6 : Int32) ≤ w3001 → (xrc σ3002 f0 10 ∧ xcall (fun τ L => P_X4_isWord κ f0 w3001 τ L) σ3002 fun v3005 σ3006 => ((v3005 = 0 → (self3003 (w3001 + (1 : Int32)) σ3006)) ∧ (¬ v3005 = 0 → (kx3004 w3001 σ3006))))))
def B_X4_readsWord_24 (κ : Nat → Nat) (K : Int32 → xH → Prop) (f0 : Nat) (f1 : Int32) : (Int32 → xS → Prop) → Int32 → xS → Prop := fun self25003 w25001 σ25002 =>
  xcall (fun τ L => P_X4_word κ f1 τ L) σ25002 fun v25004 σ25005 => xnn v25004 fun b25006 => xrc σ25005 b25006 9 ∧ xcall (fun τ L => P_J14_length κ b25006 τ L) σ25005 fun v25007 σ25008 => ((v25007 ≤ w25001 → (K f1 σ25008.1)) ∧ (¬ v25007 ≤ w25001 → (xcall (fun τ L => P_X4_word κ f1 τ L) σ25008 fun v25009 σ25010 => xnn v25009 fun b25011 => xrc σ25010 b25011 9 ∧ xcall (fun τ L => P_J14_charAt κ b25011 w25001 τ L) σ25010 fun v25012 σ25013 => xrc σ25013 f0 10 ∧ xcall (fun τ L => P_X4_needs κ f0 v25012 τ L) σ25013 fun _ σ25014 => self25003 (w25001 + (1 : Int32)) σ25014)))
def P_X4_readsWord (κ : Nat → Nat) (a0 : Nat) (σ : xS) (K : Int32 → xH → Prop) : Prop :=
  xwhile (B_X4_readsWord_2 κ (fun e1 σ2 => xwhile (B_X4_readsWord_24 κ K a0 e1) (0 : Int32) σ2) a0) (0 : Int32) σ
theorem mdX4_readsWord : yX4_readsWord.cls ≠ "java/lang/invoke/MethodHandle" ∧ yX4_readsWord.cls ≠ "java/lang/invoke/VarHandle" ∧ (parseMethodDescriptor yX4_readsWord.desc).map (fun d => d.parameters.length) = some 0 := by decide +kernel
set_option maxHeartbeats 4000000 in
set_option maxRecDepth 100000 in
theorem R_X4_readsWord (l : Launch) (hl : l.stackTraces = false) (G : xG) (hG : G.1.2 = x_cl) (a0 : Nat) (σ : xS) (K : Int32 → xH → Prop) (hp : P_X4_readsWord G.2 a0 σ K) : xM l yX4_readsWord cX4_readsWord 3 (Option.some Jvm.ClassFile.FieldType.int) 6 128 G [(.ref a0)] σ (xlift emI K) := by
  refine x_entry (by decide) (Nat.le_of_ble_eq_true rfl) ?_
  intro p e s m args below meth c X hr hin
  have X : xX p s m args meth c G cX4_readsWord 3 RX4 := X
  have hx := X.1
  have hb := X.2.1
  have hts := X.2.2.2.2.1
  have hown := X.2.2.2.1
  unfold P_X4_readsWord at hp
  refine x_same (lo' := [(0, .ref a0)]) rfl ?_
  refine x_up (pc' := 1) (fun _ _ _ _ _ L => lv_iconst (v := (0 : Int32)) hx hb dX4_readsWord_0 (by decide)) ?_
  refine x_upL (pc' := 2) (lo' := [(1, .int (0 : Int32)), (0, .ref a0)]) (fun _ _ _ _ _ L => lv_istore_n hx hb dX4_readsWord_1 rfl L (by decide) rfl) ?_
  refine x_lo (lo' := [(1, .int (0 : Int32)), (0, .ref a0)]) [0, 1] rfl ?_
  refine x_while (v0 := (0 : Int32)) (fun w1 => [(1, .int w1), (0, .ref a0)]) hp (fun self2 hself3 => ?_)
  rintro y5 σ4 hp1
  unfold B_X4_readsWord_2 at hp1
  refine x_same (lo' := [(1, .int y5), (0, .ref a0)]) rfl ?_
  refine x_up (pc' := 3) (fun _ _ _ _ _ L => lv_iload_n hx hb dX4_readsWord_2 rfl (lv_at L 0 rfl)) ?_
  refine x_up (pc' := 5) (fun _ _ _ _ _ L => lv_bipush (v := (6 : Int32)) hx hb dX4_readsWord_3 (by decide)) ?_
  refine x_if (C := (6 : Int32) ≤ y5) (pt := 22) (pc' := 8) (fun _ _ _ _ _ => lv_icmp_ge (tgt := 22) hx hb dX4_readsWord_5 (by decide)) (fun c5 => ?_) (fun c5 => ?_)
  · have hp2 := hp1.1 c5
    refine x_up (pc' := 23) (fun _ _ _ _ _ L => lv_iconst (v := (0 : Int32)) hx hb dX4_readsWord_22 (by decide)) ?_
    refine x_upL (pc' := 24) (lo' := [(2, .int (0 : Int32)), (1, .int y5), (0, .ref a0)]) (fun _ _ _ _ _ L => lv_istore_n hx hb dX4_readsWord_23 rfl L (by decide) rfl) ?_
    refine x_lo (lo' := [(2, .int (0 : Int32)), (0, .ref a0), (1, .int y5)]) [0, 2, 1] rfl ?_
    refine x_while (v0 := (0 : Int32)) (fun w6 => [(2, .int w6), (0, .ref a0), (1, .int y5)]) hp2 (fun self7 hself8 => ?_)
    rintro y10 σ9 hp3
    unfold B_X4_readsWord_24 at hp3
    refine x_same (lo' := [(2, .int y10), (0, .ref a0), (1, .int y5)]) rfl ?_
    refine x_up (pc' := 25) (fun _ _ _ _ _ L => lv_iload_n hx hb dX4_readsWord_24 rfl (lv_at L 0 rfl)) ?_
    refine x_up (pc' := 26) (fun _ _ _ _ _ L => lv_iload_n hx hb dX4_readsWord_25 rfl (lv_at L 2 rfl)) ?_
    refine x_callS (em := emQ) (fun r st => va_rf r :: st) (fun _ _ => rfl) 1 X (fun σ' KK h => R_X4_word l hl G hG y5 σ' KK h) (lw_S q3567 q3568 q119 q3569) mdX4_word ⟨Nat.le_of_ble_eq_true rfl, Nat.le_of_ble_eq_true rfl⟩ rfl rfl (Nat.le_of_ble_eq_true rfl) dX4_readsWord_26 hp3 (fun v11 σ12 hp4 => ?_)
    refine x_pc (pc' := 29) rfl ?_
    obtain ⟨b13, rfl, hp5⟩ := hp4
    refine x_callV (em := emI) (fun r st => .int r :: st) (fun _ _ => rfl) 0 X (kJ14 hG) (fun σ' KK h => R_J14_length l hl G hG b13 σ' KK h) (lw_V q3582 q925 q926 q117 q927) ⟨rfl, mdJ14_length⟩ ⟨Nat.le_of_ble_eq_true rfl, Nat.le_of_ble_eq_true rfl⟩ rfl rfl (Nat.le_of_ble_eq_true rfl) dX4_readsWord_29 hp5.1 hp5.2 (fun v14 σ15 hp6 => ?_)
    refine x_pc (pc' := 32) rfl ?_
    refine x_if (C := v14 ≤ y10) (pt := 53) (pc' := 35) (fun _ _ _ _ _ => lv_icmp_ge (tgt := 53) hx hb dX4_readsWord_32 (by decide)) (fun c32 => ?_) (fun c32 => ?_)
    · have hp7 := hp6.1 c32
      refine x_up (pc' := 54) (fun _ _ _ _ _ L => lv_iload_n hx hb dX4_readsWord_53 rfl (lv_at L 2 rfl)) ?_
      exact x_iret X hr rfl dX4_readsWord_54 hp7
    · have hp8 := hp6.2 c32
      refine x_up (pc' := 36) (fun _ _ _ _ _ L => lv_aload_n hx hb dX4_readsWord_35 rfl (lv_at L 1 rfl)) ?_
      refine x_up (pc' := 37) (fun _ _ _ _ _ L => lv_iload_n hx hb dX4_readsWord_36 rfl (lv_at L 2 rfl)) ?_
      refine x_callS (em := emQ) (fun r st => va_rf r :: st) (fun _ _ => rfl) 1 X (fun σ' KK h => R_X4_word l hl G hG y5 σ' KK h) (lw_S q3567 q3568 q119 q3569) mdX4_word ⟨Nat.le_of_ble_eq_true rfl, Nat.le_of_ble_eq_true rfl⟩ rfl rfl (Nat.le_of_ble_eq_true rfl) dX4_readsWord_37 hp8 (fun v16 σ17 hp9 => ?_)
      refine x_pc (pc' := 40) rfl ?_
      refine x_up (pc' := 41) (fun _ _ _ _ _ L => lv_iload_n hx hb dX4_readsWord_40 rfl (lv_at L 0 rfl)) ?_
      obtain ⟨b18, rfl, hp10⟩ := hp9
      refine x_callV (em := emI) (fun r st => .int r :: st) (fun _ _ => rfl) 1 X (kJ14 hG) (fun σ' KK h => R_J14_charAt l hl G hG b18 y10 σ' KK h) (lw_V q3577 q2986 q2987 q117 q2988) ⟨rfl, mdJ14_charAt⟩ ⟨Nat.le_of_ble_eq_true rfl, Nat.le_of_ble_eq_true rfl⟩ rfl rfl (Nat.le_of_ble_eq_true rfl) dX4_readsWord_41 hp10.1 hp10.2 (fun v19 σ20 hp11 => ?_)
      refine x_pc (pc' := 44) rfl ?_
      refine x_callV (em := emV) (fun r st => st) (fun _ _ => rfl) 1 X (kX4 hG) (fun σ' KK h => R_X4_needs l hl G hG a0 v19 σ' KK h) (lw_V q3583 q3585 qs87 q119 q3586) ⟨rfl, mdX4_needs⟩ ⟨Nat.le_of_ble_eq_true rfl, Nat.le_of_ble_eq_true rfl⟩ rfl rfl (Nat.le_of_ble_eq_true rfl) dX4_readsWord_44 hp11.1 hp11.2 (fun _ σ21 hp12 => ?_)
      refine x_pc (pc' := 47) rfl ?_
      refine x_upL (pc' := 50) (lo' := [(2, .int (y10 + (1 : Int32))), (0, .ref a0), (1, .int y5)]) (fun _ _ _ _ _ L => lv_iinc (v := y10 + (1 : Int32)) hx hb dX4_readsWord_47 L (k := 0) rfl rfl (by decide) rfl) ?_
      refine x_up (pc' := 24) (fun _ _ _ _ _ L => lv_goto (tgt := 24) hx hb dX4_readsWord_50 (by decide)) ?_
      refine x_lo (lo' := [(2, .int (y10 + (1 : Int32))), (0, .ref a0), (1, .int y5)]) [0, 1, 2] rfl ?_
      exact hself8 (y10 + (1 : Int32)) σ21 hp12
  · have hp13 := hp1.2 c5
    refine x_up (pc' := 9) (fun _ _ _ _ _ L => lv_aload_n hx hb dX4_readsWord_8 rfl (lv_at L 1 rfl)) ?_
    refine x_up (pc' := 10) (fun _ _ _ _ _ L => lv_iload_n hx hb dX4_readsWord_9 rfl (lv_at L 0 rfl)) ?_
    refine x_callV (em := emI) (fun r st => .int r :: st) (fun _ _ => rfl) 1 X (kX4 hG) (fun σ' KK h => R_X4_isWord l hl G hG a0 y5 σ' KK h) (lw_V q3563 q3565 qs85 q119 q3566) ⟨rfl, mdX4_isWord⟩ ⟨Nat.le_of_ble_eq_true rfl, Nat.le_of_ble_eq_true rfl⟩ rfl rfl (Nat.le_of_ble_eq_true rfl) dX4_readsWord_10 hp13.1 hp13.2 (fun v22 σ23 hp14 => ?_)
    refine x_pc (pc' := 13) rfl ?_
    refine x_ifn (C := v22 = 0) (pt := 22) (pc' := 16) (fun _ _ _ _ _ => lv_if_ne (tgt := 22) hx hb dX4_readsWord_13 (by decide)) (fun c13 => ?_) (fun c13 => ?_)
    · have hp15 := hp14.1 c13
      refine x_upL (pc' := 19) (lo' := [(1, .int (y5 + (1 : Int32))), (0, .ref a0)]) (fun _ _ _ _ _ L => lv_iinc (v := y5 + (1 : Int32)) hx hb dX4_readsWord_16 L (k := 0) rfl rfl (by decide) rfl) ?_
      refine x_up (pc' := 2) (fun _ _ _ _ _ L => lv_goto (tgt := 2) hx hb dX4_readsWord_19 (by decide)) ?_
      refine x_lo (lo' := [(1, .int (y5 + (1 : Int32))), (0, .ref a0)]) [0, 1] rfl ?_
      exact hself3 (y5 + (1 : Int32)) σ23 hp15
    · have hp16 := hp14.2 c13
      refine x_up (pc' := 23) (fun _ _ _ _ _ L => lv_iconst (v := (0 : Int32)) hx hb dX4_readsWord_22 (by decide)) ?_
      refine x_upL (pc' := 24) (lo' := [(2, .int (0 : Int32)), (1, .int y5), (0, .ref a0)]) (fun _ _ _ _ _ L => lv_istore_n hx hb dX4_readsWord_23 rfl L (by decide) rfl) ?_
      refine x_lo (lo' := [(2, .int (0 : Int32)), (0, .ref a0), (1, .int y5)]) [0, 2, 1] rfl ?_
      refine x_while (v0 := (0 : Int32)) (fun w24 => [(2, .int w24), (0, .ref a0), (1, .int y5)]) hp16 (fun self25 hself26 => ?_)
      rintro y28 σ27 hp17
      unfold B_X4_readsWord_24 at hp17
      refine x_same (lo' := [(2, .int y28), (0, .ref a0), (1, .int y5)]) rfl ?_
      refine x_up (pc' := 25) (fun _ _ _ _ _ L => lv_iload_n hx hb dX4_readsWord_24 rfl (lv_at L 0 rfl)) ?_
      refine x_up (pc' := 26) (fun _ _ _ _ _ L => lv_iload_n hx hb dX4_readsWord_25 rfl (lv_at L 2 rfl)) ?_
      refine x_callS (em := emQ) (fun r st => va_rf r :: st) (fun _ _ => rfl) 1 X (fun σ' KK h => R_X4_word l hl G hG y5 σ' KK h) (lw_S q3567 q3568 q119 q3569) mdX4_word ⟨Nat.le_of_ble_eq_true rfl, Nat.le_of_ble_eq_true rfl⟩ rfl rfl (Nat.le_of_ble_eq_true rfl) dX4_readsWord_26 hp17 (fun v29 σ30 hp18 => ?_)
      refine x_pc (pc' := 29) rfl ?_
      obtain ⟨b31, rfl, hp19⟩ := hp18
      refine x_callV (em := emI) (fun r st => .int r :: st) (fun _ _ => rfl) 0 X (kJ14 hG) (fun σ' KK h => R_J14_length l hl G hG b31 σ' KK h) (lw_V q3582 q925 q926 q117 q927) ⟨rfl, mdJ14_length⟩ ⟨Nat.le_of_ble_eq_true rfl, Nat.le_of_ble_eq_true rfl⟩ rfl rfl (Nat.le_of_ble_eq_true rfl) dX4_readsWord_29 hp19.1 hp19.2 (fun v32 σ33 hp20 => ?_)
      refine x_pc (pc' := 32) rfl ?_
      refine x_if (C := v32 ≤ y28) (pt := 53) (pc' := 35) (fun _ _ _ _ _ => lv_icmp_ge (tgt := 53) hx hb dX4_readsWord_32 (by decide)) (fun c32 => ?_) (fun c32 => ?_)
      · have hp21 := hp20.1 c32
        refine x_up (pc' := 54) (fun _ _ _ _ _ L => lv_iload_n hx hb dX4_readsWord_53 rfl (lv_at L 2 rfl)) ?_
        exact x_iret X hr rfl dX4_readsWord_54 hp21
      · have hp22 := hp20.2 c32
        refine x_up (pc' := 36) (fun _ _ _ _ _ L => lv_aload_n hx hb dX4_readsWord_35 rfl (lv_at L 1 rfl)) ?_
        refine x_up (pc' := 37) (fun _ _ _ _ _ L => lv_iload_n hx hb dX4_readsWord_36 rfl (lv_at L 2 rfl)) ?_
        refine x_callS (em := emQ) (fun r st => va_rf r :: st) (fun _ _ => rfl) 1 X (fun σ' KK h => R_X4_word l hl G hG y5 σ' KK h) (lw_S q3567 q3568 q119 q3569) mdX4_word ⟨Nat.le_of_ble_eq_true rfl, Nat.le_of_ble_eq_true rfl⟩ rfl rfl (Nat.le_of_ble_eq_true rfl) dX4_readsWord_37 hp22 (fun v34 σ35 hp23 => ?_)
        refine x_pc (pc' := 40) rfl ?_
        refine x_up (pc' := 41) (fun _ _ _ _ _ L => lv_iload_n hx hb dX4_readsWord_40 rfl (lv_at L 0 rfl)) ?_
        obtain ⟨b36, rfl, hp24⟩ := hp23
        refine x_callV (em := emI) (fun r st => .int r :: st) (fun _ _ => rfl) 1 X (kJ14 hG) (fun σ' KK h => R_J14_charAt l hl G hG b36 y28 σ' KK h) (lw_V q3577 q2986 q2987 q117 q2988) ⟨rfl, mdJ14_charAt⟩ ⟨Nat.le_of_ble_eq_true rfl, Nat.le_of_ble_eq_true rfl⟩ rfl rfl (Nat.le_of_ble_eq_true rfl) dX4_readsWord_41 hp24.1 hp24.2 (fun v37 σ38 hp25 => ?_)
        refine x_pc (pc' := 44) rfl ?_
        refine x_callV (em := emV) (fun r st => st) (fun _ _ => rfl) 1 X (kX4 hG) (fun σ' KK h => R_X4_needs l hl G hG a0 v37 σ' KK h) (lw_V q3583 q3585 qs87 q119 q3586) ⟨rfl, mdX4_needs⟩ ⟨Nat.le_of_ble_eq_true rfl, Nat.le_of_ble_eq_true rfl⟩ rfl rfl (Nat.le_of_ble_eq_true rfl) dX4_readsWord_44 hp25.1 hp25.2 (fun _ σ39 hp26 => ?_)
        refine x_pc (pc' := 47) rfl ?_
        refine x_upL (pc' := 50) (lo' := [(2, .int (y28 + (1 : Int32))), (0, .ref a0), (1, .int y5)]) (fun _ _ _ _ _ L => lv_iinc (v := y28 + (1 : Int32)) hx hb dX4_readsWord_47 L (k := 0) rfl rfl (by decide) rfl) ?_
        refine x_up (pc' := 24) (fun _ _ _ _ _ L => lv_goto (tgt := 24) hx hb dX4_readsWord_50 (by decide)) ?_
        refine x_lo (lo' := [(2, .int (y28 + (1 : Int32))), (0, .ref a0), (1, .int y5)]) [0, 1, 2] rfl ?_
        exact hself26 (y28 + (1 : Int32)) σ39 hp26
-- X4_digit
def P_X4_digit (κ : Nat → Nat) (a0 : Nat) (σ : xS) (K : Int32 → xH → Prop) : Prop :=
  xgi σ a0 10 18 fun v1 => ((v1 = 0 → (xrc σ a0 10 ∧ xcall (fun τ L => P_X4_here κ a0 τ L) σ fun v2 σ3 => xcall (fun τ L => P_X4_in κ v2 (48 : Int32) (57 : Int32) τ L) σ3 fun v4 σ5 => ((v4 = 0 → (xpi κ σ5 a0 10 18 (1 : Int32) fun σ6 => xgi σ6 a0 10 18 fun v7 => ((v7 = 0 → (xrc σ6 a0 10 ∧ xcall (fun τ L => P_X4_here κ a0 τ L) σ6 fun v8 σ9 => xgi σ9 a0 10 17 fun v10 => xgi σ9 a0 10 18 fun v11 => ((v11 = 0 → (xpi κ σ9 a0 10 17 (v10 + (1 : Int32)) fun σ12 => K (v8 - (48 : Int32)) σ12.1)) ∧ (¬ v11 = 0 → (xpi κ σ9 a0 10 17 (v10 + (0 : Int32)) fun σ13 => K (v8 - (48 : Int32)) σ13.1))))) ∧ (¬ v7 = 0 → (xgi σ6 a0 10 17 fun v14 => xgi σ6 a0 10 18 fun v15 => ((v15 = 0 → (xpi κ σ6 a0 10 17 (v14 + (1 : Int32)) fun σ16 => K (0 : Int32) σ16.1)) ∧ (¬ v15 = 0 → (xpi κ σ6 a0 10 17 (v14 + (0 : Int32)) fun σ17 => K (0 : Int32) σ17.1)))))))) ∧ (¬ v4 = 0 → (xpi κ σ5 a0 10 18 (0 : Int32) fun σ18 => xgi σ18 a0 10 18 fun v19 => ((v19 = 0 → (xrc σ18 a0 10 ∧ xcall (fun τ L => P_X4_here κ a0 τ L) σ18 fun v20 σ21 => xgi σ21 a0 10 17 fun v22 => xgi σ21 a0 10 18 fun v23 => ((v23 = 0 → (xpi κ σ21 a0 10 17 (v22 + (1 : Int32)) fun σ24 => K (v20 - (48 : Int32)) σ24.1)) ∧ (¬ v23 = 0 → (xpi κ σ21 a0 10 17 (v22 + (0 : Int32)) fun σ25 => K (v20 - (48 : Int32)) σ25.1))))) ∧ (¬ v19 = 0 → (xgi σ18 a0 10 17 fun v26 => xgi σ18 a0 10 18 fun v27 => ((v27 = 0 → (xpi κ σ18 a0 10 17 (v26 + (1 : Int32)) fun σ28 => K (0 : Int32) σ28.1)) ∧ (¬ v27 = 0 → (xpi κ σ18 a0 10 17 (v26 + (0 : Int32)) fun σ29 => K (0 : Int32) σ29.1))))))))))) ∧ (¬ v1 = 0 → (xpi κ σ a0 10 18 (1 : Int32) fun σ30 => xgi σ30 a0 10 18 fun v31 => ((v31 = 0 → (xrc σ30 a0 10 ∧ xcall (fun τ L => P_X4_here κ a0 τ L) σ30 fun v32 σ33 => xgi σ33 a0 10 17 fun v34 => xgi σ33 a0 10 18 fun v35 => ((v35 = 0 → (xpi κ σ33 a0 10 17 (v34 + (1 : Int32)) fun σ36 => K (v32 - (48 : Int32)) σ36.1)) ∧ (¬ v35 = 0 → (xpi κ σ33 a0 10 17 (v34 + (0 : Int32)) fun σ37 => K (v32 - (48 : Int32)) σ37.1))))) ∧ (¬ v31 = 0 → (xgi σ30 a0 10 17 fun v38 => xgi σ30 a0 10 18 fun v39 => ((v39 = 0 → (xpi κ σ30 a0 10 17 (v38 + (1 : Int32)) fun σ40 => K (0 : Int32) σ40.1)) ∧ (¬ v39 = 0 → (xpi κ σ30 a0 10 17 (v38 + (0 : Int32)) fun σ41 => K (0 : Int32) σ41.1)))))))))
theorem mdX4_digit : yX4_digit.cls ≠ "java/lang/invoke/MethodHandle" ∧ yX4_digit.cls ≠ "java/lang/invoke/VarHandle" ∧ (parseMethodDescriptor yX4_digit.desc).map (fun d => d.parameters.length) = some 0 := by decide +kernel
set_option maxHeartbeats 4000000 in
set_option maxRecDepth 100000 in
theorem R_X4_digit (l : Launch) (hl : l.stackTraces = false) (G : xG) (hG : G.1.2 = x_cl) (a0 : Nat) (σ : xS) (K : Int32 → xH → Prop) (hp : P_X4_digit G.2 a0 σ K) : xM l yX4_digit cX4_digit 2 (Option.some Jvm.ClassFile.FieldType.int) 1 22 G [(.ref a0)] σ (xlift emI K) := by
  refine x_entry (by decide) (Nat.le_of_ble_eq_true rfl) ?_
  intro p e s m args below meth c X hr hin
  have X : xX p s m args meth c G cX4_digit 2 RX4 := X
  have hx := X.1
  have hb := X.2.1
  have hts := X.2.2.2.2.1
  have hown := X.2.2.2.1
  unfold P_X4_digit at hp
  refine x_same (lo' := [(0, .ref a0)]) rfl ?_
  refine x_up (pc' := 1) (fun _ _ _ _ _ L => lv_aload_n hx hb dX4_digit_0 rfl (lv_at L 0 rfl)) ?_
  refine x_up (pc' := 2) (fun _ _ _ _ _ L => lv_aload_n hx hb dX4_digit_1 rfl (lv_at L 0 rfl)) ?_
  refine x_gi X (kX4 hG) 18 (by decide) q3284 (fun _ h => h) dX4_digit_2 hp (fun v1 hp1 => ?_)
  refine x_pc (pc' := 5) rfl ?_
  refine x_ifn (C := v1 = 0) (pt := 22) (pc' := 8) (fun _ _ _ _ _ => lv_if_ne (tgt := 22) hx hb dX4_digit_5 (by decide)) (fun c5 => ?_) (fun c5 => ?_)
  · have hp2 := hp1.1 c5
    refine x_up (pc' := 9) (fun _ _ _ _ _ L => lv_aload_n hx hb dX4_digit_8 rfl (lv_at L 0 rfl)) ?_
    refine x_callV (em := emI) (fun r st => .int r :: st) (fun _ _ => rfl) 0 X (kX4 hG) (fun σ' KK h => R_X4_here l hl G hG a0 σ' KK h) (lw_V q3578 q3580 qs86 q119 q3581) ⟨rfl, mdX4_here⟩ ⟨Nat.le_of_ble_eq_true rfl, Nat.le_of_ble_eq_true rfl⟩ rfl rfl (Nat.le_of_ble_eq_true rfl) dX4_digit_9 hp2.1 hp2.2 (fun v2 σ3 hp3 => ?_)
    refine x_pc (pc' := 12) rfl ?_
    refine x_up (pc' := 14) (fun _ _ _ _ _ L => lv_bipush (v := (48 : Int32)) hx hb dX4_digit_12 (by decide)) ?_
    refine x_up (pc' := 16) (fun _ _ _ _ _ L => lv_bipush (v := (57 : Int32)) hx hb dX4_digit_14 (by decide)) ?_
    refine x_callS (em := emI) (fun r st => .int r :: st) (fun _ _ => rfl) 3 X (fun σ' KK h => R_X4_in l hl G hG v2 (48 : Int32) (57 : Int32) σ' KK h) (lw_S q3350 q3351 q119 q3352) mdX4_in ⟨Nat.le_of_ble_eq_true rfl, Nat.le_of_ble_eq_true rfl⟩ rfl rfl (Nat.le_of_ble_eq_true rfl) dX4_digit_16 hp3 (fun v4 σ5 hp4 => ?_)
    refine x_pc (pc' := 19) rfl ?_
    refine x_ifn (C := v4 = 0) (pt := 26) (pc' := 22) (fun _ _ _ _ _ => lv_if_ne (tgt := 26) hx hb dX4_digit_19 (by decide)) (fun c19 => ?_) (fun c19 => ?_)
    · have hp5 := hp4.1 c19
      refine x_up (pc' := 23) (fun _ _ _ _ _ L => lv_iconst (v := (1 : Int32)) hx hb dX4_digit_22 (by decide)) ?_
      refine x_up (pc' := 27) (fun _ _ _ _ _ L => lv_goto (tgt := 27) hx hb dX4_digit_23 (by decide)) ?_
      refine x_pi X (kX4 hG) 18 (by decide) q3284 (fun _ h => h) rfl rfl rfl dX4_digit_27 hp5 (fun σ6 hp6 => ?_)
      refine x_pc (pc' := 30) rfl ?_
      refine x_up (pc' := 31) (fun _ _ _ _ _ L => lv_aload_n hx hb dX4_digit_30 rfl (lv_at L 0 rfl)) ?_
      refine x_gi X (kX4 hG) 18 (by decide) q3284 (fun _ h => h) dX4_digit_31 hp6 (fun v7 hp7 => ?_)
      refine x_pc (pc' := 34) rfl ?_
      refine x_if (C := v7 = 0) (pt := 41) (pc' := 37) (fun _ _ _ _ _ => lv_if_eq (tgt := 41) hx hb dX4_digit_34 (by decide)) (fun c34 => ?_) (fun c34 => ?_)
      · have hp8 := hp7.1 c34
        refine x_up (pc' := 42) (fun _ _ _ _ _ L => lv_aload_n hx hb dX4_digit_41 rfl (lv_at L 0 rfl)) ?_
        refine x_callV (em := emI) (fun r st => .int r :: st) (fun _ _ => rfl) 0 X (kX4 hG) (fun σ' KK h => R_X4_here l hl G hG a0 σ' KK h) (lw_V q3578 q3580 qs86 q119 q3581) ⟨rfl, mdX4_here⟩ ⟨Nat.le_of_ble_eq_true rfl, Nat.le_of_ble_eq_true rfl⟩ rfl rfl (Nat.le_of_ble_eq_true rfl) dX4_digit_42 hp8.1 hp8.2 (fun v8 σ9 hp9 => ?_)
        refine x_pc (pc' := 45) rfl ?_
        refine x_up (pc' := 47) (fun _ _ _ _ _ L => lv_bipush (v := (48 : Int32)) hx hb dX4_digit_45 (by decide)) ?_
        refine x_up (pc' := 48) (fun _ _ _ _ _ L => lv_isub hx hb dX4_digit_47) ?_
        refine x_upL (pc' := 49) (lo' := [(1, .int (v8 - (48 : Int32))), (0, .ref a0)]) (fun _ _ _ _ _ L => lv_istore_n hx hb dX4_digit_48 rfl L (by decide) rfl) ?_
        refine x_up (pc' := 50) (fun _ _ _ _ _ L => lv_aload_n hx hb dX4_digit_49 rfl (lv_at L 1 rfl)) ?_
        refine x_up (pc' := 51) (fun _ _ _ _ _ L => lv_dup hx hb dX4_digit_50 rfl) ?_
        refine x_gi X (kX4 hG) 17 (by decide) q3283 (fun _ h => h) dX4_digit_51 hp9 (fun v10 hp10 => ?_)
        refine x_pc (pc' := 54) rfl ?_
        refine x_up (pc' := 55) (fun _ _ _ _ _ L => lv_aload_n hx hb dX4_digit_54 rfl (lv_at L 1 rfl)) ?_
        refine x_gi X (kX4 hG) 18 (by decide) q3284 (fun _ h => h) dX4_digit_55 hp10 (fun v11 hp11 => ?_)
        refine x_pc (pc' := 58) rfl ?_
        refine x_if (C := v11 = 0) (pt := 65) (pc' := 61) (fun _ _ _ _ _ => lv_if_eq (tgt := 65) hx hb dX4_digit_58 (by decide)) (fun c58 => ?_) (fun c58 => ?_)
        · have hp12 := hp11.1 c58
          refine x_up (pc' := 66) (fun _ _ _ _ _ L => lv_iconst (v := (1 : Int32)) hx hb dX4_digit_65 (by decide)) ?_
          refine x_up (pc' := 67) (fun _ _ _ _ _ L => lv_iadd hx hb dX4_digit_66) ?_
          refine x_pi X (kX4 hG) 17 (by decide) q3283 (fun _ h => h) rfl rfl rfl dX4_digit_67 hp12 (fun σ12 hp13 => ?_)
          refine x_pc (pc' := 70) rfl ?_
          refine x_up (pc' := 71) (fun _ _ _ _ _ L => lv_iload_n hx hb dX4_digit_70 rfl (lv_at L 0 rfl)) ?_
          exact x_iret X hr rfl dX4_digit_71 hp13
        · have hp14 := hp11.2 c58
          refine x_up (pc' := 62) (fun _ _ _ _ _ L => lv_iconst (v := (0 : Int32)) hx hb dX4_digit_61 (by decide)) ?_
          refine x_up (pc' := 66) (fun _ _ _ _ _ L => lv_goto (tgt := 66) hx hb dX4_digit_62 (by decide)) ?_
          refine x_up (pc' := 67) (fun _ _ _ _ _ L => lv_iadd hx hb dX4_digit_66) ?_
          refine x_pi X (kX4 hG) 17 (by decide) q3283 (fun _ h => h) rfl rfl rfl dX4_digit_67 hp14 (fun σ13 hp15 => ?_)
          refine x_pc (pc' := 70) rfl ?_
          refine x_up (pc' := 71) (fun _ _ _ _ _ L => lv_iload_n hx hb dX4_digit_70 rfl (lv_at L 0 rfl)) ?_
          exact x_iret X hr rfl dX4_digit_71 hp15
      · have hp16 := hp7.2 c34
        refine x_up (pc' := 38) (fun _ _ _ _ _ L => lv_iconst (v := (0 : Int32)) hx hb dX4_digit_37 (by decide)) ?_
        refine x_up (pc' := 48) (fun _ _ _ _ _ L => lv_goto (tgt := 48) hx hb dX4_digit_38 (by decide)) ?_
        refine x_upL (pc' := 49) (lo' := [(1, .int (0 : Int32)), (0, .ref a0)]) (fun _ _ _ _ _ L => lv_istore_n hx hb dX4_digit_48 rfl L (by decide) rfl) ?_
        refine x_up (pc' := 50) (fun _ _ _ _ _ L => lv_aload_n hx hb dX4_digit_49 rfl (lv_at L 1 rfl)) ?_
        refine x_up (pc' := 51) (fun _ _ _ _ _ L => lv_dup hx hb dX4_digit_50 rfl) ?_
        refine x_gi X (kX4 hG) 17 (by decide) q3283 (fun _ h => h) dX4_digit_51 hp16 (fun v14 hp17 => ?_)
        refine x_pc (pc' := 54) rfl ?_
        refine x_up (pc' := 55) (fun _ _ _ _ _ L => lv_aload_n hx hb dX4_digit_54 rfl (lv_at L 1 rfl)) ?_
        refine x_gi X (kX4 hG) 18 (by decide) q3284 (fun _ h => h) dX4_digit_55 hp17 (fun v15 hp18 => ?_)
        refine x_pc (pc' := 58) rfl ?_
        refine x_if (C := v15 = 0) (pt := 65) (pc' := 61) (fun _ _ _ _ _ => lv_if_eq (tgt := 65) hx hb dX4_digit_58 (by decide)) (fun c58 => ?_) (fun c58 => ?_)
        · have hp19 := hp18.1 c58
          refine x_up (pc' := 66) (fun _ _ _ _ _ L => lv_iconst (v := (1 : Int32)) hx hb dX4_digit_65 (by decide)) ?_
          refine x_up (pc' := 67) (fun _ _ _ _ _ L => lv_iadd hx hb dX4_digit_66) ?_
          refine x_pi X (kX4 hG) 17 (by decide) q3283 (fun _ h => h) rfl rfl rfl dX4_digit_67 hp19 (fun σ16 hp20 => ?_)
          refine x_pc (pc' := 70) rfl ?_
          refine x_up (pc' := 71) (fun _ _ _ _ _ L => lv_iload_n hx hb dX4_digit_70 rfl (lv_at L 0 rfl)) ?_
          exact x_iret X hr rfl dX4_digit_71 hp20
        · have hp21 := hp18.2 c58
          refine x_up (pc' := 62) (fun _ _ _ _ _ L => lv_iconst (v := (0 : Int32)) hx hb dX4_digit_61 (by decide)) ?_
          refine x_up (pc' := 66) (fun _ _ _ _ _ L => lv_goto (tgt := 66) hx hb dX4_digit_62 (by decide)) ?_
          refine x_up (pc' := 67) (fun _ _ _ _ _ L => lv_iadd hx hb dX4_digit_66) ?_
          refine x_pi X (kX4 hG) 17 (by decide) q3283 (fun _ h => h) rfl rfl rfl dX4_digit_67 hp21 (fun σ17 hp22 => ?_)
          refine x_pc (pc' := 70) rfl ?_
          refine x_up (pc' := 71) (fun _ _ _ _ _ L => lv_iload_n hx hb dX4_digit_70 rfl (lv_at L 0 rfl)) ?_
          exact x_iret X hr rfl dX4_digit_71 hp22
    · have hp23 := hp4.2 c19
      refine x_up (pc' := 27) (fun _ _ _ _ _ L => lv_iconst (v := (0 : Int32)) hx hb dX4_digit_26 (by decide)) ?_
      refine x_pi X (kX4 hG) 18 (by decide) q3284 (fun _ h => h) rfl rfl rfl dX4_digit_27 hp23 (fun σ18 hp24 => ?_)
      refine x_pc (pc' := 30) rfl ?_
      refine x_up (pc' := 31) (fun _ _ _ _ _ L => lv_aload_n hx hb dX4_digit_30 rfl (lv_at L 0 rfl)) ?_
      refine x_gi X (kX4 hG) 18 (by decide) q3284 (fun _ h => h) dX4_digit_31 hp24 (fun v19 hp25 => ?_)
      refine x_pc (pc' := 34) rfl ?_
      refine x_if (C := v19 = 0) (pt := 41) (pc' := 37) (fun _ _ _ _ _ => lv_if_eq (tgt := 41) hx hb dX4_digit_34 (by decide)) (fun c34 => ?_) (fun c34 => ?_)
      · have hp26 := hp25.1 c34
        refine x_up (pc' := 42) (fun _ _ _ _ _ L => lv_aload_n hx hb dX4_digit_41 rfl (lv_at L 0 rfl)) ?_
        refine x_callV (em := emI) (fun r st => .int r :: st) (fun _ _ => rfl) 0 X (kX4 hG) (fun σ' KK h => R_X4_here l hl G hG a0 σ' KK h) (lw_V q3578 q3580 qs86 q119 q3581) ⟨rfl, mdX4_here⟩ ⟨Nat.le_of_ble_eq_true rfl, Nat.le_of_ble_eq_true rfl⟩ rfl rfl (Nat.le_of_ble_eq_true rfl) dX4_digit_42 hp26.1 hp26.2 (fun v20 σ21 hp27 => ?_)
        refine x_pc (pc' := 45) rfl ?_
        refine x_up (pc' := 47) (fun _ _ _ _ _ L => lv_bipush (v := (48 : Int32)) hx hb dX4_digit_45 (by decide)) ?_
        refine x_up (pc' := 48) (fun _ _ _ _ _ L => lv_isub hx hb dX4_digit_47) ?_
        refine x_upL (pc' := 49) (lo' := [(1, .int (v20 - (48 : Int32))), (0, .ref a0)]) (fun _ _ _ _ _ L => lv_istore_n hx hb dX4_digit_48 rfl L (by decide) rfl) ?_
        refine x_up (pc' := 50) (fun _ _ _ _ _ L => lv_aload_n hx hb dX4_digit_49 rfl (lv_at L 1 rfl)) ?_
        refine x_up (pc' := 51) (fun _ _ _ _ _ L => lv_dup hx hb dX4_digit_50 rfl) ?_
        refine x_gi X (kX4 hG) 17 (by decide) q3283 (fun _ h => h) dX4_digit_51 hp27 (fun v22 hp28 => ?_)
        refine x_pc (pc' := 54) rfl ?_
        refine x_up (pc' := 55) (fun _ _ _ _ _ L => lv_aload_n hx hb dX4_digit_54 rfl (lv_at L 1 rfl)) ?_
        refine x_gi X (kX4 hG) 18 (by decide) q3284 (fun _ h => h) dX4_digit_55 hp28 (fun v23 hp29 => ?_)
        refine x_pc (pc' := 58) rfl ?_
        refine x_if (C := v23 = 0) (pt := 65) (pc' := 61) (fun _ _ _ _ _ => lv_if_eq (tgt := 65) hx hb dX4_digit_58 (by decide)) (fun c58 => ?_) (fun c58 => ?_)
        · have hp30 := hp29.1 c58
          refine x_up (pc' := 66) (fun _ _ _ _ _ L => lv_iconst (v := (1 : Int32)) hx hb dX4_digit_65 (by decide)) ?_
          refine x_up (pc' := 67) (fun _ _ _ _ _ L => lv_iadd hx hb dX4_digit_66) ?_
          refine x_pi X (kX4 hG) 17 (by decide) q3283 (fun _ h => h) rfl rfl rfl dX4_digit_67 hp30 (fun σ24 hp31 => ?_)
          refine x_pc (pc' := 70) rfl ?_
          refine x_up (pc' := 71) (fun _ _ _ _ _ L => lv_iload_n hx hb dX4_digit_70 rfl (lv_at L 0 rfl)) ?_
          exact x_iret X hr rfl dX4_digit_71 hp31
        · have hp32 := hp29.2 c58
          refine x_up (pc' := 62) (fun _ _ _ _ _ L => lv_iconst (v := (0 : Int32)) hx hb dX4_digit_61 (by decide)) ?_
          refine x_up (pc' := 66) (fun _ _ _ _ _ L => lv_goto (tgt := 66) hx hb dX4_digit_62 (by decide)) ?_
          refine x_up (pc' := 67) (fun _ _ _ _ _ L => lv_iadd hx hb dX4_digit_66) ?_
          refine x_pi X (kX4 hG) 17 (by decide) q3283 (fun _ h => h) rfl rfl rfl dX4_digit_67 hp32 (fun σ25 hp33 => ?_)
          refine x_pc (pc' := 70) rfl ?_
          refine x_up (pc' := 71) (fun _ _ _ _ _ L => lv_iload_n hx hb dX4_digit_70 rfl (lv_at L 0 rfl)) ?_
          exact x_iret X hr rfl dX4_digit_71 hp33
      · have hp34 := hp25.2 c34
        refine x_up (pc' := 38) (fun _ _ _ _ _ L => lv_iconst (v := (0 : Int32)) hx hb dX4_digit_37 (by decide)) ?_
        refine x_up (pc' := 48) (fun _ _ _ _ _ L => lv_goto (tgt := 48) hx hb dX4_digit_38 (by decide)) ?_
        refine x_upL (pc' := 49) (lo' := [(1, .int (0 : Int32)), (0, .ref a0)]) (fun _ _ _ _ _ L => lv_istore_n hx hb dX4_digit_48 rfl L (by decide) rfl) ?_
        refine x_up (pc' := 50) (fun _ _ _ _ _ L => lv_aload_n hx hb dX4_digit_49 rfl (lv_at L 1 rfl)) ?_
        refine x_up (pc' := 51) (fun _ _ _ _ _ L => lv_dup hx hb dX4_digit_50 rfl) ?_
        refine x_gi X (kX4 hG) 17 (by decide) q3283 (fun _ h => h) dX4_digit_51 hp34 (fun v26 hp35 => ?_)
        refine x_pc (pc' := 54) rfl ?_
        refine x_up (pc' := 55) (fun _ _ _ _ _ L => lv_aload_n hx hb dX4_digit_54 rfl (lv_at L 1 rfl)) ?_
        refine x_gi X (kX4 hG) 18 (by decide) q3284 (fun _ h => h) dX4_digit_55 hp35 (fun v27 hp36 => ?_)
        refine x_pc (pc' := 58) rfl ?_
        refine x_if (C := v27 = 0) (pt := 65) (pc' := 61) (fun _ _ _ _ _ => lv_if_eq (tgt := 65) hx hb dX4_digit_58 (by decide)) (fun c58 => ?_) (fun c58 => ?_)
        · have hp37 := hp36.1 c58
          refine x_up (pc' := 66) (fun _ _ _ _ _ L => lv_iconst (v := (1 : Int32)) hx hb dX4_digit_65 (by decide)) ?_
          refine x_up (pc' := 67) (fun _ _ _ _ _ L => lv_iadd hx hb dX4_digit_66) ?_
          refine x_pi X (kX4 hG) 17 (by decide) q3283 (fun _ h => h) rfl rfl rfl dX4_digit_67 hp37 (fun σ28 hp38 => ?_)
          refine x_pc (pc' := 70) rfl ?_
          refine x_up (pc' := 71) (fun _ _ _ _ _ L => lv_iload_n hx hb dX4_digit_70 rfl (lv_at L 0 rfl)) ?_
          exact x_iret X hr rfl dX4_digit_71 hp38
        · have hp39 := hp36.2 c58
          refine x_up (pc' := 62) (fun _ _ _ _ _ L => lv_iconst (v := (0 : Int32)) hx hb dX4_digit_61 (by decide)) ?_
          refine x_up (pc' := 66) (fun _ _ _ _ _ L => lv_goto (tgt := 66) hx hb dX4_digit_62 (by decide)) ?_
          refine x_up (pc' := 67) (fun _ _ _ _ _ L => lv_iadd hx hb dX4_digit_66) ?_
          refine x_pi X (kX4 hG) 17 (by decide) q3283 (fun _ h => h) rfl rfl rfl dX4_digit_67 hp39 (fun σ29 hp40 => ?_)
          refine x_pc (pc' := 70) rfl ?_
          refine x_up (pc' := 71) (fun _ _ _ _ _ L => lv_iload_n hx hb dX4_digit_70 rfl (lv_at L 0 rfl)) ?_
          exact x_iret X hr rfl dX4_digit_71 hp40
  · have hp41 := hp1.2 c5
    refine x_up (pc' := 23) (fun _ _ _ _ _ L => lv_iconst (v := (1 : Int32)) hx hb dX4_digit_22 (by decide)) ?_
    refine x_up (pc' := 27) (fun _ _ _ _ _ L => lv_goto (tgt := 27) hx hb dX4_digit_23 (by decide)) ?_
    refine x_pi X (kX4 hG) 18 (by decide) q3284 (fun _ h => h) rfl rfl rfl dX4_digit_27 hp41 (fun σ30 hp42 => ?_)
    refine x_pc (pc' := 30) rfl ?_
    refine x_up (pc' := 31) (fun _ _ _ _ _ L => lv_aload_n hx hb dX4_digit_30 rfl (lv_at L 0 rfl)) ?_
    refine x_gi X (kX4 hG) 18 (by decide) q3284 (fun _ h => h) dX4_digit_31 hp42 (fun v31 hp43 => ?_)
    refine x_pc (pc' := 34) rfl ?_
    refine x_if (C := v31 = 0) (pt := 41) (pc' := 37) (fun _ _ _ _ _ => lv_if_eq (tgt := 41) hx hb dX4_digit_34 (by decide)) (fun c34 => ?_) (fun c34 => ?_)
    · have hp44 := hp43.1 c34
      refine x_up (pc' := 42) (fun _ _ _ _ _ L => lv_aload_n hx hb dX4_digit_41 rfl (lv_at L 0 rfl)) ?_
      refine x_callV (em := emI) (fun r st => .int r :: st) (fun _ _ => rfl) 0 X (kX4 hG) (fun σ' KK h => R_X4_here l hl G hG a0 σ' KK h) (lw_V q3578 q3580 qs86 q119 q3581) ⟨rfl, mdX4_here⟩ ⟨Nat.le_of_ble_eq_true rfl, Nat.le_of_ble_eq_true rfl⟩ rfl rfl (Nat.le_of_ble_eq_true rfl) dX4_digit_42 hp44.1 hp44.2 (fun v32 σ33 hp45 => ?_)
      refine x_pc (pc' := 45) rfl ?_
      refine x_up (pc' := 47) (fun _ _ _ _ _ L => lv_bipush (v := (48 : Int32)) hx hb dX4_digit_45 (by decide)) ?_
      refine x_up (pc' := 48) (fun _ _ _ _ _ L => lv_isub hx hb dX4_digit_47) ?_
      refine x_upL (pc' := 49) (lo' := [(1, .int (v32 - (48 : Int32))), (0, .ref a0)]) (fun _ _ _ _ _ L => lv_istore_n hx hb dX4_digit_48 rfl L (by decide) rfl) ?_
      refine x_up (pc' := 50) (fun _ _ _ _ _ L => lv_aload_n hx hb dX4_digit_49 rfl (lv_at L 1 rfl)) ?_
      refine x_up (pc' := 51) (fun _ _ _ _ _ L => lv_dup hx hb dX4_digit_50 rfl) ?_
      refine x_gi X (kX4 hG) 17 (by decide) q3283 (fun _ h => h) dX4_digit_51 hp45 (fun v34 hp46 => ?_)
      refine x_pc (pc' := 54) rfl ?_
      refine x_up (pc' := 55) (fun _ _ _ _ _ L => lv_aload_n hx hb dX4_digit_54 rfl (lv_at L 1 rfl)) ?_
      refine x_gi X (kX4 hG) 18 (by decide) q3284 (fun _ h => h) dX4_digit_55 hp46 (fun v35 hp47 => ?_)
      refine x_pc (pc' := 58) rfl ?_
      refine x_if (C := v35 = 0) (pt := 65) (pc' := 61) (fun _ _ _ _ _ => lv_if_eq (tgt := 65) hx hb dX4_digit_58 (by decide)) (fun c58 => ?_) (fun c58 => ?_)
      · have hp48 := hp47.1 c58
        refine x_up (pc' := 66) (fun _ _ _ _ _ L => lv_iconst (v := (1 : Int32)) hx hb dX4_digit_65 (by decide)) ?_
        refine x_up (pc' := 67) (fun _ _ _ _ _ L => lv_iadd hx hb dX4_digit_66) ?_
        refine x_pi X (kX4 hG) 17 (by decide) q3283 (fun _ h => h) rfl rfl rfl dX4_digit_67 hp48 (fun σ36 hp49 => ?_)
        refine x_pc (pc' := 70) rfl ?_
        refine x_up (pc' := 71) (fun _ _ _ _ _ L => lv_iload_n hx hb dX4_digit_70 rfl (lv_at L 0 rfl)) ?_
        exact x_iret X hr rfl dX4_digit_71 hp49
      · have hp50 := hp47.2 c58
        refine x_up (pc' := 62) (fun _ _ _ _ _ L => lv_iconst (v := (0 : Int32)) hx hb dX4_digit_61 (by decide)) ?_
        refine x_up (pc' := 66) (fun _ _ _ _ _ L => lv_goto (tgt := 66) hx hb dX4_digit_62 (by decide)) ?_
        refine x_up (pc' := 67) (fun _ _ _ _ _ L => lv_iadd hx hb dX4_digit_66) ?_
        refine x_pi X (kX4 hG) 17 (by decide) q3283 (fun _ h => h) rfl rfl rfl dX4_digit_67 hp50 (fun σ37 hp51 => ?_)
        refine x_pc (pc' := 70) rfl ?_
        refine x_up (pc' := 71) (fun _ _ _ _ _ L => lv_iload_n hx hb dX4_digit_70 rfl (lv_at L 0 rfl)) ?_
        exact x_iret X hr rfl dX4_digit_71 hp51
    · have hp52 := hp43.2 c34
      refine x_up (pc' := 38) (fun _ _ _ _ _ L => lv_iconst (v := (0 : Int32)) hx hb dX4_digit_37 (by decide)) ?_
      refine x_up (pc' := 48) (fun _ _ _ _ _ L => lv_goto (tgt := 48) hx hb dX4_digit_38 (by decide)) ?_
      refine x_upL (pc' := 49) (lo' := [(1, .int (0 : Int32)), (0, .ref a0)]) (fun _ _ _ _ _ L => lv_istore_n hx hb dX4_digit_48 rfl L (by decide) rfl) ?_
      refine x_up (pc' := 50) (fun _ _ _ _ _ L => lv_aload_n hx hb dX4_digit_49 rfl (lv_at L 1 rfl)) ?_
      refine x_up (pc' := 51) (fun _ _ _ _ _ L => lv_dup hx hb dX4_digit_50 rfl) ?_
      refine x_gi X (kX4 hG) 17 (by decide) q3283 (fun _ h => h) dX4_digit_51 hp52 (fun v38 hp53 => ?_)
      refine x_pc (pc' := 54) rfl ?_
      refine x_up (pc' := 55) (fun _ _ _ _ _ L => lv_aload_n hx hb dX4_digit_54 rfl (lv_at L 1 rfl)) ?_
      refine x_gi X (kX4 hG) 18 (by decide) q3284 (fun _ h => h) dX4_digit_55 hp53 (fun v39 hp54 => ?_)
      refine x_pc (pc' := 58) rfl ?_
      refine x_if (C := v39 = 0) (pt := 65) (pc' := 61) (fun _ _ _ _ _ => lv_if_eq (tgt := 65) hx hb dX4_digit_58 (by decide)) (fun c58 => ?_) (fun c58 => ?_)
      · have hp55 := hp54.1 c58
        refine x_up (pc' := 66) (fun _ _ _ _ _ L => lv_iconst (v := (1 : Int32)) hx hb dX4_digit_65 (by decide)) ?_
        refine x_up (pc' := 67) (fun _ _ _ _ _ L => lv_iadd hx hb dX4_digit_66) ?_
        refine x_pi X (kX4 hG) 17 (by decide) q3283 (fun _ h => h) rfl rfl rfl dX4_digit_67 hp55 (fun σ40 hp56 => ?_)
        refine x_pc (pc' := 70) rfl ?_
        refine x_up (pc' := 71) (fun _ _ _ _ _ L => lv_iload_n hx hb dX4_digit_70 rfl (lv_at L 0 rfl)) ?_
        exact x_iret X hr rfl dX4_digit_71 hp56
      · have hp57 := hp54.2 c58
        refine x_up (pc' := 62) (fun _ _ _ _ _ L => lv_iconst (v := (0 : Int32)) hx hb dX4_digit_61 (by decide)) ?_
        refine x_up (pc' := 66) (fun _ _ _ _ _ L => lv_goto (tgt := 66) hx hb dX4_digit_62 (by decide)) ?_
        refine x_up (pc' := 67) (fun _ _ _ _ _ L => lv_iadd hx hb dX4_digit_66) ?_
        refine x_pi X (kX4 hG) 17 (by decide) q3283 (fun _ h => h) rfl rfl rfl dX4_digit_67 hp57 (fun σ41 hp58 => ?_)
        refine x_pc (pc' := 70) rfl ?_
        refine x_up (pc' := 71) (fun _ _ _ _ _ L => lv_iload_n hx hb dX4_digit_70 rfl (lv_at L 0 rfl)) ?_
        exact x_iret X hr rfl dX4_digit_71 hp58
-- X4_isDigit
def P_X4_isDigit (κ : Nat → Nat) (a0 : Nat) (σ : xS) (K : Int32 → xH → Prop) : Prop :=
  xgi σ a0 10 18 fun v1 => ((v1 = 0 → (xrc σ a0 10 ∧ xcall (fun τ L => P_X4_here κ a0 τ L) σ fun v2 σ3 => xcall (fun τ L => P_X4_in κ v2 (48 : Int32) (57 : Int32) τ L) σ3 fun v4 σ5 => ((v4 = 0 → (K (0 : Int32) σ5.1)) ∧ (¬ v4 = 0 → (K (1 : Int32) σ5.1))))) ∧ (¬ v1 = 0 → (K (0 : Int32) σ.1)))
theorem mdX4_isDigit : yX4_isDigit.cls ≠ "java/lang/invoke/MethodHandle" ∧ yX4_isDigit.cls ≠ "java/lang/invoke/VarHandle" ∧ (parseMethodDescriptor yX4_isDigit.desc).map (fun d => d.parameters.length) = some 0 := by decide +kernel
set_option maxHeartbeats 4000000 in
set_option maxRecDepth 100000 in
theorem R_X4_isDigit (l : Launch) (hl : l.stackTraces = false) (G : xG) (hG : G.1.2 = x_cl) (a0 : Nat) (σ : xS) (K : Int32 → xH → Prop) (hp : P_X4_isDigit G.2 a0 σ K) : xM l yX4_isDigit cX4_isDigit 1 (Option.some Jvm.ClassFile.FieldType.boolean) 1 22 G [(.ref a0)] σ (xlift emI K) := by
  refine x_entry (by decide) (Nat.le_of_ble_eq_true rfl) ?_
  intro p e s m args below meth c X hr hin
  have X : xX p s m args meth c G cX4_isDigit 1 RX4 := X
  have hx := X.1
  have hb := X.2.1
  have hts := X.2.2.2.2.1
  have hown := X.2.2.2.1
  unfold P_X4_isDigit at hp
  refine x_same (lo' := [(0, .ref a0)]) rfl ?_
  refine x_up (pc' := 1) (fun _ _ _ _ _ L => lv_aload_n hx hb dX4_isDigit_0 rfl (lv_at L 0 rfl)) ?_
  refine x_gi X (kX4 hG) 18 (by decide) q3284 (fun _ h => h) dX4_isDigit_1 hp (fun v1 hp1 => ?_)
  refine x_pc (pc' := 4) rfl ?_
  refine x_ifn (C := v1 = 0) (pt := 25) (pc' := 7) (fun _ _ _ _ _ => lv_if_ne (tgt := 25) hx hb dX4_isDigit_4 (by decide)) (fun c4 => ?_) (fun c4 => ?_)
  · have hp2 := hp1.1 c4
    refine x_up (pc' := 8) (fun _ _ _ _ _ L => lv_aload_n hx hb dX4_isDigit_7 rfl (lv_at L 0 rfl)) ?_
    refine x_callV (em := emI) (fun r st => .int r :: st) (fun _ _ => rfl) 0 X (kX4 hG) (fun σ' KK h => R_X4_here l hl G hG a0 σ' KK h) (lw_V q3578 q3580 qs86 q119 q3581) ⟨rfl, mdX4_here⟩ ⟨Nat.le_of_ble_eq_true rfl, Nat.le_of_ble_eq_true rfl⟩ rfl rfl (Nat.le_of_ble_eq_true rfl) dX4_isDigit_8 hp2.1 hp2.2 (fun v2 σ3 hp3 => ?_)
    refine x_pc (pc' := 11) rfl ?_
    refine x_up (pc' := 13) (fun _ _ _ _ _ L => lv_bipush (v := (48 : Int32)) hx hb dX4_isDigit_11 (by decide)) ?_
    refine x_up (pc' := 15) (fun _ _ _ _ _ L => lv_bipush (v := (57 : Int32)) hx hb dX4_isDigit_13 (by decide)) ?_
    refine x_callS (em := emI) (fun r st => .int r :: st) (fun _ _ => rfl) 3 X (fun σ' KK h => R_X4_in l hl G hG v2 (48 : Int32) (57 : Int32) σ' KK h) (lw_S q3350 q3351 q119 q3352) mdX4_in ⟨Nat.le_of_ble_eq_true rfl, Nat.le_of_ble_eq_true rfl⟩ rfl rfl (Nat.le_of_ble_eq_true rfl) dX4_isDigit_15 hp3 (fun v4 σ5 hp4 => ?_)
    refine x_pc (pc' := 18) rfl ?_
    refine x_if (C := v4 = 0) (pt := 25) (pc' := 21) (fun _ _ _ _ _ => lv_if_eq (tgt := 25) hx hb dX4_isDigit_18 (by decide)) (fun c18 => ?_) (fun c18 => ?_)
    · have hp5 := hp4.1 c18
      refine x_up (pc' := 26) (fun _ _ _ _ _ L => lv_iconst (v := (0 : Int32)) hx hb dX4_isDigit_25 (by decide)) ?_
      exact x_iret X hr rfl dX4_isDigit_26 hp5
    · have hp6 := hp4.2 c18
      refine x_up (pc' := 22) (fun _ _ _ _ _ L => lv_iconst (v := (1 : Int32)) hx hb dX4_isDigit_21 (by decide)) ?_
      refine x_up (pc' := 26) (fun _ _ _ _ _ L => lv_goto (tgt := 26) hx hb dX4_isDigit_22 (by decide)) ?_
      exact x_iret X hr rfl dX4_isDigit_26 hp6
  · have hp7 := hp1.2 c4
    refine x_up (pc' := 26) (fun _ _ _ _ _ L => lv_iconst (v := (0 : Int32)) hx hb dX4_isDigit_25 (by decide)) ?_
    exact x_iret X hr rfl dX4_isDigit_26 hp7
-- X4_number
def P_X4_number (κ : Nat → Nat) (a0 : Nat) (σ : xS) (K : Int32 → xH → Prop) : Prop :=
  xrc σ a0 10 ∧ xcall (fun τ L => P_X4_digit κ a0 τ L) σ fun v1 σ2 => xrc σ2 a0 10 ∧ xcall (fun τ L => P_X4_isDigit κ a0 τ L) σ2 fun v3 σ4 => ((v3 = 0 → (xrc σ4 a0 10 ∧ xcall (fun τ L => P_X4_isDigit κ a0 τ L) σ4 fun v5 σ6 => ((v5 = 0 → (K v1 σ6.1)) ∧ (¬ v5 = 0 → (xrc σ6 a0 10 ∧ xcall (fun τ L => P_X4_digit κ a0 τ L) σ6 fun v7 σ8 => K (((10 : Int32) * v1) + v7) σ8.1))))) ∧ (¬ v3 = 0 → (xrc σ4 a0 10 ∧ xcall (fun τ L => P_X4_digit κ a0 τ L) σ4 fun v9 σ10 => xrc σ10 a0 10 ∧ xcall (fun τ L => P_X4_isDigit κ a0 τ L) σ10 fun v11 σ12 => ((v11 = 0 → (K (((10 : Int32) * v1) + v9) σ12.1)) ∧ (¬ v11 = 0 → (xrc σ12 a0 10 ∧ xcall (fun τ L => P_X4_digit κ a0 τ L) σ12 fun v13 σ14 => K (((10 : Int32) * (((10 : Int32) * v1) + v9)) + v13) σ14.1))))))
theorem mdX4_number : yX4_number.cls ≠ "java/lang/invoke/MethodHandle" ∧ yX4_number.cls ≠ "java/lang/invoke/VarHandle" ∧ (parseMethodDescriptor yX4_number.desc).map (fun d => d.parameters.length) = some 0 := by decide +kernel
set_option maxHeartbeats 4000000 in
set_option maxRecDepth 100000 in
theorem R_X4_number (l : Launch) (hl : l.stackTraces = false) (G : xG) (hG : G.1.2 = x_cl) (a0 : Nat) (σ : xS) (K : Int32 → xH → Prop) (hp : P_X4_number G.2 a0 σ K) : xM l yX4_number cX4_number 2 (Option.some Jvm.ClassFile.FieldType.int) 2 43 G [(.ref a0)] σ (xlift emI K) := by
  refine x_entry (by decide) (Nat.le_of_ble_eq_true rfl) ?_
  intro p e s m args below meth c X hr hin
  have X : xX p s m args meth c G cX4_number 2 RX4 := X
  have hx := X.1
  have hb := X.2.1
  have hts := X.2.2.2.2.1
  have hown := X.2.2.2.1
  unfold P_X4_number at hp
  refine x_same (lo' := [(0, .ref a0)]) rfl ?_
  refine x_up (pc' := 1) (fun _ _ _ _ _ L => lv_aload_n hx hb dX4_number_0 rfl (lv_at L 0 rfl)) ?_
  refine x_callV (em := emI) (fun r st => .int r :: st) (fun _ _ => rfl) 0 X (kX4 hG) (fun σ' KK h => R_X4_digit l hl G hG a0 σ' KK h) (lw_V q3591 q3593 qs89 q119 q3594) ⟨rfl, mdX4_digit⟩ ⟨Nat.le_of_ble_eq_true rfl, Nat.le_of_ble_eq_true rfl⟩ rfl rfl (Nat.le_of_ble_eq_true rfl) dX4_number_1 hp.1 hp.2 (fun v1 σ2 hp1 => ?_)
  refine x_pc (pc' := 4) rfl ?_
  refine x_upL (pc' := 5) (lo' := [(1, .int v1), (0, .ref a0)]) (fun _ _ _ _ _ L => lv_istore_n hx hb dX4_number_4 rfl L (by decide) rfl) ?_
  refine x_up (pc' := 6) (fun _ _ _ _ _ L => lv_aload_n hx hb dX4_number_5 rfl (lv_at L 1 rfl)) ?_
  refine x_callV (em := emI) (fun r st => .int r :: st) (fun _ _ => rfl) 0 X (kX4 hG) (fun σ' KK h => R_X4_isDigit l hl G hG a0 σ' KK h) (lw_V q3595 q3597 qs90 q119 q3598) ⟨rfl, mdX4_isDigit⟩ ⟨Nat.le_of_ble_eq_true rfl, Nat.le_of_ble_eq_true rfl⟩ rfl rfl (Nat.le_of_ble_eq_true rfl) dX4_number_6 hp1.1 hp1.2 (fun v3 σ4 hp2 => ?_)
  refine x_pc (pc' := 9) rfl ?_
  refine x_if (C := v3 = 0) (pt := 22) (pc' := 12) (fun _ _ _ _ _ => lv_if_eq (tgt := 22) hx hb dX4_number_9 (by decide)) (fun c9 => ?_) (fun c9 => ?_)
  · have hp3 := hp2.1 c9
    refine x_up (pc' := 23) (fun _ _ _ _ _ L => lv_aload_n hx hb dX4_number_22 rfl (lv_at L 1 rfl)) ?_
    refine x_callV (em := emI) (fun r st => .int r :: st) (fun _ _ => rfl) 0 X (kX4 hG) (fun σ' KK h => R_X4_isDigit l hl G hG a0 σ' KK h) (lw_V q3595 q3597 qs90 q119 q3598) ⟨rfl, mdX4_isDigit⟩ ⟨Nat.le_of_ble_eq_true rfl, Nat.le_of_ble_eq_true rfl⟩ rfl rfl (Nat.le_of_ble_eq_true rfl) dX4_number_23 hp3.1 hp3.2 (fun v5 σ6 hp4 => ?_)
    refine x_pc (pc' := 26) rfl ?_
    refine x_if (C := v5 = 0) (pt := 41) (pc' := 29) (fun _ _ _ _ _ => lv_if_eq (tgt := 41) hx hb dX4_number_26 (by decide)) (fun c26 => ?_) (fun c26 => ?_)
    · have hp5 := hp4.1 c26
      refine x_up (pc' := 42) (fun _ _ _ _ _ L => lv_iload_n hx hb dX4_number_41 rfl (lv_at L 0 rfl)) ?_
      exact x_iret X hr rfl dX4_number_42 hp5
    · have hp6 := hp4.2 c26
      refine x_up (pc' := 31) (fun _ _ _ _ _ L => lv_bipush (v := (10 : Int32)) hx hb dX4_number_29 (by decide)) ?_
      refine x_up (pc' := 32) (fun _ _ _ _ _ L => lv_iload_n hx hb dX4_number_31 rfl (lv_at L 0 rfl)) ?_
      refine x_up (pc' := 33) (fun _ _ _ _ _ L => lv_imul hx hb dX4_number_32) ?_
      refine x_up (pc' := 34) (fun _ _ _ _ _ L => lv_aload_n hx hb dX4_number_33 rfl (lv_at L 1 rfl)) ?_
      refine x_callV (em := emI) (fun r st => .int r :: st) (fun _ _ => rfl) 0 X (kX4 hG) (fun σ' KK h => R_X4_digit l hl G hG a0 σ' KK h) (lw_V q3591 q3593 qs89 q119 q3594) ⟨rfl, mdX4_digit⟩ ⟨Nat.le_of_ble_eq_true rfl, Nat.le_of_ble_eq_true rfl⟩ rfl rfl (Nat.le_of_ble_eq_true rfl) dX4_number_34 hp6.1 hp6.2 (fun v7 σ8 hp7 => ?_)
      refine x_pc (pc' := 37) rfl ?_
      refine x_up (pc' := 38) (fun _ _ _ _ _ L => lv_iadd hx hb dX4_number_37) ?_
      refine x_up (pc' := 42) (fun _ _ _ _ _ L => lv_goto (tgt := 42) hx hb dX4_number_38 (by decide)) ?_
      exact x_iret X hr rfl dX4_number_42 hp7
  · have hp8 := hp2.2 c9
    refine x_up (pc' := 14) (fun _ _ _ _ _ L => lv_bipush (v := (10 : Int32)) hx hb dX4_number_12 (by decide)) ?_
    refine x_up (pc' := 15) (fun _ _ _ _ _ L => lv_iload_n hx hb dX4_number_14 rfl (lv_at L 0 rfl)) ?_
    refine x_up (pc' := 16) (fun _ _ _ _ _ L => lv_imul hx hb dX4_number_15) ?_
    refine x_up (pc' := 17) (fun _ _ _ _ _ L => lv_aload_n hx hb dX4_number_16 rfl (lv_at L 1 rfl)) ?_
    refine x_callV (em := emI) (fun r st => .int r :: st) (fun _ _ => rfl) 0 X (kX4 hG) (fun σ' KK h => R_X4_digit l hl G hG a0 σ' KK h) (lw_V q3591 q3593 qs89 q119 q3594) ⟨rfl, mdX4_digit⟩ ⟨Nat.le_of_ble_eq_true rfl, Nat.le_of_ble_eq_true rfl⟩ rfl rfl (Nat.le_of_ble_eq_true rfl) dX4_number_17 hp8.1 hp8.2 (fun v9 σ10 hp9 => ?_)
    refine x_pc (pc' := 20) rfl ?_
    refine x_up (pc' := 21) (fun _ _ _ _ _ L => lv_iadd hx hb dX4_number_20) ?_
    refine x_upL (pc' := 22) (lo' := [(1, .int (((10 : Int32) * v1) + v9)), (0, .ref a0)]) (fun _ _ _ _ _ L => lv_istore_n hx hb dX4_number_21 rfl L (by decide) rfl) ?_
    refine x_up (pc' := 23) (fun _ _ _ _ _ L => lv_aload_n hx hb dX4_number_22 rfl (lv_at L 1 rfl)) ?_
    refine x_callV (em := emI) (fun r st => .int r :: st) (fun _ _ => rfl) 0 X (kX4 hG) (fun σ' KK h => R_X4_isDigit l hl G hG a0 σ' KK h) (lw_V q3595 q3597 qs90 q119 q3598) ⟨rfl, mdX4_isDigit⟩ ⟨Nat.le_of_ble_eq_true rfl, Nat.le_of_ble_eq_true rfl⟩ rfl rfl (Nat.le_of_ble_eq_true rfl) dX4_number_23 hp9.1 hp9.2 (fun v11 σ12 hp10 => ?_)
    refine x_pc (pc' := 26) rfl ?_
    refine x_if (C := v11 = 0) (pt := 41) (pc' := 29) (fun _ _ _ _ _ => lv_if_eq (tgt := 41) hx hb dX4_number_26 (by decide)) (fun c26 => ?_) (fun c26 => ?_)
    · have hp11 := hp10.1 c26
      refine x_up (pc' := 42) (fun _ _ _ _ _ L => lv_iload_n hx hb dX4_number_41 rfl (lv_at L 0 rfl)) ?_
      exact x_iret X hr rfl dX4_number_42 hp11
    · have hp12 := hp10.2 c26
      refine x_up (pc' := 31) (fun _ _ _ _ _ L => lv_bipush (v := (10 : Int32)) hx hb dX4_number_29 (by decide)) ?_
      refine x_up (pc' := 32) (fun _ _ _ _ _ L => lv_iload_n hx hb dX4_number_31 rfl (lv_at L 0 rfl)) ?_
      refine x_up (pc' := 33) (fun _ _ _ _ _ L => lv_imul hx hb dX4_number_32) ?_
      refine x_up (pc' := 34) (fun _ _ _ _ _ L => lv_aload_n hx hb dX4_number_33 rfl (lv_at L 1 rfl)) ?_
      refine x_callV (em := emI) (fun r st => .int r :: st) (fun _ _ => rfl) 0 X (kX4 hG) (fun σ' KK h => R_X4_digit l hl G hG a0 σ' KK h) (lw_V q3591 q3593 qs89 q119 q3594) ⟨rfl, mdX4_digit⟩ ⟨Nat.le_of_ble_eq_true rfl, Nat.le_of_ble_eq_true rfl⟩ rfl rfl (Nat.le_of_ble_eq_true rfl) dX4_number_34 hp12.1 hp12.2 (fun v13 σ14 hp13 => ?_)
      refine x_pc (pc' := 37) rfl ?_
      refine x_up (pc' := 38) (fun _ _ _ _ _ L => lv_iadd hx hb dX4_number_37) ?_
      refine x_up (pc' := 42) (fun _ _ _ _ _ L => lv_goto (tgt := 42) hx hb dX4_number_38 (by decide)) ?_
      exact x_iret X hr rfl dX4_number_42 hp13
-- X4_signedNumber
def P_X4_signedNumber (κ : Nat → Nat) (a0 : Nat) (σ : xS) (K : Int32 → xH → Prop) : Prop :=
  xgi σ a0 10 18 fun v1 => ((v1 = 0 → (xrc σ a0 10 ∧ xcall (fun τ L => P_X4_here κ a0 τ L) σ fun v2 σ3 => ((v2 = (45 : Int32) → (xgi σ3 a0 10 17 fun v4 => (((1 : Int32) = 0 → (xpi κ σ3 a0 10 17 (v4 + (0 : Int32)) fun σ5 => xrc σ5 a0 10 ∧ xcall (fun τ L => P_X4_number κ a0 τ L) σ5 fun v6 σ7 => (((1 : Int32) = 0 → (K v6 σ7.1)) ∧ (¬ (1 : Int32) = 0 → (K (-v6) σ7.1))))) ∧ (¬ (1 : Int32) = 0 → (xpi κ σ3 a0 10 17 (v4 + (1 : Int32)) fun σ8 => xrc σ8 a0 10 ∧ xcall (fun τ L => P_X4_number κ a0 τ L) σ8 fun v9 σ10 => (((1 : Int32) = 0 → (K v9 σ10.1)) ∧ (¬ (1 : Int32) = 0 → (K (-v9) σ10.1)))))))) ∧ (¬ v2 = (45 : Int32) → (xgi σ3 a0 10 17 fun v11 => (((0 : Int32) = 0 → (xpi κ σ3 a0 10 17 (v11 + (0 : Int32)) fun σ12 => xrc σ12 a0 10 ∧ xcall (fun τ L => P_X4_number κ a0 τ L) σ12 fun v13 σ14 => (((0 : Int32) = 0 → (K v13 σ14.1)) ∧ (¬ (0 : Int32) = 0 → (K (-v13) σ14.1))))) ∧ (¬ (0 : Int32) = 0 → (xpi κ σ3 a0 10 17 (v11 + (1 : Int32)) fun σ15 => xrc σ15 a0 10 ∧ xcall (fun τ L => P_X4_number κ a0 τ L) σ15 fun v16 σ17 => (((0 : Int32) = 0 → (K v16 σ17.1)) ∧ (¬ (0 : Int32) = 0 → (K (-v16) σ17.1))))))))))) ∧ (¬ v1 = 0 → (xgi σ a0 10 17 fun v18 => (((0 : Int32) = 0 → (xpi κ σ a0 10 17 (v18 + (0 : Int32)) fun σ19 => xrc σ19 a0 10 ∧ xcall (fun τ L => P_X4_number κ a0 τ L) σ19 fun v20 σ21 => (((0 : Int32) = 0 → (K v20 σ21.1)) ∧ (¬ (0 : Int32) = 0 → (K (-v20) σ21.1))))) ∧ (¬ (0 : Int32) = 0 → (xpi κ σ a0 10 17 (v18 + (1 : Int32)) fun σ22 => xrc σ22 a0 10 ∧ xcall (fun τ L => P_X4_number κ a0 τ L) σ22 fun v23 σ24 => (((0 : Int32) = 0 → (K v23 σ24.1)) ∧ (¬ (0 : Int32) = 0 → (K (-v23) σ24.1)))))))))
theorem mdX4_signedNumber : yX4_signedNumber.cls ≠ "java/lang/invoke/MethodHandle" ∧ yX4_signedNumber.cls ≠ "java/lang/invoke/VarHandle" ∧ (parseMethodDescriptor yX4_signedNumber.desc).map (fun d => d.parameters.length) = some 0 := by decide +kernel
set_option maxHeartbeats 4000000 in
set_option maxRecDepth 100000 in
theorem R_X4_signedNumber (l : Launch) (hl : l.stackTraces = false) (G : xG) (hG : G.1.2 = x_cl) (a0 : Nat) (σ : xS) (K : Int32 → xH → Prop) (hp : P_X4_signedNumber G.2 a0 σ K) : xM l yX4_signedNumber cX4_signedNumber 3 (Option.some Jvm.ClassFile.FieldType.int) 3 64 G [(.ref a0)] σ (xlift emI K) := by
  refine x_entry (by decide) (Nat.le_of_ble_eq_true rfl) ?_
  intro p e s m args below meth c X hr hin
  have X : xX p s m args meth c G cX4_signedNumber 3 RX4 := X
  have hx := X.1
  have hb := X.2.1
  have hts := X.2.2.2.2.1
  have hown := X.2.2.2.1
  unfold P_X4_signedNumber at hp
  refine x_same (lo' := [(0, .ref a0)]) rfl ?_
  refine x_up (pc' := 1) (fun _ _ _ _ _ L => lv_aload_n hx hb dX4_signedNumber_0 rfl (lv_at L 0 rfl)) ?_
  refine x_gi X (kX4 hG) 18 (by decide) q3284 (fun _ h => h) dX4_signedNumber_1 hp (fun v1 hp1 => ?_)
  refine x_pc (pc' := 4) rfl ?_
  refine x_ifn (C := v1 = 0) (pt := 20) (pc' := 7) (fun _ _ _ _ _ => lv_if_ne (tgt := 20) hx hb dX4_signedNumber_4 (by decide)) (fun c4 => ?_) (fun c4 => ?_)
  · have hp2 := hp1.1 c4
    refine x_up (pc' := 8) (fun _ _ _ _ _ L => lv_aload_n hx hb dX4_signedNumber_7 rfl (lv_at L 0 rfl)) ?_
    refine x_callV (em := emI) (fun r st => .int r :: st) (fun _ _ => rfl) 0 X (kX4 hG) (fun σ' KK h => R_X4_here l hl G hG a0 σ' KK h) (lw_V q3578 q3580 qs86 q119 q3581) ⟨rfl, mdX4_here⟩ ⟨Nat.le_of_ble_eq_true rfl, Nat.le_of_ble_eq_true rfl⟩ rfl rfl (Nat.le_of_ble_eq_true rfl) dX4_signedNumber_8 hp2.1 hp2.2 (fun v2 σ3 hp3 => ?_)
    refine x_pc (pc' := 11) rfl ?_
    refine x_up (pc' := 13) (fun _ _ _ _ _ L => lv_bipush (v := (45 : Int32)) hx hb dX4_signedNumber_11 (by decide)) ?_
    refine x_ifn (C := v2 = (45 : Int32)) (pt := 20) (pc' := 16) (fun _ _ _ _ _ => lv_icmp_ne (tgt := 20) hx hb dX4_signedNumber_13 (by decide)) (fun c13 => ?_) (fun c13 => ?_)
    · have hp4 := hp3.1 c13
      refine x_up (pc' := 17) (fun _ _ _ _ _ L => lv_iconst (v := (1 : Int32)) hx hb dX4_signedNumber_16 (by decide)) ?_
      refine x_up (pc' := 21) (fun _ _ _ _ _ L => lv_goto (tgt := 21) hx hb dX4_signedNumber_17 (by decide)) ?_
      refine x_upL (pc' := 22) (lo' := [(1, .int (1 : Int32)), (0, .ref a0)]) (fun _ _ _ _ _ L => lv_istore_n hx hb dX4_signedNumber_21 rfl L (by decide) rfl) ?_
      refine x_up (pc' := 23) (fun _ _ _ _ _ L => lv_aload_n hx hb dX4_signedNumber_22 rfl (lv_at L 1 rfl)) ?_
      refine x_up (pc' := 24) (fun _ _ _ _ _ L => lv_dup hx hb dX4_signedNumber_23 rfl) ?_
      refine x_gi X (kX4 hG) 17 (by decide) q3283 (fun _ h => h) dX4_signedNumber_24 hp4 (fun v4 hp5 => ?_)
      refine x_pc (pc' := 27) rfl ?_
      refine x_up (pc' := 28) (fun _ _ _ _ _ L => lv_iload_n hx hb dX4_signedNumber_27 rfl (lv_at L 0 rfl)) ?_
      refine x_if (C := (1 : Int32) = 0) (pt := 35) (pc' := 31) (fun _ _ _ _ _ => lv_if_eq (tgt := 35) hx hb dX4_signedNumber_28 (by decide)) (fun c28 => ?_) (fun c28 => ?_)
      · have hp6 := hp5.1 c28
        refine x_up (pc' := 36) (fun _ _ _ _ _ L => lv_iconst (v := (0 : Int32)) hx hb dX4_signedNumber_35 (by decide)) ?_
        refine x_up (pc' := 37) (fun _ _ _ _ _ L => lv_iadd hx hb dX4_signedNumber_36) ?_
        refine x_pi X (kX4 hG) 17 (by decide) q3283 (fun _ h => h) rfl rfl rfl dX4_signedNumber_37 hp6 (fun σ5 hp7 => ?_)
        refine x_pc (pc' := 40) rfl ?_
        refine x_up (pc' := 41) (fun _ _ _ _ _ L => lv_aload_n hx hb dX4_signedNumber_40 rfl (lv_at L 1 rfl)) ?_
        refine x_callV (em := emI) (fun r st => .int r :: st) (fun _ _ => rfl) 0 X (kX4 hG) (fun σ' KK h => R_X4_number l hl G hG a0 σ' KK h) (lw_V q3587 q3589 qs88 q119 q3590) ⟨rfl, mdX4_number⟩ ⟨Nat.le_of_ble_eq_true rfl, Nat.le_of_ble_eq_true rfl⟩ rfl rfl (Nat.le_of_ble_eq_true rfl) dX4_signedNumber_41 hp7.1 hp7.2 (fun v6 σ7 hp8 => ?_)
        refine x_pc (pc' := 44) rfl ?_
        refine x_upL (pc' := 45) (lo' := [(2, .int v6), (1, .int (1 : Int32)), (0, .ref a0)]) (fun _ _ _ _ _ L => lv_istore_n hx hb dX4_signedNumber_44 rfl L (by decide) rfl) ?_
        refine x_up (pc' := 46) (fun _ _ _ _ _ L => lv_iload_n hx hb dX4_signedNumber_45 rfl (lv_at L 1 rfl)) ?_
        refine x_if (C := (1 : Int32) = 0) (pt := 54) (pc' := 49) (fun _ _ _ _ _ => lv_if_eq (tgt := 54) hx hb dX4_signedNumber_46 (by decide)) (fun c46 => ?_) (fun c46 => ?_)
        · have hp9 := hp8.1 c46
          refine x_up (pc' := 55) (fun _ _ _ _ _ L => lv_iload_n hx hb dX4_signedNumber_54 rfl (lv_at L 0 rfl)) ?_
          exact x_iret X hr rfl dX4_signedNumber_55 hp9
        · have hp10 := hp8.2 c46
          refine x_up (pc' := 50) (fun _ _ _ _ _ L => lv_iload_n hx hb dX4_signedNumber_49 rfl (lv_at L 0 rfl)) ?_
          refine x_up (pc' := 51) (fun _ _ _ _ _ L => lv_ineg hx hb dX4_signedNumber_50) ?_
          refine x_up (pc' := 55) (fun _ _ _ _ _ L => lv_goto (tgt := 55) hx hb dX4_signedNumber_51 (by decide)) ?_
          exact x_iret X hr rfl dX4_signedNumber_55 hp10
      · have hp11 := hp5.2 c28
        refine x_up (pc' := 32) (fun _ _ _ _ _ L => lv_iconst (v := (1 : Int32)) hx hb dX4_signedNumber_31 (by decide)) ?_
        refine x_up (pc' := 36) (fun _ _ _ _ _ L => lv_goto (tgt := 36) hx hb dX4_signedNumber_32 (by decide)) ?_
        refine x_up (pc' := 37) (fun _ _ _ _ _ L => lv_iadd hx hb dX4_signedNumber_36) ?_
        refine x_pi X (kX4 hG) 17 (by decide) q3283 (fun _ h => h) rfl rfl rfl dX4_signedNumber_37 hp11 (fun σ8 hp12 => ?_)
        refine x_pc (pc' := 40) rfl ?_
        refine x_up (pc' := 41) (fun _ _ _ _ _ L => lv_aload_n hx hb dX4_signedNumber_40 rfl (lv_at L 1 rfl)) ?_
        refine x_callV (em := emI) (fun r st => .int r :: st) (fun _ _ => rfl) 0 X (kX4 hG) (fun σ' KK h => R_X4_number l hl G hG a0 σ' KK h) (lw_V q3587 q3589 qs88 q119 q3590) ⟨rfl, mdX4_number⟩ ⟨Nat.le_of_ble_eq_true rfl, Nat.le_of_ble_eq_true rfl⟩ rfl rfl (Nat.le_of_ble_eq_true rfl) dX4_signedNumber_41 hp12.1 hp12.2 (fun v9 σ10 hp13 => ?_)
        refine x_pc (pc' := 44) rfl ?_
        refine x_upL (pc' := 45) (lo' := [(2, .int v9), (1, .int (1 : Int32)), (0, .ref a0)]) (fun _ _ _ _ _ L => lv_istore_n hx hb dX4_signedNumber_44 rfl L (by decide) rfl) ?_
        refine x_up (pc' := 46) (fun _ _ _ _ _ L => lv_iload_n hx hb dX4_signedNumber_45 rfl (lv_at L 1 rfl)) ?_
        refine x_if (C := (1 : Int32) = 0) (pt := 54) (pc' := 49) (fun _ _ _ _ _ => lv_if_eq (tgt := 54) hx hb dX4_signedNumber_46 (by decide)) (fun c46 => ?_) (fun c46 => ?_)
        · have hp14 := hp13.1 c46
          refine x_up (pc' := 55) (fun _ _ _ _ _ L => lv_iload_n hx hb dX4_signedNumber_54 rfl (lv_at L 0 rfl)) ?_
          exact x_iret X hr rfl dX4_signedNumber_55 hp14
        · have hp15 := hp13.2 c46
          refine x_up (pc' := 50) (fun _ _ _ _ _ L => lv_iload_n hx hb dX4_signedNumber_49 rfl (lv_at L 0 rfl)) ?_
          refine x_up (pc' := 51) (fun _ _ _ _ _ L => lv_ineg hx hb dX4_signedNumber_50) ?_
          refine x_up (pc' := 55) (fun _ _ _ _ _ L => lv_goto (tgt := 55) hx hb dX4_signedNumber_51 (by decide)) ?_
          exact x_iret X hr rfl dX4_signedNumber_55 hp15
    · have hp16 := hp3.2 c13
      refine x_up (pc' := 21) (fun _ _ _ _ _ L => lv_iconst (v := (0 : Int32)) hx hb dX4_signedNumber_20 (by decide)) ?_
      refine x_upL (pc' := 22) (lo' := [(1, .int (0 : Int32)), (0, .ref a0)]) (fun _ _ _ _ _ L => lv_istore_n hx hb dX4_signedNumber_21 rfl L (by decide) rfl) ?_
      refine x_up (pc' := 23) (fun _ _ _ _ _ L => lv_aload_n hx hb dX4_signedNumber_22 rfl (lv_at L 1 rfl)) ?_
      refine x_up (pc' := 24) (fun _ _ _ _ _ L => lv_dup hx hb dX4_signedNumber_23 rfl) ?_
      refine x_gi X (kX4 hG) 17 (by decide) q3283 (fun _ h => h) dX4_signedNumber_24 hp16 (fun v11 hp17 => ?_)
      refine x_pc (pc' := 27) rfl ?_
      refine x_up (pc' := 28) (fun _ _ _ _ _ L => lv_iload_n hx hb dX4_signedNumber_27 rfl (lv_at L 0 rfl)) ?_
      refine x_if (C := (0 : Int32) = 0) (pt := 35) (pc' := 31) (fun _ _ _ _ _ => lv_if_eq (tgt := 35) hx hb dX4_signedNumber_28 (by decide)) (fun c28 => ?_) (fun c28 => ?_)
      · have hp18 := hp17.1 c28
        refine x_up (pc' := 36) (fun _ _ _ _ _ L => lv_iconst (v := (0 : Int32)) hx hb dX4_signedNumber_35 (by decide)) ?_
        refine x_up (pc' := 37) (fun _ _ _ _ _ L => lv_iadd hx hb dX4_signedNumber_36) ?_
        refine x_pi X (kX4 hG) 17 (by decide) q3283 (fun _ h => h) rfl rfl rfl dX4_signedNumber_37 hp18 (fun σ12 hp19 => ?_)
        refine x_pc (pc' := 40) rfl ?_
        refine x_up (pc' := 41) (fun _ _ _ _ _ L => lv_aload_n hx hb dX4_signedNumber_40 rfl (lv_at L 1 rfl)) ?_
        refine x_callV (em := emI) (fun r st => .int r :: st) (fun _ _ => rfl) 0 X (kX4 hG) (fun σ' KK h => R_X4_number l hl G hG a0 σ' KK h) (lw_V q3587 q3589 qs88 q119 q3590) ⟨rfl, mdX4_number⟩ ⟨Nat.le_of_ble_eq_true rfl, Nat.le_of_ble_eq_true rfl⟩ rfl rfl (Nat.le_of_ble_eq_true rfl) dX4_signedNumber_41 hp19.1 hp19.2 (fun v13 σ14 hp20 => ?_)
        refine x_pc (pc' := 44) rfl ?_
        refine x_upL (pc' := 45) (lo' := [(2, .int v13), (1, .int (0 : Int32)), (0, .ref a0)]) (fun _ _ _ _ _ L => lv_istore_n hx hb dX4_signedNumber_44 rfl L (by decide) rfl) ?_
        refine x_up (pc' := 46) (fun _ _ _ _ _ L => lv_iload_n hx hb dX4_signedNumber_45 rfl (lv_at L 1 rfl)) ?_
        refine x_if (C := (0 : Int32) = 0) (pt := 54) (pc' := 49) (fun _ _ _ _ _ => lv_if_eq (tgt := 54) hx hb dX4_signedNumber_46 (by decide)) (fun c46 => ?_) (fun c46 => ?_)
        · have hp21 := hp20.1 c46
          refine x_up (pc' := 55) (fun _ _ _ _ _ L => lv_iload_n hx hb dX4_signedNumber_54 rfl (lv_at L 0 rfl)) ?_
          exact x_iret X hr rfl dX4_signedNumber_55 hp21
        · have hp22 := hp20.2 c46
          refine x_up (pc' := 50) (fun _ _ _ _ _ L => lv_iload_n hx hb dX4_signedNumber_49 rfl (lv_at L 0 rfl)) ?_
          refine x_up (pc' := 51) (fun _ _ _ _ _ L => lv_ineg hx hb dX4_signedNumber_50) ?_
          refine x_up (pc' := 55) (fun _ _ _ _ _ L => lv_goto (tgt := 55) hx hb dX4_signedNumber_51 (by decide)) ?_
          exact x_iret X hr rfl dX4_signedNumber_55 hp22
      · have hp23 := hp17.2 c28
        refine x_up (pc' := 32) (fun _ _ _ _ _ L => lv_iconst (v := (1 : Int32)) hx hb dX4_signedNumber_31 (by decide)) ?_
        refine x_up (pc' := 36) (fun _ _ _ _ _ L => lv_goto (tgt := 36) hx hb dX4_signedNumber_32 (by decide)) ?_
        refine x_up (pc' := 37) (fun _ _ _ _ _ L => lv_iadd hx hb dX4_signedNumber_36) ?_
        refine x_pi X (kX4 hG) 17 (by decide) q3283 (fun _ h => h) rfl rfl rfl dX4_signedNumber_37 hp23 (fun σ15 hp24 => ?_)
        refine x_pc (pc' := 40) rfl ?_
        refine x_up (pc' := 41) (fun _ _ _ _ _ L => lv_aload_n hx hb dX4_signedNumber_40 rfl (lv_at L 1 rfl)) ?_
        refine x_callV (em := emI) (fun r st => .int r :: st) (fun _ _ => rfl) 0 X (kX4 hG) (fun σ' KK h => R_X4_number l hl G hG a0 σ' KK h) (lw_V q3587 q3589 qs88 q119 q3590) ⟨rfl, mdX4_number⟩ ⟨Nat.le_of_ble_eq_true rfl, Nat.le_of_ble_eq_true rfl⟩ rfl rfl (Nat.le_of_ble_eq_true rfl) dX4_signedNumber_41 hp24.1 hp24.2 (fun v16 σ17 hp25 => ?_)
        refine x_pc (pc' := 44) rfl ?_
        refine x_upL (pc' := 45) (lo' := [(2, .int v16), (1, .int (0 : Int32)), (0, .ref a0)]) (fun _ _ _ _ _ L => lv_istore_n hx hb dX4_signedNumber_44 rfl L (by decide) rfl) ?_
        refine x_up (pc' := 46) (fun _ _ _ _ _ L => lv_iload_n hx hb dX4_signedNumber_45 rfl (lv_at L 1 rfl)) ?_
        refine x_if (C := (0 : Int32) = 0) (pt := 54) (pc' := 49) (fun _ _ _ _ _ => lv_if_eq (tgt := 54) hx hb dX4_signedNumber_46 (by decide)) (fun c46 => ?_) (fun c46 => ?_)
        · have hp26 := hp25.1 c46
          refine x_up (pc' := 55) (fun _ _ _ _ _ L => lv_iload_n hx hb dX4_signedNumber_54 rfl (lv_at L 0 rfl)) ?_
          exact x_iret X hr rfl dX4_signedNumber_55 hp26
        · have hp27 := hp25.2 c46
          refine x_up (pc' := 50) (fun _ _ _ _ _ L => lv_iload_n hx hb dX4_signedNumber_49 rfl (lv_at L 0 rfl)) ?_
          refine x_up (pc' := 51) (fun _ _ _ _ _ L => lv_ineg hx hb dX4_signedNumber_50) ?_
          refine x_up (pc' := 55) (fun _ _ _ _ _ L => lv_goto (tgt := 55) hx hb dX4_signedNumber_51 (by decide)) ?_
          exact x_iret X hr rfl dX4_signedNumber_55 hp27
  · have hp28 := hp1.2 c4
    refine x_up (pc' := 21) (fun _ _ _ _ _ L => lv_iconst (v := (0 : Int32)) hx hb dX4_signedNumber_20 (by decide)) ?_
    refine x_upL (pc' := 22) (lo' := [(1, .int (0 : Int32)), (0, .ref a0)]) (fun _ _ _ _ _ L => lv_istore_n hx hb dX4_signedNumber_21 rfl L (by decide) rfl) ?_
    refine x_up (pc' := 23) (fun _ _ _ _ _ L => lv_aload_n hx hb dX4_signedNumber_22 rfl (lv_at L 1 rfl)) ?_
    refine x_up (pc' := 24) (fun _ _ _ _ _ L => lv_dup hx hb dX4_signedNumber_23 rfl) ?_
    refine x_gi X (kX4 hG) 17 (by decide) q3283 (fun _ h => h) dX4_signedNumber_24 hp28 (fun v18 hp29 => ?_)
    refine x_pc (pc' := 27) rfl ?_
    refine x_up (pc' := 28) (fun _ _ _ _ _ L => lv_iload_n hx hb dX4_signedNumber_27 rfl (lv_at L 0 rfl)) ?_
    refine x_if (C := (0 : Int32) = 0) (pt := 35) (pc' := 31) (fun _ _ _ _ _ => lv_if_eq (tgt := 35) hx hb dX4_signedNumber_28 (by decide)) (fun c28 => ?_) (fun c28 => ?_)
    · have hp30 := hp29.1 c28
      refine x_up (pc' := 36) (fun _ _ _ _ _ L => lv_iconst (v := (0 : Int32)) hx hb dX4_signedNumber_35 (by decide)) ?_
      refine x_up (pc' := 37) (fun _ _ _ _ _ L => lv_iadd hx hb dX4_signedNumber_36) ?_
      refine x_pi X (kX4 hG) 17 (by decide) q3283 (fun _ h => h) rfl rfl rfl dX4_signedNumber_37 hp30 (fun σ19 hp31 => ?_)
      refine x_pc (pc' := 40) rfl ?_
      refine x_up (pc' := 41) (fun _ _ _ _ _ L => lv_aload_n hx hb dX4_signedNumber_40 rfl (lv_at L 1 rfl)) ?_
      refine x_callV (em := emI) (fun r st => .int r :: st) (fun _ _ => rfl) 0 X (kX4 hG) (fun σ' KK h => R_X4_number l hl G hG a0 σ' KK h) (lw_V q3587 q3589 qs88 q119 q3590) ⟨rfl, mdX4_number⟩ ⟨Nat.le_of_ble_eq_true rfl, Nat.le_of_ble_eq_true rfl⟩ rfl rfl (Nat.le_of_ble_eq_true rfl) dX4_signedNumber_41 hp31.1 hp31.2 (fun v20 σ21 hp32 => ?_)
      refine x_pc (pc' := 44) rfl ?_
      refine x_upL (pc' := 45) (lo' := [(2, .int v20), (1, .int (0 : Int32)), (0, .ref a0)]) (fun _ _ _ _ _ L => lv_istore_n hx hb dX4_signedNumber_44 rfl L (by decide) rfl) ?_
      refine x_up (pc' := 46) (fun _ _ _ _ _ L => lv_iload_n hx hb dX4_signedNumber_45 rfl (lv_at L 1 rfl)) ?_
      refine x_if (C := (0 : Int32) = 0) (pt := 54) (pc' := 49) (fun _ _ _ _ _ => lv_if_eq (tgt := 54) hx hb dX4_signedNumber_46 (by decide)) (fun c46 => ?_) (fun c46 => ?_)
      · have hp33 := hp32.1 c46
        refine x_up (pc' := 55) (fun _ _ _ _ _ L => lv_iload_n hx hb dX4_signedNumber_54 rfl (lv_at L 0 rfl)) ?_
        exact x_iret X hr rfl dX4_signedNumber_55 hp33
      · have hp34 := hp32.2 c46
        refine x_up (pc' := 50) (fun _ _ _ _ _ L => lv_iload_n hx hb dX4_signedNumber_49 rfl (lv_at L 0 rfl)) ?_
        refine x_up (pc' := 51) (fun _ _ _ _ _ L => lv_ineg hx hb dX4_signedNumber_50) ?_
        refine x_up (pc' := 55) (fun _ _ _ _ _ L => lv_goto (tgt := 55) hx hb dX4_signedNumber_51 (by decide)) ?_
        exact x_iret X hr rfl dX4_signedNumber_55 hp34
    · have hp35 := hp29.2 c28
      refine x_up (pc' := 32) (fun _ _ _ _ _ L => lv_iconst (v := (1 : Int32)) hx hb dX4_signedNumber_31 (by decide)) ?_
      refine x_up (pc' := 36) (fun _ _ _ _ _ L => lv_goto (tgt := 36) hx hb dX4_signedNumber_32 (by decide)) ?_
      refine x_up (pc' := 37) (fun _ _ _ _ _ L => lv_iadd hx hb dX4_signedNumber_36) ?_
      refine x_pi X (kX4 hG) 17 (by decide) q3283 (fun _ h => h) rfl rfl rfl dX4_signedNumber_37 hp35 (fun σ22 hp36 => ?_)
      refine x_pc (pc' := 40) rfl ?_
      refine x_up (pc' := 41) (fun _ _ _ _ _ L => lv_aload_n hx hb dX4_signedNumber_40 rfl (lv_at L 1 rfl)) ?_
      refine x_callV (em := emI) (fun r st => .int r :: st) (fun _ _ => rfl) 0 X (kX4 hG) (fun σ' KK h => R_X4_number l hl G hG a0 σ' KK h) (lw_V q3587 q3589 qs88 q119 q3590) ⟨rfl, mdX4_number⟩ ⟨Nat.le_of_ble_eq_true rfl, Nat.le_of_ble_eq_true rfl⟩ rfl rfl (Nat.le_of_ble_eq_true rfl) dX4_signedNumber_41 hp36.1 hp36.2 (fun v23 σ24 hp37 => ?_)
      refine x_pc (pc' := 44) rfl ?_
      refine x_upL (pc' := 45) (lo' := [(2, .int v23), (1, .int (0 : Int32)), (0, .ref a0)]) (fun _ _ _ _ _ L => lv_istore_n hx hb dX4_signedNumber_44 rfl L (by decide) rfl) ?_
      refine x_up (pc' := 46) (fun _ _ _ _ _ L => lv_iload_n hx hb dX4_signedNumber_45 rfl (lv_at L 1 rfl)) ?_
      refine x_if (C := (0 : Int32) = 0) (pt := 54) (pc' := 49) (fun _ _ _ _ _ => lv_if_eq (tgt := 54) hx hb dX4_signedNumber_46 (by decide)) (fun c46 => ?_) (fun c46 => ?_)
      · have hp38 := hp37.1 c46
        refine x_up (pc' := 55) (fun _ _ _ _ _ L => lv_iload_n hx hb dX4_signedNumber_54 rfl (lv_at L 0 rfl)) ?_
        exact x_iret X hr rfl dX4_signedNumber_55 hp38
      · have hp39 := hp37.2 c46
        refine x_up (pc' := 50) (fun _ _ _ _ _ L => lv_iload_n hx hb dX4_signedNumber_49 rfl (lv_at L 0 rfl)) ?_
        refine x_up (pc' := 51) (fun _ _ _ _ _ L => lv_ineg hx hb dX4_signedNumber_50) ?_
        refine x_up (pc' := 55) (fun _ _ _ _ _ L => lv_goto (tgt := 55) hx hb dX4_signedNumber_51 (by decide)) ?_
        exact x_iret X hr rfl dX4_signedNumber_55 hp39
-- X4_readsOrder
def P_X4_readsOrder (κ : Nat → Nat) (a0 : Nat) (x1 : Int32) (σ : xS) (K : Unit → xH → Prop) : Prop :=
  xrc σ a0 10 ∧ xcall (fun τ L => P_X4_readsWord κ a0 τ L) σ fun v1 σ2 => xgq σ2 a0 10 19 fun v3 => xnn v3 fun b4 => xsi κ .int σ2 b4 x1 v1 fun σ5 => ((v1 = (4 : Int32) → (K () σ5.1)) ∧ (¬ v1 = (4 : Int32) → (xgq σ5 a0 10 19 fun v6 => xrc σ5 a0 10 ∧ xcall (fun τ L => P_X4_number κ a0 τ L) σ5 fun v7 σ8 => xnn v6 fun b9 => xsi κ .int σ8 b9 (x1 + (1 : Int32)) v7 fun σ10 => ((v1 = (1 : Int32) → (xrc σ10 a0 10 ∧ xcall (fun τ L => P_X4_needs κ a0 (61 : Int32) τ L) σ10 fun _ σ11 => xgq σ11 a0 10 19 fun v12 => xrc σ11 a0 10 ∧ xcall (fun τ L => P_X4_signedNumber κ a0 τ L) σ11 fun v13 σ14 => xnn v12 fun b15 => xsi κ .int σ14 b15 (x1 + (2 : Int32)) v13 fun σ16 => K () σ16.1)) ∧ (¬ v1 = (1 : Int32) → (((v1 = (5 : Int32) → (xrc σ10 a0 10 ∧ xcall (fun τ L => P_X4_needs κ a0 (61 : Int32) τ L) σ10 fun _ σ17 => xgq σ17 a0 10 19 fun v18 => xrc σ17 a0 10 ∧ xcall (fun τ L => P_X4_signedNumber κ a0 τ L) σ17 fun v19 σ20 => xnn v18 fun b21 => xsi κ .int σ20 b21 (x1 + (2 : Int32)) v19 fun σ22 => K () σ22.1)) ∧ (¬ v1 = (5 : Int32) → (K () σ10.1)))))))))
theorem mdX4_readsOrder : yX4_readsOrder.cls ≠ "java/lang/invoke/MethodHandle" ∧ yX4_readsOrder.cls ≠ "java/lang/invoke/VarHandle" ∧ (parseMethodDescriptor yX4_readsOrder.desc).map (fun d => d.parameters.length) = some 1 := by decide +kernel
set_option maxHeartbeats 4000000 in
set_option maxRecDepth 100000 in
theorem R_X4_readsOrder (l : Launch) (hl : l.stackTraces = false) (G : xG) (hG : G.1.2 = x_cl) (a0 : Nat) (x1 : Int32) (σ : xS) (K : Unit → xH → Prop) (hp : P_X4_readsOrder G.2 a0 x1 σ K) : xM l yX4_readsOrder cX4_readsOrder 3 (Option.none : Option Jvm.ClassFile.FieldType) 7 150 G [(.ref a0), .int x1] σ (xlift emV K) := by
  refine x_entry (by decide) (Nat.le_of_ble_eq_true rfl) ?_
  intro p e s m args below meth c X hr hin
  have X : xX p s m args meth c G cX4_readsOrder 3 RX4 := X
  have hx := X.1
  have hb := X.2.1
  have hts := X.2.2.2.2.1
  have hown := X.2.2.2.1
  unfold P_X4_readsOrder at hp
  refine x_same (lo' := [(0, .ref a0), (1, .int x1)]) rfl ?_
  refine x_up (pc' := 1) (fun _ _ _ _ _ L => lv_aload_n hx hb dX4_readsOrder_0 rfl (lv_at L 0 rfl)) ?_
  refine x_callV (em := emI) (fun r st => .int r :: st) (fun _ _ => rfl) 0 X (kX4 hG) (fun σ' KK h => R_X4_readsWord l hl G hG a0 σ' KK h) (lw_V q3559 q3561 qs84 q119 q3562) ⟨rfl, mdX4_readsWord⟩ ⟨Nat.le_of_ble_eq_true rfl, Nat.le_of_ble_eq_true rfl⟩ rfl rfl (Nat.le_of_ble_eq_true rfl) dX4_readsOrder_1 hp.1 hp.2 (fun v1 σ2 hp1 => ?_)
  refine x_pc (pc' := 4) rfl ?_
  refine x_upL (pc' := 5) (lo' := [(2, .int v1), (0, .ref a0), (1, .int x1)]) (fun _ _ _ _ _ L => lv_istore_n hx hb dX4_readsOrder_4 rfl L (by decide) rfl) ?_
  refine x_up (pc' := 6) (fun _ _ _ _ _ L => lv_aload_n hx hb dX4_readsOrder_5 rfl (lv_at L 1 rfl)) ?_
  refine x_gq X (kX4 hG) 19 (by decide) q3285 (fun _ h => h) dX4_readsOrder_6 hp1 (fun v3 hp2 => ?_)
  refine x_pc (pc' := 9) rfl ?_
  refine x_up (pc' := 10) (fun _ _ _ _ _ L => lv_iload_n hx hb dX4_readsOrder_9 rfl (lv_at L 2 rfl)) ?_
  refine x_up (pc' := 11) (fun _ _ _ _ _ L => lv_iload_n hx hb dX4_readsOrder_10 rfl (lv_at L 0 rfl)) ?_
  obtain ⟨b4, rfl, hp3⟩ := hp2
  refine x_iast X dX4_readsOrder_11 hp3 (fun σ5 hp4 => ?_)
  refine x_pc (pc' := 12) rfl ?_
  refine x_up (pc' := 13) (fun _ _ _ _ _ L => lv_iload_n hx hb dX4_readsOrder_12 rfl (lv_at L 0 rfl)) ?_
  refine x_up (pc' := 14) (fun _ _ _ _ _ L => lv_iconst (v := (4 : Int32)) hx hb dX4_readsOrder_13 (by decide)) ?_
  refine x_ifn (C := v1 = (4 : Int32)) (pt := 18) (pc' := 17) (fun _ _ _ _ _ => lv_icmp_ne (tgt := 18) hx hb dX4_readsOrder_14 (by decide)) (fun c14 => ?_) (fun c14 => ?_)
  · have hp5 := hp4.1 c14
    exact x_vret X hr dX4_readsOrder_17 hp5
  · have hp6 := hp4.2 c14
    refine x_up (pc' := 19) (fun _ _ _ _ _ L => lv_aload_n hx hb dX4_readsOrder_18 rfl (lv_at L 1 rfl)) ?_
    refine x_gq X (kX4 hG) 19 (by decide) q3285 (fun _ h => h) dX4_readsOrder_19 hp6 (fun v6 hp7 => ?_)
    refine x_pc (pc' := 22) rfl ?_
    refine x_up (pc' := 23) (fun _ _ _ _ _ L => lv_iload_n hx hb dX4_readsOrder_22 rfl (lv_at L 2 rfl)) ?_
    refine x_up (pc' := 24) (fun _ _ _ _ _ L => lv_iconst (v := (1 : Int32)) hx hb dX4_readsOrder_23 (by decide)) ?_
    refine x_up (pc' := 25) (fun _ _ _ _ _ L => lv_iadd hx hb dX4_readsOrder_24) ?_
    refine x_up (pc' := 26) (fun _ _ _ _ _ L => lv_aload_n hx hb dX4_readsOrder_25 rfl (lv_at L 1 rfl)) ?_
    refine x_callV (em := emI) (fun r st => .int r :: st) (fun _ _ => rfl) 0 X (kX4 hG) (fun σ' KK h => R_X4_number l hl G hG a0 σ' KK h) (lw_V q3587 q3589 qs88 q119 q3590) ⟨rfl, mdX4_number⟩ ⟨Nat.le_of_ble_eq_true rfl, Nat.le_of_ble_eq_true rfl⟩ rfl rfl (by simp only [List.map_cons, List.map_nil, List.sum_cons, List.sum_nil, x_catq, x_cati, x_catr, x_catn] <;> decide) dX4_readsOrder_26 hp7.1 hp7.2 (fun v7 σ8 hp8 => ?_)
    refine x_pc (pc' := 29) rfl ?_
    obtain ⟨b9, rfl, hp9⟩ := hp8
    refine x_iast X dX4_readsOrder_29 hp9 (fun σ10 hp10 => ?_)
    refine x_pc (pc' := 30) rfl ?_
    refine x_up (pc' := 31) (fun _ _ _ _ _ L => lv_iload_n hx hb dX4_readsOrder_30 rfl (lv_at L 0 rfl)) ?_
    refine x_up (pc' := 32) (fun _ _ _ _ _ L => lv_iconst (v := (1 : Int32)) hx hb dX4_readsOrder_31 (by decide)) ?_
    refine x_if (C := v1 = (1 : Int32)) (pt := 40) (pc' := 35) (fun _ _ _ _ _ => lv_icmp_eq (tgt := 40) hx hb dX4_readsOrder_32 (by decide)) (fun c32 => ?_) (fun c32 => ?_)
    · have hp11 := hp10.1 c32
      refine x_up (pc' := 41) (fun _ _ _ _ _ L => lv_aload_n hx hb dX4_readsOrder_40 rfl (lv_at L 1 rfl)) ?_
      refine x_up (pc' := 43) (fun _ _ _ _ _ L => lv_bipush (v := (61 : Int32)) hx hb dX4_readsOrder_41 (by decide)) ?_
      refine x_callV (em := emV) (fun r st => st) (fun _ _ => rfl) 1 X (kX4 hG) (fun σ' KK h => R_X4_needs l hl G hG a0 (61 : Int32) σ' KK h) (lw_V q3583 q3585 qs87 q119 q3586) ⟨rfl, mdX4_needs⟩ ⟨Nat.le_of_ble_eq_true rfl, Nat.le_of_ble_eq_true rfl⟩ rfl rfl (Nat.le_of_ble_eq_true rfl) dX4_readsOrder_43 hp11.1 hp11.2 (fun _ σ11 hp12 => ?_)
      refine x_pc (pc' := 46) rfl ?_
      refine x_up (pc' := 47) (fun _ _ _ _ _ L => lv_aload_n hx hb dX4_readsOrder_46 rfl (lv_at L 1 rfl)) ?_
      refine x_gq X (kX4 hG) 19 (by decide) q3285 (fun _ h => h) dX4_readsOrder_47 hp12 (fun v12 hp13 => ?_)
      refine x_pc (pc' := 50) rfl ?_
      refine x_up (pc' := 51) (fun _ _ _ _ _ L => lv_iload_n hx hb dX4_readsOrder_50 rfl (lv_at L 2 rfl)) ?_
      refine x_up (pc' := 52) (fun _ _ _ _ _ L => lv_iconst (v := (2 : Int32)) hx hb dX4_readsOrder_51 (by decide)) ?_
      refine x_up (pc' := 53) (fun _ _ _ _ _ L => lv_iadd hx hb dX4_readsOrder_52) ?_
      refine x_up (pc' := 54) (fun _ _ _ _ _ L => lv_aload_n hx hb dX4_readsOrder_53 rfl (lv_at L 1 rfl)) ?_
      refine x_callV (em := emI) (fun r st => .int r :: st) (fun _ _ => rfl) 0 X (kX4 hG) (fun σ' KK h => R_X4_signedNumber l hl G hG a0 σ' KK h) (lw_V q3599 q3601 qs91 q119 q3602) ⟨rfl, mdX4_signedNumber⟩ ⟨Nat.le_of_ble_eq_true rfl, Nat.le_of_ble_eq_true rfl⟩ rfl rfl (by simp only [List.map_cons, List.map_nil, List.sum_cons, List.sum_nil, x_catq, x_cati, x_catr, x_catn] <;> decide) dX4_readsOrder_54 hp13.1 hp13.2 (fun v13 σ14 hp14 => ?_)
      refine x_pc (pc' := 57) rfl ?_
      obtain ⟨b15, rfl, hp15⟩ := hp14
      refine x_iast X dX4_readsOrder_57 hp15 (fun σ16 hp16 => ?_)
      refine x_pc (pc' := 58) rfl ?_
      exact x_vret X hr dX4_readsOrder_58 hp16
    · have hp17 := hp10.2 c32
      refine x_up (pc' := 36) (fun _ _ _ _ _ L => lv_iload_n hx hb dX4_readsOrder_35 rfl (lv_at L 0 rfl)) ?_
      refine x_up (pc' := 37) (fun _ _ _ _ _ L => lv_iconst (v := (5 : Int32)) hx hb dX4_readsOrder_36 (by decide)) ?_
      refine x_ifn (C := v1 = (5 : Int32)) (pt := 58) (pc' := 40) (fun _ _ _ _ _ => lv_icmp_ne (tgt := 58) hx hb dX4_readsOrder_37 (by decide)) (fun c37 => ?_) (fun c37 => ?_)
      · have hp18 := hp17.1 c37
        refine x_up (pc' := 41) (fun _ _ _ _ _ L => lv_aload_n hx hb dX4_readsOrder_40 rfl (lv_at L 1 rfl)) ?_
        refine x_up (pc' := 43) (fun _ _ _ _ _ L => lv_bipush (v := (61 : Int32)) hx hb dX4_readsOrder_41 (by decide)) ?_
        refine x_callV (em := emV) (fun r st => st) (fun _ _ => rfl) 1 X (kX4 hG) (fun σ' KK h => R_X4_needs l hl G hG a0 (61 : Int32) σ' KK h) (lw_V q3583 q3585 qs87 q119 q3586) ⟨rfl, mdX4_needs⟩ ⟨Nat.le_of_ble_eq_true rfl, Nat.le_of_ble_eq_true rfl⟩ rfl rfl (Nat.le_of_ble_eq_true rfl) dX4_readsOrder_43 hp18.1 hp18.2 (fun _ σ17 hp19 => ?_)
        refine x_pc (pc' := 46) rfl ?_
        refine x_up (pc' := 47) (fun _ _ _ _ _ L => lv_aload_n hx hb dX4_readsOrder_46 rfl (lv_at L 1 rfl)) ?_
        refine x_gq X (kX4 hG) 19 (by decide) q3285 (fun _ h => h) dX4_readsOrder_47 hp19 (fun v18 hp20 => ?_)
        refine x_pc (pc' := 50) rfl ?_
        refine x_up (pc' := 51) (fun _ _ _ _ _ L => lv_iload_n hx hb dX4_readsOrder_50 rfl (lv_at L 2 rfl)) ?_
        refine x_up (pc' := 52) (fun _ _ _ _ _ L => lv_iconst (v := (2 : Int32)) hx hb dX4_readsOrder_51 (by decide)) ?_
        refine x_up (pc' := 53) (fun _ _ _ _ _ L => lv_iadd hx hb dX4_readsOrder_52) ?_
        refine x_up (pc' := 54) (fun _ _ _ _ _ L => lv_aload_n hx hb dX4_readsOrder_53 rfl (lv_at L 1 rfl)) ?_
        refine x_callV (em := emI) (fun r st => .int r :: st) (fun _ _ => rfl) 0 X (kX4 hG) (fun σ' KK h => R_X4_signedNumber l hl G hG a0 σ' KK h) (lw_V q3599 q3601 qs91 q119 q3602) ⟨rfl, mdX4_signedNumber⟩ ⟨Nat.le_of_ble_eq_true rfl, Nat.le_of_ble_eq_true rfl⟩ rfl rfl (by simp only [List.map_cons, List.map_nil, List.sum_cons, List.sum_nil, x_catq, x_cati, x_catr, x_catn] <;> decide) dX4_readsOrder_54 hp20.1 hp20.2 (fun v19 σ20 hp21 => ?_)
        refine x_pc (pc' := 57) rfl ?_
        obtain ⟨b21, rfl, hp22⟩ := hp21
        refine x_iast X dX4_readsOrder_57 hp22 (fun σ22 hp23 => ?_)
        refine x_pc (pc' := 58) rfl ?_
        exact x_vret X hr dX4_readsOrder_58 hp23
      · have hp24 := hp17.2 c37
        exact x_vret X hr dX4_readsOrder_58 hp24
-- X4_readsText
def B_X4_readsText_14 (κ : Nat → Nat) (kx15004 : Int32 → xS → Prop) (f0 : Nat) : ((Int32 × Int32) → xS → Prop) → (Int32 × Int32) → xS → Prop := fun self15003 w15001 σ15002 =>
  ((w15001.2 = 0 → (kx15004 w15001.1 σ15002)) ∧ (¬ w15001.2 = 0 → (xrc σ15002 f0 10 ∧ xcall (fun τ L => P_X4_readsOrder κ f0 ((3 : Int32) * w15001.1) τ L) σ15002 fun _ σ15005 => xgi σ15005 f0 10 18 fun v15006 => ((v15006 = 0 → (xrc σ15005 f0 10 ∧ xcall (fun τ L => P_X4_here κ f0 τ L) σ15005 fun v15007 σ15008 => ((v15007 = (59 : Int32) → (xgi σ15008 f0 10 17 fun v15009 => (((1 : Int32) = 0 → (xpi κ σ15008 f0 10 17 (v15009 + (0 : Int32)) fun σ15010 => self15003 ((w15001.1 + (1 : Int32)), (1 : Int32)) σ15010)) ∧ (¬ (1 : Int32) = 0 → (xpi κ σ15008 f0 10 17 (v15009 + (1 : Int32)) fun σ15011 => self15003 ((w15001.1 + (1 : Int32)), (1 : Int32)) σ15011))))) ∧ (¬ v15007 = (59 : Int32) → (xgi σ15008 f0 10 17 fun v15012 => (((0 : Int32) = 0 → (xpi κ σ15008 f0 10 17 (v15012 + (0 : Int32)) fun σ15013 => self15003 ((w15001.1 + (1 : Int32)), (0 : Int32)) σ15013)) ∧ (¬ (0 : Int32) = 0 → (xpi κ σ15008 f0 10 17 (v15012 + (1 : Int32)) fun σ15014 => self15003 ((w15001.1 + (1 : Int32)), (0 : Int32)) σ15014)))))))) ∧ (¬ v15006 = 0 → (xgi σ15005 f0 10 17 fun v15015 => (((0 : Int32) = 0 → (xpi κ σ15005 f0 10 17 (v15015 + (0 : Int32)) fun σ15016 => self15003 ((w15001.1 + (1 : Int32)), (0 : Int32)) σ15016)) ∧ (¬ (0 : Int32) = 0 → (xpi κ σ15005 f0 10 17 (v15015 + (1 : Int32)) fun σ15017 => self15003 ((w15001.1 + (1 : Int32)), (0 : Int32)) σ15017)))))))))
def P_X4_readsText (κ : Nat → Nat) (a0 : Nat) (σ : xS) (K : Int32 → xH → Prop) : Prop :=
  xpi κ σ a0 10 17 (0 : Int32) fun σ1 => xpi κ σ1 a0 10 18 (0 : Int32) fun σ2 => xwhile (B_X4_readsText_14 κ (fun e3 σ4 => xgi σ4 a0 10 18 fun v5 => ((v5 = 0 → (xgi σ4 a0 10 17 fun v6 => xgi σ4 a0 10 8 fun v7 => ((v7 ≤ v6 → (xpi κ σ4 a0 10 18 (0 : Int32) fun σ8 => xpi κ σ8 a0 10 8 (0 : Int32) fun σ9 => K e3 σ9.1)) ∧ (¬ v7 ≤ v6 → (xpi κ σ4 a0 10 18 (1 : Int32) fun σ10 => xpi κ σ10 a0 10 8 (0 : Int32) fun σ11 => K e3 σ11.1))))) ∧ (¬ v5 = 0 → (xpi κ σ4 a0 10 18 (1 : Int32) fun σ12 => xpi κ σ12 a0 10 8 (0 : Int32) fun σ13 => K e3 σ13.1)))) a0) ((0 : Int32), (1 : Int32)) σ2
theorem mdX4_readsText : yX4_readsText.cls ≠ "java/lang/invoke/MethodHandle" ∧ yX4_readsText.cls ≠ "java/lang/invoke/VarHandle" ∧ (parseMethodDescriptor yX4_readsText.desc).map (fun d => d.parameters.length) = some 0 := by decide +kernel
set_option maxHeartbeats 4000000 in
set_option maxRecDepth 100000 in
theorem R_X4_readsText (l : Launch) (hl : l.stackTraces = false) (G : xG) (hG : G.1.2 = x_cl) (a0 : Nat) (σ : xS) (K : Int32 → xH → Prop) (hp : P_X4_readsText G.2 a0 σ K) : xM l yX4_readsText cX4_readsText 3 (Option.some Jvm.ClassFile.FieldType.int) 8 172 G [(.ref a0)] σ (xlift emI K) := by
  refine x_entry (by decide) (Nat.le_of_ble_eq_true rfl) ?_
  intro p e s m args below meth c X hr hin
  have X : xX p s m args meth c G cX4_readsText 3 RX4 := X
  have hx := X.1
  have hb := X.2.1
  have hts := X.2.2.2.2.1
  have hown := X.2.2.2.1
  unfold P_X4_readsText at hp
  refine x_same (lo' := [(0, .ref a0)]) rfl ?_
  refine x_up (pc' := 1) (fun _ _ _ _ _ L => lv_aload_n hx hb dX4_readsText_0 rfl (lv_at L 0 rfl)) ?_
  refine x_up (pc' := 2) (fun _ _ _ _ _ L => lv_iconst (v := (0 : Int32)) hx hb dX4_readsText_1 (by decide)) ?_
  refine x_pi X (kX4 hG) 17 (by decide) q3283 (fun _ h => h) rfl rfl rfl dX4_readsText_2 hp (fun σ1 hp1 => ?_)
  refine x_pc (pc' := 5) rfl ?_
  refine x_up (pc' := 6) (fun _ _ _ _ _ L => lv_aload_n hx hb dX4_readsText_5 rfl (lv_at L 0 rfl)) ?_
  refine x_up (pc' := 7) (fun _ _ _ _ _ L => lv_iconst (v := (0 : Int32)) hx hb dX4_readsText_6 (by decide)) ?_
  refine x_pi X (kX4 hG) 18 (by decide) q3284 (fun _ h => h) rfl rfl rfl dX4_readsText_7 hp1 (fun σ2 hp2 => ?_)
  refine x_pc (pc' := 10) rfl ?_
  refine x_up (pc' := 11) (fun _ _ _ _ _ L => lv_iconst (v := (0 : Int32)) hx hb dX4_readsText_10 (by decide)) ?_
  refine x_upL (pc' := 12) (lo' := [(1, .int (0 : Int32)), (0, .ref a0)]) (fun _ _ _ _ _ L => lv_istore_n hx hb dX4_readsText_11 rfl L (by decide) rfl) ?_
  refine x_up (pc' := 13) (fun _ _ _ _ _ L => lv_iconst (v := (1 : Int32)) hx hb dX4_readsText_12 (by decide)) ?_
  refine x_upL (pc' := 14) (lo' := [(2, .int (1 : Int32)), (1, .int (0 : Int32)), (0, .ref a0)]) (fun _ _ _ _ _ L => lv_istore_n hx hb dX4_readsText_13 rfl L (by decide) rfl) ?_
  refine x_lo (lo' := [(1, .int (0 : Int32)), (2, .int (1 : Int32)), (0, .ref a0)]) [1, 0, 2] rfl ?_
  refine x_while (v0 := ((0 : Int32), (1 : Int32))) (fun w3 => [(1, .int w3.1), (2, .int w3.2), (0, .ref a0)]) hp2 (fun self4 hself5 => ?_)
  rintro ⟨y7, y8⟩ σ6 hp3
  unfold B_X4_readsText_14 at hp3
  refine x_same (lo' := [(1, .int y7), (2, .int y8), (0, .ref a0)]) rfl ?_
  refine x_up (pc' := 15) (fun _ _ _ _ _ L => lv_iload_n hx hb dX4_readsText_14 rfl (lv_at L 1 rfl)) ?_
  refine x_if (C := y8 = 0) (pt := 71) (pc' := 18) (fun _ _ _ _ _ => lv_if_eq (tgt := 71) hx hb dX4_readsText_15 (by decide)) (fun c15 => ?_) (fun c15 => ?_)
  · have hp4 := hp3.1 c15
    refine x_up (pc' := 72) (fun _ _ _ _ _ L => lv_aload_n hx hb dX4_readsText_71 rfl (lv_at L 2 rfl)) ?_
    refine x_up (pc' := 73) (fun _ _ _ _ _ L => lv_aload_n hx hb dX4_readsText_72 rfl (lv_at L 2 rfl)) ?_
    refine x_gi X (kX4 hG) 18 (by decide) q3284 (fun _ h => h) dX4_readsText_73 hp4 (fun v9 hp5 => ?_)
    refine x_pc (pc' := 76) rfl ?_
    refine x_ifn (C := v9 = 0) (pt := 90) (pc' := 79) (fun _ _ _ _ _ => lv_if_ne (tgt := 90) hx hb dX4_readsText_76 (by decide)) (fun c76 => ?_) (fun c76 => ?_)
    · have hp6 := hp5.1 c76
      refine x_up (pc' := 80) (fun _ _ _ _ _ L => lv_aload_n hx hb dX4_readsText_79 rfl (lv_at L 2 rfl)) ?_
      refine x_gi X (kX4 hG) 17 (by decide) q3283 (fun _ h => h) dX4_readsText_80 hp6 (fun v10 hp7 => ?_)
      refine x_pc (pc' := 83) rfl ?_
      refine x_up (pc' := 84) (fun _ _ _ _ _ L => lv_aload_n hx hb dX4_readsText_83 rfl (lv_at L 2 rfl)) ?_
      refine x_gi X (kX4 hG) 8 (by decide) q3274 (fun _ h => h) dX4_readsText_84 hp7 (fun v11 hp8 => ?_)
      refine x_pc (pc' := 87) rfl ?_
      refine x_if (C := v11 ≤ v10) (pt := 94) (pc' := 90) (fun _ _ _ _ _ => lv_icmp_ge (tgt := 94) hx hb dX4_readsText_87 (by decide)) (fun c87 => ?_) (fun c87 => ?_)
      · have hp9 := hp8.1 c87
        refine x_up (pc' := 95) (fun _ _ _ _ _ L => lv_iconst (v := (0 : Int32)) hx hb dX4_readsText_94 (by decide)) ?_
        refine x_pi X (kX4 hG) 18 (by decide) q3284 (fun _ h => h) rfl rfl rfl dX4_readsText_95 hp9 (fun σ12 hp10 => ?_)
        refine x_pc (pc' := 98) rfl ?_
        refine x_up (pc' := 99) (fun _ _ _ _ _ L => lv_aload_n hx hb dX4_readsText_98 rfl (lv_at L 2 rfl)) ?_
        refine x_up (pc' := 100) (fun _ _ _ _ _ L => lv_iconst (v := (0 : Int32)) hx hb dX4_readsText_99 (by decide)) ?_
        refine x_pi X (kX4 hG) 8 (by decide) q3274 (fun _ h => h) rfl rfl rfl dX4_readsText_100 hp10 (fun σ13 hp11 => ?_)
        refine x_pc (pc' := 103) rfl ?_
        refine x_up (pc' := 104) (fun _ _ _ _ _ L => lv_iload_n hx hb dX4_readsText_103 rfl (lv_at L 0 rfl)) ?_
        exact x_iret X hr rfl dX4_readsText_104 hp11
      · have hp12 := hp8.2 c87
        refine x_up (pc' := 91) (fun _ _ _ _ _ L => lv_iconst (v := (1 : Int32)) hx hb dX4_readsText_90 (by decide)) ?_
        refine x_up (pc' := 95) (fun _ _ _ _ _ L => lv_goto (tgt := 95) hx hb dX4_readsText_91 (by decide)) ?_
        refine x_pi X (kX4 hG) 18 (by decide) q3284 (fun _ h => h) rfl rfl rfl dX4_readsText_95 hp12 (fun σ14 hp13 => ?_)
        refine x_pc (pc' := 98) rfl ?_
        refine x_up (pc' := 99) (fun _ _ _ _ _ L => lv_aload_n hx hb dX4_readsText_98 rfl (lv_at L 2 rfl)) ?_
        refine x_up (pc' := 100) (fun _ _ _ _ _ L => lv_iconst (v := (0 : Int32)) hx hb dX4_readsText_99 (by decide)) ?_
        refine x_pi X (kX4 hG) 8 (by decide) q3274 (fun _ h => h) rfl rfl rfl dX4_readsText_100 hp13 (fun σ15 hp14 => ?_)
        refine x_pc (pc' := 103) rfl ?_
        refine x_up (pc' := 104) (fun _ _ _ _ _ L => lv_iload_n hx hb dX4_readsText_103 rfl (lv_at L 0 rfl)) ?_
        exact x_iret X hr rfl dX4_readsText_104 hp14
    · have hp15 := hp5.2 c76
      refine x_up (pc' := 91) (fun _ _ _ _ _ L => lv_iconst (v := (1 : Int32)) hx hb dX4_readsText_90 (by decide)) ?_
      refine x_up (pc' := 95) (fun _ _ _ _ _ L => lv_goto (tgt := 95) hx hb dX4_readsText_91 (by decide)) ?_
      refine x_pi X (kX4 hG) 18 (by decide) q3284 (fun _ h => h) rfl rfl rfl dX4_readsText_95 hp15 (fun σ16 hp16 => ?_)
      refine x_pc (pc' := 98) rfl ?_
      refine x_up (pc' := 99) (fun _ _ _ _ _ L => lv_aload_n hx hb dX4_readsText_98 rfl (lv_at L 2 rfl)) ?_
      refine x_up (pc' := 100) (fun _ _ _ _ _ L => lv_iconst (v := (0 : Int32)) hx hb dX4_readsText_99 (by decide)) ?_
      refine x_pi X (kX4 hG) 8 (by decide) q3274 (fun _ h => h) rfl rfl rfl dX4_readsText_100 hp16 (fun σ17 hp17 => ?_)
      refine x_pc (pc' := 103) rfl ?_
      refine x_up (pc' := 104) (fun _ _ _ _ _ L => lv_iload_n hx hb dX4_readsText_103 rfl (lv_at L 0 rfl)) ?_
      exact x_iret X hr rfl dX4_readsText_104 hp17
  · have hp18 := hp3.2 c15
    refine x_up (pc' := 19) (fun _ _ _ _ _ L => lv_aload_n hx hb dX4_readsText_18 rfl (lv_at L 2 rfl)) ?_
    refine x_up (pc' := 20) (fun _ _ _ _ _ L => lv_iconst (v := (3 : Int32)) hx hb dX4_readsText_19 (by decide)) ?_
    refine x_up (pc' := 21) (fun _ _ _ _ _ L => lv_iload_n hx hb dX4_readsText_20 rfl (lv_at L 0 rfl)) ?_
    refine x_up (pc' := 22) (fun _ _ _ _ _ L => lv_imul hx hb dX4_readsText_21) ?_
    refine x_callV (em := emV) (fun r st => st) (fun _ _ => rfl) 1 X (kX4 hG) (fun σ' KK h => R_X4_readsOrder l hl G hG a0 ((3 : Int32) * y7) σ' KK h) (lw_V q3555 q3557 qs83 q119 q3558) ⟨rfl, mdX4_readsOrder⟩ ⟨Nat.le_of_ble_eq_true rfl, Nat.le_of_ble_eq_true rfl⟩ rfl rfl (Nat.le_of_ble_eq_true rfl) dX4_readsText_22 hp18.1 hp18.2 (fun _ σ18 hp19 => ?_)
    refine x_pc (pc' := 25) rfl ?_
    refine x_upL (pc' := 28) (lo' := [(1, .int (y7 + (1 : Int32))), (2, .int y8), (0, .ref a0)]) (fun _ _ _ _ _ L => lv_iinc (v := y7 + (1 : Int32)) hx hb dX4_readsText_25 L (k := 0) rfl rfl (by decide) rfl) ?_
    refine x_up (pc' := 29) (fun _ _ _ _ _ L => lv_aload_n hx hb dX4_readsText_28 rfl (lv_at L 2 rfl)) ?_
    refine x_gi X (kX4 hG) 18 (by decide) q3284 (fun _ h => h) dX4_readsText_29 hp19 (fun v19 hp20 => ?_)
    refine x_pc (pc' := 32) rfl ?_
    refine x_ifn (C := v19 = 0) (pt := 48) (pc' := 35) (fun _ _ _ _ _ => lv_if_ne (tgt := 48) hx hb dX4_readsText_32 (by decide)) (fun c32 => ?_) (fun c32 => ?_)
    · have hp21 := hp20.1 c32
      refine x_up (pc' := 36) (fun _ _ _ _ _ L => lv_aload_n hx hb dX4_readsText_35 rfl (lv_at L 2 rfl)) ?_
      refine x_callV (em := emI) (fun r st => .int r :: st) (fun _ _ => rfl) 0 X (kX4 hG) (fun σ' KK h => R_X4_here l hl G hG a0 σ' KK h) (lw_V q3578 q3580 qs86 q119 q3581) ⟨rfl, mdX4_here⟩ ⟨Nat.le_of_ble_eq_true rfl, Nat.le_of_ble_eq_true rfl⟩ rfl rfl (Nat.le_of_ble_eq_true rfl) dX4_readsText_36 hp21.1 hp21.2 (fun v20 σ21 hp22 => ?_)
      refine x_pc (pc' := 39) rfl ?_
      refine x_up (pc' := 41) (fun _ _ _ _ _ L => lv_bipush (v := (59 : Int32)) hx hb dX4_readsText_39 (by decide)) ?_
      refine x_ifn (C := v20 = (59 : Int32)) (pt := 48) (pc' := 44) (fun _ _ _ _ _ => lv_icmp_ne (tgt := 48) hx hb dX4_readsText_41 (by decide)) (fun c41 => ?_) (fun c41 => ?_)
      · have hp23 := hp22.1 c41
        refine x_up (pc' := 45) (fun _ _ _ _ _ L => lv_iconst (v := (1 : Int32)) hx hb dX4_readsText_44 (by decide)) ?_
        refine x_up (pc' := 49) (fun _ _ _ _ _ L => lv_goto (tgt := 49) hx hb dX4_readsText_45 (by decide)) ?_
        refine x_upL (pc' := 50) (lo' := [(2, .int (1 : Int32)), (1, .int (y7 + (1 : Int32))), (0, .ref a0)]) (fun _ _ _ _ _ L => lv_istore_n hx hb dX4_readsText_49 rfl L (by decide) rfl) ?_
        refine x_up (pc' := 51) (fun _ _ _ _ _ L => lv_aload_n hx hb dX4_readsText_50 rfl (lv_at L 2 rfl)) ?_
        refine x_up (pc' := 52) (fun _ _ _ _ _ L => lv_dup hx hb dX4_readsText_51 rfl) ?_
        refine x_gi X (kX4 hG) 17 (by decide) q3283 (fun _ h => h) dX4_readsText_52 hp23 (fun v22 hp24 => ?_)
        refine x_pc (pc' := 55) rfl ?_
        refine x_up (pc' := 56) (fun _ _ _ _ _ L => lv_iload_n hx hb dX4_readsText_55 rfl (lv_at L 0 rfl)) ?_
        refine x_if (C := (1 : Int32) = 0) (pt := 63) (pc' := 59) (fun _ _ _ _ _ => lv_if_eq (tgt := 63) hx hb dX4_readsText_56 (by decide)) (fun c56 => ?_) (fun c56 => ?_)
        · have hp25 := hp24.1 c56
          refine x_up (pc' := 64) (fun _ _ _ _ _ L => lv_iconst (v := (0 : Int32)) hx hb dX4_readsText_63 (by decide)) ?_
          refine x_up (pc' := 65) (fun _ _ _ _ _ L => lv_iadd hx hb dX4_readsText_64) ?_
          refine x_pi X (kX4 hG) 17 (by decide) q3283 (fun _ h => h) rfl rfl rfl dX4_readsText_65 hp25 (fun σ23 hp26 => ?_)
          refine x_pc (pc' := 68) rfl ?_
          refine x_up (pc' := 14) (fun _ _ _ _ _ L => lv_goto (tgt := 14) hx hb dX4_readsText_68 (by decide)) ?_
          refine x_lo (lo' := [(1, .int (y7 + (1 : Int32))), (2, .int (1 : Int32)), (0, .ref a0)]) [1, 0, 2] rfl ?_
          exact hself5 ((y7 + (1 : Int32)), (1 : Int32)) σ23 hp26
        · have hp27 := hp24.2 c56
          refine x_up (pc' := 60) (fun _ _ _ _ _ L => lv_iconst (v := (1 : Int32)) hx hb dX4_readsText_59 (by decide)) ?_
          refine x_up (pc' := 64) (fun _ _ _ _ _ L => lv_goto (tgt := 64) hx hb dX4_readsText_60 (by decide)) ?_
          refine x_up (pc' := 65) (fun _ _ _ _ _ L => lv_iadd hx hb dX4_readsText_64) ?_
          refine x_pi X (kX4 hG) 17 (by decide) q3283 (fun _ h => h) rfl rfl rfl dX4_readsText_65 hp27 (fun σ24 hp28 => ?_)
          refine x_pc (pc' := 68) rfl ?_
          refine x_up (pc' := 14) (fun _ _ _ _ _ L => lv_goto (tgt := 14) hx hb dX4_readsText_68 (by decide)) ?_
          refine x_lo (lo' := [(1, .int (y7 + (1 : Int32))), (2, .int (1 : Int32)), (0, .ref a0)]) [1, 0, 2] rfl ?_
          exact hself5 ((y7 + (1 : Int32)), (1 : Int32)) σ24 hp28
      · have hp29 := hp22.2 c41
        refine x_up (pc' := 49) (fun _ _ _ _ _ L => lv_iconst (v := (0 : Int32)) hx hb dX4_readsText_48 (by decide)) ?_
        refine x_upL (pc' := 50) (lo' := [(2, .int (0 : Int32)), (1, .int (y7 + (1 : Int32))), (0, .ref a0)]) (fun _ _ _ _ _ L => lv_istore_n hx hb dX4_readsText_49 rfl L (by decide) rfl) ?_
        refine x_up (pc' := 51) (fun _ _ _ _ _ L => lv_aload_n hx hb dX4_readsText_50 rfl (lv_at L 2 rfl)) ?_
        refine x_up (pc' := 52) (fun _ _ _ _ _ L => lv_dup hx hb dX4_readsText_51 rfl) ?_
        refine x_gi X (kX4 hG) 17 (by decide) q3283 (fun _ h => h) dX4_readsText_52 hp29 (fun v25 hp30 => ?_)
        refine x_pc (pc' := 55) rfl ?_
        refine x_up (pc' := 56) (fun _ _ _ _ _ L => lv_iload_n hx hb dX4_readsText_55 rfl (lv_at L 0 rfl)) ?_
        refine x_if (C := (0 : Int32) = 0) (pt := 63) (pc' := 59) (fun _ _ _ _ _ => lv_if_eq (tgt := 63) hx hb dX4_readsText_56 (by decide)) (fun c56 => ?_) (fun c56 => ?_)
        · have hp31 := hp30.1 c56
          refine x_up (pc' := 64) (fun _ _ _ _ _ L => lv_iconst (v := (0 : Int32)) hx hb dX4_readsText_63 (by decide)) ?_
          refine x_up (pc' := 65) (fun _ _ _ _ _ L => lv_iadd hx hb dX4_readsText_64) ?_
          refine x_pi X (kX4 hG) 17 (by decide) q3283 (fun _ h => h) rfl rfl rfl dX4_readsText_65 hp31 (fun σ26 hp32 => ?_)
          refine x_pc (pc' := 68) rfl ?_
          refine x_up (pc' := 14) (fun _ _ _ _ _ L => lv_goto (tgt := 14) hx hb dX4_readsText_68 (by decide)) ?_
          refine x_lo (lo' := [(1, .int (y7 + (1 : Int32))), (2, .int (0 : Int32)), (0, .ref a0)]) [1, 0, 2] rfl ?_
          exact hself5 ((y7 + (1 : Int32)), (0 : Int32)) σ26 hp32
        · have hp33 := hp30.2 c56
          refine x_up (pc' := 60) (fun _ _ _ _ _ L => lv_iconst (v := (1 : Int32)) hx hb dX4_readsText_59 (by decide)) ?_
          refine x_up (pc' := 64) (fun _ _ _ _ _ L => lv_goto (tgt := 64) hx hb dX4_readsText_60 (by decide)) ?_
          refine x_up (pc' := 65) (fun _ _ _ _ _ L => lv_iadd hx hb dX4_readsText_64) ?_
          refine x_pi X (kX4 hG) 17 (by decide) q3283 (fun _ h => h) rfl rfl rfl dX4_readsText_65 hp33 (fun σ27 hp34 => ?_)
          refine x_pc (pc' := 68) rfl ?_
          refine x_up (pc' := 14) (fun _ _ _ _ _ L => lv_goto (tgt := 14) hx hb dX4_readsText_68 (by decide)) ?_
          refine x_lo (lo' := [(1, .int (y7 + (1 : Int32))), (2, .int (0 : Int32)), (0, .ref a0)]) [1, 0, 2] rfl ?_
          exact hself5 ((y7 + (1 : Int32)), (0 : Int32)) σ27 hp34
    · have hp35 := hp20.2 c32
      refine x_up (pc' := 49) (fun _ _ _ _ _ L => lv_iconst (v := (0 : Int32)) hx hb dX4_readsText_48 (by decide)) ?_
      refine x_upL (pc' := 50) (lo' := [(2, .int (0 : Int32)), (1, .int (y7 + (1 : Int32))), (0, .ref a0)]) (fun _ _ _ _ _ L => lv_istore_n hx hb dX4_readsText_49 rfl L (by decide) rfl) ?_
      refine x_up (pc' := 51) (fun _ _ _ _ _ L => lv_aload_n hx hb dX4_readsText_50 rfl (lv_at L 2 rfl)) ?_
      refine x_up (pc' := 52) (fun _ _ _ _ _ L => lv_dup hx hb dX4_readsText_51 rfl) ?_
      refine x_gi X (kX4 hG) 17 (by decide) q3283 (fun _ h => h) dX4_readsText_52 hp35 (fun v28 hp36 => ?_)
      refine x_pc (pc' := 55) rfl ?_
      refine x_up (pc' := 56) (fun _ _ _ _ _ L => lv_iload_n hx hb dX4_readsText_55 rfl (lv_at L 0 rfl)) ?_
      refine x_if (C := (0 : Int32) = 0) (pt := 63) (pc' := 59) (fun _ _ _ _ _ => lv_if_eq (tgt := 63) hx hb dX4_readsText_56 (by decide)) (fun c56 => ?_) (fun c56 => ?_)
      · have hp37 := hp36.1 c56
        refine x_up (pc' := 64) (fun _ _ _ _ _ L => lv_iconst (v := (0 : Int32)) hx hb dX4_readsText_63 (by decide)) ?_
        refine x_up (pc' := 65) (fun _ _ _ _ _ L => lv_iadd hx hb dX4_readsText_64) ?_
        refine x_pi X (kX4 hG) 17 (by decide) q3283 (fun _ h => h) rfl rfl rfl dX4_readsText_65 hp37 (fun σ29 hp38 => ?_)
        refine x_pc (pc' := 68) rfl ?_
        refine x_up (pc' := 14) (fun _ _ _ _ _ L => lv_goto (tgt := 14) hx hb dX4_readsText_68 (by decide)) ?_
        refine x_lo (lo' := [(1, .int (y7 + (1 : Int32))), (2, .int (0 : Int32)), (0, .ref a0)]) [1, 0, 2] rfl ?_
        exact hself5 ((y7 + (1 : Int32)), (0 : Int32)) σ29 hp38
      · have hp39 := hp36.2 c56
        refine x_up (pc' := 60) (fun _ _ _ _ _ L => lv_iconst (v := (1 : Int32)) hx hb dX4_readsText_59 (by decide)) ?_
        refine x_up (pc' := 64) (fun _ _ _ _ _ L => lv_goto (tgt := 64) hx hb dX4_readsText_60 (by decide)) ?_
        refine x_up (pc' := 65) (fun _ _ _ _ _ L => lv_iadd hx hb dX4_readsText_64) ?_
        refine x_pi X (kX4 hG) 17 (by decide) q3283 (fun _ h => h) rfl rfl rfl dX4_readsText_65 hp39 (fun σ30 hp40 => ?_)
        refine x_pc (pc' := 68) rfl ?_
        refine x_up (pc' := 14) (fun _ _ _ _ _ L => lv_goto (tgt := 14) hx hb dX4_readsText_68 (by decide)) ?_
        refine x_lo (lo' := [(1, .int (y7 + (1 : Int32))), (2, .int (0 : Int32)), (0, .ref a0)]) [1, 0, 2] rfl ?_
        exact hself5 ((y7 + (1 : Int32)), (0 : Int32)) σ30 hp40
-- X4_does
def P_X4_does (κ : Nat → Nat) (a0 : Nat) (x1 : Int32) (σ : xS) (K : Int32 → xH → Prop) : Prop :=
  xgq σ a0 10 19 fun v1 => xnn v1 fun b2 => xai .int σ b2 (x1 + (1 : Int32)) fun v3 => xgq σ a0 10 19 fun v4 => xnn v4 fun b5 => xai .int σ b5 x1 fun v6 => ((v6 = (0 : Int32) → (xrc σ a0 10 ∧ xcall (fun τ L => P_X4_reads κ a0 v3 τ L) σ fun v25 σ26 => K v25 σ26.1)) ∧ (¬ v6 = (0 : Int32) → ((v6 = (1 : Int32) → (xgq σ a0 10 19 fun v20 => xnn v20 fun b21 => xai .int σ b21 (x1 + (2 : Int32)) fun v22 => xrc σ a0 10 ∧ xcall (fun τ L => P_X4_writes κ a0 v3 v22 τ L) σ fun v23 σ24 => K v23 σ24.1)) ∧ (¬ v6 = (1 : Int32) → ((v6 = (2 : Int32) → (xrc σ a0 10 ∧ xcall (fun τ L => P_X4_pins κ a0 v3 (1 : Int32) τ L) σ fun v18 σ19 => K v18 σ19.1)) ∧ (¬ v6 = (2 : Int32) → ((v6 = (3 : Int32) → (xrc σ a0 10 ∧ xcall (fun τ L => P_X4_pins κ a0 v3 (0 : Int32) τ L) σ fun v16 σ17 => K v16 σ17.1)) ∧ (¬ v6 = (3 : Int32) → ((v6 = (4 : Int32) → (xrc σ a0 10 ∧ xcall (fun τ L => P_X4_flushes κ a0 τ L) σ fun v14 σ15 => K v14 σ15.1)) ∧ (¬ v6 = (4 : Int32) → ((v6 = (5 : Int32) → (xgq σ a0 10 19 fun v9 => xnn v9 fun b10 => xai .int σ b10 (x1 + (2 : Int32)) fun v11 => xrc σ a0 10 ∧ xcall (fun τ L => P_X4_devices κ a0 v3 v11 τ L) σ fun v12 σ13 => K v12 σ13.1)) ∧ (¬ v6 = (5 : Int32) → (xrc σ a0 10 ∧ xcall (fun τ L => P_X4_passes κ a0 v3 τ L) σ fun v7 σ8 => K v7 σ8.1)))))))))))))
theorem mdX4_does : yX4_does.cls ≠ "java/lang/invoke/MethodHandle" ∧ yX4_does.cls ≠ "java/lang/invoke/VarHandle" ∧ (parseMethodDescriptor yX4_does.desc).map (fun d => d.parameters.length) = some 1 := by decide +kernel
set_option maxHeartbeats 4000000 in
set_option maxRecDepth 100000 in
theorem R_X4_does (l : Launch) (hl : l.stackTraces = false) (G : xG) (hG : G.1.2 = x_cl) (a0 : Nat) (x1 : Int32) (σ : xS) (K : Int32 → xH → Prop) (hp : P_X4_does G.2 a0 x1 σ K) : xM l yX4_does cX4_does 3 (Option.some Jvm.ClassFile.FieldType.int) 5 119 G [(.ref a0), .int x1] σ (xlift emI K) := by
  refine x_entry (by decide) (Nat.le_of_ble_eq_true rfl) ?_
  intro p e s m args below meth c X hr hin
  have X : xX p s m args meth c G cX4_does 3 RX4 := X
  have hx := X.1
  have hb := X.2.1
  have hts := X.2.2.2.2.1
  have hown := X.2.2.2.1
  unfold P_X4_does at hp
  refine x_same (lo' := [(0, .ref a0), (1, .int x1)]) rfl ?_
  refine x_up (pc' := 1) (fun _ _ _ _ _ L => lv_aload_n hx hb dX4_does_0 rfl (lv_at L 0 rfl)) ?_
  refine x_gq X (kX4 hG) 19 (by decide) q3285 (fun _ h => h) dX4_does_1 hp (fun v1 hp1 => ?_)
  refine x_pc (pc' := 4) rfl ?_
  refine x_up (pc' := 5) (fun _ _ _ _ _ L => lv_iload_n hx hb dX4_does_4 rfl (lv_at L 1 rfl)) ?_
  refine x_up (pc' := 6) (fun _ _ _ _ _ L => lv_iconst (v := (1 : Int32)) hx hb dX4_does_5 (by decide)) ?_
  refine x_up (pc' := 7) (fun _ _ _ _ _ L => lv_iadd hx hb dX4_does_6) ?_
  obtain ⟨b2, rfl, hp2⟩ := hp1
  refine x_iald X dX4_does_7 hp2 (fun v3 hp3 => ?_)
  refine x_pc (pc' := 8) rfl ?_
  refine x_upL (pc' := 9) (lo' := [(2, .int v3), (0, .ref a0), (1, .int x1)]) (fun _ _ _ _ _ L => lv_istore_n hx hb dX4_does_8 rfl L (by decide) rfl) ?_
  refine x_up (pc' := 10) (fun _ _ _ _ _ L => lv_aload_n hx hb dX4_does_9 rfl (lv_at L 1 rfl)) ?_
  refine x_gq X (kX4 hG) 19 (by decide) q3285 (fun _ h => h) dX4_does_10 hp3 (fun v4 hp4 => ?_)
  refine x_pc (pc' := 13) rfl ?_
  refine x_up (pc' := 14) (fun _ _ _ _ _ L => lv_iload_n hx hb dX4_does_13 rfl (lv_at L 2 rfl)) ?_
  obtain ⟨b5, rfl, hp5⟩ := hp4
  refine x_iald X dX4_does_14 hp5 (fun v6 hp6 => ?_)
  refine x_pc (pc' := 15) rfl ?_
  by_cases c15_0 : v6 = (0 : Int32)
  · have hp7 := hp6.1 c15_0
    refine x_up (pc' := 52) (fun _ _ _ _ _ L => lv_tableIn (off := 37) (tgt := 52) hx hb dX4_does_15 (by rw [c15_0]; decide) (by rw [c15_0]; decide) (by rw [c15_0]; rfl) (by decide)) ?_
    refine x_up (pc' := 53) (fun _ _ _ _ _ L => lv_aload_n hx hb dX4_does_52 rfl (lv_at L 1 rfl)) ?_
    refine x_up (pc' := 54) (fun _ _ _ _ _ L => lv_iload_n hx hb dX4_does_53 rfl (lv_at L 0 rfl)) ?_
    refine x_callV (em := emI) (fun r st => .int r :: st) (fun _ _ => rfl) 1 X (kX4 hG) (fun σ' KK h => R_X4_reads l hl G hG a0 v3 σ' KK h) (lw_V q3343 q3345 qs57 q119 q3346) ⟨rfl, mdX4_reads⟩ ⟨Nat.le_of_ble_eq_true rfl, Nat.le_of_ble_eq_true rfl⟩ rfl rfl (Nat.le_of_ble_eq_true rfl) dX4_does_54 hp7.1 hp7.2 (fun v7 σ8 hp8 => ?_)
    refine x_pc (pc' := 57) rfl ?_
    exact x_iret X hr rfl dX4_does_57 hp8
  have hp9 := hp6.2 c15_0
  by_cases c15_1 : v6 = (1 : Int32)
  · have hp10 := hp9.1 c15_1
    refine x_up (pc' := 58) (fun _ _ _ _ _ L => lv_tableIn (off := 43) (tgt := 58) hx hb dX4_does_15 (by rw [c15_1]; decide) (by rw [c15_1]; decide) (by rw [c15_1]; rfl) (by decide)) ?_
    refine x_up (pc' := 59) (fun _ _ _ _ _ L => lv_aload_n hx hb dX4_does_58 rfl (lv_at L 1 rfl)) ?_
    refine x_up (pc' := 60) (fun _ _ _ _ _ L => lv_iload_n hx hb dX4_does_59 rfl (lv_at L 0 rfl)) ?_
    refine x_up (pc' := 61) (fun _ _ _ _ _ L => lv_aload_n hx hb dX4_does_60 rfl (lv_at L 1 rfl)) ?_
    refine x_gq X (kX4 hG) 19 (by decide) q3285 (fun _ h => h) dX4_does_61 hp10 (fun v9 hp11 => ?_)
    refine x_pc (pc' := 64) rfl ?_
    refine x_up (pc' := 65) (fun _ _ _ _ _ L => lv_iload_n hx hb dX4_does_64 rfl (lv_at L 2 rfl)) ?_
    refine x_up (pc' := 66) (fun _ _ _ _ _ L => lv_iconst (v := (2 : Int32)) hx hb dX4_does_65 (by decide)) ?_
    refine x_up (pc' := 67) (fun _ _ _ _ _ L => lv_iadd hx hb dX4_does_66) ?_
    obtain ⟨b10, rfl, hp12⟩ := hp11
    refine x_iald X dX4_does_67 hp12 (fun v11 hp13 => ?_)
    refine x_pc (pc' := 68) rfl ?_
    refine x_callV (em := emI) (fun r st => .int r :: st) (fun _ _ => rfl) 2 X (kX4 hG) (fun σ' KK h => R_X4_writes l hl G hG a0 v3 v11 σ' KK h) (lw_V q3416 q3418 qs72 q119 q3419) ⟨rfl, mdX4_writes⟩ ⟨Nat.le_of_ble_eq_true rfl, Nat.le_of_ble_eq_true rfl⟩ rfl rfl (Nat.le_of_ble_eq_true rfl) dX4_does_68 hp13.1 hp13.2 (fun v12 σ13 hp14 => ?_)
    refine x_pc (pc' := 71) rfl ?_
    exact x_iret X hr rfl dX4_does_71 hp14
  have hp15 := hp9.2 c15_1
  by_cases c15_2 : v6 = (2 : Int32)
  · have hp16 := hp15.1 c15_2
    refine x_up (pc' := 72) (fun _ _ _ _ _ L => lv_tableIn (off := 57) (tgt := 72) hx hb dX4_does_15 (by rw [c15_2]; decide) (by rw [c15_2]; decide) (by rw [c15_2]; rfl) (by decide)) ?_
    refine x_up (pc' := 73) (fun _ _ _ _ _ L => lv_aload_n hx hb dX4_does_72 rfl (lv_at L 1 rfl)) ?_
    refine x_up (pc' := 74) (fun _ _ _ _ _ L => lv_iload_n hx hb dX4_does_73 rfl (lv_at L 0 rfl)) ?_
    refine x_up (pc' := 75) (fun _ _ _ _ _ L => lv_iconst (v := (1 : Int32)) hx hb dX4_does_74 (by decide)) ?_
    refine x_callV (em := emI) (fun r st => .int r :: st) (fun _ _ => rfl) 2 X (kX4 hG) (fun σ' KK h => R_X4_pins l hl G hG a0 v3 (1 : Int32) σ' KK h) (lw_V q3440 q3442 qs75 q119 q3443) ⟨rfl, mdX4_pins⟩ ⟨Nat.le_of_ble_eq_true rfl, Nat.le_of_ble_eq_true rfl⟩ rfl rfl (Nat.le_of_ble_eq_true rfl) dX4_does_75 hp16.1 hp16.2 (fun v14 σ15 hp17 => ?_)
    refine x_pc (pc' := 78) rfl ?_
    exact x_iret X hr rfl dX4_does_78 hp17
  have hp18 := hp15.2 c15_2
  by_cases c15_3 : v6 = (3 : Int32)
  · have hp19 := hp18.1 c15_3
    refine x_up (pc' := 79) (fun _ _ _ _ _ L => lv_tableIn (off := 64) (tgt := 79) hx hb dX4_does_15 (by rw [c15_3]; decide) (by rw [c15_3]; decide) (by rw [c15_3]; rfl) (by decide)) ?_
    refine x_up (pc' := 80) (fun _ _ _ _ _ L => lv_aload_n hx hb dX4_does_79 rfl (lv_at L 1 rfl)) ?_
    refine x_up (pc' := 81) (fun _ _ _ _ _ L => lv_iload_n hx hb dX4_does_80 rfl (lv_at L 0 rfl)) ?_
    refine x_up (pc' := 82) (fun _ _ _ _ _ L => lv_iconst (v := (0 : Int32)) hx hb dX4_does_81 (by decide)) ?_
    refine x_callV (em := emI) (fun r st => .int r :: st) (fun _ _ => rfl) 2 X (kX4 hG) (fun σ' KK h => R_X4_pins l hl G hG a0 v3 (0 : Int32) σ' KK h) (lw_V q3440 q3442 qs75 q119 q3443) ⟨rfl, mdX4_pins⟩ ⟨Nat.le_of_ble_eq_true rfl, Nat.le_of_ble_eq_true rfl⟩ rfl rfl (Nat.le_of_ble_eq_true rfl) dX4_does_82 hp19.1 hp19.2 (fun v16 σ17 hp20 => ?_)
    refine x_pc (pc' := 85) rfl ?_
    exact x_iret X hr rfl dX4_does_85 hp20
  have hp21 := hp18.2 c15_3
  by_cases c15_4 : v6 = (4 : Int32)
  · have hp22 := hp21.1 c15_4
    refine x_up (pc' := 86) (fun _ _ _ _ _ L => lv_tableIn (off := 71) (tgt := 86) hx hb dX4_does_15 (by rw [c15_4]; decide) (by rw [c15_4]; decide) (by rw [c15_4]; rfl) (by decide)) ?_
    refine x_up (pc' := 87) (fun _ _ _ _ _ L => lv_aload_n hx hb dX4_does_86 rfl (lv_at L 1 rfl)) ?_
    refine x_callV (em := emI) (fun r st => .int r :: st) (fun _ _ => rfl) 0 X (kX4 hG) (fun σ' KK h => R_X4_flushes l hl G hG a0 σ' KK h) (lw_V q3459 q3461 qs77 q119 q3462) ⟨rfl, mdX4_flushes⟩ ⟨Nat.le_of_ble_eq_true rfl, Nat.le_of_ble_eq_true rfl⟩ rfl rfl (Nat.le_of_ble_eq_true rfl) dX4_does_87 hp22.1 hp22.2 (fun v18 σ19 hp23 => ?_)
    refine x_pc (pc' := 90) rfl ?_
    exact x_iret X hr rfl dX4_does_90 hp23
  have hp24 := hp21.2 c15_4
  by_cases c15_5 : v6 = (5 : Int32)
  · have hp25 := hp24.1 c15_5
    refine x_up (pc' := 91) (fun _ _ _ _ _ L => lv_tableIn (off := 76) (tgt := 91) hx hb dX4_does_15 (by rw [c15_5]; decide) (by rw [c15_5]; decide) (by rw [c15_5]; rfl) (by decide)) ?_
    refine x_up (pc' := 92) (fun _ _ _ _ _ L => lv_aload_n hx hb dX4_does_91 rfl (lv_at L 1 rfl)) ?_
    refine x_up (pc' := 93) (fun _ _ _ _ _ L => lv_iload_n hx hb dX4_does_92 rfl (lv_at L 0 rfl)) ?_
    refine x_up (pc' := 94) (fun _ _ _ _ _ L => lv_aload_n hx hb dX4_does_93 rfl (lv_at L 1 rfl)) ?_
    refine x_gq X (kX4 hG) 19 (by decide) q3285 (fun _ h => h) dX4_does_94 hp25 (fun v20 hp26 => ?_)
    refine x_pc (pc' := 97) rfl ?_
    refine x_up (pc' := 98) (fun _ _ _ _ _ L => lv_iload_n hx hb dX4_does_97 rfl (lv_at L 2 rfl)) ?_
    refine x_up (pc' := 99) (fun _ _ _ _ _ L => lv_iconst (v := (2 : Int32)) hx hb dX4_does_98 (by decide)) ?_
    refine x_up (pc' := 100) (fun _ _ _ _ _ L => lv_iadd hx hb dX4_does_99) ?_
    obtain ⟨b21, rfl, hp27⟩ := hp26
    refine x_iald X dX4_does_100 hp27 (fun v22 hp28 => ?_)
    refine x_pc (pc' := 101) rfl ?_
    refine x_callV (em := emI) (fun r st => .int r :: st) (fun _ _ => rfl) 2 X (kX4 hG) (fun σ' KK h => R_X4_devices l hl G hG a0 v3 v22 σ' KK h) (lw_V q3424 q3426 qs73 q119 q3427) ⟨rfl, mdX4_devices⟩ ⟨Nat.le_of_ble_eq_true rfl, Nat.le_of_ble_eq_true rfl⟩ rfl rfl (Nat.le_of_ble_eq_true rfl) dX4_does_101 hp28.1 hp28.2 (fun v23 σ24 hp29 => ?_)
    refine x_pc (pc' := 104) rfl ?_
    exact x_iret X hr rfl dX4_does_104 hp29
  have hp30 := hp24.2 c15_5
  refine x_up (pc' := 105) (fun _ _ _ _ _ L => lv_tableOut (tgt := 105) hx hb dX4_does_15 (x_tabOut 0 6 (by decide) (by decide) (by decide) (lt_s (lt_s (lt_s (lt_s (lt_s (lt_s lt_0 c15_0) c15_1) c15_2) c15_3) c15_4) c15_5)) (by decide)) ?_
  refine x_up (pc' := 106) (fun _ _ _ _ _ L => lv_aload_n hx hb dX4_does_105 rfl (lv_at L 1 rfl)) ?_
  refine x_up (pc' := 107) (fun _ _ _ _ _ L => lv_iload_n hx hb dX4_does_106 rfl (lv_at L 0 rfl)) ?_
  refine x_callV (em := emI) (fun r st => .int r :: st) (fun _ _ => rfl) 1 X (kX4 hG) (fun σ' KK h => R_X4_passes l hl G hG a0 v3 σ' KK h) (lw_V q3432 q3434 qs74 q119 q3435) ⟨rfl, mdX4_passes⟩ ⟨Nat.le_of_ble_eq_true rfl, Nat.le_of_ble_eq_true rfl⟩ rfl rfl (Nat.le_of_ble_eq_true rfl) dX4_does_107 hp30.1 hp30.2 (fun v25 σ26 hp31 => ?_)
  refine x_pc (pc' := 110) rfl ?_
  exact x_iret X hr rfl dX4_does_110 hp31
-- X4_run
def B_X4_run_32 (κ : Nat → Nat) (K : Int32 → xH → Prop) (kx33004 : Int32 → xS → Prop) (f0 : Nat) (f1 : Int32) : (Int32 → xS → Prop) → Int32 → xS → Prop := fun self33003 w33001 σ33002 =>
  ((f1 ≤ w33001 → (xrc σ33002 f0 10 ∧ xcall (fun τ L => P_X4_done κ f0 f1 τ L) σ33002 fun v33005 σ33006 => xrc σ33006 f0 10 ∧ xcall (fun τ L => P_X4_kept κ f0 v33005 τ L) σ33006 fun v33007 σ33008 => K v33007 σ33008.1)) ∧ (¬ f1 ≤ w33001 → (xrc σ33002 f0 10 ∧ xcall (fun τ L => P_X4_does κ f0 ((3 : Int32) * w33001) τ L) σ33002 fun v33009 σ33010 => xgi σ33010 f0 10 16 fun v33011 => ((v33011 = 0 → (self33003 (w33001 + (1 : Int32)) σ33010)) ∧ (¬ v33011 = 0 → (kx33004 w33001 σ33010))))))
def P_X4_run (κ : Nat → Nat) (a0 : Nat) (σ : xS) (K : Int32 → xH → Prop) : Prop :=
  xrc σ a0 10 ∧ xcall (fun τ L => P_X4_readsText κ a0 τ L) σ fun v1 σ2 => xgi σ2 a0 10 18 fun v3 => ((v3 = 0 → (xrc σ2 a0 10 ∧ xcall (fun τ L => P_X4_looksBack κ a0 τ L) σ2 fun _ σ4 => xwhile (B_X4_run_32 κ K (fun e5 σ6 => xgi σ6 a0 10 10 fun v7 => xpi κ σ6 a0 10 12 v7 fun σ8 => xgi σ8 a0 10 11 fun v9 => xpi κ σ8 a0 10 13 v9 fun σ10 => xpi κ σ10 a0 10 10 (7 : Int32) fun σ11 => xpi κ σ11 a0 10 11 e5 fun σ12 => xpi κ σ12 a0 10 16 (2 : Int32) fun σ13 => xrc σ13 a0 10 ∧ xcall (fun τ L => P_X4_kept κ a0 (0 : Int32) τ L) σ13 fun v14 σ15 => K v14 σ15.1) a0 v1) (0 : Int32) σ4)) ∧ (¬ v3 = 0 → (xgi σ2 a0 10 17 fun v16 => xpi κ σ2 a0 10 9 v16 fun σ17 => xrc σ17 a0 10 ∧ xcall (fun τ L => P_X4_fails κ a0 (1 : Int32) τ L) σ17 fun v18 σ19 => K v18 σ19.1)))
theorem mdX4_run : yX4_run.cls ≠ "java/lang/invoke/MethodHandle" ∧ yX4_run.cls ≠ "java/lang/invoke/VarHandle" ∧ (parseMethodDescriptor yX4_run.desc).map (fun d => d.parameters.length) = some 0 := by decide +kernel
set_option maxHeartbeats 4000000 in
set_option maxRecDepth 100000 in
theorem R_X4_run (l : Launch) (hl : l.stackTraces = false) (G : xG) (hG : G.1.2 = x_cl) (a0 : Nat) (σ : xS) (K : Int32 → xH → Prop) (hp : P_X4_run G.2 a0 σ K) : xM l yX4_run cX4_run 4 (Option.some Jvm.ClassFile.FieldType.int) 9 194 G [(.ref a0)] σ (xlift emI K) := by
  refine x_entry (by decide) (Nat.le_of_ble_eq_true rfl) ?_
  intro p e s m args below meth c X hr hin
  have X : xX p s m args meth c G cX4_run 4 RX4 := X
  have hx := X.1
  have hb := X.2.1
  have hts := X.2.2.2.2.1
  have hown := X.2.2.2.1
  unfold P_X4_run at hp
  refine x_same (lo' := [(0, .ref a0)]) rfl ?_
  refine x_up (pc' := 1) (fun _ _ _ _ _ L => lv_aload_n hx hb dX4_run_0 rfl (lv_at L 0 rfl)) ?_
  refine x_callV (em := emI) (fun r st => .int r :: st) (fun _ _ => rfl) 0 X (kX4 hG) (fun σ' KK h => R_X4_readsText l hl G hG a0 σ' KK h) (lw_V q3551 q3553 qs82 q119 q3554) ⟨rfl, mdX4_readsText⟩ ⟨Nat.le_of_ble_eq_true rfl, Nat.le_of_ble_eq_true rfl⟩ rfl rfl (Nat.le_of_ble_eq_true rfl) dX4_run_1 hp.1 hp.2 (fun v1 σ2 hp1 => ?_)
  refine x_pc (pc' := 4) rfl ?_
  refine x_upL (pc' := 5) (lo' := [(1, .int v1), (0, .ref a0)]) (fun _ _ _ _ _ L => lv_istore_n hx hb dX4_run_4 rfl L (by decide) rfl) ?_
  refine x_up (pc' := 6) (fun _ _ _ _ _ L => lv_aload_n hx hb dX4_run_5 rfl (lv_at L 1 rfl)) ?_
  refine x_gi X (kX4 hG) 18 (by decide) q3284 (fun _ h => h) dX4_run_6 hp1 (fun v3 hp2 => ?_)
  refine x_pc (pc' := 9) rfl ?_
  refine x_if (C := v3 = 0) (pt := 26) (pc' := 12) (fun _ _ _ _ _ => lv_if_eq (tgt := 26) hx hb dX4_run_9 (by decide)) (fun c9 => ?_) (fun c9 => ?_)
  · have hp3 := hp2.1 c9
    refine x_up (pc' := 27) (fun _ _ _ _ _ L => lv_aload_n hx hb dX4_run_26 rfl (lv_at L 1 rfl)) ?_
    refine x_callV (em := emV) (fun r st => st) (fun _ _ => rfl) 0 X (kX4 hG) (fun σ' KK h => R_X4_looksBack l hl G hG a0 σ' KK h) (lw_V q3336 q3338 qs56 q119 q3339) ⟨rfl, mdX4_looksBack⟩ ⟨Nat.le_of_ble_eq_true rfl, Nat.le_of_ble_eq_true rfl⟩ rfl rfl (Nat.le_of_ble_eq_true rfl) dX4_run_27 hp3.1 hp3.2 (fun _ σ4 hp4 => ?_)
    refine x_pc (pc' := 30) rfl ?_
    refine x_up (pc' := 31) (fun _ _ _ _ _ L => lv_iconst (v := (0 : Int32)) hx hb dX4_run_30 (by decide)) ?_
    refine x_upL (pc' := 32) (lo' := [(2, .int (0 : Int32)), (1, .int v1), (0, .ref a0)]) (fun _ _ _ _ _ L => lv_istore_n hx hb dX4_run_31 rfl L (by decide) rfl) ?_
    refine x_lo (lo' := [(2, .int (0 : Int32)), (0, .ref a0), (1, .int v1)]) [0, 2, 1] rfl ?_
    refine x_while (v0 := (0 : Int32)) (fun w5 => [(2, .int w5), (0, .ref a0), (1, .int v1)]) hp4 (fun self6 hself7 => ?_)
    rintro y9 σ8 hp5
    unfold B_X4_run_32 at hp5
    refine x_same (lo' := [(2, .int y9), (0, .ref a0), (1, .int v1)]) rfl ?_
    refine x_up (pc' := 33) (fun _ _ _ _ _ L => lv_iload_n hx hb dX4_run_32 rfl (lv_at L 0 rfl)) ?_
    refine x_up (pc' := 34) (fun _ _ _ _ _ L => lv_iload_n hx hb dX4_run_33 rfl (lv_at L 2 rfl)) ?_
    refine x_if (C := v1 ≤ y9) (pt := 96) (pc' := 37) (fun _ _ _ _ _ => lv_icmp_ge (tgt := 96) hx hb dX4_run_34 (by decide)) (fun c34 => ?_) (fun c34 => ?_)
    · have hp6 := hp5.1 c34
      refine x_up (pc' := 97) (fun _ _ _ _ _ L => lv_aload_n hx hb dX4_run_96 rfl (lv_at L 1 rfl)) ?_
      refine x_up (pc' := 98) (fun _ _ _ _ _ L => lv_aload_n hx hb dX4_run_97 rfl (lv_at L 1 rfl)) ?_
      refine x_up (pc' := 99) (fun _ _ _ _ _ L => lv_iload_n hx hb dX4_run_98 rfl (lv_at L 2 rfl)) ?_
      refine x_callV (em := emI) (fun r st => .int r :: st) (fun _ _ => rfl) 1 X (kX4 hG) (fun σ' KK h => R_X4_done l hl G hG a0 v1 σ' KK h) (lw_V q3404 q3406 qs70 q119 q3407) ⟨rfl, mdX4_done⟩ ⟨Nat.le_of_ble_eq_true rfl, Nat.le_of_ble_eq_true rfl⟩ rfl rfl (Nat.le_of_ble_eq_true rfl) dX4_run_99 hp6.1 hp6.2 (fun v10 σ11 hp7 => ?_)
      refine x_pc (pc' := 102) rfl ?_
      refine x_callV (em := emI) (fun r st => .int r :: st) (fun _ _ => rfl) 1 X (kX4 hG) (fun σ' KK h => R_X4_kept l hl G hG a0 v10 σ' KK h) (lw_V q3408 q3410 qs71 q119 q3411) ⟨rfl, mdX4_kept⟩ ⟨Nat.le_of_ble_eq_true rfl, Nat.le_of_ble_eq_true rfl⟩ rfl rfl (Nat.le_of_ble_eq_true rfl) dX4_run_102 hp7.1 hp7.2 (fun v12 σ13 hp8 => ?_)
      refine x_pc (pc' := 105) rfl ?_
      exact x_iret X hr rfl dX4_run_105 hp8
    · have hp9 := hp5.2 c34
      refine x_up (pc' := 38) (fun _ _ _ _ _ L => lv_aload_n hx hb dX4_run_37 rfl (lv_at L 1 rfl)) ?_
      refine x_up (pc' := 39) (fun _ _ _ _ _ L => lv_iconst (v := (3 : Int32)) hx hb dX4_run_38 (by decide)) ?_
      refine x_up (pc' := 40) (fun _ _ _ _ _ L => lv_iload_n hx hb dX4_run_39 rfl (lv_at L 0 rfl)) ?_
      refine x_up (pc' := 41) (fun _ _ _ _ _ L => lv_imul hx hb dX4_run_40) ?_
      refine x_callV (em := emI) (fun r st => .int r :: st) (fun _ _ => rfl) 1 X (kX4 hG) (fun σ' KK h => R_X4_does l hl G hG a0 ((3 : Int32) * y9) σ' KK h) (lw_V q3603 q3605 qs92 q119 q3606) ⟨rfl, mdX4_does⟩ ⟨Nat.le_of_ble_eq_true rfl, Nat.le_of_ble_eq_true rfl⟩ rfl rfl (Nat.le_of_ble_eq_true rfl) dX4_run_41 hp9.1 hp9.2 (fun v14 σ15 hp10 => ?_)
      refine x_pc (pc' := 44) rfl ?_
      refine x_upL (pc' := 45) (lo' := [(3, .int v14), (2, .int y9), (0, .ref a0), (1, .int v1)]) (fun _ _ _ _ _ L => lv_istore_n hx hb dX4_run_44 rfl L (by decide) rfl) ?_
      refine x_up (pc' := 46) (fun _ _ _ _ _ L => lv_aload_n hx hb dX4_run_45 rfl (lv_at L 2 rfl)) ?_
      refine x_gi X (kX4 hG) 16 (by decide) q3282 (fun _ h => h) dX4_run_46 hp10 (fun v16 hp11 => ?_)
      refine x_pc (pc' := 49) rfl ?_
      refine x_if (C := v16 = 0) (pt := 90) (pc' := 52) (fun _ _ _ _ _ => lv_if_eq (tgt := 90) hx hb dX4_run_49 (by decide)) (fun c49 => ?_) (fun c49 => ?_)
      · have hp12 := hp11.1 c49
        refine x_upL (pc' := 93) (lo' := [(2, .int (y9 + (1 : Int32))), (3, .int v14), (0, .ref a0), (1, .int v1)]) (fun _ _ _ _ _ L => lv_iinc (v := y9 + (1 : Int32)) hx hb dX4_run_90 L (k := 1) rfl rfl (by decide) rfl) ?_
        refine x_up (pc' := 32) (fun _ _ _ _ _ L => lv_goto (tgt := 32) hx hb dX4_run_93 (by decide)) ?_
        refine x_lo (lo' := [(2, .int (y9 + (1 : Int32))), (0, .ref a0), (1, .int v1)]) [0, 2, 3] rfl ?_
        exact hself7 (y9 + (1 : Int32)) σ15 hp12
      · have hp13 := hp11.2 c49
        refine x_up (pc' := 53) (fun _ _ _ _ _ L => lv_aload_n hx hb dX4_run_52 rfl (lv_at L 2 rfl)) ?_
        refine x_up (pc' := 54) (fun _ _ _ _ _ L => lv_aload_n hx hb dX4_run_53 rfl (lv_at L 2 rfl)) ?_
        refine x_gi X (kX4 hG) 10 (by decide) q3276 (fun _ h => h) dX4_run_54 hp13 (fun v17 hp14 => ?_)
        refine x_pc (pc' := 57) rfl ?_
        refine x_pi X (kX4 hG) 12 (by decide) q3278 (fun _ h => h) rfl rfl rfl dX4_run_57 hp14 (fun σ18 hp15 => ?_)
        refine x_pc (pc' := 60) rfl ?_
        refine x_up (pc' := 61) (fun _ _ _ _ _ L => lv_aload_n hx hb dX4_run_60 rfl (lv_at L 2 rfl)) ?_
        refine x_up (pc' := 62) (fun _ _ _ _ _ L => lv_aload_n hx hb dX4_run_61 rfl (lv_at L 2 rfl)) ?_
        refine x_gi X (kX4 hG) 11 (by decide) q3277 (fun _ h => h) dX4_run_62 hp15 (fun v19 hp16 => ?_)
        refine x_pc (pc' := 65) rfl ?_
        refine x_pi X (kX4 hG) 13 (by decide) q3279 (fun _ h => h) rfl rfl rfl dX4_run_65 hp16 (fun σ20 hp17 => ?_)
        refine x_pc (pc' := 68) rfl ?_
        refine x_up (pc' := 69) (fun _ _ _ _ _ L => lv_aload_n hx hb dX4_run_68 rfl (lv_at L 2 rfl)) ?_
        refine x_up (pc' := 71) (fun _ _ _ _ _ L => lv_bipush (v := (7 : Int32)) hx hb dX4_run_69 (by decide)) ?_
        refine x_pi X (kX4 hG) 10 (by decide) q3276 (fun _ h => h) rfl rfl rfl dX4_run_71 hp17 (fun σ21 hp18 => ?_)
        refine x_pc (pc' := 74) rfl ?_
        refine x_up (pc' := 75) (fun _ _ _ _ _ L => lv_aload_n hx hb dX4_run_74 rfl (lv_at L 2 rfl)) ?_
        refine x_up (pc' := 76) (fun _ _ _ _ _ L => lv_iload_n hx hb dX4_run_75 rfl (lv_at L 1 rfl)) ?_
        refine x_pi X (kX4 hG) 11 (by decide) q3277 (fun _ h => h) rfl rfl rfl dX4_run_76 hp18 (fun σ22 hp19 => ?_)
        refine x_pc (pc' := 79) rfl ?_
        refine x_up (pc' := 80) (fun _ _ _ _ _ L => lv_aload_n hx hb dX4_run_79 rfl (lv_at L 2 rfl)) ?_
        refine x_up (pc' := 81) (fun _ _ _ _ _ L => lv_iconst (v := (2 : Int32)) hx hb dX4_run_80 (by decide)) ?_
        refine x_pi X (kX4 hG) 16 (by decide) q3282 (fun _ h => h) rfl rfl rfl dX4_run_81 hp19 (fun σ23 hp20 => ?_)
        refine x_pc (pc' := 84) rfl ?_
        refine x_up (pc' := 85) (fun _ _ _ _ _ L => lv_aload_n hx hb dX4_run_84 rfl (lv_at L 2 rfl)) ?_
        refine x_up (pc' := 86) (fun _ _ _ _ _ L => lv_iconst (v := (0 : Int32)) hx hb dX4_run_85 (by decide)) ?_
        refine x_callV (em := emI) (fun r st => .int r :: st) (fun _ _ => rfl) 1 X (kX4 hG) (fun σ' KK h => R_X4_kept l hl G hG a0 (0 : Int32) σ' KK h) (lw_V q3408 q3410 qs71 q119 q3411) ⟨rfl, mdX4_kept⟩ ⟨Nat.le_of_ble_eq_true rfl, Nat.le_of_ble_eq_true rfl⟩ rfl rfl (Nat.le_of_ble_eq_true rfl) dX4_run_86 hp20.1 hp20.2 (fun v24 σ25 hp21 => ?_)
        refine x_pc (pc' := 89) rfl ?_
        exact x_iret X hr rfl dX4_run_89 hp21
  · have hp22 := hp2.2 c9
    refine x_up (pc' := 13) (fun _ _ _ _ _ L => lv_aload_n hx hb dX4_run_12 rfl (lv_at L 1 rfl)) ?_
    refine x_up (pc' := 14) (fun _ _ _ _ _ L => lv_aload_n hx hb dX4_run_13 rfl (lv_at L 1 rfl)) ?_
    refine x_gi X (kX4 hG) 17 (by decide) q3283 (fun _ h => h) dX4_run_14 hp22 (fun v26 hp23 => ?_)
    refine x_pc (pc' := 17) rfl ?_
    refine x_pi X (kX4 hG) 9 (by decide) q3275 (fun _ h => h) rfl rfl rfl dX4_run_17 hp23 (fun σ27 hp24 => ?_)
    refine x_pc (pc' := 20) rfl ?_
    refine x_up (pc' := 21) (fun _ _ _ _ _ L => lv_aload_n hx hb dX4_run_20 rfl (lv_at L 1 rfl)) ?_
    refine x_up (pc' := 22) (fun _ _ _ _ _ L => lv_iconst (v := (1 : Int32)) hx hb dX4_run_21 (by decide)) ?_
    refine x_callV (em := emI) (fun r st => .int r :: st) (fun _ _ => rfl) 1 X (kX4 hG) (fun σ' KK h => R_X4_fails l hl G hG a0 (1 : Int32) σ' KK h) (lw_V q3357 q3359 qs59 q119 q3360) ⟨rfl, mdX4_fails⟩ ⟨Nat.le_of_ble_eq_true rfl, Nat.le_of_ble_eq_true rfl⟩ rfl rfl (Nat.le_of_ble_eq_true rfl) dX4_run_22 hp24.1 hp24.2 (fun v28 σ29 hp25 => ?_)
    refine x_pc (pc' := 25) rfl ?_
    exact x_iret X hr rfl dX4_run_25 hp25
-- X4_faultPosition
def P_X4_faultPosition (κ : Nat → Nat) (a0 : Nat) (σ : xS) (K : Int32 → xH → Prop) : Prop :=
  xgi σ a0 10 9 fun v1 => ((v1 = (-1 : Int32) → (xrc σ a0 10 ∧ xcall (fun τ L => P_X4_fails κ a0 (1 : Int32) τ L) σ fun v2 σ3 => K v2 σ3.1)) ∧ (¬ v1 = (-1 : Int32) → (xgi σ a0 10 9 fun v4 => xrc σ a0 10 ∧ xcall (fun τ L => P_X4_done κ a0 v4 τ L) σ fun v5 σ6 => K v5 σ6.1)))
theorem mdX4_faultPosition : yX4_faultPosition.cls ≠ "java/lang/invoke/MethodHandle" ∧ yX4_faultPosition.cls ≠ "java/lang/invoke/VarHandle" ∧ (parseMethodDescriptor yX4_faultPosition.desc).map (fun d => d.parameters.length) = some 0 := by decide +kernel
set_option maxHeartbeats 4000000 in
set_option maxRecDepth 100000 in
theorem R_X4_faultPosition (l : Launch) (hl : l.stackTraces = false) (G : xG) (hG : G.1.2 = x_cl) (a0 : Nat) (σ : xS) (K : Int32 → xH → Prop) (hp : P_X4_faultPosition G.2 a0 σ K) : xM l yX4_faultPosition cX4_faultPosition 1 (Option.some Jvm.ClassFile.FieldType.int) 1 21 G [(.ref a0)] σ (xlift emI K) := by
  refine x_entry (by decide) (Nat.le_of_ble_eq_true rfl) ?_
  intro p e s m args below meth c X hr hin
  have X : xX p s m args meth c G cX4_faultPosition 1 RX4 := X
  have hx := X.1
  have hb := X.2.1
  have hts := X.2.2.2.2.1
  have hown := X.2.2.2.1
  unfold P_X4_faultPosition at hp
  refine x_same (lo' := [(0, .ref a0)]) rfl ?_
  refine x_up (pc' := 1) (fun _ _ _ _ _ L => lv_aload_n hx hb dX4_faultPosition_0 rfl (lv_at L 0 rfl)) ?_
  refine x_gi X (kX4 hG) 9 (by decide) q3275 (fun _ h => h) dX4_faultPosition_1 hp (fun v1 hp1 => ?_)
  refine x_pc (pc' := 4) rfl ?_
  refine x_up (pc' := 5) (fun _ _ _ _ _ L => lv_iconst (v := (-1 : Int32)) hx hb dX4_faultPosition_4 (by decide)) ?_
  refine x_ifn (C := v1 = (-1 : Int32)) (pt := 16) (pc' := 8) (fun _ _ _ _ _ => lv_icmp_ne (tgt := 16) hx hb dX4_faultPosition_5 (by decide)) (fun c5 => ?_) (fun c5 => ?_)
  · have hp2 := hp1.1 c5
    refine x_up (pc' := 9) (fun _ _ _ _ _ L => lv_aload_n hx hb dX4_faultPosition_8 rfl (lv_at L 0 rfl)) ?_
    refine x_up (pc' := 10) (fun _ _ _ _ _ L => lv_iconst (v := (1 : Int32)) hx hb dX4_faultPosition_9 (by decide)) ?_
    refine x_callV (em := emI) (fun r st => .int r :: st) (fun _ _ => rfl) 1 X (kX4 hG) (fun σ' KK h => R_X4_fails l hl G hG a0 (1 : Int32) σ' KK h) (lw_V q3357 q3359 qs59 q119 q3360) ⟨rfl, mdX4_fails⟩ ⟨Nat.le_of_ble_eq_true rfl, Nat.le_of_ble_eq_true rfl⟩ rfl rfl (Nat.le_of_ble_eq_true rfl) dX4_faultPosition_10 hp2.1 hp2.2 (fun v2 σ3 hp3 => ?_)
    refine x_pc (pc' := 13) rfl ?_
    refine x_up (pc' := 24) (fun _ _ _ _ _ L => lv_goto (tgt := 24) hx hb dX4_faultPosition_13 (by decide)) ?_
    exact x_iret X hr rfl dX4_faultPosition_24 hp3
  · have hp4 := hp1.2 c5
    refine x_up (pc' := 17) (fun _ _ _ _ _ L => lv_aload_n hx hb dX4_faultPosition_16 rfl (lv_at L 0 rfl)) ?_
    refine x_up (pc' := 18) (fun _ _ _ _ _ L => lv_aload_n hx hb dX4_faultPosition_17 rfl (lv_at L 0 rfl)) ?_
    refine x_gi X (kX4 hG) 9 (by decide) q3275 (fun _ h => h) dX4_faultPosition_18 hp4 (fun v4 hp5 => ?_)
    refine x_pc (pc' := 21) rfl ?_
    refine x_callV (em := emI) (fun r st => .int r :: st) (fun _ _ => rfl) 1 X (kX4 hG) (fun σ' KK h => R_X4_done l hl G hG a0 v4 σ' KK h) (lw_V q3404 q3406 qs70 q119 q3407) ⟨rfl, mdX4_done⟩ ⟨Nat.le_of_ble_eq_true rfl, Nat.le_of_ble_eq_true rfl⟩ rfl rfl (Nat.le_of_ble_eq_true rfl) dX4_faultPosition_21 hp5.1 hp5.2 (fun v5 σ6 hp6 => ?_)
    refine x_pc (pc' := 24) rfl ?_
    exact x_iret X hr rfl dX4_faultPosition_24 hp6
-- X4_reason
def P_X4_reason (κ : Nat → Nat) (a0 : Nat) (x1 : Int32) (x2 : Int32) (σ : xS) (K : Int32 → xH → Prop) : Prop :=
  xgi σ a0 10 10 fun v1 => ((v1 = 0 → (xrc σ a0 10 ∧ xcall (fun τ L => P_X4_fails κ a0 (1 : Int32) τ L) σ fun v2 σ3 => K v2 σ3.1)) ∧ (¬ v1 = 0 → (((x1 = 0 → (((x1 = 0 → (((x2 = 0 → (xgi σ a0 10 10 fun v4 => xrc σ a0 10 ∧ xcall (fun τ L => P_X4_done κ a0 v4 τ L) σ fun v5 σ6 => K v5 σ6.1)) ∧ (¬ x2 = 0 → (xgi σ a0 10 11 fun v7 => xrc σ a0 10 ∧ xcall (fun τ L => P_X4_done κ a0 v7 τ L) σ fun v8 σ9 => K v8 σ9.1))))) ∧ (¬ x1 = 0 → (((x2 = 0 → (xgi σ a0 10 12 fun v10 => xrc σ a0 10 ∧ xcall (fun τ L => P_X4_done κ a0 v10 τ L) σ fun v11 σ12 => K v11 σ12.1)) ∧ (¬ x2 = 0 → (xgi σ a0 10 13 fun v13 => xrc σ a0 10 ∧ xcall (fun τ L => P_X4_done κ a0 v13 τ L) σ fun v14 σ15 => K v14 σ15.1)))))))) ∧ (¬ x1 = 0 → (xgi σ a0 10 12 fun v16 => ((v16 = 0 → (xrc σ a0 10 ∧ xcall (fun τ L => P_X4_fails κ a0 (1 : Int32) τ L) σ fun v17 σ18 => K v17 σ18.1)) ∧ (¬ v16 = 0 → (((x1 = 0 → (((x2 = 0 → (xgi σ a0 10 10 fun v19 => xrc σ a0 10 ∧ xcall (fun τ L => P_X4_done κ a0 v19 τ L) σ fun v20 σ21 => K v20 σ21.1)) ∧ (¬ x2 = 0 → (xgi σ a0 10 11 fun v22 => xrc σ a0 10 ∧ xcall (fun τ L => P_X4_done κ a0 v22 τ L) σ fun v23 σ24 => K v23 σ24.1))))) ∧ (¬ x1 = 0 → (((x2 = 0 → (xgi σ a0 10 12 fun v25 => xrc σ a0 10 ∧ xcall (fun τ L => P_X4_done κ a0 v25 τ L) σ fun v26 σ27 => K v26 σ27.1)) ∧ (¬ x2 = 0 → (xgi σ a0 10 13 fun v28 => xrc σ a0 10 ∧ xcall (fun τ L => P_X4_done κ a0 v28 τ L) σ fun v29 σ30 => K v29 σ30.1)))))))))))))))
theorem mdX4_reason : yX4_reason.cls ≠ "java/lang/invoke/MethodHandle" ∧ yX4_reason.cls ≠ "java/lang/invoke/VarHandle" ∧ (parseMethodDescriptor yX4_reason.desc).map (fun d => d.parameters.length) = some 2 := by decide +kernel
set_option maxHeartbeats 4000000 in
set_option maxRecDepth 100000 in
theorem R_X4_reason (l : Launch) (hl : l.stackTraces = false) (G : xG) (hG : G.1.2 = x_cl) (a0 : Nat) (x1 : Int32) (x2 : Int32) (σ : xS) (K : Int32 → xH → Prop) (hp : P_X4_reason G.2 a0 x1 x2 σ K) : xM l yX4_reason cX4_reason 3 (Option.some Jvm.ClassFile.FieldType.int) 1 21 G [(.ref a0), .int x1, .int x2] σ (xlift emI K) := by
  refine x_entry (by decide) (Nat.le_of_ble_eq_true rfl) ?_
  intro p e s m args below meth c X hr hin
  have X : xX p s m args meth c G cX4_reason 3 RX4 := X
  have hx := X.1
  have hb := X.2.1
  have hts := X.2.2.2.2.1
  have hown := X.2.2.2.1
  unfold P_X4_reason at hp
  refine x_same (lo' := [(0, .ref a0), (1, .int x1), (2, .int x2)]) rfl ?_
  refine x_up (pc' := 1) (fun _ _ _ _ _ L => lv_aload_n hx hb dX4_reason_0 rfl (lv_at L 0 rfl)) ?_
  refine x_gi X (kX4 hG) 10 (by decide) q3276 (fun _ h => h) dX4_reason_1 hp (fun v1 hp1 => ?_)
  refine x_pc (pc' := 4) rfl ?_
  refine x_if (C := v1 = 0) (pt := 18) (pc' := 7) (fun _ _ _ _ _ => lv_if_eq (tgt := 18) hx hb dX4_reason_4 (by decide)) (fun c4 => ?_) (fun c4 => ?_)
  · have hp2 := hp1.1 c4
    refine x_up (pc' := 19) (fun _ _ _ _ _ L => lv_aload_n hx hb dX4_reason_18 rfl (lv_at L 0 rfl)) ?_
    refine x_up (pc' := 20) (fun _ _ _ _ _ L => lv_iconst (v := (1 : Int32)) hx hb dX4_reason_19 (by decide)) ?_
    refine x_callV (em := emI) (fun r st => .int r :: st) (fun _ _ => rfl) 1 X (kX4 hG) (fun σ' KK h => R_X4_fails l hl G hG a0 (1 : Int32) σ' KK h) (lw_V q3357 q3359 qs59 q119 q3360) ⟨rfl, mdX4_fails⟩ ⟨Nat.le_of_ble_eq_true rfl, Nat.le_of_ble_eq_true rfl⟩ rfl rfl (Nat.le_of_ble_eq_true rfl) dX4_reason_20 hp2.1 hp2.2 (fun v2 σ3 hp3 => ?_)
    refine x_pc (pc' := 23) rfl ?_
    exact x_iret X hr rfl dX4_reason_23 hp3
  · have hp4 := hp1.2 c4
    refine x_up (pc' := 8) (fun _ _ _ _ _ L => lv_iload_n hx hb dX4_reason_7 rfl (lv_at L 1 rfl)) ?_
    refine x_if (C := x1 = 0) (pt := 24) (pc' := 11) (fun _ _ _ _ _ => lv_if_eq (tgt := 24) hx hb dX4_reason_8 (by decide)) (fun c8 => ?_) (fun c8 => ?_)
    · have hp5 := hp4.1 c8
      refine x_up (pc' := 25) (fun _ _ _ _ _ L => lv_iload_n hx hb dX4_reason_24 rfl (lv_at L 1 rfl)) ?_
      refine x_if (C := x1 = 0) (pt := 48) (pc' := 28) (fun _ _ _ _ _ => lv_if_eq (tgt := 48) hx hb dX4_reason_25 (by decide)) (fun c25 => ?_) (fun c25 => ?_)
      · have hp6 := hp5.1 c25
        refine x_up (pc' := 49) (fun _ _ _ _ _ L => lv_aload_n hx hb dX4_reason_48 rfl (lv_at L 0 rfl)) ?_
        refine x_up (pc' := 50) (fun _ _ _ _ _ L => lv_iload_n hx hb dX4_reason_49 rfl (lv_at L 2 rfl)) ?_
        refine x_if (C := x2 = 0) (pt := 60) (pc' := 53) (fun _ _ _ _ _ => lv_if_eq (tgt := 60) hx hb dX4_reason_50 (by decide)) (fun c50 => ?_) (fun c50 => ?_)
        · have hp7 := hp6.1 c50
          refine x_up (pc' := 61) (fun _ _ _ _ _ L => lv_aload_n hx hb dX4_reason_60 rfl (lv_at L 0 rfl)) ?_
          refine x_gi X (kX4 hG) 10 (by decide) q3276 (fun _ h => h) dX4_reason_61 hp7 (fun v4 hp8 => ?_)
          refine x_pc (pc' := 64) rfl ?_
          refine x_callV (em := emI) (fun r st => .int r :: st) (fun _ _ => rfl) 1 X (kX4 hG) (fun σ' KK h => R_X4_done l hl G hG a0 v4 σ' KK h) (lw_V q3404 q3406 qs70 q119 q3407) ⟨rfl, mdX4_done⟩ ⟨Nat.le_of_ble_eq_true rfl, Nat.le_of_ble_eq_true rfl⟩ rfl rfl (Nat.le_of_ble_eq_true rfl) dX4_reason_64 hp8.1 hp8.2 (fun v5 σ6 hp9 => ?_)
          refine x_pc (pc' := 67) rfl ?_
          exact x_iret X hr rfl dX4_reason_67 hp9
        · have hp10 := hp6.2 c50
          refine x_up (pc' := 54) (fun _ _ _ _ _ L => lv_aload_n hx hb dX4_reason_53 rfl (lv_at L 0 rfl)) ?_
          refine x_gi X (kX4 hG) 11 (by decide) q3277 (fun _ h => h) dX4_reason_54 hp10 (fun v7 hp11 => ?_)
          refine x_pc (pc' := 57) rfl ?_
          refine x_up (pc' := 64) (fun _ _ _ _ _ L => lv_goto (tgt := 64) hx hb dX4_reason_57 (by decide)) ?_
          refine x_callV (em := emI) (fun r st => .int r :: st) (fun _ _ => rfl) 1 X (kX4 hG) (fun σ' KK h => R_X4_done l hl G hG a0 v7 σ' KK h) (lw_V q3404 q3406 qs70 q119 q3407) ⟨rfl, mdX4_done⟩ ⟨Nat.le_of_ble_eq_true rfl, Nat.le_of_ble_eq_true rfl⟩ rfl rfl (Nat.le_of_ble_eq_true rfl) dX4_reason_64 hp11.1 hp11.2 (fun v8 σ9 hp12 => ?_)
          refine x_pc (pc' := 67) rfl ?_
          exact x_iret X hr rfl dX4_reason_67 hp12
      · have hp13 := hp5.2 c25
        refine x_up (pc' := 29) (fun _ _ _ _ _ L => lv_aload_n hx hb dX4_reason_28 rfl (lv_at L 0 rfl)) ?_
        refine x_up (pc' := 30) (fun _ _ _ _ _ L => lv_iload_n hx hb dX4_reason_29 rfl (lv_at L 2 rfl)) ?_
        refine x_if (C := x2 = 0) (pt := 40) (pc' := 33) (fun _ _ _ _ _ => lv_if_eq (tgt := 40) hx hb dX4_reason_30 (by decide)) (fun c30 => ?_) (fun c30 => ?_)
        · have hp14 := hp13.1 c30
          refine x_up (pc' := 41) (fun _ _ _ _ _ L => lv_aload_n hx hb dX4_reason_40 rfl (lv_at L 0 rfl)) ?_
          refine x_gi X (kX4 hG) 12 (by decide) q3278 (fun _ h => h) dX4_reason_41 hp14 (fun v10 hp15 => ?_)
          refine x_pc (pc' := 44) rfl ?_
          refine x_callV (em := emI) (fun r st => .int r :: st) (fun _ _ => rfl) 1 X (kX4 hG) (fun σ' KK h => R_X4_done l hl G hG a0 v10 σ' KK h) (lw_V q3404 q3406 qs70 q119 q3407) ⟨rfl, mdX4_done⟩ ⟨Nat.le_of_ble_eq_true rfl, Nat.le_of_ble_eq_true rfl⟩ rfl rfl (Nat.le_of_ble_eq_true rfl) dX4_reason_44 hp15.1 hp15.2 (fun v11 σ12 hp16 => ?_)
          refine x_pc (pc' := 47) rfl ?_
          exact x_iret X hr rfl dX4_reason_47 hp16
        · have hp17 := hp13.2 c30
          refine x_up (pc' := 34) (fun _ _ _ _ _ L => lv_aload_n hx hb dX4_reason_33 rfl (lv_at L 0 rfl)) ?_
          refine x_gi X (kX4 hG) 13 (by decide) q3279 (fun _ h => h) dX4_reason_34 hp17 (fun v13 hp18 => ?_)
          refine x_pc (pc' := 37) rfl ?_
          refine x_up (pc' := 44) (fun _ _ _ _ _ L => lv_goto (tgt := 44) hx hb dX4_reason_37 (by decide)) ?_
          refine x_callV (em := emI) (fun r st => .int r :: st) (fun _ _ => rfl) 1 X (kX4 hG) (fun σ' KK h => R_X4_done l hl G hG a0 v13 σ' KK h) (lw_V q3404 q3406 qs70 q119 q3407) ⟨rfl, mdX4_done⟩ ⟨Nat.le_of_ble_eq_true rfl, Nat.le_of_ble_eq_true rfl⟩ rfl rfl (Nat.le_of_ble_eq_true rfl) dX4_reason_44 hp18.1 hp18.2 (fun v14 σ15 hp19 => ?_)
          refine x_pc (pc' := 47) rfl ?_
          exact x_iret X hr rfl dX4_reason_47 hp19
    · have hp20 := hp4.2 c8
      refine x_up (pc' := 12) (fun _ _ _ _ _ L => lv_aload_n hx hb dX4_reason_11 rfl (lv_at L 0 rfl)) ?_
      refine x_gi X (kX4 hG) 12 (by decide) q3278 (fun _ h => h) dX4_reason_12 hp20 (fun v16 hp21 => ?_)
      refine x_pc (pc' := 15) rfl ?_
      refine x_ifn (C := v16 = 0) (pt := 24) (pc' := 18) (fun _ _ _ _ _ => lv_if_ne (tgt := 24) hx hb dX4_reason_15 (by decide)) (fun c15 => ?_) (fun c15 => ?_)
      · have hp22 := hp21.1 c15
        refine x_up (pc' := 19) (fun _ _ _ _ _ L => lv_aload_n hx hb dX4_reason_18 rfl (lv_at L 0 rfl)) ?_
        refine x_up (pc' := 20) (fun _ _ _ _ _ L => lv_iconst (v := (1 : Int32)) hx hb dX4_reason_19 (by decide)) ?_
        refine x_callV (em := emI) (fun r st => .int r :: st) (fun _ _ => rfl) 1 X (kX4 hG) (fun σ' KK h => R_X4_fails l hl G hG a0 (1 : Int32) σ' KK h) (lw_V q3357 q3359 qs59 q119 q3360) ⟨rfl, mdX4_fails⟩ ⟨Nat.le_of_ble_eq_true rfl, Nat.le_of_ble_eq_true rfl⟩ rfl rfl (Nat.le_of_ble_eq_true rfl) dX4_reason_20 hp22.1 hp22.2 (fun v17 σ18 hp23 => ?_)
        refine x_pc (pc' := 23) rfl ?_
        exact x_iret X hr rfl dX4_reason_23 hp23
      · have hp24 := hp21.2 c15
        refine x_up (pc' := 25) (fun _ _ _ _ _ L => lv_iload_n hx hb dX4_reason_24 rfl (lv_at L 1 rfl)) ?_
        refine x_if (C := x1 = 0) (pt := 48) (pc' := 28) (fun _ _ _ _ _ => lv_if_eq (tgt := 48) hx hb dX4_reason_25 (by decide)) (fun c25 => ?_) (fun c25 => ?_)
        · have hp25 := hp24.1 c25
          refine x_up (pc' := 49) (fun _ _ _ _ _ L => lv_aload_n hx hb dX4_reason_48 rfl (lv_at L 0 rfl)) ?_
          refine x_up (pc' := 50) (fun _ _ _ _ _ L => lv_iload_n hx hb dX4_reason_49 rfl (lv_at L 2 rfl)) ?_
          refine x_if (C := x2 = 0) (pt := 60) (pc' := 53) (fun _ _ _ _ _ => lv_if_eq (tgt := 60) hx hb dX4_reason_50 (by decide)) (fun c50 => ?_) (fun c50 => ?_)
          · have hp26 := hp25.1 c50
            refine x_up (pc' := 61) (fun _ _ _ _ _ L => lv_aload_n hx hb dX4_reason_60 rfl (lv_at L 0 rfl)) ?_
            refine x_gi X (kX4 hG) 10 (by decide) q3276 (fun _ h => h) dX4_reason_61 hp26 (fun v19 hp27 => ?_)
            refine x_pc (pc' := 64) rfl ?_
            refine x_callV (em := emI) (fun r st => .int r :: st) (fun _ _ => rfl) 1 X (kX4 hG) (fun σ' KK h => R_X4_done l hl G hG a0 v19 σ' KK h) (lw_V q3404 q3406 qs70 q119 q3407) ⟨rfl, mdX4_done⟩ ⟨Nat.le_of_ble_eq_true rfl, Nat.le_of_ble_eq_true rfl⟩ rfl rfl (Nat.le_of_ble_eq_true rfl) dX4_reason_64 hp27.1 hp27.2 (fun v20 σ21 hp28 => ?_)
            refine x_pc (pc' := 67) rfl ?_
            exact x_iret X hr rfl dX4_reason_67 hp28
          · have hp29 := hp25.2 c50
            refine x_up (pc' := 54) (fun _ _ _ _ _ L => lv_aload_n hx hb dX4_reason_53 rfl (lv_at L 0 rfl)) ?_
            refine x_gi X (kX4 hG) 11 (by decide) q3277 (fun _ h => h) dX4_reason_54 hp29 (fun v22 hp30 => ?_)
            refine x_pc (pc' := 57) rfl ?_
            refine x_up (pc' := 64) (fun _ _ _ _ _ L => lv_goto (tgt := 64) hx hb dX4_reason_57 (by decide)) ?_
            refine x_callV (em := emI) (fun r st => .int r :: st) (fun _ _ => rfl) 1 X (kX4 hG) (fun σ' KK h => R_X4_done l hl G hG a0 v22 σ' KK h) (lw_V q3404 q3406 qs70 q119 q3407) ⟨rfl, mdX4_done⟩ ⟨Nat.le_of_ble_eq_true rfl, Nat.le_of_ble_eq_true rfl⟩ rfl rfl (Nat.le_of_ble_eq_true rfl) dX4_reason_64 hp30.1 hp30.2 (fun v23 σ24 hp31 => ?_)
            refine x_pc (pc' := 67) rfl ?_
            exact x_iret X hr rfl dX4_reason_67 hp31
        · have hp32 := hp24.2 c25
          refine x_up (pc' := 29) (fun _ _ _ _ _ L => lv_aload_n hx hb dX4_reason_28 rfl (lv_at L 0 rfl)) ?_
          refine x_up (pc' := 30) (fun _ _ _ _ _ L => lv_iload_n hx hb dX4_reason_29 rfl (lv_at L 2 rfl)) ?_
          refine x_if (C := x2 = 0) (pt := 40) (pc' := 33) (fun _ _ _ _ _ => lv_if_eq (tgt := 40) hx hb dX4_reason_30 (by decide)) (fun c30 => ?_) (fun c30 => ?_)
          · have hp33 := hp32.1 c30
            refine x_up (pc' := 41) (fun _ _ _ _ _ L => lv_aload_n hx hb dX4_reason_40 rfl (lv_at L 0 rfl)) ?_
            refine x_gi X (kX4 hG) 12 (by decide) q3278 (fun _ h => h) dX4_reason_41 hp33 (fun v25 hp34 => ?_)
            refine x_pc (pc' := 44) rfl ?_
            refine x_callV (em := emI) (fun r st => .int r :: st) (fun _ _ => rfl) 1 X (kX4 hG) (fun σ' KK h => R_X4_done l hl G hG a0 v25 σ' KK h) (lw_V q3404 q3406 qs70 q119 q3407) ⟨rfl, mdX4_done⟩ ⟨Nat.le_of_ble_eq_true rfl, Nat.le_of_ble_eq_true rfl⟩ rfl rfl (Nat.le_of_ble_eq_true rfl) dX4_reason_44 hp34.1 hp34.2 (fun v26 σ27 hp35 => ?_)
            refine x_pc (pc' := 47) rfl ?_
            exact x_iret X hr rfl dX4_reason_47 hp35
          · have hp36 := hp32.2 c30
            refine x_up (pc' := 34) (fun _ _ _ _ _ L => lv_aload_n hx hb dX4_reason_33 rfl (lv_at L 0 rfl)) ?_
            refine x_gi X (kX4 hG) 13 (by decide) q3279 (fun _ h => h) dX4_reason_34 hp36 (fun v28 hp37 => ?_)
            refine x_pc (pc' := 37) rfl ?_
            refine x_up (pc' := 44) (fun _ _ _ _ _ L => lv_goto (tgt := 44) hx hb dX4_reason_37 (by decide)) ?_
            refine x_callV (em := emI) (fun r st => .int r :: st) (fun _ _ => rfl) 1 X (kX4 hG) (fun σ' KK h => R_X4_done l hl G hG a0 v28 σ' KK h) (lw_V q3404 q3406 qs70 q119 q3407) ⟨rfl, mdX4_done⟩ ⟨Nat.le_of_ble_eq_true rfl, Nat.le_of_ble_eq_true rfl⟩ rfl rfl (Nat.le_of_ble_eq_true rfl) dX4_reason_44 hp37.1 hp37.2 (fun v29 σ30 hp38 => ?_)
            refine x_pc (pc' := 47) rfl ?_
            exact x_iret X hr rfl dX4_reason_47 hp38
-- X4_writesSign
def P_X4_writesSign (κ : Nat → Nat) (a0 : Nat) (x1 : Int32) (σ : xS) (K : Unit → xH → Prop) : Prop :=
  xgq σ a0 10 14 fun v1 => xgi σ a0 10 15 fun v2 => xnn v1 fun b3 => xsi κ .char σ b3 v2 ((x1.toUInt32 % 65536).toInt32) fun σ4 => xgi σ4 a0 10 15 fun v5 => xpi κ σ4 a0 10 15 (v5 + (1 : Int32)) fun σ6 => K () σ6.1
theorem mdX4_writesSign : yX4_writesSign.cls ≠ "java/lang/invoke/MethodHandle" ∧ yX4_writesSign.cls ≠ "java/lang/invoke/VarHandle" ∧ (parseMethodDescriptor yX4_writesSign.desc).map (fun d => d.parameters.length) = some 1 := by decide +kernel
set_option maxHeartbeats 4000000 in
set_option maxRecDepth 100000 in
theorem R_X4_writesSign (l : Launch) (hl : l.stackTraces = false) (G : xG) (hG : G.1.2 = x_cl) (a0 : Nat) (x1 : Int32) (σ : xS) (K : Unit → xH → Prop) (hp : P_X4_writesSign G.2 a0 x1 σ K) : xM l yX4_writesSign cX4_writesSign 2 (Option.none : Option Jvm.ClassFile.FieldType) 0 0 G [(.ref a0), .int x1] σ (xlift emV K) := by
  refine x_entry (by decide) (Nat.le_of_ble_eq_true rfl) ?_
  intro p e s m args below meth c X hr hin
  have X : xX p s m args meth c G cX4_writesSign 2 RX4 := X
  have hx := X.1
  have hb := X.2.1
  have hts := X.2.2.2.2.1
  have hown := X.2.2.2.1
  unfold P_X4_writesSign at hp
  refine x_same (lo' := [(0, .ref a0), (1, .int x1)]) rfl ?_
  refine x_up (pc' := 1) (fun _ _ _ _ _ L => lv_aload_n hx hb dX4_writesSign_0 rfl (lv_at L 0 rfl)) ?_
  refine x_gq X (kX4 hG) 14 (by decide) q3280 (fun _ h => h) dX4_writesSign_1 hp (fun v1 hp1 => ?_)
  refine x_pc (pc' := 4) rfl ?_
  refine x_up (pc' := 5) (fun _ _ _ _ _ L => lv_aload_n hx hb dX4_writesSign_4 rfl (lv_at L 0 rfl)) ?_
  refine x_gi X (kX4 hG) 15 (by decide) q3281 (fun _ h => h) dX4_writesSign_5 hp1 (fun v2 hp2 => ?_)
  refine x_pc (pc' := 8) rfl ?_
  refine x_up (pc' := 9) (fun _ _ _ _ _ L => lv_iload_n hx hb dX4_writesSign_8 rfl (lv_at L 1 rfl)) ?_
  refine x_up (pc' := 10) (fun _ _ _ _ _ L => lv_i2c hx hb dX4_writesSign_9 rfl) ?_
  obtain ⟨b3, rfl, hp3⟩ := hp2
  refine x_cast X dX4_writesSign_10 hp3 (fun σ4 hp4 => ?_)
  refine x_pc (pc' := 11) rfl ?_
  refine x_up (pc' := 12) (fun _ _ _ _ _ L => lv_aload_n hx hb dX4_writesSign_11 rfl (lv_at L 0 rfl)) ?_
  refine x_up (pc' := 13) (fun _ _ _ _ _ L => lv_dup hx hb dX4_writesSign_12 rfl) ?_
  refine x_gi X (kX4 hG) 15 (by decide) q3281 (fun _ h => h) dX4_writesSign_13 hp4 (fun v5 hp5 => ?_)
  refine x_pc (pc' := 16) rfl ?_
  refine x_up (pc' := 17) (fun _ _ _ _ _ L => lv_iconst (v := (1 : Int32)) hx hb dX4_writesSign_16 (by decide)) ?_
  refine x_up (pc' := 18) (fun _ _ _ _ _ L => lv_iadd hx hb dX4_writesSign_17) ?_
  refine x_pi X (kX4 hG) 15 (by decide) q3281 (fun _ h => h) rfl rfl rfl dX4_writesSign_18 hp5 (fun σ6 hp6 => ?_)
  refine x_pc (pc' := 21) rfl ?_
  exact x_vret X hr dX4_writesSign_21 hp6
-- X4_writesLine
def B_X4_writesLine_47 (κ : Nat → Nat) (kx48004 : Unit → xS → Prop) (f0 : Nat) (f1 : Int32) : (Int32 → xS → Prop) → Int32 → xS → Prop := fun self48003 w48001 σ48002 =>
  xgq σ48002 f0 10 0 fun v48005 => xnn v48005 fun b48006 => xai .int σ48002 b48006 ((89 : Int32) + f1) fun v48007 => xcall (fun τ L => P_X4_ones κ v48007 τ L) σ48002 fun v48008 σ48009 => ((v48008 ≤ w48001 → (kx48004 () σ48009)) ∧ (¬ v48008 ≤ w48001 → (xrc σ48009 f0 10 ∧ xcall (fun τ L => P_X4_writesSign κ f0 (42 : Int32) τ L) σ48009 fun _ σ48010 => self48003 (w48001 + (1 : Int32)) σ48010)))
def P_X4_writesLine (κ : Nat → Nat) (a0 : Nat) (x1 : Int32) (σ : xS) (K : Unit → xH → Prop) : Prop :=
  xgq σ a0 10 0 fun v1 => xnn v1 fun b2 => xai .int σ b2 ((73 : Int32) + x1) fun v3 => ((v3 = (-1 : Int32) → (xrc σ a0 10 ∧ xcall (fun τ L => P_X4_writesSign κ a0 (45 : Int32) τ L) σ fun _ σ4 => K () σ4.1)) ∧ (¬ v3 = (-1 : Int32) → (((v3 ≤ (9 : Int32) → (xrc σ a0 10 ∧ xcall (fun τ L => P_X4_writesSign κ a0 ((48 : Int32) + (v3 - v3 / (10 : Int32) * (10 : Int32))) τ L) σ fun _ σ5 => xwhile (B_X4_writesLine_47 κ (fun e6 σ7 => xgq σ7 a0 10 0 fun v8 => xnn v8 fun b9 => xai .int σ7 b9 ((105 : Int32) + x1) fun v10 => ((v10 = (1 : Int32) → (xrc σ7 a0 10 ∧ xcall (fun τ L => P_X4_writesSign κ a0 (33 : Int32) τ L) σ7 fun _ σ11 => K () σ11.1)) ∧ (¬ v10 = (1 : Int32) → (K () σ7.1)))) a0 x1) (0 : Int32) σ5)) ∧ (¬ v3 ≤ (9 : Int32) → (xrc σ a0 10 ∧ xcall (fun τ L => P_X4_writesSign κ a0 (49 : Int32) τ L) σ fun _ σ12 => xrc σ12 a0 10 ∧ xcall (fun τ L => P_X4_writesSign κ a0 ((48 : Int32) + (v3 - v3 / (10 : Int32) * (10 : Int32))) τ L) σ12 fun _ σ13 => xwhile (B_X4_writesLine_47 κ (fun e14 σ15 => xgq σ15 a0 10 0 fun v16 => xnn v16 fun b17 => xai .int σ15 b17 ((105 : Int32) + x1) fun v18 => ((v18 = (1 : Int32) → (xrc σ15 a0 10 ∧ xcall (fun τ L => P_X4_writesSign κ a0 (33 : Int32) τ L) σ15 fun _ σ19 => K () σ19.1)) ∧ (¬ v18 = (1 : Int32) → (K () σ15.1)))) a0 x1) (0 : Int32) σ13))))))
theorem mdX4_writesLine : yX4_writesLine.cls ≠ "java/lang/invoke/MethodHandle" ∧ yX4_writesLine.cls ≠ "java/lang/invoke/VarHandle" ∧ (parseMethodDescriptor yX4_writesLine.desc).map (fun d => d.parameters.length) = some 1 := by decide +kernel
set_option maxHeartbeats 4000000 in
set_option maxRecDepth 100000 in
theorem R_X4_writesLine (l : Launch) (hl : l.stackTraces = false) (G : xG) (hG : G.1.2 = x_cl) (a0 : Nat) (x1 : Int32) (σ : xS) (K : Unit → xH → Prop) (hp : P_X4_writesLine G.2 a0 x1 σ K) : xM l yX4_writesLine cX4_writesLine 4 (Option.none : Option Jvm.ClassFile.FieldType) 1 22 G [(.ref a0), .int x1] σ (xlift emV K) := by
  refine x_entry (by decide) (Nat.le_of_ble_eq_true rfl) ?_
  intro p e s m args below meth c X hr hin
  have X : xX p s m args meth c G cX4_writesLine 4 RX4 := X
  have hx := X.1
  have hb := X.2.1
  have hts := X.2.2.2.2.1
  have hown := X.2.2.2.1
  unfold P_X4_writesLine at hp
  refine x_same (lo' := [(0, .ref a0), (1, .int x1)]) rfl ?_
  refine x_up (pc' := 1) (fun _ _ _ _ _ L => lv_aload_n hx hb dX4_writesLine_0 rfl (lv_at L 0 rfl)) ?_
  refine x_gq X (kX4 hG) 0 (by decide) q3266 (fun _ h => h) dX4_writesLine_1 hp (fun v1 hp1 => ?_)
  refine x_pc (pc' := 4) rfl ?_
  refine x_up (pc' := 6) (fun _ _ _ _ _ L => lv_bipush (v := (73 : Int32)) hx hb dX4_writesLine_4 (by decide)) ?_
  refine x_up (pc' := 7) (fun _ _ _ _ _ L => lv_iload_n hx hb dX4_writesLine_6 rfl (lv_at L 1 rfl)) ?_
  refine x_up (pc' := 8) (fun _ _ _ _ _ L => lv_iadd hx hb dX4_writesLine_7) ?_
  obtain ⟨b2, rfl, hp2⟩ := hp1
  refine x_iald X dX4_writesLine_8 hp2 (fun v3 hp3 => ?_)
  refine x_pc (pc' := 9) rfl ?_
  refine x_upL (pc' := 10) (lo' := [(2, .int v3), (0, .ref a0), (1, .int x1)]) (fun _ _ _ _ _ L => lv_istore_n hx hb dX4_writesLine_9 rfl L (by decide) rfl) ?_
  refine x_up (pc' := 11) (fun _ _ _ _ _ L => lv_iload_n hx hb dX4_writesLine_10 rfl (lv_at L 0 rfl)) ?_
  refine x_up (pc' := 12) (fun _ _ _ _ _ L => lv_iconst (v := (-1 : Int32)) hx hb dX4_writesLine_11 (by decide)) ?_
  refine x_ifn (C := v3 = (-1 : Int32)) (pt := 22) (pc' := 15) (fun _ _ _ _ _ => lv_icmp_ne (tgt := 22) hx hb dX4_writesLine_12 (by decide)) (fun c12 => ?_) (fun c12 => ?_)
  · have hp4 := hp3.1 c12
    refine x_up (pc' := 16) (fun _ _ _ _ _ L => lv_aload_n hx hb dX4_writesLine_15 rfl (lv_at L 1 rfl)) ?_
    refine x_up (pc' := 18) (fun _ _ _ _ _ L => lv_bipush (v := (45 : Int32)) hx hb dX4_writesLine_16 (by decide)) ?_
    refine x_callV (em := emV) (fun r st => st) (fun _ _ => rfl) 1 X (kX4 hG) (fun σ' KK h => R_X4_writesSign l hl G hG a0 (45 : Int32) σ' KK h) (lw_V q3619 q3621 qs93 q119 q3622) ⟨rfl, mdX4_writesSign⟩ ⟨Nat.le_of_ble_eq_true rfl, Nat.le_of_ble_eq_true rfl⟩ rfl rfl (Nat.le_of_ble_eq_true rfl) dX4_writesLine_18 hp4.1 hp4.2 (fun _ σ4 hp5 => ?_)
    refine x_pc (pc' := 21) rfl ?_
    exact x_vret X hr dX4_writesLine_21 hp5
  · have hp6 := hp3.2 c12
    refine x_up (pc' := 23) (fun _ _ _ _ _ L => lv_iload_n hx hb dX4_writesLine_22 rfl (lv_at L 0 rfl)) ?_
    refine x_up (pc' := 25) (fun _ _ _ _ _ L => lv_bipush (v := (9 : Int32)) hx hb dX4_writesLine_23 (by decide)) ?_
    refine x_if (C := v3 ≤ (9 : Int32)) (pt := 34) (pc' := 28) (fun _ _ _ _ _ => lv_icmp_le (tgt := 34) hx hb dX4_writesLine_25 (by decide)) (fun c25 => ?_) (fun c25 => ?_)
    · have hp7 := hp6.1 c25
      refine x_up (pc' := 35) (fun _ _ _ _ _ L => lv_aload_n hx hb dX4_writesLine_34 rfl (lv_at L 1 rfl)) ?_
      refine x_up (pc' := 37) (fun _ _ _ _ _ L => lv_bipush (v := (48 : Int32)) hx hb dX4_writesLine_35 (by decide)) ?_
      refine x_up (pc' := 38) (fun _ _ _ _ _ L => lv_iload_n hx hb dX4_writesLine_37 rfl (lv_at L 0 rfl)) ?_
      refine x_up (pc' := 40) (fun _ _ _ _ _ L => lv_bipush (v := (10 : Int32)) hx hb dX4_writesLine_38 (by decide)) ?_
      refine x_up (pc' := 41) (fun _ _ _ _ _ L => lv_irem hx hb dX4_writesLine_40 (by decide)) ?_
      refine x_up (pc' := 42) (fun _ _ _ _ _ L => lv_iadd hx hb dX4_writesLine_41) ?_
      refine x_callV (em := emV) (fun r st => st) (fun _ _ => rfl) 1 X (kX4 hG) (fun σ' KK h => R_X4_writesSign l hl G hG a0 ((48 : Int32) + (v3 - v3 / (10 : Int32) * (10 : Int32))) σ' KK h) (lw_V q3619 q3621 qs93 q119 q3622) ⟨rfl, mdX4_writesSign⟩ ⟨Nat.le_of_ble_eq_true rfl, Nat.le_of_ble_eq_true rfl⟩ rfl rfl (Nat.le_of_ble_eq_true rfl) dX4_writesLine_42 hp7.1 hp7.2 (fun _ σ5 hp8 => ?_)
      refine x_pc (pc' := 45) rfl ?_
      refine x_up (pc' := 46) (fun _ _ _ _ _ L => lv_iconst (v := (0 : Int32)) hx hb dX4_writesLine_45 (by decide)) ?_
      refine x_upL (pc' := 47) (lo' := [(3, .int (0 : Int32)), (2, .int v3), (0, .ref a0), (1, .int x1)]) (fun _ _ _ _ _ L => lv_istore_n hx hb dX4_writesLine_46 rfl L (by decide) rfl) ?_
      refine x_lo (lo' := [(3, .int (0 : Int32)), (0, .ref a0), (1, .int x1)]) [0, 2, 3] rfl ?_
      refine x_while (v0 := (0 : Int32)) (fun w6 => [(3, .int w6), (0, .ref a0), (1, .int x1)]) hp8 (fun self7 hself8 => ?_)
      rintro y10 σ9 hp9
      unfold B_X4_writesLine_47 at hp9
      refine x_same (lo' := [(3, .int y10), (0, .ref a0), (1, .int x1)]) rfl ?_
      refine x_up (pc' := 48) (fun _ _ _ _ _ L => lv_iload_n hx hb dX4_writesLine_47 rfl (lv_at L 0 rfl)) ?_
      refine x_up (pc' := 49) (fun _ _ _ _ _ L => lv_aload_n hx hb dX4_writesLine_48 rfl (lv_at L 1 rfl)) ?_
      refine x_gq X (kX4 hG) 0 (by decide) q3266 (fun _ h => h) dX4_writesLine_49 hp9 (fun v11 hp10 => ?_)
      refine x_pc (pc' := 52) rfl ?_
      refine x_up (pc' := 54) (fun _ _ _ _ _ L => lv_bipush (v := (89 : Int32)) hx hb dX4_writesLine_52 (by decide)) ?_
      refine x_up (pc' := 55) (fun _ _ _ _ _ L => lv_iload_n hx hb dX4_writesLine_54 rfl (lv_at L 2 rfl)) ?_
      refine x_up (pc' := 56) (fun _ _ _ _ _ L => lv_iadd hx hb dX4_writesLine_55) ?_
      obtain ⟨b12, rfl, hp11⟩ := hp10
      refine x_iald X dX4_writesLine_56 hp11 (fun v13 hp12 => ?_)
      refine x_pc (pc' := 57) rfl ?_
      refine x_callS (em := emI) (fun r st => .int r :: st) (fun _ _ => rfl) 1 X (fun σ' KK h => R_X4_ones l hl G hG v13 σ' KK h) (lw_S q3381 q3382 q119 q3383) mdX4_ones ⟨Nat.le_of_ble_eq_true rfl, Nat.le_of_ble_eq_true rfl⟩ rfl rfl (Nat.le_of_ble_eq_true rfl) dX4_writesLine_57 hp12 (fun v14 σ15 hp13 => ?_)
      refine x_pc (pc' := 60) rfl ?_
      refine x_if (C := v14 ≤ y10) (pt := 75) (pc' := 63) (fun _ _ _ _ _ => lv_icmp_ge (tgt := 75) hx hb dX4_writesLine_60 (by decide)) (fun c60 => ?_) (fun c60 => ?_)
      · have hp14 := hp13.1 c60
        refine x_up (pc' := 76) (fun _ _ _ _ _ L => lv_aload_n hx hb dX4_writesLine_75 rfl (lv_at L 1 rfl)) ?_
        refine x_gq X (kX4 hG) 0 (by decide) q3266 (fun _ h => h) dX4_writesLine_76 hp14 (fun v16 hp15 => ?_)
        refine x_pc (pc' := 79) rfl ?_
        refine x_up (pc' := 81) (fun _ _ _ _ _ L => lv_bipush (v := (105 : Int32)) hx hb dX4_writesLine_79 (by decide)) ?_
        refine x_up (pc' := 82) (fun _ _ _ _ _ L => lv_iload_n hx hb dX4_writesLine_81 rfl (lv_at L 2 rfl)) ?_
        refine x_up (pc' := 83) (fun _ _ _ _ _ L => lv_iadd hx hb dX4_writesLine_82) ?_
        obtain ⟨b17, rfl, hp16⟩ := hp15
        refine x_iald X dX4_writesLine_83 hp16 (fun v18 hp17 => ?_)
        refine x_pc (pc' := 84) rfl ?_
        refine x_up (pc' := 85) (fun _ _ _ _ _ L => lv_iconst (v := (1 : Int32)) hx hb dX4_writesLine_84 (by decide)) ?_
        refine x_ifn (C := v18 = (1 : Int32)) (pt := 94) (pc' := 88) (fun _ _ _ _ _ => lv_icmp_ne (tgt := 94) hx hb dX4_writesLine_85 (by decide)) (fun c85 => ?_) (fun c85 => ?_)
        · have hp18 := hp17.1 c85
          refine x_up (pc' := 89) (fun _ _ _ _ _ L => lv_aload_n hx hb dX4_writesLine_88 rfl (lv_at L 1 rfl)) ?_
          refine x_up (pc' := 91) (fun _ _ _ _ _ L => lv_bipush (v := (33 : Int32)) hx hb dX4_writesLine_89 (by decide)) ?_
          refine x_callV (em := emV) (fun r st => st) (fun _ _ => rfl) 1 X (kX4 hG) (fun σ' KK h => R_X4_writesSign l hl G hG a0 (33 : Int32) σ' KK h) (lw_V q3619 q3621 qs93 q119 q3622) ⟨rfl, mdX4_writesSign⟩ ⟨Nat.le_of_ble_eq_true rfl, Nat.le_of_ble_eq_true rfl⟩ rfl rfl (Nat.le_of_ble_eq_true rfl) dX4_writesLine_91 hp18.1 hp18.2 (fun _ σ19 hp19 => ?_)
          refine x_pc (pc' := 94) rfl ?_
          exact x_vret X hr dX4_writesLine_94 hp19
        · have hp20 := hp17.2 c85
          exact x_vret X hr dX4_writesLine_94 hp20
      · have hp21 := hp13.2 c60
        refine x_up (pc' := 64) (fun _ _ _ _ _ L => lv_aload_n hx hb dX4_writesLine_63 rfl (lv_at L 1 rfl)) ?_
        refine x_up (pc' := 66) (fun _ _ _ _ _ L => lv_bipush (v := (42 : Int32)) hx hb dX4_writesLine_64 (by decide)) ?_
        refine x_callV (em := emV) (fun r st => st) (fun _ _ => rfl) 1 X (kX4 hG) (fun σ' KK h => R_X4_writesSign l hl G hG a0 (42 : Int32) σ' KK h) (lw_V q3619 q3621 qs93 q119 q3622) ⟨rfl, mdX4_writesSign⟩ ⟨Nat.le_of_ble_eq_true rfl, Nat.le_of_ble_eq_true rfl⟩ rfl rfl (Nat.le_of_ble_eq_true rfl) dX4_writesLine_66 hp21.1 hp21.2 (fun _ σ20 hp22 => ?_)
        refine x_pc (pc' := 69) rfl ?_
        refine x_upL (pc' := 72) (lo' := [(3, .int (y10 + (1 : Int32))), (0, .ref a0), (1, .int x1)]) (fun _ _ _ _ _ L => lv_iinc (v := y10 + (1 : Int32)) hx hb dX4_writesLine_69 L (k := 0) rfl rfl (by decide) rfl) ?_
        refine x_up (pc' := 47) (fun _ _ _ _ _ L => lv_goto (tgt := 47) hx hb dX4_writesLine_72 (by decide)) ?_
        refine x_lo (lo' := [(3, .int (y10 + (1 : Int32))), (0, .ref a0), (1, .int x1)]) [0, 1, 2] rfl ?_
        exact hself8 (y10 + (1 : Int32)) σ20 hp22
    · have hp23 := hp6.2 c25
      refine x_up (pc' := 29) (fun _ _ _ _ _ L => lv_aload_n hx hb dX4_writesLine_28 rfl (lv_at L 1 rfl)) ?_
      refine x_up (pc' := 31) (fun _ _ _ _ _ L => lv_bipush (v := (49 : Int32)) hx hb dX4_writesLine_29 (by decide)) ?_
      refine x_callV (em := emV) (fun r st => st) (fun _ _ => rfl) 1 X (kX4 hG) (fun σ' KK h => R_X4_writesSign l hl G hG a0 (49 : Int32) σ' KK h) (lw_V q3619 q3621 qs93 q119 q3622) ⟨rfl, mdX4_writesSign⟩ ⟨Nat.le_of_ble_eq_true rfl, Nat.le_of_ble_eq_true rfl⟩ rfl rfl (Nat.le_of_ble_eq_true rfl) dX4_writesLine_31 hp23.1 hp23.2 (fun _ σ21 hp24 => ?_)
      refine x_pc (pc' := 34) rfl ?_
      refine x_up (pc' := 35) (fun _ _ _ _ _ L => lv_aload_n hx hb dX4_writesLine_34 rfl (lv_at L 1 rfl)) ?_
      refine x_up (pc' := 37) (fun _ _ _ _ _ L => lv_bipush (v := (48 : Int32)) hx hb dX4_writesLine_35 (by decide)) ?_
      refine x_up (pc' := 38) (fun _ _ _ _ _ L => lv_iload_n hx hb dX4_writesLine_37 rfl (lv_at L 0 rfl)) ?_
      refine x_up (pc' := 40) (fun _ _ _ _ _ L => lv_bipush (v := (10 : Int32)) hx hb dX4_writesLine_38 (by decide)) ?_
      refine x_up (pc' := 41) (fun _ _ _ _ _ L => lv_irem hx hb dX4_writesLine_40 (by decide)) ?_
      refine x_up (pc' := 42) (fun _ _ _ _ _ L => lv_iadd hx hb dX4_writesLine_41) ?_
      refine x_callV (em := emV) (fun r st => st) (fun _ _ => rfl) 1 X (kX4 hG) (fun σ' KK h => R_X4_writesSign l hl G hG a0 ((48 : Int32) + (v3 - v3 / (10 : Int32) * (10 : Int32))) σ' KK h) (lw_V q3619 q3621 qs93 q119 q3622) ⟨rfl, mdX4_writesSign⟩ ⟨Nat.le_of_ble_eq_true rfl, Nat.le_of_ble_eq_true rfl⟩ rfl rfl (Nat.le_of_ble_eq_true rfl) dX4_writesLine_42 hp24.1 hp24.2 (fun _ σ22 hp25 => ?_)
      refine x_pc (pc' := 45) rfl ?_
      refine x_up (pc' := 46) (fun _ _ _ _ _ L => lv_iconst (v := (0 : Int32)) hx hb dX4_writesLine_45 (by decide)) ?_
      refine x_upL (pc' := 47) (lo' := [(3, .int (0 : Int32)), (2, .int v3), (0, .ref a0), (1, .int x1)]) (fun _ _ _ _ _ L => lv_istore_n hx hb dX4_writesLine_46 rfl L (by decide) rfl) ?_
      refine x_lo (lo' := [(3, .int (0 : Int32)), (0, .ref a0), (1, .int x1)]) [0, 2, 3] rfl ?_
      refine x_while (v0 := (0 : Int32)) (fun w23 => [(3, .int w23), (0, .ref a0), (1, .int x1)]) hp25 (fun self24 hself25 => ?_)
      rintro y27 σ26 hp26
      unfold B_X4_writesLine_47 at hp26
      refine x_same (lo' := [(3, .int y27), (0, .ref a0), (1, .int x1)]) rfl ?_
      refine x_up (pc' := 48) (fun _ _ _ _ _ L => lv_iload_n hx hb dX4_writesLine_47 rfl (lv_at L 0 rfl)) ?_
      refine x_up (pc' := 49) (fun _ _ _ _ _ L => lv_aload_n hx hb dX4_writesLine_48 rfl (lv_at L 1 rfl)) ?_
      refine x_gq X (kX4 hG) 0 (by decide) q3266 (fun _ h => h) dX4_writesLine_49 hp26 (fun v28 hp27 => ?_)
      refine x_pc (pc' := 52) rfl ?_
      refine x_up (pc' := 54) (fun _ _ _ _ _ L => lv_bipush (v := (89 : Int32)) hx hb dX4_writesLine_52 (by decide)) ?_
      refine x_up (pc' := 55) (fun _ _ _ _ _ L => lv_iload_n hx hb dX4_writesLine_54 rfl (lv_at L 2 rfl)) ?_
      refine x_up (pc' := 56) (fun _ _ _ _ _ L => lv_iadd hx hb dX4_writesLine_55) ?_
      obtain ⟨b29, rfl, hp28⟩ := hp27
      refine x_iald X dX4_writesLine_56 hp28 (fun v30 hp29 => ?_)
      refine x_pc (pc' := 57) rfl ?_
      refine x_callS (em := emI) (fun r st => .int r :: st) (fun _ _ => rfl) 1 X (fun σ' KK h => R_X4_ones l hl G hG v30 σ' KK h) (lw_S q3381 q3382 q119 q3383) mdX4_ones ⟨Nat.le_of_ble_eq_true rfl, Nat.le_of_ble_eq_true rfl⟩ rfl rfl (Nat.le_of_ble_eq_true rfl) dX4_writesLine_57 hp29 (fun v31 σ32 hp30 => ?_)
      refine x_pc (pc' := 60) rfl ?_
      refine x_if (C := v31 ≤ y27) (pt := 75) (pc' := 63) (fun _ _ _ _ _ => lv_icmp_ge (tgt := 75) hx hb dX4_writesLine_60 (by decide)) (fun c60 => ?_) (fun c60 => ?_)
      · have hp31 := hp30.1 c60
        refine x_up (pc' := 76) (fun _ _ _ _ _ L => lv_aload_n hx hb dX4_writesLine_75 rfl (lv_at L 1 rfl)) ?_
        refine x_gq X (kX4 hG) 0 (by decide) q3266 (fun _ h => h) dX4_writesLine_76 hp31 (fun v33 hp32 => ?_)
        refine x_pc (pc' := 79) rfl ?_
        refine x_up (pc' := 81) (fun _ _ _ _ _ L => lv_bipush (v := (105 : Int32)) hx hb dX4_writesLine_79 (by decide)) ?_
        refine x_up (pc' := 82) (fun _ _ _ _ _ L => lv_iload_n hx hb dX4_writesLine_81 rfl (lv_at L 2 rfl)) ?_
        refine x_up (pc' := 83) (fun _ _ _ _ _ L => lv_iadd hx hb dX4_writesLine_82) ?_
        obtain ⟨b34, rfl, hp33⟩ := hp32
        refine x_iald X dX4_writesLine_83 hp33 (fun v35 hp34 => ?_)
        refine x_pc (pc' := 84) rfl ?_
        refine x_up (pc' := 85) (fun _ _ _ _ _ L => lv_iconst (v := (1 : Int32)) hx hb dX4_writesLine_84 (by decide)) ?_
        refine x_ifn (C := v35 = (1 : Int32)) (pt := 94) (pc' := 88) (fun _ _ _ _ _ => lv_icmp_ne (tgt := 94) hx hb dX4_writesLine_85 (by decide)) (fun c85 => ?_) (fun c85 => ?_)
        · have hp35 := hp34.1 c85
          refine x_up (pc' := 89) (fun _ _ _ _ _ L => lv_aload_n hx hb dX4_writesLine_88 rfl (lv_at L 1 rfl)) ?_
          refine x_up (pc' := 91) (fun _ _ _ _ _ L => lv_bipush (v := (33 : Int32)) hx hb dX4_writesLine_89 (by decide)) ?_
          refine x_callV (em := emV) (fun r st => st) (fun _ _ => rfl) 1 X (kX4 hG) (fun σ' KK h => R_X4_writesSign l hl G hG a0 (33 : Int32) σ' KK h) (lw_V q3619 q3621 qs93 q119 q3622) ⟨rfl, mdX4_writesSign⟩ ⟨Nat.le_of_ble_eq_true rfl, Nat.le_of_ble_eq_true rfl⟩ rfl rfl (Nat.le_of_ble_eq_true rfl) dX4_writesLine_91 hp35.1 hp35.2 (fun _ σ36 hp36 => ?_)
          refine x_pc (pc' := 94) rfl ?_
          exact x_vret X hr dX4_writesLine_94 hp36
        · have hp37 := hp34.2 c85
          exact x_vret X hr dX4_writesLine_94 hp37
      · have hp38 := hp30.2 c60
        refine x_up (pc' := 64) (fun _ _ _ _ _ L => lv_aload_n hx hb dX4_writesLine_63 rfl (lv_at L 1 rfl)) ?_
        refine x_up (pc' := 66) (fun _ _ _ _ _ L => lv_bipush (v := (42 : Int32)) hx hb dX4_writesLine_64 (by decide)) ?_
        refine x_callV (em := emV) (fun r st => st) (fun _ _ => rfl) 1 X (kX4 hG) (fun σ' KK h => R_X4_writesSign l hl G hG a0 (42 : Int32) σ' KK h) (lw_V q3619 q3621 qs93 q119 q3622) ⟨rfl, mdX4_writesSign⟩ ⟨Nat.le_of_ble_eq_true rfl, Nat.le_of_ble_eq_true rfl⟩ rfl rfl (Nat.le_of_ble_eq_true rfl) dX4_writesLine_66 hp38.1 hp38.2 (fun _ σ37 hp39 => ?_)
        refine x_pc (pc' := 69) rfl ?_
        refine x_upL (pc' := 72) (lo' := [(3, .int (y27 + (1 : Int32))), (0, .ref a0), (1, .int x1)]) (fun _ _ _ _ _ L => lv_iinc (v := y27 + (1 : Int32)) hx hb dX4_writesLine_69 L (k := 0) rfl rfl (by decide) rfl) ?_
        refine x_up (pc' := 47) (fun _ _ _ _ _ L => lv_goto (tgt := 47) hx hb dX4_writesLine_72 (by decide)) ?_
        refine x_lo (lo' := [(3, .int (y27 + (1 : Int32))), (0, .ref a0), (1, .int x1)]) [0, 1, 2] rfl ?_
        exact hself25 (y27 + (1 : Int32)) σ37 hp39
-- X4_tell
def B_X4_tell_21 (κ : Nat → Nat) (K : Int32 → xH → Prop) (f0 : Nat) (f1 : Int32) : (Int32 → xS → Prop) → Int32 → xS → Prop := fun self22003 w22001 σ22002 =>
  xgq σ22002 f0 10 0 fun v22004 => xnn v22004 fun b22005 => xai .int σ22002 b22005 (2 : Int32) fun v22006 => ((v22006 ≤ w22001 → (xgi σ22002 f0 10 15 fun v22007 => xrc σ22002 f0 10 ∧ xcall (fun τ L => P_X4_done κ f0 v22007 τ L) σ22002 fun v22008 σ22009 => K v22008 σ22009.1)) ∧ (¬ v22006 ≤ w22001 → (((w22001 ≤ 0 → (xrc σ22002 f0 10 ∧ xcall (fun τ L => P_X4_writesLine κ f0 (((4 : Int32) * f1) + w22001) τ L) σ22002 fun _ σ22010 => self22003 (w22001 + (1 : Int32)) σ22010)) ∧ (¬ w22001 ≤ 0 → (xrc σ22002 f0 10 ∧ xcall (fun τ L => P_X4_writesSign κ f0 (32 : Int32) τ L) σ22002 fun _ σ22011 => xrc σ22011 f0 10 ∧ xcall (fun τ L => P_X4_writesLine κ f0 (((4 : Int32) * f1) + w22001) τ L) σ22011 fun _ σ22012 => self22003 (w22001 + (1 : Int32)) σ22012))))))
def P_X4_tell (κ : Nat → Nat) (a0 : Nat) (x1 : Int32) (σ : xS) (K : Int32 → xH → Prop) : Prop :=
  xrc σ a0 10 ∧ xcall (fun τ L => P_X4_isSet κ a0 x1 τ L) σ fun v1 σ2 => ((v1 = 0 → (xrc σ2 a0 10 ∧ xcall (fun τ L => P_X4_fails κ a0 (1 : Int32) τ L) σ2 fun v3 σ4 => K v3 σ4.1)) ∧ (¬ v1 = 0 → (xpi κ σ2 a0 10 15 (0 : Int32) fun σ5 => xwhile (B_X4_tell_21 κ K a0 x1) (0 : Int32) σ5)))
theorem mdX4_tell : yX4_tell.cls ≠ "java/lang/invoke/MethodHandle" ∧ yX4_tell.cls ≠ "java/lang/invoke/VarHandle" ∧ (parseMethodDescriptor yX4_tell.desc).map (fun d => d.parameters.length) = some 1 := by decide +kernel
set_option maxHeartbeats 4000000 in
set_option maxRecDepth 100000 in
theorem R_X4_tell (l : Launch) (hl : l.stackTraces = false) (G : xG) (hG : G.1.2 = x_cl) (a0 : Nat) (x1 : Int32) (σ : xS) (K : Int32 → xH → Prop) (hp : P_X4_tell G.2 a0 x1 σ K) : xM l yX4_tell cX4_tell 3 (Option.some Jvm.ClassFile.FieldType.int) 2 45 G [(.ref a0), .int x1] σ (xlift emI K) := by
  refine x_entry (by decide) (Nat.le_of_ble_eq_true rfl) ?_
  intro p e s m args below meth c X hr hin
  have X : xX p s m args meth c G cX4_tell 3 RX4 := X
  have hx := X.1
  have hb := X.2.1
  have hts := X.2.2.2.2.1
  have hown := X.2.2.2.1
  unfold P_X4_tell at hp
  refine x_same (lo' := [(0, .ref a0), (1, .int x1)]) rfl ?_
  refine x_up (pc' := 1) (fun _ _ _ _ _ L => lv_aload_n hx hb dX4_tell_0 rfl (lv_at L 0 rfl)) ?_
  refine x_up (pc' := 2) (fun _ _ _ _ _ L => lv_iload_n hx hb dX4_tell_1 rfl (lv_at L 1 rfl)) ?_
  refine x_callV (em := emI) (fun r st => .int r :: st) (fun _ _ => rfl) 1 X (kX4 hG) (fun σ' KK h => R_X4_isSet l hl G hG a0 x1 σ' KK h) (lw_V q3503 q3505 qs81 q119 q3506) ⟨rfl, mdX4_isSet⟩ ⟨Nat.le_of_ble_eq_true rfl, Nat.le_of_ble_eq_true rfl⟩ rfl rfl (Nat.le_of_ble_eq_true rfl) dX4_tell_2 hp.1 hp.2 (fun v1 σ2 hp1 => ?_)
  refine x_pc (pc' := 5) rfl ?_
  refine x_ifn (C := v1 = 0) (pt := 14) (pc' := 8) (fun _ _ _ _ _ => lv_if_ne (tgt := 14) hx hb dX4_tell_5 (by decide)) (fun c5 => ?_) (fun c5 => ?_)
  · have hp2 := hp1.1 c5
    refine x_up (pc' := 9) (fun _ _ _ _ _ L => lv_aload_n hx hb dX4_tell_8 rfl (lv_at L 0 rfl)) ?_
    refine x_up (pc' := 10) (fun _ _ _ _ _ L => lv_iconst (v := (1 : Int32)) hx hb dX4_tell_9 (by decide)) ?_
    refine x_callV (em := emI) (fun r st => .int r :: st) (fun _ _ => rfl) 1 X (kX4 hG) (fun σ' KK h => R_X4_fails l hl G hG a0 (1 : Int32) σ' KK h) (lw_V q3357 q3359 qs59 q119 q3360) ⟨rfl, mdX4_fails⟩ ⟨Nat.le_of_ble_eq_true rfl, Nat.le_of_ble_eq_true rfl⟩ rfl rfl (Nat.le_of_ble_eq_true rfl) dX4_tell_10 hp2.1 hp2.2 (fun v3 σ4 hp3 => ?_)
    refine x_pc (pc' := 13) rfl ?_
    exact x_iret X hr rfl dX4_tell_13 hp3
  · have hp4 := hp1.2 c5
    refine x_up (pc' := 15) (fun _ _ _ _ _ L => lv_aload_n hx hb dX4_tell_14 rfl (lv_at L 0 rfl)) ?_
    refine x_up (pc' := 16) (fun _ _ _ _ _ L => lv_iconst (v := (0 : Int32)) hx hb dX4_tell_15 (by decide)) ?_
    refine x_pi X (kX4 hG) 15 (by decide) q3281 (fun _ h => h) rfl rfl rfl dX4_tell_16 hp4 (fun σ5 hp5 => ?_)
    refine x_pc (pc' := 19) rfl ?_
    refine x_up (pc' := 20) (fun _ _ _ _ _ L => lv_iconst (v := (0 : Int32)) hx hb dX4_tell_19 (by decide)) ?_
    refine x_upL (pc' := 21) (lo' := [(2, .int (0 : Int32)), (0, .ref a0), (1, .int x1)]) (fun _ _ _ _ _ L => lv_istore_n hx hb dX4_tell_20 rfl L (by decide) rfl) ?_
    refine x_lo (lo' := [(2, .int (0 : Int32)), (0, .ref a0), (1, .int x1)]) [0, 1, 2] rfl ?_
    refine x_while (v0 := (0 : Int32)) (fun w6 => [(2, .int w6), (0, .ref a0), (1, .int x1)]) hp5 (fun self7 hself8 => ?_)
    rintro y10 σ9 hp6
    unfold B_X4_tell_21 at hp6
    refine x_same (lo' := [(2, .int y10), (0, .ref a0), (1, .int x1)]) rfl ?_
    refine x_up (pc' := 22) (fun _ _ _ _ _ L => lv_iload_n hx hb dX4_tell_21 rfl (lv_at L 0 rfl)) ?_
    refine x_up (pc' := 23) (fun _ _ _ _ _ L => lv_aload_n hx hb dX4_tell_22 rfl (lv_at L 1 rfl)) ?_
    refine x_gq X (kX4 hG) 0 (by decide) q3266 (fun _ h => h) dX4_tell_23 hp6 (fun v11 hp7 => ?_)
    refine x_pc (pc' := 26) rfl ?_
    refine x_up (pc' := 27) (fun _ _ _ _ _ L => lv_iconst (v := (2 : Int32)) hx hb dX4_tell_26 (by decide)) ?_
    obtain ⟨b12, rfl, hp8⟩ := hp7
    refine x_iald X dX4_tell_27 hp8 (fun v13 hp9 => ?_)
    refine x_pc (pc' := 28) rfl ?_
    refine x_if (C := v13 ≤ y10) (pt := 56) (pc' := 31) (fun _ _ _ _ _ => lv_icmp_ge (tgt := 56) hx hb dX4_tell_28 (by decide)) (fun c28 => ?_) (fun c28 => ?_)
    · have hp10 := hp9.1 c28
      refine x_up (pc' := 57) (fun _ _ _ _ _ L => lv_aload_n hx hb dX4_tell_56 rfl (lv_at L 1 rfl)) ?_
      refine x_up (pc' := 58) (fun _ _ _ _ _ L => lv_aload_n hx hb dX4_tell_57 rfl (lv_at L 1 rfl)) ?_
      refine x_gi X (kX4 hG) 15 (by decide) q3281 (fun _ h => h) dX4_tell_58 hp10 (fun v14 hp11 => ?_)
      refine x_pc (pc' := 61) rfl ?_
      refine x_callV (em := emI) (fun r st => .int r :: st) (fun _ _ => rfl) 1 X (kX4 hG) (fun σ' KK h => R_X4_done l hl G hG a0 v14 σ' KK h) (lw_V q3404 q3406 qs70 q119 q3407) ⟨rfl, mdX4_done⟩ ⟨Nat.le_of_ble_eq_true rfl, Nat.le_of_ble_eq_true rfl⟩ rfl rfl (Nat.le_of_ble_eq_true rfl) dX4_tell_61 hp11.1 hp11.2 (fun v15 σ16 hp12 => ?_)
      refine x_pc (pc' := 64) rfl ?_
      exact x_iret X hr rfl dX4_tell_64 hp12
    · have hp13 := hp9.2 c28
      refine x_up (pc' := 32) (fun _ _ _ _ _ L => lv_iload_n hx hb dX4_tell_31 rfl (lv_at L 0 rfl)) ?_
      refine x_if (C := y10 ≤ 0) (pt := 41) (pc' := 35) (fun _ _ _ _ _ => lv_if_le (tgt := 41) hx hb dX4_tell_32 (by decide)) (fun c32 => ?_) (fun c32 => ?_)
      · have hp14 := hp13.1 c32
        refine x_up (pc' := 42) (fun _ _ _ _ _ L => lv_aload_n hx hb dX4_tell_41 rfl (lv_at L 1 rfl)) ?_
        refine x_up (pc' := 43) (fun _ _ _ _ _ L => lv_iconst (v := (4 : Int32)) hx hb dX4_tell_42 (by decide)) ?_
        refine x_up (pc' := 44) (fun _ _ _ _ _ L => lv_iload_n hx hb dX4_tell_43 rfl (lv_at L 2 rfl)) ?_
        refine x_up (pc' := 45) (fun _ _ _ _ _ L => lv_imul hx hb dX4_tell_44) ?_
        refine x_up (pc' := 46) (fun _ _ _ _ _ L => lv_iload_n hx hb dX4_tell_45 rfl (lv_at L 0 rfl)) ?_
        refine x_up (pc' := 47) (fun _ _ _ _ _ L => lv_iadd hx hb dX4_tell_46) ?_
        refine x_callV (em := emV) (fun r st => st) (fun _ _ => rfl) 1 X (kX4 hG) (fun σ' KK h => R_X4_writesLine l hl G hG a0 (((4 : Int32) * x1) + y10) σ' KK h) (lw_V q3623 q3625 qs94 q119 q3626) ⟨rfl, mdX4_writesLine⟩ ⟨Nat.le_of_ble_eq_true rfl, Nat.le_of_ble_eq_true rfl⟩ rfl rfl (Nat.le_of_ble_eq_true rfl) dX4_tell_47 hp14.1 hp14.2 (fun _ σ17 hp15 => ?_)
        refine x_pc (pc' := 50) rfl ?_
        refine x_upL (pc' := 53) (lo' := [(2, .int (y10 + (1 : Int32))), (0, .ref a0), (1, .int x1)]) (fun _ _ _ _ _ L => lv_iinc (v := y10 + (1 : Int32)) hx hb dX4_tell_50 L (k := 0) rfl rfl (by decide) rfl) ?_
        refine x_up (pc' := 21) (fun _ _ _ _ _ L => lv_goto (tgt := 21) hx hb dX4_tell_53 (by decide)) ?_
        refine x_lo (lo' := [(2, .int (y10 + (1 : Int32))), (0, .ref a0), (1, .int x1)]) [0, 1, 2] rfl ?_
        exact hself8 (y10 + (1 : Int32)) σ17 hp15
      · have hp16 := hp13.2 c32
        refine x_up (pc' := 36) (fun _ _ _ _ _ L => lv_aload_n hx hb dX4_tell_35 rfl (lv_at L 1 rfl)) ?_
        refine x_up (pc' := 38) (fun _ _ _ _ _ L => lv_bipush (v := (32 : Int32)) hx hb dX4_tell_36 (by decide)) ?_
        refine x_callV (em := emV) (fun r st => st) (fun _ _ => rfl) 1 X (kX4 hG) (fun σ' KK h => R_X4_writesSign l hl G hG a0 (32 : Int32) σ' KK h) (lw_V q3619 q3621 qs93 q119 q3622) ⟨rfl, mdX4_writesSign⟩ ⟨Nat.le_of_ble_eq_true rfl, Nat.le_of_ble_eq_true rfl⟩ rfl rfl (Nat.le_of_ble_eq_true rfl) dX4_tell_38 hp16.1 hp16.2 (fun _ σ18 hp17 => ?_)
        refine x_pc (pc' := 41) rfl ?_
        refine x_up (pc' := 42) (fun _ _ _ _ _ L => lv_aload_n hx hb dX4_tell_41 rfl (lv_at L 1 rfl)) ?_
        refine x_up (pc' := 43) (fun _ _ _ _ _ L => lv_iconst (v := (4 : Int32)) hx hb dX4_tell_42 (by decide)) ?_
        refine x_up (pc' := 44) (fun _ _ _ _ _ L => lv_iload_n hx hb dX4_tell_43 rfl (lv_at L 2 rfl)) ?_
        refine x_up (pc' := 45) (fun _ _ _ _ _ L => lv_imul hx hb dX4_tell_44) ?_
        refine x_up (pc' := 46) (fun _ _ _ _ _ L => lv_iload_n hx hb dX4_tell_45 rfl (lv_at L 0 rfl)) ?_
        refine x_up (pc' := 47) (fun _ _ _ _ _ L => lv_iadd hx hb dX4_tell_46) ?_
        refine x_callV (em := emV) (fun r st => st) (fun _ _ => rfl) 1 X (kX4 hG) (fun σ' KK h => R_X4_writesLine l hl G hG a0 (((4 : Int32) * x1) + y10) σ' KK h) (lw_V q3623 q3625 qs94 q119 q3626) ⟨rfl, mdX4_writesLine⟩ ⟨Nat.le_of_ble_eq_true rfl, Nat.le_of_ble_eq_true rfl⟩ rfl rfl (Nat.le_of_ble_eq_true rfl) dX4_tell_47 hp17.1 hp17.2 (fun _ σ19 hp18 => ?_)
        refine x_pc (pc' := 50) rfl ?_
        refine x_upL (pc' := 53) (lo' := [(2, .int (y10 + (1 : Int32))), (0, .ref a0), (1, .int x1)]) (fun _ _ _ _ _ L => lv_iinc (v := y10 + (1 : Int32)) hx hb dX4_tell_50 L (k := 0) rfl rfl (by decide) rfl) ?_
        refine x_up (pc' := 21) (fun _ _ _ _ _ L => lv_goto (tgt := 21) hx hb dX4_tell_53 (by decide)) ?_
        refine x_lo (lo' := [(2, .int (y10 + (1 : Int32))), (0, .ref a0), (1, .int x1)]) [0, 1, 2] rfl ?_
        exact hself8 (y10 + (1 : Int32)) σ19 hp18
-- X4_character
def P_X4_character (κ : Nat → Nat) (a0 : Nat) (x1 : Int32) (σ : xS) (K : Int32 → xH → Prop) : Prop :=
  xgi σ a0 10 15 fun v1 => xcall (fun τ L => P_X4_in κ x1 (0 : Int32) (v1 - (1 : Int32)) τ L) σ fun v2 σ3 => ((v2 = 0 → (xpi κ σ3 a0 10 16 (1 : Int32) fun σ4 => xgi σ4 a0 10 16 fun v5 => ((v5 = 0 → (xgq σ4 a0 10 14 fun v6 => xnn v6 fun b7 => xai .char σ4 b7 x1 fun v8 => (narrow .char (.int v8) = .int v8 ∧ K v8 σ4.1))) ∧ (¬ v5 = 0 → ((narrow .char (.int (0 : Int32)) = .int (0 : Int32) ∧ K (0 : Int32) σ4.1)))))) ∧ (¬ v2 = 0 → (xpi κ σ3 a0 10 16 (0 : Int32) fun σ9 => xgi σ9 a0 10 16 fun v10 => ((v10 = 0 → (xgq σ9 a0 10 14 fun v11 => xnn v11 fun b12 => xai .char σ9 b12 x1 fun v13 => (narrow .char (.int v13) = .int v13 ∧ K v13 σ9.1))) ∧ (¬ v10 = 0 → ((narrow .char (.int (0 : Int32)) = .int (0 : Int32) ∧ K (0 : Int32) σ9.1)))))))
theorem mdX4_character : yX4_character.cls ≠ "java/lang/invoke/MethodHandle" ∧ yX4_character.cls ≠ "java/lang/invoke/VarHandle" ∧ (parseMethodDescriptor yX4_character.desc).map (fun d => d.parameters.length) = some 1 := by decide +kernel
set_option maxHeartbeats 4000000 in
set_option maxRecDepth 100000 in
theorem R_X4_character (l : Launch) (hl : l.stackTraces = false) (G : xG) (hG : G.1.2 = x_cl) (a0 : Nat) (x1 : Int32) (σ : xS) (K : Int32 → xH → Prop) (hp : P_X4_character G.2 a0 x1 σ K) : xM l yX4_character cX4_character 2 (Option.some Jvm.ClassFile.FieldType.char) 1 22 G [(.ref a0), .int x1] σ (xlift emI K) := by
  refine x_entry (by decide) (Nat.le_of_ble_eq_true rfl) ?_
  intro p e s m args below meth c X hr hin
  have X : xX p s m args meth c G cX4_character 2 RX4 := X
  have hx := X.1
  have hb := X.2.1
  have hts := X.2.2.2.2.1
  have hown := X.2.2.2.1
  unfold P_X4_character at hp
  refine x_same (lo' := [(0, .ref a0), (1, .int x1)]) rfl ?_
  refine x_up (pc' := 1) (fun _ _ _ _ _ L => lv_aload_n hx hb dX4_character_0 rfl (lv_at L 0 rfl)) ?_
  refine x_up (pc' := 2) (fun _ _ _ _ _ L => lv_iload_n hx hb dX4_character_1 rfl (lv_at L 1 rfl)) ?_
  refine x_up (pc' := 3) (fun _ _ _ _ _ L => lv_iconst (v := (0 : Int32)) hx hb dX4_character_2 (by decide)) ?_
  refine x_up (pc' := 4) (fun _ _ _ _ _ L => lv_aload_n hx hb dX4_character_3 rfl (lv_at L 0 rfl)) ?_
  refine x_gi X (kX4 hG) 15 (by decide) q3281 (fun _ h => h) dX4_character_4 hp (fun v1 hp1 => ?_)
  refine x_pc (pc' := 7) rfl ?_
  refine x_up (pc' := 8) (fun _ _ _ _ _ L => lv_iconst (v := (1 : Int32)) hx hb dX4_character_7 (by decide)) ?_
  refine x_up (pc' := 9) (fun _ _ _ _ _ L => lv_isub hx hb dX4_character_8) ?_
  refine x_callS (em := emI) (fun r st => .int r :: st) (fun _ _ => rfl) 3 X (fun σ' KK h => R_X4_in l hl G hG x1 (0 : Int32) (v1 - (1 : Int32)) σ' KK h) (lw_S q3350 q3351 q119 q3352) mdX4_in ⟨Nat.le_of_ble_eq_true rfl, Nat.le_of_ble_eq_true rfl⟩ rfl rfl (Nat.le_of_ble_eq_true rfl) dX4_character_9 hp1 (fun v2 σ3 hp2 => ?_)
  refine x_pc (pc' := 12) rfl ?_
  refine x_if (C := v2 = 0) (pt := 19) (pc' := 15) (fun _ _ _ _ _ => lv_if_eq (tgt := 19) hx hb dX4_character_12 (by decide)) (fun c12 => ?_) (fun c12 => ?_)
  · have hp3 := hp2.1 c12
    refine x_up (pc' := 20) (fun _ _ _ _ _ L => lv_iconst (v := (1 : Int32)) hx hb dX4_character_19 (by decide)) ?_
    refine x_pi X (kX4 hG) 16 (by decide) q3282 (fun _ h => h) rfl rfl rfl dX4_character_20 hp3 (fun σ4 hp4 => ?_)
    refine x_pc (pc' := 23) rfl ?_
    refine x_up (pc' := 24) (fun _ _ _ _ _ L => lv_aload_n hx hb dX4_character_23 rfl (lv_at L 0 rfl)) ?_
    refine x_gi X (kX4 hG) 16 (by decide) q3282 (fun _ h => h) dX4_character_24 hp4 (fun v5 hp5 => ?_)
    refine x_pc (pc' := 27) rfl ?_
    refine x_ifn (C := v5 = 0) (pt := 39) (pc' := 30) (fun _ _ _ _ _ => lv_if_ne (tgt := 39) hx hb dX4_character_27 (by decide)) (fun c27 => ?_) (fun c27 => ?_)
    · have hp6 := hp5.1 c27
      refine x_up (pc' := 31) (fun _ _ _ _ _ L => lv_aload_n hx hb dX4_character_30 rfl (lv_at L 0 rfl)) ?_
      refine x_gq X (kX4 hG) 14 (by decide) q3280 (fun _ h => h) dX4_character_31 hp6 (fun v6 hp7 => ?_)
      refine x_pc (pc' := 34) rfl ?_
      refine x_up (pc' := 35) (fun _ _ _ _ _ L => lv_iload_n hx hb dX4_character_34 rfl (lv_at L 1 rfl)) ?_
      obtain ⟨b7, rfl, hp8⟩ := hp7
      refine x_cald X dX4_character_35 hp8 (fun v8 hp9 => ?_)
      refine x_pc (pc' := 36) rfl ?_
      refine x_up (pc' := 40) (fun _ _ _ _ _ L => lv_goto (tgt := 40) hx hb dX4_character_36 (by decide)) ?_
      exact x_iret X hr hp9.1 dX4_character_40 hp9.2
    · have hp10 := hp5.2 c27
      refine x_up (pc' := 40) (fun _ _ _ _ _ L => lv_iconst (v := (0 : Int32)) hx hb dX4_character_39 (by decide)) ?_
      exact x_iret X hr hp10.1 dX4_character_40 hp10.2
  · have hp11 := hp2.2 c12
    refine x_up (pc' := 16) (fun _ _ _ _ _ L => lv_iconst (v := (0 : Int32)) hx hb dX4_character_15 (by decide)) ?_
    refine x_up (pc' := 20) (fun _ _ _ _ _ L => lv_goto (tgt := 20) hx hb dX4_character_16 (by decide)) ?_
    refine x_pi X (kX4 hG) 16 (by decide) q3282 (fun _ h => h) rfl rfl rfl dX4_character_20 hp11 (fun σ9 hp12 => ?_)
    refine x_pc (pc' := 23) rfl ?_
    refine x_up (pc' := 24) (fun _ _ _ _ _ L => lv_aload_n hx hb dX4_character_23 rfl (lv_at L 0 rfl)) ?_
    refine x_gi X (kX4 hG) 16 (by decide) q3282 (fun _ h => h) dX4_character_24 hp12 (fun v10 hp13 => ?_)
    refine x_pc (pc' := 27) rfl ?_
    refine x_ifn (C := v10 = 0) (pt := 39) (pc' := 30) (fun _ _ _ _ _ => lv_if_ne (tgt := 39) hx hb dX4_character_27 (by decide)) (fun c27 => ?_) (fun c27 => ?_)
    · have hp14 := hp13.1 c27
      refine x_up (pc' := 31) (fun _ _ _ _ _ L => lv_aload_n hx hb dX4_character_30 rfl (lv_at L 0 rfl)) ?_
      refine x_gq X (kX4 hG) 14 (by decide) q3280 (fun _ h => h) dX4_character_31 hp14 (fun v11 hp15 => ?_)
      refine x_pc (pc' := 34) rfl ?_
      refine x_up (pc' := 35) (fun _ _ _ _ _ L => lv_iload_n hx hb dX4_character_34 rfl (lv_at L 1 rfl)) ?_
      obtain ⟨b12, rfl, hp16⟩ := hp15
      refine x_cald X dX4_character_35 hp16 (fun v13 hp17 => ?_)
      refine x_pc (pc' := 36) rfl ?_
      refine x_up (pc' := 40) (fun _ _ _ _ _ L => lv_goto (tgt := 40) hx hb dX4_character_36 (by decide)) ?_
      exact x_iret X hr hp17.1 dX4_character_40 hp17.2
    · have hp18 := hp13.2 c27
      refine x_up (pc' := 40) (fun _ _ _ _ _ L => lv_iconst (v := (0 : Int32)) hx hb dX4_character_39 (by decide)) ?_
      exact x_iret X hr hp18.1 dX4_character_40 hp18.2
-- X4_hitShare
def P_X4_hitShare (κ : Nat → Nat) (a0 : Nat) (σ : xS) (K : UInt32 → xH → Prop) : Prop :=
  xgq σ a0 10 0 fun v1 => xnn v1 fun b2 => xai .int σ b2 (283 : Int32) fun v3 => xgq σ a0 10 0 fun v4 => xnn v4 fun b5 => xai .int σ b5 (284 : Int32) fun v6 => (((v3 + v6) = 0 → (xpi κ σ a0 10 16 (1 : Int32) fun σ7 => (((v3 + v6) = 0 → (K FP.fconst0 σ7.1)) ∧ (¬ (v3 + v6) = 0 → (xgq σ7 a0 10 0 fun v8 => xnn v8 fun b9 => xai .int σ7 b9 (285 : Int32) fun v10 => vf_n32 (FP.fdiv (FP.i2f v10) (FP.i2f (v3 + v6))) ∧ K (FP.fdiv (FP.i2f v10) (FP.i2f (v3 + v6))) σ7.1))))) ∧ (¬ (v3 + v6) = 0 → (xpi κ σ a0 10 16 (0 : Int32) fun σ11 => (((v3 + v6) = 0 → (K FP.fconst0 σ11.1)) ∧ (¬ (v3 + v6) = 0 → (xgq σ11 a0 10 0 fun v12 => xnn v12 fun b13 => xai .int σ11 b13 (285 : Int32) fun v14 => vf_n32 (FP.fdiv (FP.i2f v14) (FP.i2f (v3 + v6))) ∧ K (FP.fdiv (FP.i2f v14) (FP.i2f (v3 + v6))) σ11.1))))))
theorem mdX4_hitShare : yX4_hitShare.cls ≠ "java/lang/invoke/MethodHandle" ∧ yX4_hitShare.cls ≠ "java/lang/invoke/VarHandle" ∧ (parseMethodDescriptor yX4_hitShare.desc).map (fun d => d.parameters.length) = some 0 := by decide +kernel
set_option maxHeartbeats 4000000 in
set_option maxRecDepth 100000 in
theorem R_X4_hitShare (l : Launch) (hl : l.stackTraces = false) (G : xG) (hG : G.1.2 = x_cl) (a0 : Nat) (σ : xS) (K : UInt32 → xH → Prop) (hp : P_X4_hitShare G.2 a0 σ K) : xM l yX4_hitShare cX4_hitShare 2 (Option.some Jvm.ClassFile.FieldType.float) 0 0 G [(.ref a0)] σ (xlift emF K) := by
  refine x_entry (by decide) (Nat.le_of_ble_eq_true rfl) ?_
  intro p e s m args below meth c X hr hin
  have X : xX p s m args meth c G cX4_hitShare 2 RX4 := X
  have hx := X.1
  have hb := X.2.1
  have hts := X.2.2.2.2.1
  have hown := X.2.2.2.1
  unfold P_X4_hitShare at hp
  refine x_same (lo' := [(0, .ref a0)]) rfl ?_
  refine x_up (pc' := 1) (fun _ _ _ _ _ L => lv_aload_n hx hb dX4_hitShare_0 rfl (lv_at L 0 rfl)) ?_
  refine x_gq X (kX4 hG) 0 (by decide) q3266 (fun _ h => h) dX4_hitShare_1 hp (fun v1 hp1 => ?_)
  refine x_pc (pc' := 4) rfl ?_
  refine x_up (pc' := 7) (fun _ _ _ _ _ L => lv_sipush (v := (283 : Int32)) hx hb dX4_hitShare_4 (by decide)) ?_
  obtain ⟨b2, rfl, hp2⟩ := hp1
  refine x_iald X dX4_hitShare_7 hp2 (fun v3 hp3 => ?_)
  refine x_pc (pc' := 8) rfl ?_
  refine x_up (pc' := 9) (fun _ _ _ _ _ L => lv_aload_n hx hb dX4_hitShare_8 rfl (lv_at L 0 rfl)) ?_
  refine x_gq X (kX4 hG) 0 (by decide) q3266 (fun _ h => h) dX4_hitShare_9 hp3 (fun v4 hp4 => ?_)
  refine x_pc (pc' := 12) rfl ?_
  refine x_up (pc' := 15) (fun _ _ _ _ _ L => lv_sipush (v := (284 : Int32)) hx hb dX4_hitShare_12 (by decide)) ?_
  obtain ⟨b5, rfl, hp5⟩ := hp4
  refine x_iald X dX4_hitShare_15 hp5 (fun v6 hp6 => ?_)
  refine x_pc (pc' := 16) rfl ?_
  refine x_up (pc' := 17) (fun _ _ _ _ _ L => lv_iadd hx hb dX4_hitShare_16) ?_
  refine x_upL (pc' := 18) (lo' := [(1, .int (v3 + v6)), (0, .ref a0)]) (fun _ _ _ _ _ L => lv_istore_n hx hb dX4_hitShare_17 rfl L (by decide) rfl) ?_
  refine x_up (pc' := 19) (fun _ _ _ _ _ L => lv_aload_n hx hb dX4_hitShare_18 rfl (lv_at L 1 rfl)) ?_
  refine x_up (pc' := 20) (fun _ _ _ _ _ L => lv_iload_n hx hb dX4_hitShare_19 rfl (lv_at L 0 rfl)) ?_
  refine x_ifn (C := (v3 + v6) = 0) (pt := 27) (pc' := 23) (fun _ _ _ _ _ => lv_if_ne (tgt := 27) hx hb dX4_hitShare_20 (by decide)) (fun c20 => ?_) (fun c20 => ?_)
  · have hp7 := hp6.1 c20
    refine x_up (pc' := 24) (fun _ _ _ _ _ L => lv_iconst (v := (1 : Int32)) hx hb dX4_hitShare_23 (by decide)) ?_
    refine x_up (pc' := 28) (fun _ _ _ _ _ L => lv_goto (tgt := 28) hx hb dX4_hitShare_24 (by decide)) ?_
    refine x_pi X (kX4 hG) 16 (by decide) q3282 (fun _ h => h) rfl rfl rfl dX4_hitShare_28 hp7 (fun σ7 hp8 => ?_)
    refine x_pc (pc' := 31) rfl ?_
    refine x_up (pc' := 32) (fun _ _ _ _ _ L => lv_iload_n hx hb dX4_hitShare_31 rfl (lv_at L 0 rfl)) ?_
    refine x_ifn (C := (v3 + v6) = 0) (pt := 39) (pc' := 35) (fun _ _ _ _ _ => lv_if_ne (tgt := 39) hx hb dX4_hitShare_32 (by decide)) (fun c32 => ?_) (fun c32 => ?_)
    · have hp9 := hp8.1 c32
      refine x_up (pc' := 36) (fun _ _ _ _ _ L => lv_fconst0 hx hb dX4_hitShare_35) ?_
      refine x_up (pc' := 51) (fun _ _ _ _ _ L => lv_goto (tgt := 51) hx hb dX4_hitShare_36 (by decide)) ?_
      exact x_fret X hr dX4_hitShare_51 hp9
    · have hp10 := hp8.2 c32
      refine x_up (pc' := 40) (fun _ _ _ _ _ L => lv_aload_n hx hb dX4_hitShare_39 rfl (lv_at L 1 rfl)) ?_
      refine x_gq X (kX4 hG) 0 (by decide) q3266 (fun _ h => h) dX4_hitShare_40 hp10 (fun v8 hp11 => ?_)
      refine x_pc (pc' := 43) rfl ?_
      refine x_up (pc' := 46) (fun _ _ _ _ _ L => lv_sipush (v := (285 : Int32)) hx hb dX4_hitShare_43 (by decide)) ?_
      obtain ⟨b9, rfl, hp12⟩ := hp11
      refine x_iald X dX4_hitShare_46 hp12 (fun v10 hp13 => ?_)
      refine x_pc (pc' := 47) rfl ?_
      refine x_up (pc' := 48) (fun _ _ _ _ _ L => lv_i2f hx hb dX4_hitShare_47) ?_
      refine x_up (pc' := 49) (fun _ _ _ _ _ L => lv_iload_n hx hb dX4_hitShare_48 rfl (lv_at L 0 rfl)) ?_
      refine x_up (pc' := 50) (fun _ _ _ _ _ L => lv_i2f hx hb dX4_hitShare_49) ?_
      obtain ⟨hz50, hp14⟩ := hp13
      refine x_up (pc' := 51) (fun _ _ _ _ _ L => lv_fdiv hx hb dX4_hitShare_50 hz50) ?_
      exact x_fret X hr dX4_hitShare_51 hp14
  · have hp15 := hp6.2 c20
    refine x_up (pc' := 28) (fun _ _ _ _ _ L => lv_iconst (v := (0 : Int32)) hx hb dX4_hitShare_27 (by decide)) ?_
    refine x_pi X (kX4 hG) 16 (by decide) q3282 (fun _ h => h) rfl rfl rfl dX4_hitShare_28 hp15 (fun σ11 hp16 => ?_)
    refine x_pc (pc' := 31) rfl ?_
    refine x_up (pc' := 32) (fun _ _ _ _ _ L => lv_iload_n hx hb dX4_hitShare_31 rfl (lv_at L 0 rfl)) ?_
    refine x_ifn (C := (v3 + v6) = 0) (pt := 39) (pc' := 35) (fun _ _ _ _ _ => lv_if_ne (tgt := 39) hx hb dX4_hitShare_32 (by decide)) (fun c32 => ?_) (fun c32 => ?_)
    · have hp17 := hp16.1 c32
      refine x_up (pc' := 36) (fun _ _ _ _ _ L => lv_fconst0 hx hb dX4_hitShare_35) ?_
      refine x_up (pc' := 51) (fun _ _ _ _ _ L => lv_goto (tgt := 51) hx hb dX4_hitShare_36 (by decide)) ?_
      exact x_fret X hr dX4_hitShare_51 hp17
    · have hp18 := hp16.2 c32
      refine x_up (pc' := 40) (fun _ _ _ _ _ L => lv_aload_n hx hb dX4_hitShare_39 rfl (lv_at L 1 rfl)) ?_
      refine x_gq X (kX4 hG) 0 (by decide) q3266 (fun _ h => h) dX4_hitShare_40 hp18 (fun v12 hp19 => ?_)
      refine x_pc (pc' := 43) rfl ?_
      refine x_up (pc' := 46) (fun _ _ _ _ _ L => lv_sipush (v := (285 : Int32)) hx hb dX4_hitShare_43 (by decide)) ?_
      obtain ⟨b13, rfl, hp20⟩ := hp19
      refine x_iald X dX4_hitShare_46 hp20 (fun v14 hp21 => ?_)
      refine x_pc (pc' := 47) rfl ?_
      refine x_up (pc' := 48) (fun _ _ _ _ _ L => lv_i2f hx hb dX4_hitShare_47) ?_
      refine x_up (pc' := 49) (fun _ _ _ _ _ L => lv_iload_n hx hb dX4_hitShare_48 rfl (lv_at L 0 rfl)) ?_
      refine x_up (pc' := 50) (fun _ _ _ _ _ L => lv_i2f hx hb dX4_hitShare_49) ?_
      obtain ⟨hz50, hp22⟩ := hp21
      refine x_up (pc' := 51) (fun _ _ _ _ _ L => lv_fdiv hx hb dX4_hitShare_50 hz50) ?_
      exact x_fret X hr dX4_hitShare_51 hp22
-- X4_meanWord
def B_X4_meanWord_9 (κ : Nat → Nat) (K : UInt64 → xH → Prop) (f0 : Nat) : ((Int32 × Int32) → xS → Prop) → (Int32 × Int32) → xS → Prop := fun self10003 w10001 σ10002 =>
  (((64 : Int32) ≤ w10001.2 → (vf_n64 (FP.ddiv (FP.i2d w10001.1) (4634204016564240384 : UInt64)) ∧ K (FP.ddiv (FP.i2d w10001.1) (4634204016564240384 : UInt64)) σ10002.1)) ∧ (¬ (64 : Int32) ≤ w10001.2 → (xrc σ10002 f0 10 ∧ xcall (fun τ L => P_X4_wordNow κ f0 w10001.2 τ L) σ10002 fun v10004 σ10005 => self10003 ((w10001.1 + v10004), (w10001.2 + (1 : Int32))) σ10005)))
def P_X4_meanWord (κ : Nat → Nat) (a0 : Nat) (σ : xS) (K : UInt64 → xH → Prop) : Prop :=
  xpi κ σ a0 10 16 (0 : Int32) fun σ1 => xwhile (B_X4_meanWord_9 κ K a0) ((0 : Int32), (0 : Int32)) σ1
theorem mdX4_meanWord : yX4_meanWord.cls ≠ "java/lang/invoke/MethodHandle" ∧ yX4_meanWord.cls ≠ "java/lang/invoke/VarHandle" ∧ (parseMethodDescriptor yX4_meanWord.desc).map (fun d => d.parameters.length) = some 0 := by decide +kernel
set_option maxHeartbeats 4000000 in
set_option maxRecDepth 100000 in
theorem R_X4_meanWord (l : Launch) (hl : l.stackTraces = false) (G : xG) (hG : G.1.2 = x_cl) (a0 : Nat) (σ : xS) (K : UInt64 → xH → Prop) (hp : P_X4_meanWord G.2 a0 σ K) : xM l yX4_meanWord cX4_meanWord 3 (Option.some Jvm.ClassFile.FieldType.double) 2 44 G [(.ref a0)] σ (xlift emD K) := by
  refine x_entry (by decide) (Nat.le_of_ble_eq_true rfl) ?_
  intro p e s m args below meth c X hr hin
  have X : xX p s m args meth c G cX4_meanWord 3 RX4 := X
  have hx := X.1
  have hb := X.2.1
  have hts := X.2.2.2.2.1
  have hown := X.2.2.2.1
  unfold P_X4_meanWord at hp
  refine x_same (lo' := [(0, .ref a0)]) rfl ?_
  refine x_up (pc' := 1) (fun _ _ _ _ _ L => lv_aload_n hx hb dX4_meanWord_0 rfl (lv_at L 0 rfl)) ?_
  refine x_up (pc' := 2) (fun _ _ _ _ _ L => lv_iconst (v := (0 : Int32)) hx hb dX4_meanWord_1 (by decide)) ?_
  refine x_pi X (kX4 hG) 16 (by decide) q3282 (fun _ h => h) rfl rfl rfl dX4_meanWord_2 hp (fun σ1 hp1 => ?_)
  refine x_pc (pc' := 5) rfl ?_
  refine x_up (pc' := 6) (fun _ _ _ _ _ L => lv_iconst (v := (0 : Int32)) hx hb dX4_meanWord_5 (by decide)) ?_
  refine x_upL (pc' := 7) (lo' := [(1, .int (0 : Int32)), (0, .ref a0)]) (fun _ _ _ _ _ L => lv_istore_n hx hb dX4_meanWord_6 rfl L (by decide) rfl) ?_
  refine x_up (pc' := 8) (fun _ _ _ _ _ L => lv_iconst (v := (0 : Int32)) hx hb dX4_meanWord_7 (by decide)) ?_
  refine x_upL (pc' := 9) (lo' := [(2, .int (0 : Int32)), (1, .int (0 : Int32)), (0, .ref a0)]) (fun _ _ _ _ _ L => lv_istore_n hx hb dX4_meanWord_8 rfl L (by decide) rfl) ?_
  refine x_lo (lo' := [(1, .int (0 : Int32)), (2, .int (0 : Int32)), (0, .ref a0)]) [1, 0, 2] rfl ?_
  refine x_while (v0 := ((0 : Int32), (0 : Int32))) (fun w2 => [(1, .int w2.1), (2, .int w2.2), (0, .ref a0)]) hp1 (fun self3 hself4 => ?_)
  rintro ⟨y6, y7⟩ σ5 hp2
  unfold B_X4_meanWord_9 at hp2
  refine x_same (lo' := [(1, .int y6), (2, .int y7), (0, .ref a0)]) rfl ?_
  refine x_up (pc' := 10) (fun _ _ _ _ _ L => lv_iload_n hx hb dX4_meanWord_9 rfl (lv_at L 1 rfl)) ?_
  refine x_up (pc' := 12) (fun _ _ _ _ _ L => lv_bipush (v := (64 : Int32)) hx hb dX4_meanWord_10 (by decide)) ?_
  refine x_if (C := (64 : Int32) ≤ y7) (pt := 29) (pc' := 15) (fun _ _ _ _ _ => lv_icmp_ge (tgt := 29) hx hb dX4_meanWord_12 (by decide)) (fun c12 => ?_) (fun c12 => ?_)
  · have hp3 := hp2.1 c12
    refine x_up (pc' := 30) (fun _ _ _ _ _ L => lv_iload_n hx hb dX4_meanWord_29 rfl (lv_at L 0 rfl)) ?_
    refine x_up (pc' := 31) (fun _ _ _ _ _ L => lv_i2d hx hb dX4_meanWord_30) ?_
    refine x_up (pc' := 34) (fun _ _ _ _ _ L => lv_ldc2d (v := 4634204016564240384) hx hb hown (hts _ q3639) dX4_meanWord_31) ?_
    obtain ⟨hz34, hp4⟩ := hp3
    refine x_up (pc' := 35) (fun _ _ _ _ _ L => lv_ddiv hx hb dX4_meanWord_34 hz34) ?_
    exact x_dret X hr dX4_meanWord_35 hp4
  · have hp5 := hp2.2 c12
    refine x_up (pc' := 16) (fun _ _ _ _ _ L => lv_iload_n hx hb dX4_meanWord_15 rfl (lv_at L 0 rfl)) ?_
    refine x_up (pc' := 17) (fun _ _ _ _ _ L => lv_aload_n hx hb dX4_meanWord_16 rfl (lv_at L 2 rfl)) ?_
    refine x_up (pc' := 18) (fun _ _ _ _ _ L => lv_iload_n hx hb dX4_meanWord_17 rfl (lv_at L 1 rfl)) ?_
    refine x_callV (em := emI) (fun r st => .int r :: st) (fun _ _ => rfl) 1 X (kX4 hG) (fun σ' KK h => R_X4_wordNow l hl G hG a0 y7 σ' KK h) (lw_V q3487 q3489 qs80 q119 q3490) ⟨rfl, mdX4_wordNow⟩ ⟨Nat.le_of_ble_eq_true rfl, Nat.le_of_ble_eq_true rfl⟩ rfl rfl (Nat.le_of_ble_eq_true rfl) dX4_meanWord_18 hp5.1 hp5.2 (fun v8 σ9 hp6 => ?_)
    refine x_pc (pc' := 21) rfl ?_
    refine x_up (pc' := 22) (fun _ _ _ _ _ L => lv_iadd hx hb dX4_meanWord_21) ?_
    refine x_upL (pc' := 23) (lo' := [(1, .int (y6 + v8)), (2, .int y7), (0, .ref a0)]) (fun _ _ _ _ _ L => lv_istore_n hx hb dX4_meanWord_22 rfl L (by decide) rfl) ?_
    refine x_upL (pc' := 26) (lo' := [(2, .int (y7 + (1 : Int32))), (1, .int (y6 + v8)), (0, .ref a0)]) (fun _ _ _ _ _ L => lv_iinc (v := y7 + (1 : Int32)) hx hb dX4_meanWord_23 L (k := 1) rfl rfl (by decide) rfl) ?_
    refine x_up (pc' := 9) (fun _ _ _ _ _ L => lv_goto (tgt := 9) hx hb dX4_meanWord_26 (by decide)) ?_
    refine x_lo (lo' := [(1, .int (y6 + v8)), (2, .int (y7 + (1 : Int32))), (0, .ref a0)]) [1, 0, 2] rfl ?_
    exact hself4 ((y6 + v8), (y7 + (1 : Int32))) σ9 hp6
-- X4_allPinned
def B_X4_allPinned_4 (κ : Nat → Nat) (K : Int32 → xH → Prop) (f0 : Nat) : ((Int32 × Int32) → xS → Prop) → (Int32 × Int32) → xS → Prop := fun self5003 w5001 σ5002 =>
  (((4 : Int32) ≤ w5001.2 → (K w5001.1 σ5002.1)) ∧ (¬ (4 : Int32) ≤ w5001.2 → (xrc σ5002 f0 10 ∧ xcall (fun τ L => P_X4_pinnedIn κ f0 w5001.2 τ L) σ5002 fun v5004 σ5005 => self5003 ((w5001.1 + v5004), (w5001.2 + (1 : Int32))) σ5005)))
def P_X4_allPinned (κ : Nat → Nat) (a0 : Nat) (σ : xS) (K : Int32 → xH → Prop) : Prop :=
  xwhile (B_X4_allPinned_4 κ K a0) ((0 : Int32), (0 : Int32)) σ
theorem mdX4_allPinned : yX4_allPinned.cls ≠ "java/lang/invoke/MethodHandle" ∧ yX4_allPinned.cls ≠ "java/lang/invoke/VarHandle" ∧ (parseMethodDescriptor yX4_allPinned.desc).map (fun d => d.parameters.length) = some 0 := by decide +kernel
set_option maxHeartbeats 4000000 in
set_option maxRecDepth 100000 in
theorem R_X4_allPinned (l : Launch) (hl : l.stackTraces = false) (G : xG) (hG : G.1.2 = x_cl) (a0 : Nat) (σ : xS) (K : Int32 → xH → Prop) (hp : P_X4_allPinned G.2 a0 σ K) : xM l yX4_allPinned cX4_allPinned 3 (Option.some Jvm.ClassFile.FieldType.int) 1 23 G [(.ref a0)] σ (xlift emI K) := by
  refine x_entry (by decide) (Nat.le_of_ble_eq_true rfl) ?_
  intro p e s m args below meth c X hr hin
  have X : xX p s m args meth c G cX4_allPinned 3 RX4 := X
  have hx := X.1
  have hb := X.2.1
  have hts := X.2.2.2.2.1
  have hown := X.2.2.2.1
  unfold P_X4_allPinned at hp
  refine x_same (lo' := [(0, .ref a0)]) rfl ?_
  refine x_up (pc' := 1) (fun _ _ _ _ _ L => lv_iconst (v := (0 : Int32)) hx hb dX4_allPinned_0 (by decide)) ?_
  refine x_upL (pc' := 2) (lo' := [(1, .int (0 : Int32)), (0, .ref a0)]) (fun _ _ _ _ _ L => lv_istore_n hx hb dX4_allPinned_1 rfl L (by decide) rfl) ?_
  refine x_up (pc' := 3) (fun _ _ _ _ _ L => lv_iconst (v := (0 : Int32)) hx hb dX4_allPinned_2 (by decide)) ?_
  refine x_upL (pc' := 4) (lo' := [(2, .int (0 : Int32)), (1, .int (0 : Int32)), (0, .ref a0)]) (fun _ _ _ _ _ L => lv_istore_n hx hb dX4_allPinned_3 rfl L (by decide) rfl) ?_
  refine x_lo (lo' := [(1, .int (0 : Int32)), (2, .int (0 : Int32)), (0, .ref a0)]) [1, 0, 2] rfl ?_
  refine x_while (v0 := ((0 : Int32), (0 : Int32))) (fun w1 => [(1, .int w1.1), (2, .int w1.2), (0, .ref a0)]) hp (fun self2 hself3 => ?_)
  rintro ⟨y5, y6⟩ σ4 hp1
  unfold B_X4_allPinned_4 at hp1
  refine x_same (lo' := [(1, .int y5), (2, .int y6), (0, .ref a0)]) rfl ?_
  refine x_up (pc' := 5) (fun _ _ _ _ _ L => lv_iload_n hx hb dX4_allPinned_4 rfl (lv_at L 1 rfl)) ?_
  refine x_up (pc' := 6) (fun _ _ _ _ _ L => lv_iconst (v := (4 : Int32)) hx hb dX4_allPinned_5 (by decide)) ?_
  refine x_if (C := (4 : Int32) ≤ y6) (pt := 23) (pc' := 9) (fun _ _ _ _ _ => lv_icmp_ge (tgt := 23) hx hb dX4_allPinned_6 (by decide)) (fun c6 => ?_) (fun c6 => ?_)
  · have hp2 := hp1.1 c6
    refine x_up (pc' := 24) (fun _ _ _ _ _ L => lv_iload_n hx hb dX4_allPinned_23 rfl (lv_at L 0 rfl)) ?_
    exact x_iret X hr rfl dX4_allPinned_24 hp2
  · have hp3 := hp1.2 c6
    refine x_up (pc' := 10) (fun _ _ _ _ _ L => lv_iload_n hx hb dX4_allPinned_9 rfl (lv_at L 0 rfl)) ?_
    refine x_up (pc' := 11) (fun _ _ _ _ _ L => lv_aload_n hx hb dX4_allPinned_10 rfl (lv_at L 2 rfl)) ?_
    refine x_up (pc' := 12) (fun _ _ _ _ _ L => lv_iload_n hx hb dX4_allPinned_11 rfl (lv_at L 1 rfl)) ?_
    refine x_callV (em := emI) (fun r st => .int r :: st) (fun _ _ => rfl) 1 X (kX4 hG) (fun σ' KK h => R_X4_pinnedIn l hl G hG a0 y6 σ' KK h) (lw_V q3447 q3449 qs76 q119 q3450) ⟨rfl, mdX4_pinnedIn⟩ ⟨Nat.le_of_ble_eq_true rfl, Nat.le_of_ble_eq_true rfl⟩ rfl rfl (Nat.le_of_ble_eq_true rfl) dX4_allPinned_12 hp3.1 hp3.2 (fun v7 σ8 hp4 => ?_)
    refine x_pc (pc' := 15) rfl ?_
    refine x_up (pc' := 16) (fun _ _ _ _ _ L => lv_iadd hx hb dX4_allPinned_15) ?_
    refine x_upL (pc' := 17) (lo' := [(1, .int (y5 + v7)), (2, .int y6), (0, .ref a0)]) (fun _ _ _ _ _ L => lv_istore_n hx hb dX4_allPinned_16 rfl L (by decide) rfl) ?_
    refine x_upL (pc' := 20) (lo' := [(2, .int (y6 + (1 : Int32))), (1, .int (y5 + v7)), (0, .ref a0)]) (fun _ _ _ _ _ L => lv_iinc (v := y6 + (1 : Int32)) hx hb dX4_allPinned_17 L (k := 1) rfl rfl (by decide) rfl) ?_
    refine x_up (pc' := 4) (fun _ _ _ _ _ L => lv_goto (tgt := 4) hx hb dX4_allPinned_20 (by decide)) ?_
    refine x_lo (lo' := [(1, .int (y5 + v7)), (2, .int (y6 + (1 : Int32))), (0, .ref a0)]) [1, 0, 2] rfl ?_
    exact hself3 ((y5 + v7), (y6 + (1 : Int32))) σ8 hp4
-- X4_holding
def B_X4_holding_4 (κ : Nat → Nat) (K : Int32 → xH → Prop) (f0 : Nat) : ((Int32 × Int32) → xS → Prop) → (Int32 × Int32) → xS → Prop := fun self5003 w5001 σ5002 =>
  (((16 : Int32) ≤ w5001.2 → (K w5001.1 σ5002.1)) ∧ (¬ (16 : Int32) ≤ w5001.2 → (xgq σ5002 f0 10 0 fun v5004 => xnn v5004 fun b5005 => xai .int σ5002 b5005 ((73 : Int32) + w5001.2) fun v5006 => ((v5006 = (-1 : Int32) → (self5003 ((w5001.1 + (0 : Int32)), (w5001.2 + (1 : Int32))) σ5002)) ∧ (¬ v5006 = (-1 : Int32) → (self5003 ((w5001.1 + (1 : Int32)), (w5001.2 + (1 : Int32))) σ5002))))))
def P_X4_holding (κ : Nat → Nat) (a0 : Nat) (σ : xS) (K : Int32 → xH → Prop) : Prop :=
  xwhile (B_X4_holding_4 κ K a0) ((0 : Int32), (0 : Int32)) σ
theorem mdX4_holding : yX4_holding.cls ≠ "java/lang/invoke/MethodHandle" ∧ yX4_holding.cls ≠ "java/lang/invoke/VarHandle" ∧ (parseMethodDescriptor yX4_holding.desc).map (fun d => d.parameters.length) = some 0 := by decide +kernel
set_option maxHeartbeats 4000000 in
set_option maxRecDepth 100000 in
theorem R_X4_holding (l : Launch) (hl : l.stackTraces = false) (G : xG) (hG : G.1.2 = x_cl) (a0 : Nat) (σ : xS) (K : Int32 → xH → Prop) (hp : P_X4_holding G.2 a0 σ K) : xM l yX4_holding cX4_holding 3 (Option.some Jvm.ClassFile.FieldType.int) 0 0 G [(.ref a0)] σ (xlift emI K) := by
  refine x_entry (by decide) (Nat.le_of_ble_eq_true rfl) ?_
  intro p e s m args below meth c X hr hin
  have X : xX p s m args meth c G cX4_holding 3 RX4 := X
  have hx := X.1
  have hb := X.2.1
  have hts := X.2.2.2.2.1
  have hown := X.2.2.2.1
  unfold P_X4_holding at hp
  refine x_same (lo' := [(0, .ref a0)]) rfl ?_
  refine x_up (pc' := 1) (fun _ _ _ _ _ L => lv_iconst (v := (0 : Int32)) hx hb dX4_holding_0 (by decide)) ?_
  refine x_upL (pc' := 2) (lo' := [(1, .int (0 : Int32)), (0, .ref a0)]) (fun _ _ _ _ _ L => lv_istore_n hx hb dX4_holding_1 rfl L (by decide) rfl) ?_
  refine x_up (pc' := 3) (fun _ _ _ _ _ L => lv_iconst (v := (0 : Int32)) hx hb dX4_holding_2 (by decide)) ?_
  refine x_upL (pc' := 4) (lo' := [(2, .int (0 : Int32)), (1, .int (0 : Int32)), (0, .ref a0)]) (fun _ _ _ _ _ L => lv_istore_n hx hb dX4_holding_3 rfl L (by decide) rfl) ?_
  refine x_lo (lo' := [(1, .int (0 : Int32)), (2, .int (0 : Int32)), (0, .ref a0)]) [1, 0, 2] rfl ?_
  refine x_while (v0 := ((0 : Int32), (0 : Int32))) (fun w1 => [(1, .int w1.1), (2, .int w1.2), (0, .ref a0)]) hp (fun self2 hself3 => ?_)
  rintro ⟨y5, y6⟩ σ4 hp1
  unfold B_X4_holding_4 at hp1
  refine x_same (lo' := [(1, .int y5), (2, .int y6), (0, .ref a0)]) rfl ?_
  refine x_up (pc' := 5) (fun _ _ _ _ _ L => lv_iload_n hx hb dX4_holding_4 rfl (lv_at L 1 rfl)) ?_
  refine x_up (pc' := 7) (fun _ _ _ _ _ L => lv_bipush (v := (16 : Int32)) hx hb dX4_holding_5 (by decide)) ?_
  refine x_if (C := (16 : Int32) ≤ y6) (pt := 37) (pc' := 10) (fun _ _ _ _ _ => lv_icmp_ge (tgt := 37) hx hb dX4_holding_7 (by decide)) (fun c7 => ?_) (fun c7 => ?_)
  · have hp2 := hp1.1 c7
    refine x_up (pc' := 38) (fun _ _ _ _ _ L => lv_iload_n hx hb dX4_holding_37 rfl (lv_at L 0 rfl)) ?_
    exact x_iret X hr rfl dX4_holding_38 hp2
  · have hp3 := hp1.2 c7
    refine x_up (pc' := 11) (fun _ _ _ _ _ L => lv_iload_n hx hb dX4_holding_10 rfl (lv_at L 0 rfl)) ?_
    refine x_up (pc' := 12) (fun _ _ _ _ _ L => lv_aload_n hx hb dX4_holding_11 rfl (lv_at L 2 rfl)) ?_
    refine x_gq X (kX4 hG) 0 (by decide) q3266 (fun _ h => h) dX4_holding_12 hp3 (fun v7 hp4 => ?_)
    refine x_pc (pc' := 15) rfl ?_
    refine x_up (pc' := 17) (fun _ _ _ _ _ L => lv_bipush (v := (73 : Int32)) hx hb dX4_holding_15 (by decide)) ?_
    refine x_up (pc' := 18) (fun _ _ _ _ _ L => lv_iload_n hx hb dX4_holding_17 rfl (lv_at L 1 rfl)) ?_
    refine x_up (pc' := 19) (fun _ _ _ _ _ L => lv_iadd hx hb dX4_holding_18) ?_
    obtain ⟨b8, rfl, hp5⟩ := hp4
    refine x_iald X dX4_holding_19 hp5 (fun v9 hp6 => ?_)
    refine x_pc (pc' := 20) rfl ?_
    refine x_up (pc' := 21) (fun _ _ _ _ _ L => lv_iconst (v := (-1 : Int32)) hx hb dX4_holding_20 (by decide)) ?_
    refine x_ifn (C := v9 = (-1 : Int32)) (pt := 28) (pc' := 24) (fun _ _ _ _ _ => lv_icmp_ne (tgt := 28) hx hb dX4_holding_21 (by decide)) (fun c21 => ?_) (fun c21 => ?_)
    · have hp7 := hp6.1 c21
      refine x_up (pc' := 25) (fun _ _ _ _ _ L => lv_iconst (v := (0 : Int32)) hx hb dX4_holding_24 (by decide)) ?_
      refine x_up (pc' := 29) (fun _ _ _ _ _ L => lv_goto (tgt := 29) hx hb dX4_holding_25 (by decide)) ?_
      refine x_up (pc' := 30) (fun _ _ _ _ _ L => lv_iadd hx hb dX4_holding_29) ?_
      refine x_upL (pc' := 31) (lo' := [(1, .int (y5 + (0 : Int32))), (2, .int y6), (0, .ref a0)]) (fun _ _ _ _ _ L => lv_istore_n hx hb dX4_holding_30 rfl L (by decide) rfl) ?_
      refine x_upL (pc' := 34) (lo' := [(2, .int (y6 + (1 : Int32))), (1, .int (y5 + (0 : Int32))), (0, .ref a0)]) (fun _ _ _ _ _ L => lv_iinc (v := y6 + (1 : Int32)) hx hb dX4_holding_31 L (k := 1) rfl rfl (by decide) rfl) ?_
      refine x_up (pc' := 4) (fun _ _ _ _ _ L => lv_goto (tgt := 4) hx hb dX4_holding_34 (by decide)) ?_
      refine x_lo (lo' := [(1, .int (y5 + (0 : Int32))), (2, .int (y6 + (1 : Int32))), (0, .ref a0)]) [1, 0, 2] rfl ?_
      exact hself3 ((y5 + (0 : Int32)), (y6 + (1 : Int32))) σ4 hp7
    · have hp8 := hp6.2 c21
      refine x_up (pc' := 29) (fun _ _ _ _ _ L => lv_iconst (v := (1 : Int32)) hx hb dX4_holding_28 (by decide)) ?_
      refine x_up (pc' := 30) (fun _ _ _ _ _ L => lv_iadd hx hb dX4_holding_29) ?_
      refine x_upL (pc' := 31) (lo' := [(1, .int (y5 + (1 : Int32))), (2, .int y6), (0, .ref a0)]) (fun _ _ _ _ _ L => lv_istore_n hx hb dX4_holding_30 rfl L (by decide) rfl) ?_
      refine x_upL (pc' := 34) (lo' := [(2, .int (y6 + (1 : Int32))), (1, .int (y5 + (1 : Int32))), (0, .ref a0)]) (fun _ _ _ _ _ L => lv_iinc (v := y6 + (1 : Int32)) hx hb dX4_holding_31 L (k := 1) rfl rfl (by decide) rfl) ?_
      refine x_up (pc' := 4) (fun _ _ _ _ _ L => lv_goto (tgt := 4) hx hb dX4_holding_34 (by decide)) ?_
      refine x_lo (lo' := [(1, .int (y5 + (1 : Int32))), (2, .int (y6 + (1 : Int32))), (0, .ref a0)]) [1, 0, 2] rfl ?_
      exact hself3 ((y5 + (1 : Int32)), (y6 + (1 : Int32))) σ4 hp8
-- X4_account
def P_X4_account (κ : Nat → Nat) (a0 : Nat) (x1 : Int32) (σ : xS) (K : Int32 → xH → Prop) : Prop :=
  ((x1 = (0 : Int32) → (xgq σ a0 10 0 fun v91 => xnn v91 fun b92 => xai .int σ b92 x1 fun v93 => xrc σ a0 10 ∧ xcall (fun τ L => P_X4_done κ a0 v93 τ L) σ fun v94 σ95 => K v94 σ95.1)) ∧ (¬ x1 = (0 : Int32) → ((x1 = (1 : Int32) → (xgq σ a0 10 0 fun v86 => xnn v86 fun b87 => xai .int σ b87 x1 fun v88 => xrc σ a0 10 ∧ xcall (fun τ L => P_X4_done κ a0 v88 τ L) σ fun v89 σ90 => K v89 σ90.1)) ∧ (¬ x1 = (1 : Int32) → ((x1 = (2 : Int32) → (xgq σ a0 10 0 fun v81 => xnn v81 fun b82 => xai .int σ b82 x1 fun v83 => xrc σ a0 10 ∧ xcall (fun τ L => P_X4_done κ a0 v83 τ L) σ fun v84 σ85 => K v84 σ85.1)) ∧ (¬ x1 = (2 : Int32) → ((x1 = (3 : Int32) → (xgq σ a0 10 0 fun v76 => xnn v76 fun b77 => xai .int σ b77 x1 fun v78 => xrc σ a0 10 ∧ xcall (fun τ L => P_X4_done κ a0 v78 τ L) σ fun v79 σ80 => K v79 σ80.1)) ∧ (¬ x1 = (3 : Int32) → ((x1 = (4 : Int32) → (xgq σ a0 10 0 fun v71 => xnn v71 fun b72 => xai .int σ b72 x1 fun v73 => xrc σ a0 10 ∧ xcall (fun τ L => P_X4_done κ a0 v73 τ L) σ fun v74 σ75 => K v74 σ75.1)) ∧ (¬ x1 = (4 : Int32) → ((x1 = (5 : Int32) → (xrc σ a0 10 ∧ xcall (fun τ L => P_X4_holding κ a0 τ L) σ fun v67 σ68 => xrc σ68 a0 10 ∧ xcall (fun τ L => P_X4_done κ a0 v67 τ L) σ68 fun v69 σ70 => K v69 σ70.1)) ∧ (¬ x1 = (5 : Int32) → ((x1 = (6 : Int32) → (xrc σ a0 10 ∧ xcall (fun τ L => P_X4_allPinned κ a0 τ L) σ fun v63 σ64 => xrc σ64 a0 10 ∧ xcall (fun τ L => P_X4_done κ a0 v63 τ L) σ64 fun v65 σ66 => K v65 σ66.1)) ∧ (¬ x1 = (6 : Int32) → ((x1 = (7 : Int32) → (xrc σ a0 10 ∧ xcall (fun τ L => P_X4_dirtyWords κ a0 τ L) σ fun v59 σ60 => xrc σ60 a0 10 ∧ xcall (fun τ L => P_X4_done κ a0 v59 τ L) σ60 fun v61 σ62 => K v61 σ62.1)) ∧ (¬ x1 = (7 : Int32) → ((x1 = (8 : Int32) → (xgq σ a0 10 0 fun v54 => xnn v54 fun b55 => xai .int σ b55 (((283 : Int32) + x1) - (8 : Int32)) fun v56 => xrc σ a0 10 ∧ xcall (fun τ L => P_X4_done κ a0 v56 τ L) σ fun v57 σ58 => K v57 σ58.1)) ∧ (¬ x1 = (8 : Int32) → ((x1 = (9 : Int32) → (xgq σ a0 10 0 fun v49 => xnn v49 fun b50 => xai .int σ b50 (((283 : Int32) + x1) - (8 : Int32)) fun v51 => xrc σ a0 10 ∧ xcall (fun τ L => P_X4_done κ a0 v51 τ L) σ fun v52 σ53 => K v52 σ53.1)) ∧ (¬ x1 = (9 : Int32) → ((x1 = (10 : Int32) → (xgq σ a0 10 0 fun v44 => xnn v44 fun b45 => xai .int σ b45 (((283 : Int32) + x1) - (8 : Int32)) fun v46 => xrc σ a0 10 ∧ xcall (fun τ L => P_X4_done κ a0 v46 τ L) σ fun v47 σ48 => K v47 σ48.1)) ∧ (¬ x1 = (10 : Int32) → ((x1 = (11 : Int32) → (xgq σ a0 10 0 fun v39 => xnn v39 fun b40 => xai .int σ b40 (((283 : Int32) + x1) - (8 : Int32)) fun v41 => xrc σ a0 10 ∧ xcall (fun τ L => P_X4_done κ a0 v41 τ L) σ fun v42 σ43 => K v42 σ43.1)) ∧ (¬ x1 = (11 : Int32) → ((x1 = (12 : Int32) → (xgq σ a0 10 0 fun v34 => xnn v34 fun b35 => xai .int σ b35 (((283 : Int32) + x1) - (8 : Int32)) fun v36 => xrc σ a0 10 ∧ xcall (fun τ L => P_X4_done κ a0 v36 τ L) σ fun v37 σ38 => K v37 σ38.1)) ∧ (¬ x1 = (12 : Int32) → ((x1 = (13 : Int32) → (xgq σ a0 10 0 fun v29 => xnn v29 fun b30 => xai .int σ b30 (((283 : Int32) + x1) - (8 : Int32)) fun v31 => xrc σ a0 10 ∧ xcall (fun τ L => P_X4_done κ a0 v31 τ L) σ fun v32 σ33 => K v32 σ33.1)) ∧ (¬ x1 = (13 : Int32) → ((x1 = (14 : Int32) → (xgq σ a0 10 0 fun v24 => xnn v24 fun b25 => xai .int σ b25 (((283 : Int32) + x1) - (8 : Int32)) fun v26 => xrc σ a0 10 ∧ xcall (fun τ L => P_X4_done κ a0 v26 τ L) σ fun v27 σ28 => K v27 σ28.1)) ∧ (¬ x1 = (14 : Int32) → ((x1 = (15 : Int32) → (xgq σ a0 10 0 fun v19 => xnn v19 fun b20 => xai .int σ b20 (((283 : Int32) + x1) - (8 : Int32)) fun v21 => xrc σ a0 10 ∧ xcall (fun τ L => P_X4_done κ a0 v21 τ L) σ fun v22 σ23 => K v22 σ23.1)) ∧ (¬ x1 = (15 : Int32) → ((x1 = (16 : Int32) → (xgq σ a0 10 0 fun v14 => xnn v14 fun b15 => xai .int σ b15 (((283 : Int32) + x1) - (8 : Int32)) fun v16 => xrc σ a0 10 ∧ xcall (fun τ L => P_X4_done κ a0 v16 τ L) σ fun v17 σ18 => K v17 σ18.1)) ∧ (¬ x1 = (16 : Int32) → ((x1 = (17 : Int32) → (xgq σ a0 10 0 fun v9 => xnn v9 fun b10 => xai .int σ b10 (((283 : Int32) + x1) - (8 : Int32)) fun v11 => xrc σ a0 10 ∧ xcall (fun τ L => P_X4_done κ a0 v11 τ L) σ fun v12 σ13 => K v12 σ13.1)) ∧ (¬ x1 = (17 : Int32) → ((x1 = (18 : Int32) → (xgi σ a0 10 8 fun v6 => xrc σ a0 10 ∧ xcall (fun τ L => P_X4_done κ a0 v6 τ L) σ fun v7 σ8 => K v7 σ8.1)) ∧ (¬ x1 = (18 : Int32) → ((x1 = (19 : Int32) → (xgi σ a0 10 3 fun v3 => xrc σ a0 10 ∧ xcall (fun τ L => P_X4_done κ a0 v3 τ L) σ fun v4 σ5 => K v4 σ5.1)) ∧ (¬ x1 = (19 : Int32) → (xrc σ a0 10 ∧ xcall (fun τ L => P_X4_fails κ a0 (1 : Int32) τ L) σ fun v1 σ2 => K v1 σ2.1)))))))))))))))))))))))))))))))))))))))))
theorem mdX4_account : yX4_account.cls ≠ "java/lang/invoke/MethodHandle" ∧ yX4_account.cls ≠ "java/lang/invoke/VarHandle" ∧ (parseMethodDescriptor yX4_account.desc).map (fun d => d.parameters.length) = some 1 := by decide +kernel
set_option maxHeartbeats 4000000 in
set_option maxRecDepth 100000 in
theorem R_X4_account (l : Launch) (hl : l.stackTraces = false) (G : xG) (hG : G.1.2 = x_cl) (a0 : Nat) (x1 : Int32) (σ : xS) (K : Int32 → xH → Prop) (hp : P_X4_account G.2 a0 x1 σ K) : xM l yX4_account cX4_account 2 (Option.some Jvm.ClassFile.FieldType.int) 2 45 G [(.ref a0), .int x1] σ (xlift emI K) := by
  refine x_entry (by decide) (Nat.le_of_ble_eq_true rfl) ?_
  intro p e s m args below meth c X hr hin
  have X : xX p s m args meth c G cX4_account 2 RX4 := X
  have hx := X.1
  have hb := X.2.1
  have hts := X.2.2.2.2.1
  have hown := X.2.2.2.1
  unfold P_X4_account at hp
  refine x_same (lo' := [(0, .ref a0), (1, .int x1)]) rfl ?_
  refine x_up (pc' := 1) (fun _ _ _ _ _ L => lv_iload_n hx hb dX4_account_0 rfl (lv_at L 1 rfl)) ?_
  by_cases c1_0 : x1 = (0 : Int32)
  · have hp1 := hp.1 c1_0
    refine x_up (pc' := 96) (fun _ _ _ _ _ L => lv_tableIn (off := 95) (tgt := 96) hx hb dX4_account_1 (by rw [c1_0]; decide) (by rw [c1_0]; decide) (by rw [c1_0]; rfl) (by decide)) ?_
    refine x_up (pc' := 97) (fun _ _ _ _ _ L => lv_aload_n hx hb dX4_account_96 rfl (lv_at L 0 rfl)) ?_
    refine x_up (pc' := 98) (fun _ _ _ _ _ L => lv_aload_n hx hb dX4_account_97 rfl (lv_at L 0 rfl)) ?_
    refine x_gq X (kX4 hG) 0 (by decide) q3266 (fun _ h => h) dX4_account_98 hp1 (fun v1 hp2 => ?_)
    refine x_pc (pc' := 101) rfl ?_
    refine x_up (pc' := 102) (fun _ _ _ _ _ L => lv_iload_n hx hb dX4_account_101 rfl (lv_at L 1 rfl)) ?_
    obtain ⟨b2, rfl, hp3⟩ := hp2
    refine x_iald X dX4_account_102 hp3 (fun v3 hp4 => ?_)
    refine x_pc (pc' := 103) rfl ?_
    refine x_callV (em := emI) (fun r st => .int r :: st) (fun _ _ => rfl) 1 X (kX4 hG) (fun σ' KK h => R_X4_done l hl G hG a0 v3 σ' KK h) (lw_V q3404 q3406 qs70 q119 q3407) ⟨rfl, mdX4_done⟩ ⟨Nat.le_of_ble_eq_true rfl, Nat.le_of_ble_eq_true rfl⟩ rfl rfl (Nat.le_of_ble_eq_true rfl) dX4_account_103 hp4.1 hp4.2 (fun v4 σ5 hp5 => ?_)
    refine x_pc (pc' := 106) rfl ?_
    exact x_iret X hr rfl dX4_account_106 hp5
  have hp6 := hp.2 c1_0
  by_cases c1_1 : x1 = (1 : Int32)
  · have hp7 := hp6.1 c1_1
    refine x_up (pc' := 96) (fun _ _ _ _ _ L => lv_tableIn (off := 95) (tgt := 96) hx hb dX4_account_1 (by rw [c1_1]; decide) (by rw [c1_1]; decide) (by rw [c1_1]; rfl) (by decide)) ?_
    refine x_up (pc' := 97) (fun _ _ _ _ _ L => lv_aload_n hx hb dX4_account_96 rfl (lv_at L 0 rfl)) ?_
    refine x_up (pc' := 98) (fun _ _ _ _ _ L => lv_aload_n hx hb dX4_account_97 rfl (lv_at L 0 rfl)) ?_
    refine x_gq X (kX4 hG) 0 (by decide) q3266 (fun _ h => h) dX4_account_98 hp7 (fun v6 hp8 => ?_)
    refine x_pc (pc' := 101) rfl ?_
    refine x_up (pc' := 102) (fun _ _ _ _ _ L => lv_iload_n hx hb dX4_account_101 rfl (lv_at L 1 rfl)) ?_
    obtain ⟨b7, rfl, hp9⟩ := hp8
    refine x_iald X dX4_account_102 hp9 (fun v8 hp10 => ?_)
    refine x_pc (pc' := 103) rfl ?_
    refine x_callV (em := emI) (fun r st => .int r :: st) (fun _ _ => rfl) 1 X (kX4 hG) (fun σ' KK h => R_X4_done l hl G hG a0 v8 σ' KK h) (lw_V q3404 q3406 qs70 q119 q3407) ⟨rfl, mdX4_done⟩ ⟨Nat.le_of_ble_eq_true rfl, Nat.le_of_ble_eq_true rfl⟩ rfl rfl (Nat.le_of_ble_eq_true rfl) dX4_account_103 hp10.1 hp10.2 (fun v9 σ10 hp11 => ?_)
    refine x_pc (pc' := 106) rfl ?_
    exact x_iret X hr rfl dX4_account_106 hp11
  have hp12 := hp6.2 c1_1
  by_cases c1_2 : x1 = (2 : Int32)
  · have hp13 := hp12.1 c1_2
    refine x_up (pc' := 96) (fun _ _ _ _ _ L => lv_tableIn (off := 95) (tgt := 96) hx hb dX4_account_1 (by rw [c1_2]; decide) (by rw [c1_2]; decide) (by rw [c1_2]; rfl) (by decide)) ?_
    refine x_up (pc' := 97) (fun _ _ _ _ _ L => lv_aload_n hx hb dX4_account_96 rfl (lv_at L 0 rfl)) ?_
    refine x_up (pc' := 98) (fun _ _ _ _ _ L => lv_aload_n hx hb dX4_account_97 rfl (lv_at L 0 rfl)) ?_
    refine x_gq X (kX4 hG) 0 (by decide) q3266 (fun _ h => h) dX4_account_98 hp13 (fun v11 hp14 => ?_)
    refine x_pc (pc' := 101) rfl ?_
    refine x_up (pc' := 102) (fun _ _ _ _ _ L => lv_iload_n hx hb dX4_account_101 rfl (lv_at L 1 rfl)) ?_
    obtain ⟨b12, rfl, hp15⟩ := hp14
    refine x_iald X dX4_account_102 hp15 (fun v13 hp16 => ?_)
    refine x_pc (pc' := 103) rfl ?_
    refine x_callV (em := emI) (fun r st => .int r :: st) (fun _ _ => rfl) 1 X (kX4 hG) (fun σ' KK h => R_X4_done l hl G hG a0 v13 σ' KK h) (lw_V q3404 q3406 qs70 q119 q3407) ⟨rfl, mdX4_done⟩ ⟨Nat.le_of_ble_eq_true rfl, Nat.le_of_ble_eq_true rfl⟩ rfl rfl (Nat.le_of_ble_eq_true rfl) dX4_account_103 hp16.1 hp16.2 (fun v14 σ15 hp17 => ?_)
    refine x_pc (pc' := 106) rfl ?_
    exact x_iret X hr rfl dX4_account_106 hp17
  have hp18 := hp12.2 c1_2
  by_cases c1_3 : x1 = (3 : Int32)
  · have hp19 := hp18.1 c1_3
    refine x_up (pc' := 96) (fun _ _ _ _ _ L => lv_tableIn (off := 95) (tgt := 96) hx hb dX4_account_1 (by rw [c1_3]; decide) (by rw [c1_3]; decide) (by rw [c1_3]; rfl) (by decide)) ?_
    refine x_up (pc' := 97) (fun _ _ _ _ _ L => lv_aload_n hx hb dX4_account_96 rfl (lv_at L 0 rfl)) ?_
    refine x_up (pc' := 98) (fun _ _ _ _ _ L => lv_aload_n hx hb dX4_account_97 rfl (lv_at L 0 rfl)) ?_
    refine x_gq X (kX4 hG) 0 (by decide) q3266 (fun _ h => h) dX4_account_98 hp19 (fun v16 hp20 => ?_)
    refine x_pc (pc' := 101) rfl ?_
    refine x_up (pc' := 102) (fun _ _ _ _ _ L => lv_iload_n hx hb dX4_account_101 rfl (lv_at L 1 rfl)) ?_
    obtain ⟨b17, rfl, hp21⟩ := hp20
    refine x_iald X dX4_account_102 hp21 (fun v18 hp22 => ?_)
    refine x_pc (pc' := 103) rfl ?_
    refine x_callV (em := emI) (fun r st => .int r :: st) (fun _ _ => rfl) 1 X (kX4 hG) (fun σ' KK h => R_X4_done l hl G hG a0 v18 σ' KK h) (lw_V q3404 q3406 qs70 q119 q3407) ⟨rfl, mdX4_done⟩ ⟨Nat.le_of_ble_eq_true rfl, Nat.le_of_ble_eq_true rfl⟩ rfl rfl (Nat.le_of_ble_eq_true rfl) dX4_account_103 hp22.1 hp22.2 (fun v19 σ20 hp23 => ?_)
    refine x_pc (pc' := 106) rfl ?_
    exact x_iret X hr rfl dX4_account_106 hp23
  have hp24 := hp18.2 c1_3
  by_cases c1_4 : x1 = (4 : Int32)
  · have hp25 := hp24.1 c1_4
    refine x_up (pc' := 96) (fun _ _ _ _ _ L => lv_tableIn (off := 95) (tgt := 96) hx hb dX4_account_1 (by rw [c1_4]; decide) (by rw [c1_4]; decide) (by rw [c1_4]; rfl) (by decide)) ?_
    refine x_up (pc' := 97) (fun _ _ _ _ _ L => lv_aload_n hx hb dX4_account_96 rfl (lv_at L 0 rfl)) ?_
    refine x_up (pc' := 98) (fun _ _ _ _ _ L => lv_aload_n hx hb dX4_account_97 rfl (lv_at L 0 rfl)) ?_
    refine x_gq X (kX4 hG) 0 (by decide) q3266 (fun _ h => h) dX4_account_98 hp25 (fun v21 hp26 => ?_)
    refine x_pc (pc' := 101) rfl ?_
    refine x_up (pc' := 102) (fun _ _ _ _ _ L => lv_iload_n hx hb dX4_account_101 rfl (lv_at L 1 rfl)) ?_
    obtain ⟨b22, rfl, hp27⟩ := hp26
    refine x_iald X dX4_account_102 hp27 (fun v23 hp28 => ?_)
    refine x_pc (pc' := 103) rfl ?_
    refine x_callV (em := emI) (fun r st => .int r :: st) (fun _ _ => rfl) 1 X (kX4 hG) (fun σ' KK h => R_X4_done l hl G hG a0 v23 σ' KK h) (lw_V q3404 q3406 qs70 q119 q3407) ⟨rfl, mdX4_done⟩ ⟨Nat.le_of_ble_eq_true rfl, Nat.le_of_ble_eq_true rfl⟩ rfl rfl (Nat.le_of_ble_eq_true rfl) dX4_account_103 hp28.1 hp28.2 (fun v24 σ25 hp29 => ?_)
    refine x_pc (pc' := 106) rfl ?_
    exact x_iret X hr rfl dX4_account_106 hp29
  have hp30 := hp24.2 c1_4
  by_cases c1_5 : x1 = (5 : Int32)
  · have hp31 := hp30.1 c1_5
    refine x_up (pc' := 107) (fun _ _ _ _ _ L => lv_tableIn (off := 106) (tgt := 107) hx hb dX4_account_1 (by rw [c1_5]; decide) (by rw [c1_5]; decide) (by rw [c1_5]; rfl) (by decide)) ?_
    refine x_up (pc' := 108) (fun _ _ _ _ _ L => lv_aload_n hx hb dX4_account_107 rfl (lv_at L 0 rfl)) ?_
    refine x_up (pc' := 109) (fun _ _ _ _ _ L => lv_aload_n hx hb dX4_account_108 rfl (lv_at L 0 rfl)) ?_
    refine x_callV (em := emI) (fun r st => .int r :: st) (fun _ _ => rfl) 0 X (kX4 hG) (fun σ' KK h => R_X4_holding l hl G hG a0 σ' KK h) (lw_V q3644 q3646 qs95 q119 q3647) ⟨rfl, mdX4_holding⟩ ⟨Nat.le_of_ble_eq_true rfl, Nat.le_of_ble_eq_true rfl⟩ rfl rfl (Nat.le_of_ble_eq_true rfl) dX4_account_109 hp31.1 hp31.2 (fun v26 σ27 hp32 => ?_)
    refine x_pc (pc' := 112) rfl ?_
    refine x_callV (em := emI) (fun r st => .int r :: st) (fun _ _ => rfl) 1 X (kX4 hG) (fun σ' KK h => R_X4_done l hl G hG a0 v26 σ' KK h) (lw_V q3404 q3406 qs70 q119 q3407) ⟨rfl, mdX4_done⟩ ⟨Nat.le_of_ble_eq_true rfl, Nat.le_of_ble_eq_true rfl⟩ rfl rfl (Nat.le_of_ble_eq_true rfl) dX4_account_112 hp32.1 hp32.2 (fun v28 σ29 hp33 => ?_)
    refine x_pc (pc' := 115) rfl ?_
    exact x_iret X hr rfl dX4_account_115 hp33
  have hp34 := hp30.2 c1_5
  by_cases c1_6 : x1 = (6 : Int32)
  · have hp35 := hp34.1 c1_6
    refine x_up (pc' := 116) (fun _ _ _ _ _ L => lv_tableIn (off := 115) (tgt := 116) hx hb dX4_account_1 (by rw [c1_6]; decide) (by rw [c1_6]; decide) (by rw [c1_6]; rfl) (by decide)) ?_
    refine x_up (pc' := 117) (fun _ _ _ _ _ L => lv_aload_n hx hb dX4_account_116 rfl (lv_at L 0 rfl)) ?_
    refine x_up (pc' := 118) (fun _ _ _ _ _ L => lv_aload_n hx hb dX4_account_117 rfl (lv_at L 0 rfl)) ?_
    refine x_callV (em := emI) (fun r st => .int r :: st) (fun _ _ => rfl) 0 X (kX4 hG) (fun σ' KK h => R_X4_allPinned l hl G hG a0 σ' KK h) (lw_V q3648 q3650 qs96 q119 q3651) ⟨rfl, mdX4_allPinned⟩ ⟨Nat.le_of_ble_eq_true rfl, Nat.le_of_ble_eq_true rfl⟩ rfl rfl (Nat.le_of_ble_eq_true rfl) dX4_account_118 hp35.1 hp35.2 (fun v30 σ31 hp36 => ?_)
    refine x_pc (pc' := 121) rfl ?_
    refine x_callV (em := emI) (fun r st => .int r :: st) (fun _ _ => rfl) 1 X (kX4 hG) (fun σ' KK h => R_X4_done l hl G hG a0 v30 σ' KK h) (lw_V q3404 q3406 qs70 q119 q3407) ⟨rfl, mdX4_done⟩ ⟨Nat.le_of_ble_eq_true rfl, Nat.le_of_ble_eq_true rfl⟩ rfl rfl (Nat.le_of_ble_eq_true rfl) dX4_account_121 hp36.1 hp36.2 (fun v32 σ33 hp37 => ?_)
    refine x_pc (pc' := 124) rfl ?_
    exact x_iret X hr rfl dX4_account_124 hp37
  have hp38 := hp34.2 c1_6
  by_cases c1_7 : x1 = (7 : Int32)
  · have hp39 := hp38.1 c1_7
    refine x_up (pc' := 125) (fun _ _ _ _ _ L => lv_tableIn (off := 124) (tgt := 125) hx hb dX4_account_1 (by rw [c1_7]; decide) (by rw [c1_7]; decide) (by rw [c1_7]; rfl) (by decide)) ?_
    refine x_up (pc' := 126) (fun _ _ _ _ _ L => lv_aload_n hx hb dX4_account_125 rfl (lv_at L 0 rfl)) ?_
    refine x_up (pc' := 127) (fun _ _ _ _ _ L => lv_aload_n hx hb dX4_account_126 rfl (lv_at L 0 rfl)) ?_
    refine x_callV (em := emI) (fun r st => .int r :: st) (fun _ _ => rfl) 0 X (kX4 hG) (fun σ' KK h => R_X4_dirtyWords l hl G hG a0 σ' KK h) (lw_V q3463 q3465 qs78 q119 q3466) ⟨rfl, mdX4_dirtyWords⟩ ⟨Nat.le_of_ble_eq_true rfl, Nat.le_of_ble_eq_true rfl⟩ rfl rfl (Nat.le_of_ble_eq_true rfl) dX4_account_127 hp39.1 hp39.2 (fun v34 σ35 hp40 => ?_)
    refine x_pc (pc' := 130) rfl ?_
    refine x_callV (em := emI) (fun r st => .int r :: st) (fun _ _ => rfl) 1 X (kX4 hG) (fun σ' KK h => R_X4_done l hl G hG a0 v34 σ' KK h) (lw_V q3404 q3406 qs70 q119 q3407) ⟨rfl, mdX4_done⟩ ⟨Nat.le_of_ble_eq_true rfl, Nat.le_of_ble_eq_true rfl⟩ rfl rfl (Nat.le_of_ble_eq_true rfl) dX4_account_130 hp40.1 hp40.2 (fun v36 σ37 hp41 => ?_)
    refine x_pc (pc' := 133) rfl ?_
    exact x_iret X hr rfl dX4_account_133 hp41
  have hp42 := hp38.2 c1_7
  by_cases c1_8 : x1 = (8 : Int32)
  · have hp43 := hp42.1 c1_8
    refine x_up (pc' := 134) (fun _ _ _ _ _ L => lv_tableIn (off := 133) (tgt := 134) hx hb dX4_account_1 (by rw [c1_8]; decide) (by rw [c1_8]; decide) (by rw [c1_8]; rfl) (by decide)) ?_
    refine x_up (pc' := 135) (fun _ _ _ _ _ L => lv_aload_n hx hb dX4_account_134 rfl (lv_at L 0 rfl)) ?_
    refine x_up (pc' := 136) (fun _ _ _ _ _ L => lv_aload_n hx hb dX4_account_135 rfl (lv_at L 0 rfl)) ?_
    refine x_gq X (kX4 hG) 0 (by decide) q3266 (fun _ h => h) dX4_account_136 hp43 (fun v38 hp44 => ?_)
    refine x_pc (pc' := 139) rfl ?_
    refine x_up (pc' := 142) (fun _ _ _ _ _ L => lv_sipush (v := (283 : Int32)) hx hb dX4_account_139 (by decide)) ?_
    refine x_up (pc' := 143) (fun _ _ _ _ _ L => lv_iload_n hx hb dX4_account_142 rfl (lv_at L 1 rfl)) ?_
    refine x_up (pc' := 144) (fun _ _ _ _ _ L => lv_iadd hx hb dX4_account_143) ?_
    refine x_up (pc' := 146) (fun _ _ _ _ _ L => lv_bipush (v := (8 : Int32)) hx hb dX4_account_144 (by decide)) ?_
    refine x_up (pc' := 147) (fun _ _ _ _ _ L => lv_isub hx hb dX4_account_146) ?_
    obtain ⟨b39, rfl, hp45⟩ := hp44
    refine x_iald X dX4_account_147 hp45 (fun v40 hp46 => ?_)
    refine x_pc (pc' := 148) rfl ?_
    refine x_callV (em := emI) (fun r st => .int r :: st) (fun _ _ => rfl) 1 X (kX4 hG) (fun σ' KK h => R_X4_done l hl G hG a0 v40 σ' KK h) (lw_V q3404 q3406 qs70 q119 q3407) ⟨rfl, mdX4_done⟩ ⟨Nat.le_of_ble_eq_true rfl, Nat.le_of_ble_eq_true rfl⟩ rfl rfl (Nat.le_of_ble_eq_true rfl) dX4_account_148 hp46.1 hp46.2 (fun v41 σ42 hp47 => ?_)
    refine x_pc (pc' := 151) rfl ?_
    exact x_iret X hr rfl dX4_account_151 hp47
  have hp48 := hp42.2 c1_8
  by_cases c1_9 : x1 = (9 : Int32)
  · have hp49 := hp48.1 c1_9
    refine x_up (pc' := 134) (fun _ _ _ _ _ L => lv_tableIn (off := 133) (tgt := 134) hx hb dX4_account_1 (by rw [c1_9]; decide) (by rw [c1_9]; decide) (by rw [c1_9]; rfl) (by decide)) ?_
    refine x_up (pc' := 135) (fun _ _ _ _ _ L => lv_aload_n hx hb dX4_account_134 rfl (lv_at L 0 rfl)) ?_
    refine x_up (pc' := 136) (fun _ _ _ _ _ L => lv_aload_n hx hb dX4_account_135 rfl (lv_at L 0 rfl)) ?_
    refine x_gq X (kX4 hG) 0 (by decide) q3266 (fun _ h => h) dX4_account_136 hp49 (fun v43 hp50 => ?_)
    refine x_pc (pc' := 139) rfl ?_
    refine x_up (pc' := 142) (fun _ _ _ _ _ L => lv_sipush (v := (283 : Int32)) hx hb dX4_account_139 (by decide)) ?_
    refine x_up (pc' := 143) (fun _ _ _ _ _ L => lv_iload_n hx hb dX4_account_142 rfl (lv_at L 1 rfl)) ?_
    refine x_up (pc' := 144) (fun _ _ _ _ _ L => lv_iadd hx hb dX4_account_143) ?_
    refine x_up (pc' := 146) (fun _ _ _ _ _ L => lv_bipush (v := (8 : Int32)) hx hb dX4_account_144 (by decide)) ?_
    refine x_up (pc' := 147) (fun _ _ _ _ _ L => lv_isub hx hb dX4_account_146) ?_
    obtain ⟨b44, rfl, hp51⟩ := hp50
    refine x_iald X dX4_account_147 hp51 (fun v45 hp52 => ?_)
    refine x_pc (pc' := 148) rfl ?_
    refine x_callV (em := emI) (fun r st => .int r :: st) (fun _ _ => rfl) 1 X (kX4 hG) (fun σ' KK h => R_X4_done l hl G hG a0 v45 σ' KK h) (lw_V q3404 q3406 qs70 q119 q3407) ⟨rfl, mdX4_done⟩ ⟨Nat.le_of_ble_eq_true rfl, Nat.le_of_ble_eq_true rfl⟩ rfl rfl (Nat.le_of_ble_eq_true rfl) dX4_account_148 hp52.1 hp52.2 (fun v46 σ47 hp53 => ?_)
    refine x_pc (pc' := 151) rfl ?_
    exact x_iret X hr rfl dX4_account_151 hp53
  have hp54 := hp48.2 c1_9
  by_cases c1_10 : x1 = (10 : Int32)
  · have hp55 := hp54.1 c1_10
    refine x_up (pc' := 134) (fun _ _ _ _ _ L => lv_tableIn (off := 133) (tgt := 134) hx hb dX4_account_1 (by rw [c1_10]; decide) (by rw [c1_10]; decide) (by rw [c1_10]; rfl) (by decide)) ?_
    refine x_up (pc' := 135) (fun _ _ _ _ _ L => lv_aload_n hx hb dX4_account_134 rfl (lv_at L 0 rfl)) ?_
    refine x_up (pc' := 136) (fun _ _ _ _ _ L => lv_aload_n hx hb dX4_account_135 rfl (lv_at L 0 rfl)) ?_
    refine x_gq X (kX4 hG) 0 (by decide) q3266 (fun _ h => h) dX4_account_136 hp55 (fun v48 hp56 => ?_)
    refine x_pc (pc' := 139) rfl ?_
    refine x_up (pc' := 142) (fun _ _ _ _ _ L => lv_sipush (v := (283 : Int32)) hx hb dX4_account_139 (by decide)) ?_
    refine x_up (pc' := 143) (fun _ _ _ _ _ L => lv_iload_n hx hb dX4_account_142 rfl (lv_at L 1 rfl)) ?_
    refine x_up (pc' := 144) (fun _ _ _ _ _ L => lv_iadd hx hb dX4_account_143) ?_
    refine x_up (pc' := 146) (fun _ _ _ _ _ L => lv_bipush (v := (8 : Int32)) hx hb dX4_account_144 (by decide)) ?_
    refine x_up (pc' := 147) (fun _ _ _ _ _ L => lv_isub hx hb dX4_account_146) ?_
    obtain ⟨b49, rfl, hp57⟩ := hp56
    refine x_iald X dX4_account_147 hp57 (fun v50 hp58 => ?_)
    refine x_pc (pc' := 148) rfl ?_
    refine x_callV (em := emI) (fun r st => .int r :: st) (fun _ _ => rfl) 1 X (kX4 hG) (fun σ' KK h => R_X4_done l hl G hG a0 v50 σ' KK h) (lw_V q3404 q3406 qs70 q119 q3407) ⟨rfl, mdX4_done⟩ ⟨Nat.le_of_ble_eq_true rfl, Nat.le_of_ble_eq_true rfl⟩ rfl rfl (Nat.le_of_ble_eq_true rfl) dX4_account_148 hp58.1 hp58.2 (fun v51 σ52 hp59 => ?_)
    refine x_pc (pc' := 151) rfl ?_
    exact x_iret X hr rfl dX4_account_151 hp59
  have hp60 := hp54.2 c1_10
  by_cases c1_11 : x1 = (11 : Int32)
  · have hp61 := hp60.1 c1_11
    refine x_up (pc' := 134) (fun _ _ _ _ _ L => lv_tableIn (off := 133) (tgt := 134) hx hb dX4_account_1 (by rw [c1_11]; decide) (by rw [c1_11]; decide) (by rw [c1_11]; rfl) (by decide)) ?_
    refine x_up (pc' := 135) (fun _ _ _ _ _ L => lv_aload_n hx hb dX4_account_134 rfl (lv_at L 0 rfl)) ?_
    refine x_up (pc' := 136) (fun _ _ _ _ _ L => lv_aload_n hx hb dX4_account_135 rfl (lv_at L 0 rfl)) ?_
    refine x_gq X (kX4 hG) 0 (by decide) q3266 (fun _ h => h) dX4_account_136 hp61 (fun v53 hp62 => ?_)
    refine x_pc (pc' := 139) rfl ?_
    refine x_up (pc' := 142) (fun _ _ _ _ _ L => lv_sipush (v := (283 : Int32)) hx hb dX4_account_139 (by decide)) ?_
    refine x_up (pc' := 143) (fun _ _ _ _ _ L => lv_iload_n hx hb dX4_account_142 rfl (lv_at L 1 rfl)) ?_
    refine x_up (pc' := 144) (fun _ _ _ _ _ L => lv_iadd hx hb dX4_account_143) ?_
    refine x_up (pc' := 146) (fun _ _ _ _ _ L => lv_bipush (v := (8 : Int32)) hx hb dX4_account_144 (by decide)) ?_
    refine x_up (pc' := 147) (fun _ _ _ _ _ L => lv_isub hx hb dX4_account_146) ?_
    obtain ⟨b54, rfl, hp63⟩ := hp62
    refine x_iald X dX4_account_147 hp63 (fun v55 hp64 => ?_)
    refine x_pc (pc' := 148) rfl ?_
    refine x_callV (em := emI) (fun r st => .int r :: st) (fun _ _ => rfl) 1 X (kX4 hG) (fun σ' KK h => R_X4_done l hl G hG a0 v55 σ' KK h) (lw_V q3404 q3406 qs70 q119 q3407) ⟨rfl, mdX4_done⟩ ⟨Nat.le_of_ble_eq_true rfl, Nat.le_of_ble_eq_true rfl⟩ rfl rfl (Nat.le_of_ble_eq_true rfl) dX4_account_148 hp64.1 hp64.2 (fun v56 σ57 hp65 => ?_)
    refine x_pc (pc' := 151) rfl ?_
    exact x_iret X hr rfl dX4_account_151 hp65
  have hp66 := hp60.2 c1_11
  by_cases c1_12 : x1 = (12 : Int32)
  · have hp67 := hp66.1 c1_12
    refine x_up (pc' := 134) (fun _ _ _ _ _ L => lv_tableIn (off := 133) (tgt := 134) hx hb dX4_account_1 (by rw [c1_12]; decide) (by rw [c1_12]; decide) (by rw [c1_12]; rfl) (by decide)) ?_
    refine x_up (pc' := 135) (fun _ _ _ _ _ L => lv_aload_n hx hb dX4_account_134 rfl (lv_at L 0 rfl)) ?_
    refine x_up (pc' := 136) (fun _ _ _ _ _ L => lv_aload_n hx hb dX4_account_135 rfl (lv_at L 0 rfl)) ?_
    refine x_gq X (kX4 hG) 0 (by decide) q3266 (fun _ h => h) dX4_account_136 hp67 (fun v58 hp68 => ?_)
    refine x_pc (pc' := 139) rfl ?_
    refine x_up (pc' := 142) (fun _ _ _ _ _ L => lv_sipush (v := (283 : Int32)) hx hb dX4_account_139 (by decide)) ?_
    refine x_up (pc' := 143) (fun _ _ _ _ _ L => lv_iload_n hx hb dX4_account_142 rfl (lv_at L 1 rfl)) ?_
    refine x_up (pc' := 144) (fun _ _ _ _ _ L => lv_iadd hx hb dX4_account_143) ?_
    refine x_up (pc' := 146) (fun _ _ _ _ _ L => lv_bipush (v := (8 : Int32)) hx hb dX4_account_144 (by decide)) ?_
    refine x_up (pc' := 147) (fun _ _ _ _ _ L => lv_isub hx hb dX4_account_146) ?_
    obtain ⟨b59, rfl, hp69⟩ := hp68
    refine x_iald X dX4_account_147 hp69 (fun v60 hp70 => ?_)
    refine x_pc (pc' := 148) rfl ?_
    refine x_callV (em := emI) (fun r st => .int r :: st) (fun _ _ => rfl) 1 X (kX4 hG) (fun σ' KK h => R_X4_done l hl G hG a0 v60 σ' KK h) (lw_V q3404 q3406 qs70 q119 q3407) ⟨rfl, mdX4_done⟩ ⟨Nat.le_of_ble_eq_true rfl, Nat.le_of_ble_eq_true rfl⟩ rfl rfl (Nat.le_of_ble_eq_true rfl) dX4_account_148 hp70.1 hp70.2 (fun v61 σ62 hp71 => ?_)
    refine x_pc (pc' := 151) rfl ?_
    exact x_iret X hr rfl dX4_account_151 hp71
  have hp72 := hp66.2 c1_12
  by_cases c1_13 : x1 = (13 : Int32)
  · have hp73 := hp72.1 c1_13
    refine x_up (pc' := 134) (fun _ _ _ _ _ L => lv_tableIn (off := 133) (tgt := 134) hx hb dX4_account_1 (by rw [c1_13]; decide) (by rw [c1_13]; decide) (by rw [c1_13]; rfl) (by decide)) ?_
    refine x_up (pc' := 135) (fun _ _ _ _ _ L => lv_aload_n hx hb dX4_account_134 rfl (lv_at L 0 rfl)) ?_
    refine x_up (pc' := 136) (fun _ _ _ _ _ L => lv_aload_n hx hb dX4_account_135 rfl (lv_at L 0 rfl)) ?_
    refine x_gq X (kX4 hG) 0 (by decide) q3266 (fun _ h => h) dX4_account_136 hp73 (fun v63 hp74 => ?_)
    refine x_pc (pc' := 139) rfl ?_
    refine x_up (pc' := 142) (fun _ _ _ _ _ L => lv_sipush (v := (283 : Int32)) hx hb dX4_account_139 (by decide)) ?_
    refine x_up (pc' := 143) (fun _ _ _ _ _ L => lv_iload_n hx hb dX4_account_142 rfl (lv_at L 1 rfl)) ?_
    refine x_up (pc' := 144) (fun _ _ _ _ _ L => lv_iadd hx hb dX4_account_143) ?_
    refine x_up (pc' := 146) (fun _ _ _ _ _ L => lv_bipush (v := (8 : Int32)) hx hb dX4_account_144 (by decide)) ?_
    refine x_up (pc' := 147) (fun _ _ _ _ _ L => lv_isub hx hb dX4_account_146) ?_
    obtain ⟨b64, rfl, hp75⟩ := hp74
    refine x_iald X dX4_account_147 hp75 (fun v65 hp76 => ?_)
    refine x_pc (pc' := 148) rfl ?_
    refine x_callV (em := emI) (fun r st => .int r :: st) (fun _ _ => rfl) 1 X (kX4 hG) (fun σ' KK h => R_X4_done l hl G hG a0 v65 σ' KK h) (lw_V q3404 q3406 qs70 q119 q3407) ⟨rfl, mdX4_done⟩ ⟨Nat.le_of_ble_eq_true rfl, Nat.le_of_ble_eq_true rfl⟩ rfl rfl (Nat.le_of_ble_eq_true rfl) dX4_account_148 hp76.1 hp76.2 (fun v66 σ67 hp77 => ?_)
    refine x_pc (pc' := 151) rfl ?_
    exact x_iret X hr rfl dX4_account_151 hp77
  have hp78 := hp72.2 c1_13
  by_cases c1_14 : x1 = (14 : Int32)
  · have hp79 := hp78.1 c1_14
    refine x_up (pc' := 134) (fun _ _ _ _ _ L => lv_tableIn (off := 133) (tgt := 134) hx hb dX4_account_1 (by rw [c1_14]; decide) (by rw [c1_14]; decide) (by rw [c1_14]; rfl) (by decide)) ?_
    refine x_up (pc' := 135) (fun _ _ _ _ _ L => lv_aload_n hx hb dX4_account_134 rfl (lv_at L 0 rfl)) ?_
    refine x_up (pc' := 136) (fun _ _ _ _ _ L => lv_aload_n hx hb dX4_account_135 rfl (lv_at L 0 rfl)) ?_
    refine x_gq X (kX4 hG) 0 (by decide) q3266 (fun _ h => h) dX4_account_136 hp79 (fun v68 hp80 => ?_)
    refine x_pc (pc' := 139) rfl ?_
    refine x_up (pc' := 142) (fun _ _ _ _ _ L => lv_sipush (v := (283 : Int32)) hx hb dX4_account_139 (by decide)) ?_
    refine x_up (pc' := 143) (fun _ _ _ _ _ L => lv_iload_n hx hb dX4_account_142 rfl (lv_at L 1 rfl)) ?_
    refine x_up (pc' := 144) (fun _ _ _ _ _ L => lv_iadd hx hb dX4_account_143) ?_
    refine x_up (pc' := 146) (fun _ _ _ _ _ L => lv_bipush (v := (8 : Int32)) hx hb dX4_account_144 (by decide)) ?_
    refine x_up (pc' := 147) (fun _ _ _ _ _ L => lv_isub hx hb dX4_account_146) ?_
    obtain ⟨b69, rfl, hp81⟩ := hp80
    refine x_iald X dX4_account_147 hp81 (fun v70 hp82 => ?_)
    refine x_pc (pc' := 148) rfl ?_
    refine x_callV (em := emI) (fun r st => .int r :: st) (fun _ _ => rfl) 1 X (kX4 hG) (fun σ' KK h => R_X4_done l hl G hG a0 v70 σ' KK h) (lw_V q3404 q3406 qs70 q119 q3407) ⟨rfl, mdX4_done⟩ ⟨Nat.le_of_ble_eq_true rfl, Nat.le_of_ble_eq_true rfl⟩ rfl rfl (Nat.le_of_ble_eq_true rfl) dX4_account_148 hp82.1 hp82.2 (fun v71 σ72 hp83 => ?_)
    refine x_pc (pc' := 151) rfl ?_
    exact x_iret X hr rfl dX4_account_151 hp83
  have hp84 := hp78.2 c1_14
  by_cases c1_15 : x1 = (15 : Int32)
  · have hp85 := hp84.1 c1_15
    refine x_up (pc' := 134) (fun _ _ _ _ _ L => lv_tableIn (off := 133) (tgt := 134) hx hb dX4_account_1 (by rw [c1_15]; decide) (by rw [c1_15]; decide) (by rw [c1_15]; rfl) (by decide)) ?_
    refine x_up (pc' := 135) (fun _ _ _ _ _ L => lv_aload_n hx hb dX4_account_134 rfl (lv_at L 0 rfl)) ?_
    refine x_up (pc' := 136) (fun _ _ _ _ _ L => lv_aload_n hx hb dX4_account_135 rfl (lv_at L 0 rfl)) ?_
    refine x_gq X (kX4 hG) 0 (by decide) q3266 (fun _ h => h) dX4_account_136 hp85 (fun v73 hp86 => ?_)
    refine x_pc (pc' := 139) rfl ?_
    refine x_up (pc' := 142) (fun _ _ _ _ _ L => lv_sipush (v := (283 : Int32)) hx hb dX4_account_139 (by decide)) ?_
    refine x_up (pc' := 143) (fun _ _ _ _ _ L => lv_iload_n hx hb dX4_account_142 rfl (lv_at L 1 rfl)) ?_
    refine x_up (pc' := 144) (fun _ _ _ _ _ L => lv_iadd hx hb dX4_account_143) ?_
    refine x_up (pc' := 146) (fun _ _ _ _ _ L => lv_bipush (v := (8 : Int32)) hx hb dX4_account_144 (by decide)) ?_
    refine x_up (pc' := 147) (fun _ _ _ _ _ L => lv_isub hx hb dX4_account_146) ?_
    obtain ⟨b74, rfl, hp87⟩ := hp86
    refine x_iald X dX4_account_147 hp87 (fun v75 hp88 => ?_)
    refine x_pc (pc' := 148) rfl ?_
    refine x_callV (em := emI) (fun r st => .int r :: st) (fun _ _ => rfl) 1 X (kX4 hG) (fun σ' KK h => R_X4_done l hl G hG a0 v75 σ' KK h) (lw_V q3404 q3406 qs70 q119 q3407) ⟨rfl, mdX4_done⟩ ⟨Nat.le_of_ble_eq_true rfl, Nat.le_of_ble_eq_true rfl⟩ rfl rfl (Nat.le_of_ble_eq_true rfl) dX4_account_148 hp88.1 hp88.2 (fun v76 σ77 hp89 => ?_)
    refine x_pc (pc' := 151) rfl ?_
    exact x_iret X hr rfl dX4_account_151 hp89
  have hp90 := hp84.2 c1_15
  by_cases c1_16 : x1 = (16 : Int32)
  · have hp91 := hp90.1 c1_16
    refine x_up (pc' := 134) (fun _ _ _ _ _ L => lv_tableIn (off := 133) (tgt := 134) hx hb dX4_account_1 (by rw [c1_16]; decide) (by rw [c1_16]; decide) (by rw [c1_16]; rfl) (by decide)) ?_
    refine x_up (pc' := 135) (fun _ _ _ _ _ L => lv_aload_n hx hb dX4_account_134 rfl (lv_at L 0 rfl)) ?_
    refine x_up (pc' := 136) (fun _ _ _ _ _ L => lv_aload_n hx hb dX4_account_135 rfl (lv_at L 0 rfl)) ?_
    refine x_gq X (kX4 hG) 0 (by decide) q3266 (fun _ h => h) dX4_account_136 hp91 (fun v78 hp92 => ?_)
    refine x_pc (pc' := 139) rfl ?_
    refine x_up (pc' := 142) (fun _ _ _ _ _ L => lv_sipush (v := (283 : Int32)) hx hb dX4_account_139 (by decide)) ?_
    refine x_up (pc' := 143) (fun _ _ _ _ _ L => lv_iload_n hx hb dX4_account_142 rfl (lv_at L 1 rfl)) ?_
    refine x_up (pc' := 144) (fun _ _ _ _ _ L => lv_iadd hx hb dX4_account_143) ?_
    refine x_up (pc' := 146) (fun _ _ _ _ _ L => lv_bipush (v := (8 : Int32)) hx hb dX4_account_144 (by decide)) ?_
    refine x_up (pc' := 147) (fun _ _ _ _ _ L => lv_isub hx hb dX4_account_146) ?_
    obtain ⟨b79, rfl, hp93⟩ := hp92
    refine x_iald X dX4_account_147 hp93 (fun v80 hp94 => ?_)
    refine x_pc (pc' := 148) rfl ?_
    refine x_callV (em := emI) (fun r st => .int r :: st) (fun _ _ => rfl) 1 X (kX4 hG) (fun σ' KK h => R_X4_done l hl G hG a0 v80 σ' KK h) (lw_V q3404 q3406 qs70 q119 q3407) ⟨rfl, mdX4_done⟩ ⟨Nat.le_of_ble_eq_true rfl, Nat.le_of_ble_eq_true rfl⟩ rfl rfl (Nat.le_of_ble_eq_true rfl) dX4_account_148 hp94.1 hp94.2 (fun v81 σ82 hp95 => ?_)
    refine x_pc (pc' := 151) rfl ?_
    exact x_iret X hr rfl dX4_account_151 hp95
  have hp96 := hp90.2 c1_16
  by_cases c1_17 : x1 = (17 : Int32)
  · have hp97 := hp96.1 c1_17
    refine x_up (pc' := 134) (fun _ _ _ _ _ L => lv_tableIn (off := 133) (tgt := 134) hx hb dX4_account_1 (by rw [c1_17]; decide) (by rw [c1_17]; decide) (by rw [c1_17]; rfl) (by decide)) ?_
    refine x_up (pc' := 135) (fun _ _ _ _ _ L => lv_aload_n hx hb dX4_account_134 rfl (lv_at L 0 rfl)) ?_
    refine x_up (pc' := 136) (fun _ _ _ _ _ L => lv_aload_n hx hb dX4_account_135 rfl (lv_at L 0 rfl)) ?_
    refine x_gq X (kX4 hG) 0 (by decide) q3266 (fun _ h => h) dX4_account_136 hp97 (fun v83 hp98 => ?_)
    refine x_pc (pc' := 139) rfl ?_
    refine x_up (pc' := 142) (fun _ _ _ _ _ L => lv_sipush (v := (283 : Int32)) hx hb dX4_account_139 (by decide)) ?_
    refine x_up (pc' := 143) (fun _ _ _ _ _ L => lv_iload_n hx hb dX4_account_142 rfl (lv_at L 1 rfl)) ?_
    refine x_up (pc' := 144) (fun _ _ _ _ _ L => lv_iadd hx hb dX4_account_143) ?_
    refine x_up (pc' := 146) (fun _ _ _ _ _ L => lv_bipush (v := (8 : Int32)) hx hb dX4_account_144 (by decide)) ?_
    refine x_up (pc' := 147) (fun _ _ _ _ _ L => lv_isub hx hb dX4_account_146) ?_
    obtain ⟨b84, rfl, hp99⟩ := hp98
    refine x_iald X dX4_account_147 hp99 (fun v85 hp100 => ?_)
    refine x_pc (pc' := 148) rfl ?_
    refine x_callV (em := emI) (fun r st => .int r :: st) (fun _ _ => rfl) 1 X (kX4 hG) (fun σ' KK h => R_X4_done l hl G hG a0 v85 σ' KK h) (lw_V q3404 q3406 qs70 q119 q3407) ⟨rfl, mdX4_done⟩ ⟨Nat.le_of_ble_eq_true rfl, Nat.le_of_ble_eq_true rfl⟩ rfl rfl (Nat.le_of_ble_eq_true rfl) dX4_account_148 hp100.1 hp100.2 (fun v86 σ87 hp101 => ?_)
    refine x_pc (pc' := 151) rfl ?_
    exact x_iret X hr rfl dX4_account_151 hp101
  have hp102 := hp96.2 c1_17
  by_cases c1_18 : x1 = (18 : Int32)
  · have hp103 := hp102.1 c1_18
    refine x_up (pc' := 152) (fun _ _ _ _ _ L => lv_tableIn (off := 151) (tgt := 152) hx hb dX4_account_1 (by rw [c1_18]; decide) (by rw [c1_18]; decide) (by rw [c1_18]; rfl) (by decide)) ?_
    refine x_up (pc' := 153) (fun _ _ _ _ _ L => lv_aload_n hx hb dX4_account_152 rfl (lv_at L 0 rfl)) ?_
    refine x_up (pc' := 154) (fun _ _ _ _ _ L => lv_aload_n hx hb dX4_account_153 rfl (lv_at L 0 rfl)) ?_
    refine x_gi X (kX4 hG) 8 (by decide) q3274 (fun _ h => h) dX4_account_154 hp103 (fun v88 hp104 => ?_)
    refine x_pc (pc' := 157) rfl ?_
    refine x_callV (em := emI) (fun r st => .int r :: st) (fun _ _ => rfl) 1 X (kX4 hG) (fun σ' KK h => R_X4_done l hl G hG a0 v88 σ' KK h) (lw_V q3404 q3406 qs70 q119 q3407) ⟨rfl, mdX4_done⟩ ⟨Nat.le_of_ble_eq_true rfl, Nat.le_of_ble_eq_true rfl⟩ rfl rfl (Nat.le_of_ble_eq_true rfl) dX4_account_157 hp104.1 hp104.2 (fun v89 σ90 hp105 => ?_)
    refine x_pc (pc' := 160) rfl ?_
    exact x_iret X hr rfl dX4_account_160 hp105
  have hp106 := hp102.2 c1_18
  by_cases c1_19 : x1 = (19 : Int32)
  · have hp107 := hp106.1 c1_19
    refine x_up (pc' := 161) (fun _ _ _ _ _ L => lv_tableIn (off := 160) (tgt := 161) hx hb dX4_account_1 (by rw [c1_19]; decide) (by rw [c1_19]; decide) (by rw [c1_19]; rfl) (by decide)) ?_
    refine x_up (pc' := 162) (fun _ _ _ _ _ L => lv_aload_n hx hb dX4_account_161 rfl (lv_at L 0 rfl)) ?_
    refine x_up (pc' := 163) (fun _ _ _ _ _ L => lv_aload_n hx hb dX4_account_162 rfl (lv_at L 0 rfl)) ?_
    refine x_gi X (kX4 hG) 3 (by decide) q3269 (fun _ h => h) dX4_account_163 hp107 (fun v91 hp108 => ?_)
    refine x_pc (pc' := 166) rfl ?_
    refine x_callV (em := emI) (fun r st => .int r :: st) (fun _ _ => rfl) 1 X (kX4 hG) (fun σ' KK h => R_X4_done l hl G hG a0 v91 σ' KK h) (lw_V q3404 q3406 qs70 q119 q3407) ⟨rfl, mdX4_done⟩ ⟨Nat.le_of_ble_eq_true rfl, Nat.le_of_ble_eq_true rfl⟩ rfl rfl (Nat.le_of_ble_eq_true rfl) dX4_account_166 hp108.1 hp108.2 (fun v92 σ93 hp109 => ?_)
    refine x_pc (pc' := 169) rfl ?_
    exact x_iret X hr rfl dX4_account_169 hp109
  have hp110 := hp106.2 c1_19
  refine x_up (pc' := 170) (fun _ _ _ _ _ L => lv_tableOut (tgt := 170) hx hb dX4_account_1 (x_tabOut 0 20 (by decide) (by decide) (by decide) (lt_s (lt_s (lt_s (lt_s (lt_s (lt_s (lt_s (lt_s (lt_s (lt_s (lt_s (lt_s (lt_s (lt_s (lt_s (lt_s (lt_s (lt_s (lt_s (lt_s lt_0 c1_0) c1_1) c1_2) c1_3) c1_4) c1_5) c1_6) c1_7) c1_8) c1_9) c1_10) c1_11) c1_12) c1_13) c1_14) c1_15) c1_16) c1_17) c1_18) c1_19)) (by decide)) ?_
  refine x_up (pc' := 171) (fun _ _ _ _ _ L => lv_aload_n hx hb dX4_account_170 rfl (lv_at L 0 rfl)) ?_
  refine x_up (pc' := 172) (fun _ _ _ _ _ L => lv_iconst (v := (1 : Int32)) hx hb dX4_account_171 (by decide)) ?_
  refine x_callV (em := emI) (fun r st => .int r :: st) (fun _ _ => rfl) 1 X (kX4 hG) (fun σ' KK h => R_X4_fails l hl G hG a0 (1 : Int32) σ' KK h) (lw_V q3357 q3359 qs59 q119 q3360) ⟨rfl, mdX4_fails⟩ ⟨Nat.le_of_ble_eq_true rfl, Nat.le_of_ble_eq_true rfl⟩ rfl rfl (Nat.le_of_ble_eq_true rfl) dX4_account_172 hp110.1 hp110.2 (fun v94 σ95 hp111 => ?_)
  refine x_pc (pc' := 175) rfl ?_
  exact x_iret X hr rfl dX4_account_175 hp111
-- X4_isLineRight
def B_X4_isLineRight_4 (κ : Nat → Nat) (K : Int32 → xH → Prop) (f0 : Nat) (f1 : Int32) : ((Int32 × Int32) → xS → Prop) → (Int32 × Int32) → xS → Prop := fun self5003 w5001 σ5002 =>
  (((4 : Int32) ≤ w5001.2 → ((narrow .boolean (.int w5001.1) = .int w5001.1 ∧ K w5001.1 σ5002.1))) ∧ (¬ (4 : Int32) ≤ w5001.2 → (xgq σ5002 f0 10 0 fun v5004 => xnn v5004 fun b5005 => xai .int σ5002 b5005 ((73 : Int32) + f1) fun v5006 => ((v5006 = (-1 : Int32) → ((narrow .boolean (.int w5001.1) = .int w5001.1 ∧ K w5001.1 σ5002.1))) ∧ (¬ v5006 = (-1 : Int32) → (xgq σ5002 f0 10 0 fun v5007 => xnn v5007 fun b5008 => xai .int σ5002 b5008 ((89 : Int32) + f1) fun v5009 => ((((v5009 >>> (w5001.2 &&& 31)) &&& (1 : Int32)) = (1 : Int32) → (((w5001.1 = 0 → (self5003 ((0 : Int32), (w5001.2 + (1 : Int32))) σ5002)) ∧ (¬ w5001.1 = 0 → ((((1 : Int32) = 0 → (xgq σ5002 f0 10 0 fun v5010 => xnn v5010 fun b5011 => xai .int σ5002 b5011 (((169 : Int32) + ((4 : Int32) * f1)) + w5001.2) fun v5012 => xgq σ5002 f0 10 0 fun v5013 => xgq σ5002 f0 10 0 fun v5014 => xnn v5014 fun b5015 => xai .int σ5002 b5015 ((73 : Int32) + f1) fun v5016 => xnn v5013 fun b5017 => xai .int σ5002 b5017 (((5 : Int32) + ((4 : Int32) * v5016)) + w5001.2) fun v5018 => ((v5012 = v5018 → (self5003 ((1 : Int32), (w5001.2 + (1 : Int32))) σ5002)) ∧ (¬ v5012 = v5018 → (self5003 ((0 : Int32), (w5001.2 + (1 : Int32))) σ5002))))) ∧ (¬ (1 : Int32) = 0 → (self5003 ((1 : Int32), (w5001.2 + (1 : Int32))) σ5002)))))))) ∧ (¬ ((v5009 >>> (w5001.2 &&& 31)) &&& (1 : Int32)) = (1 : Int32) → (((w5001.1 = 0 → (self5003 ((0 : Int32), (w5001.2 + (1 : Int32))) σ5002)) ∧ (¬ w5001.1 = 0 → ((((0 : Int32) = 0 → (xgq σ5002 f0 10 0 fun v5019 => xnn v5019 fun b5020 => xai .int σ5002 b5020 (((169 : Int32) + ((4 : Int32) * f1)) + w5001.2) fun v5021 => xgq σ5002 f0 10 0 fun v5022 => xgq σ5002 f0 10 0 fun v5023 => xnn v5023 fun b5024 => xai .int σ5002 b5024 ((73 : Int32) + f1) fun v5025 => xnn v5022 fun b5026 => xai .int σ5002 b5026 (((5 : Int32) + ((4 : Int32) * v5025)) + w5001.2) fun v5027 => ((v5021 = v5027 → (self5003 ((1 : Int32), (w5001.2 + (1 : Int32))) σ5002)) ∧ (¬ v5021 = v5027 → (self5003 ((0 : Int32), (w5001.2 + (1 : Int32))) σ5002))))) ∧ (¬ (0 : Int32) = 0 → (self5003 ((1 : Int32), (w5001.2 + (1 : Int32))) σ5002)))))))))))))))
def P_X4_isLineRight (κ : Nat → Nat) (a0 : Nat) (x1 : Int32) (σ : xS) (K : Int32 → xH → Prop) : Prop :=
  xwhile (B_X4_isLineRight_4 κ K a0 x1) ((1 : Int32), (0 : Int32)) σ
theorem mdX4_isLineRight : yX4_isLineRight.cls ≠ "java/lang/invoke/MethodHandle" ∧ yX4_isLineRight.cls ≠ "java/lang/invoke/VarHandle" ∧ (parseMethodDescriptor yX4_isLineRight.desc).map (fun d => d.parameters.length) = some 1 := by decide +kernel
set_option maxHeartbeats 4000000 in
set_option maxRecDepth 100000 in
theorem R_X4_isLineRight (l : Launch) (hl : l.stackTraces = false) (G : xG) (hG : G.1.2 = x_cl) (a0 : Nat) (x1 : Int32) (σ : xS) (K : Int32 → xH → Prop) (hp : P_X4_isLineRight G.2 a0 x1 σ K) : xM l yX4_isLineRight cX4_isLineRight 5 (Option.some Jvm.ClassFile.FieldType.boolean) 0 0 G [(.ref a0), .int x1] σ (xlift emI K) := by
  refine x_entry (by decide) (Nat.le_of_ble_eq_true rfl) ?_
  intro p e s m args below meth c X hr hin
  have X : xX p s m args meth c G cX4_isLineRight 5 RX4 := X
  have hx := X.1
  have hb := X.2.1
  have hts := X.2.2.2.2.1
  have hown := X.2.2.2.1
  unfold P_X4_isLineRight at hp
  refine x_same (lo' := [(0, .ref a0), (1, .int x1)]) rfl ?_
  refine x_up (pc' := 1) (fun _ _ _ _ _ L => lv_iconst (v := (1 : Int32)) hx hb dX4_isLineRight_0 (by decide)) ?_
  refine x_upL (pc' := 2) (lo' := [(2, .int (1 : Int32)), (0, .ref a0), (1, .int x1)]) (fun _ _ _ _ _ L => lv_istore_n hx hb dX4_isLineRight_1 rfl L (by decide) rfl) ?_
  refine x_up (pc' := 3) (fun _ _ _ _ _ L => lv_iconst (v := (0 : Int32)) hx hb dX4_isLineRight_2 (by decide)) ?_
  refine x_upL (pc' := 4) (lo' := [(3, .int (0 : Int32)), (2, .int (1 : Int32)), (0, .ref a0), (1, .int x1)]) (fun _ _ _ _ _ L => lv_istore_n hx hb dX4_isLineRight_3 rfl L (by decide) rfl) ?_
  refine x_lo (lo' := [(2, .int (1 : Int32)), (3, .int (0 : Int32)), (0, .ref a0), (1, .int x1)]) [1, 0, 2, 3] rfl ?_
  refine x_while (v0 := ((1 : Int32), (0 : Int32))) (fun w1 => [(2, .int w1.1), (3, .int w1.2), (0, .ref a0), (1, .int x1)]) hp (fun self2 hself3 => ?_)
  rintro ⟨y5, y6⟩ σ4 hp1
  unfold B_X4_isLineRight_4 at hp1
  refine x_same (lo' := [(2, .int y5), (3, .int y6), (0, .ref a0), (1, .int x1)]) rfl ?_
  refine x_up (pc' := 5) (fun _ _ _ _ _ L => lv_iload_n hx hb dX4_isLineRight_4 rfl (lv_at L 1 rfl)) ?_
  refine x_up (pc' := 6) (fun _ _ _ _ _ L => lv_iconst (v := (4 : Int32)) hx hb dX4_isLineRight_5 (by decide)) ?_
  refine x_if (C := (4 : Int32) ≤ y6) (pt := 104) (pc' := 9) (fun _ _ _ _ _ => lv_icmp_ge (tgt := 104) hx hb dX4_isLineRight_6 (by decide)) (fun c6 => ?_) (fun c6 => ?_)
  · have hp2 := hp1.1 c6
    refine x_up (pc' := 105) (fun _ _ _ _ _ L => lv_iload_n hx hb dX4_isLineRight_104 rfl (lv_at L 0 rfl)) ?_
    exact x_iret X hr hp2.1 dX4_isLineRight_105 hp2.2
  · have hp3 := hp1.2 c6
    refine x_up (pc' := 10) (fun _ _ _ _ _ L => lv_aload_n hx hb dX4_isLineRight_9 rfl (lv_at L 2 rfl)) ?_
    refine x_gq X (kX4 hG) 0 (by decide) q3266 (fun _ h => h) dX4_isLineRight_10 hp3 (fun v7 hp4 => ?_)
    refine x_pc (pc' := 13) rfl ?_
    refine x_up (pc' := 15) (fun _ _ _ _ _ L => lv_bipush (v := (73 : Int32)) hx hb dX4_isLineRight_13 (by decide)) ?_
    refine x_up (pc' := 16) (fun _ _ _ _ _ L => lv_iload_n hx hb dX4_isLineRight_15 rfl (lv_at L 3 rfl)) ?_
    refine x_up (pc' := 17) (fun _ _ _ _ _ L => lv_iadd hx hb dX4_isLineRight_16) ?_
    obtain ⟨b8, rfl, hp5⟩ := hp4
    refine x_iald X dX4_isLineRight_17 hp5 (fun v9 hp6 => ?_)
    refine x_pc (pc' := 18) rfl ?_
    refine x_up (pc' := 19) (fun _ _ _ _ _ L => lv_iconst (v := (-1 : Int32)) hx hb dX4_isLineRight_18 (by decide)) ?_
    refine x_if (C := v9 = (-1 : Int32)) (pt := 104) (pc' := 22) (fun _ _ _ _ _ => lv_icmp_eq (tgt := 104) hx hb dX4_isLineRight_19 (by decide)) (fun c19 => ?_) (fun c19 => ?_)
    · have hp7 := hp6.1 c19
      refine x_up (pc' := 105) (fun _ _ _ _ _ L => lv_iload_n hx hb dX4_isLineRight_104 rfl (lv_at L 0 rfl)) ?_
      exact x_iret X hr hp7.1 dX4_isLineRight_105 hp7.2
    · have hp8 := hp6.2 c19
      refine x_up (pc' := 23) (fun _ _ _ _ _ L => lv_aload_n hx hb dX4_isLineRight_22 rfl (lv_at L 2 rfl)) ?_
      refine x_gq X (kX4 hG) 0 (by decide) q3266 (fun _ h => h) dX4_isLineRight_23 hp8 (fun v10 hp9 => ?_)
      refine x_pc (pc' := 26) rfl ?_
      refine x_up (pc' := 28) (fun _ _ _ _ _ L => lv_bipush (v := (89 : Int32)) hx hb dX4_isLineRight_26 (by decide)) ?_
      refine x_up (pc' := 29) (fun _ _ _ _ _ L => lv_iload_n hx hb dX4_isLineRight_28 rfl (lv_at L 3 rfl)) ?_
      refine x_up (pc' := 30) (fun _ _ _ _ _ L => lv_iadd hx hb dX4_isLineRight_29) ?_
      obtain ⟨b11, rfl, hp10⟩ := hp9
      refine x_iald X dX4_isLineRight_30 hp10 (fun v12 hp11 => ?_)
      refine x_pc (pc' := 31) rfl ?_
      refine x_up (pc' := 32) (fun _ _ _ _ _ L => lv_iload_n hx hb dX4_isLineRight_31 rfl (lv_at L 1 rfl)) ?_
      refine x_up (pc' := 33) (fun _ _ _ _ _ L => lv_ishr hx hb dX4_isLineRight_32) ?_
      refine x_up (pc' := 34) (fun _ _ _ _ _ L => lv_iconst (v := (1 : Int32)) hx hb dX4_isLineRight_33 (by decide)) ?_
      refine x_up (pc' := 35) (fun _ _ _ _ _ L => lv_iand hx hb dX4_isLineRight_34) ?_
      refine x_up (pc' := 36) (fun _ _ _ _ _ L => lv_iconst (v := (1 : Int32)) hx hb dX4_isLineRight_35 (by decide)) ?_
      refine x_ifn (C := ((v12 >>> (y6 &&& 31)) &&& (1 : Int32)) = (1 : Int32)) (pt := 43) (pc' := 39) (fun _ _ _ _ _ => lv_icmp_ne (tgt := 43) hx hb dX4_isLineRight_36 (by decide)) (fun c36 => ?_) (fun c36 => ?_)
      · have hp12 := hp11.1 c36
        refine x_up (pc' := 40) (fun _ _ _ _ _ L => lv_iconst (v := (1 : Int32)) hx hb dX4_isLineRight_39 (by decide)) ?_
        refine x_up (pc' := 44) (fun _ _ _ _ _ L => lv_goto (tgt := 44) hx hb dX4_isLineRight_40 (by decide)) ?_
        refine x_upL (pc' := 46) (lo' := [(4, .int (1 : Int32)), (2, .int y5), (3, .int y6), (0, .ref a0), (1, .int x1)]) (fun _ _ _ _ _ L => lv_istore hx hb dX4_isLineRight_44 L (by decide) rfl) ?_
        refine x_up (pc' := 47) (fun _ _ _ _ _ L => lv_iload_n hx hb dX4_isLineRight_46 rfl (lv_at L 1 rfl)) ?_
        refine x_if (C := y5 = 0) (pt := 96) (pc' := 50) (fun _ _ _ _ _ => lv_if_eq (tgt := 96) hx hb dX4_isLineRight_47 (by decide)) (fun c47 => ?_) (fun c47 => ?_)
        · have hp13 := hp12.1 c47
          refine x_up (pc' := 97) (fun _ _ _ _ _ L => lv_iconst (v := (0 : Int32)) hx hb dX4_isLineRight_96 (by decide)) ?_
          refine x_upL (pc' := 98) (lo' := [(2, .int (0 : Int32)), (4, .int (1 : Int32)), (3, .int y6), (0, .ref a0), (1, .int x1)]) (fun _ _ _ _ _ L => lv_istore_n hx hb dX4_isLineRight_97 rfl L (by decide) rfl) ?_
          refine x_upL (pc' := 101) (lo' := [(3, .int (y6 + (1 : Int32))), (2, .int (0 : Int32)), (4, .int (1 : Int32)), (0, .ref a0), (1, .int x1)]) (fun _ _ _ _ _ L => lv_iinc (v := y6 + (1 : Int32)) hx hb dX4_isLineRight_98 L (k := 2) rfl rfl (by decide) rfl) ?_
          refine x_up (pc' := 4) (fun _ _ _ _ _ L => lv_goto (tgt := 4) hx hb dX4_isLineRight_101 (by decide)) ?_
          refine x_lo (lo' := [(2, .int (0 : Int32)), (3, .int (y6 + (1 : Int32))), (0, .ref a0), (1, .int x1)]) [1, 0, 3, 4] rfl ?_
          exact hself3 ((0 : Int32), (y6 + (1 : Int32))) σ4 hp13
        · have hp14 := hp12.2 c47
          refine x_up (pc' := 52) (fun _ _ _ _ _ L => lv_iload hx hb dX4_isLineRight_50 (lv_at L 0 rfl)) ?_
          refine x_ifn (C := (1 : Int32) = 0) (pt := 92) (pc' := 55) (fun _ _ _ _ _ => lv_if_ne (tgt := 92) hx hb dX4_isLineRight_52 (by decide)) (fun c52 => ?_) (fun c52 => ?_)
          · have hp15 := hp14.1 c52
            refine x_up (pc' := 56) (fun _ _ _ _ _ L => lv_aload_n hx hb dX4_isLineRight_55 rfl (lv_at L 3 rfl)) ?_
            refine x_gq X (kX4 hG) 0 (by decide) q3266 (fun _ h => h) dX4_isLineRight_56 hp15 (fun v13 hp16 => ?_)
            refine x_pc (pc' := 59) rfl ?_
            refine x_up (pc' := 62) (fun _ _ _ _ _ L => lv_sipush (v := (169 : Int32)) hx hb dX4_isLineRight_59 (by decide)) ?_
            refine x_up (pc' := 63) (fun _ _ _ _ _ L => lv_iconst (v := (4 : Int32)) hx hb dX4_isLineRight_62 (by decide)) ?_
            refine x_up (pc' := 64) (fun _ _ _ _ _ L => lv_iload_n hx hb dX4_isLineRight_63 rfl (lv_at L 4 rfl)) ?_
            refine x_up (pc' := 65) (fun _ _ _ _ _ L => lv_imul hx hb dX4_isLineRight_64) ?_
            refine x_up (pc' := 66) (fun _ _ _ _ _ L => lv_iadd hx hb dX4_isLineRight_65) ?_
            refine x_up (pc' := 67) (fun _ _ _ _ _ L => lv_iload_n hx hb dX4_isLineRight_66 rfl (lv_at L 2 rfl)) ?_
            refine x_up (pc' := 68) (fun _ _ _ _ _ L => lv_iadd hx hb dX4_isLineRight_67) ?_
            obtain ⟨b14, rfl, hp17⟩ := hp16
            refine x_iald X dX4_isLineRight_68 hp17 (fun v15 hp18 => ?_)
            refine x_pc (pc' := 69) rfl ?_
            refine x_up (pc' := 70) (fun _ _ _ _ _ L => lv_aload_n hx hb dX4_isLineRight_69 rfl (lv_at L 3 rfl)) ?_
            refine x_gq X (kX4 hG) 0 (by decide) q3266 (fun _ h => h) dX4_isLineRight_70 hp18 (fun v16 hp19 => ?_)
            refine x_pc (pc' := 73) rfl ?_
            refine x_up (pc' := 74) (fun _ _ _ _ _ L => lv_iconst (v := (5 : Int32)) hx hb dX4_isLineRight_73 (by decide)) ?_
            refine x_up (pc' := 75) (fun _ _ _ _ _ L => lv_iconst (v := (4 : Int32)) hx hb dX4_isLineRight_74 (by decide)) ?_
            refine x_up (pc' := 76) (fun _ _ _ _ _ L => lv_aload_n hx hb dX4_isLineRight_75 rfl (lv_at L 3 rfl)) ?_
            refine x_gq X (kX4 hG) 0 (by decide) q3266 (fun _ h => h) dX4_isLineRight_76 hp19 (fun v17 hp20 => ?_)
            refine x_pc (pc' := 79) rfl ?_
            refine x_up (pc' := 81) (fun _ _ _ _ _ L => lv_bipush (v := (73 : Int32)) hx hb dX4_isLineRight_79 (by decide)) ?_
            refine x_up (pc' := 82) (fun _ _ _ _ _ L => lv_iload_n hx hb dX4_isLineRight_81 rfl (lv_at L 4 rfl)) ?_
            refine x_up (pc' := 83) (fun _ _ _ _ _ L => lv_iadd hx hb dX4_isLineRight_82) ?_
            obtain ⟨b18, rfl, hp21⟩ := hp20
            refine x_iald X dX4_isLineRight_83 hp21 (fun v19 hp22 => ?_)
            refine x_pc (pc' := 84) rfl ?_
            refine x_up (pc' := 85) (fun _ _ _ _ _ L => lv_imul hx hb dX4_isLineRight_84) ?_
            refine x_up (pc' := 86) (fun _ _ _ _ _ L => lv_iadd hx hb dX4_isLineRight_85) ?_
            refine x_up (pc' := 87) (fun _ _ _ _ _ L => lv_iload_n hx hb dX4_isLineRight_86 rfl (lv_at L 2 rfl)) ?_
            refine x_up (pc' := 88) (fun _ _ _ _ _ L => lv_iadd hx hb dX4_isLineRight_87) ?_
            obtain ⟨b20, rfl, hp23⟩ := hp22
            refine x_iald X dX4_isLineRight_88 hp23 (fun v21 hp24 => ?_)
            refine x_pc (pc' := 89) rfl ?_
            refine x_ifn (C := v15 = v21) (pt := 96) (pc' := 92) (fun _ _ _ _ _ => lv_icmp_ne (tgt := 96) hx hb dX4_isLineRight_89 (by decide)) (fun c89 => ?_) (fun c89 => ?_)
            · have hp25 := hp24.1 c89
              refine x_up (pc' := 93) (fun _ _ _ _ _ L => lv_iconst (v := (1 : Int32)) hx hb dX4_isLineRight_92 (by decide)) ?_
              refine x_up (pc' := 97) (fun _ _ _ _ _ L => lv_goto (tgt := 97) hx hb dX4_isLineRight_93 (by decide)) ?_
              refine x_upL (pc' := 98) (lo' := [(2, .int (1 : Int32)), (4, .int (1 : Int32)), (3, .int y6), (0, .ref a0), (1, .int x1)]) (fun _ _ _ _ _ L => lv_istore_n hx hb dX4_isLineRight_97 rfl L (by decide) rfl) ?_
              refine x_upL (pc' := 101) (lo' := [(3, .int (y6 + (1 : Int32))), (2, .int (1 : Int32)), (4, .int (1 : Int32)), (0, .ref a0), (1, .int x1)]) (fun _ _ _ _ _ L => lv_iinc (v := y6 + (1 : Int32)) hx hb dX4_isLineRight_98 L (k := 2) rfl rfl (by decide) rfl) ?_
              refine x_up (pc' := 4) (fun _ _ _ _ _ L => lv_goto (tgt := 4) hx hb dX4_isLineRight_101 (by decide)) ?_
              refine x_lo (lo' := [(2, .int (1 : Int32)), (3, .int (y6 + (1 : Int32))), (0, .ref a0), (1, .int x1)]) [1, 0, 3, 4] rfl ?_
              exact hself3 ((1 : Int32), (y6 + (1 : Int32))) σ4 hp25
            · have hp26 := hp24.2 c89
              refine x_up (pc' := 97) (fun _ _ _ _ _ L => lv_iconst (v := (0 : Int32)) hx hb dX4_isLineRight_96 (by decide)) ?_
              refine x_upL (pc' := 98) (lo' := [(2, .int (0 : Int32)), (4, .int (1 : Int32)), (3, .int y6), (0, .ref a0), (1, .int x1)]) (fun _ _ _ _ _ L => lv_istore_n hx hb dX4_isLineRight_97 rfl L (by decide) rfl) ?_
              refine x_upL (pc' := 101) (lo' := [(3, .int (y6 + (1 : Int32))), (2, .int (0 : Int32)), (4, .int (1 : Int32)), (0, .ref a0), (1, .int x1)]) (fun _ _ _ _ _ L => lv_iinc (v := y6 + (1 : Int32)) hx hb dX4_isLineRight_98 L (k := 2) rfl rfl (by decide) rfl) ?_
              refine x_up (pc' := 4) (fun _ _ _ _ _ L => lv_goto (tgt := 4) hx hb dX4_isLineRight_101 (by decide)) ?_
              refine x_lo (lo' := [(2, .int (0 : Int32)), (3, .int (y6 + (1 : Int32))), (0, .ref a0), (1, .int x1)]) [1, 0, 3, 4] rfl ?_
              exact hself3 ((0 : Int32), (y6 + (1 : Int32))) σ4 hp26
          · have hp27 := hp14.2 c52
            refine x_up (pc' := 93) (fun _ _ _ _ _ L => lv_iconst (v := (1 : Int32)) hx hb dX4_isLineRight_92 (by decide)) ?_
            refine x_up (pc' := 97) (fun _ _ _ _ _ L => lv_goto (tgt := 97) hx hb dX4_isLineRight_93 (by decide)) ?_
            refine x_upL (pc' := 98) (lo' := [(2, .int (1 : Int32)), (4, .int (1 : Int32)), (3, .int y6), (0, .ref a0), (1, .int x1)]) (fun _ _ _ _ _ L => lv_istore_n hx hb dX4_isLineRight_97 rfl L (by decide) rfl) ?_
            refine x_upL (pc' := 101) (lo' := [(3, .int (y6 + (1 : Int32))), (2, .int (1 : Int32)), (4, .int (1 : Int32)), (0, .ref a0), (1, .int x1)]) (fun _ _ _ _ _ L => lv_iinc (v := y6 + (1 : Int32)) hx hb dX4_isLineRight_98 L (k := 2) rfl rfl (by decide) rfl) ?_
            refine x_up (pc' := 4) (fun _ _ _ _ _ L => lv_goto (tgt := 4) hx hb dX4_isLineRight_101 (by decide)) ?_
            refine x_lo (lo' := [(2, .int (1 : Int32)), (3, .int (y6 + (1 : Int32))), (0, .ref a0), (1, .int x1)]) [1, 0, 3, 4] rfl ?_
            exact hself3 ((1 : Int32), (y6 + (1 : Int32))) σ4 hp27
      · have hp28 := hp11.2 c36
        refine x_up (pc' := 44) (fun _ _ _ _ _ L => lv_iconst (v := (0 : Int32)) hx hb dX4_isLineRight_43 (by decide)) ?_
        refine x_upL (pc' := 46) (lo' := [(4, .int (0 : Int32)), (2, .int y5), (3, .int y6), (0, .ref a0), (1, .int x1)]) (fun _ _ _ _ _ L => lv_istore hx hb dX4_isLineRight_44 L (by decide) rfl) ?_
        refine x_up (pc' := 47) (fun _ _ _ _ _ L => lv_iload_n hx hb dX4_isLineRight_46 rfl (lv_at L 1 rfl)) ?_
        refine x_if (C := y5 = 0) (pt := 96) (pc' := 50) (fun _ _ _ _ _ => lv_if_eq (tgt := 96) hx hb dX4_isLineRight_47 (by decide)) (fun c47 => ?_) (fun c47 => ?_)
        · have hp29 := hp28.1 c47
          refine x_up (pc' := 97) (fun _ _ _ _ _ L => lv_iconst (v := (0 : Int32)) hx hb dX4_isLineRight_96 (by decide)) ?_
          refine x_upL (pc' := 98) (lo' := [(2, .int (0 : Int32)), (4, .int (0 : Int32)), (3, .int y6), (0, .ref a0), (1, .int x1)]) (fun _ _ _ _ _ L => lv_istore_n hx hb dX4_isLineRight_97 rfl L (by decide) rfl) ?_
          refine x_upL (pc' := 101) (lo' := [(3, .int (y6 + (1 : Int32))), (2, .int (0 : Int32)), (4, .int (0 : Int32)), (0, .ref a0), (1, .int x1)]) (fun _ _ _ _ _ L => lv_iinc (v := y6 + (1 : Int32)) hx hb dX4_isLineRight_98 L (k := 2) rfl rfl (by decide) rfl) ?_
          refine x_up (pc' := 4) (fun _ _ _ _ _ L => lv_goto (tgt := 4) hx hb dX4_isLineRight_101 (by decide)) ?_
          refine x_lo (lo' := [(2, .int (0 : Int32)), (3, .int (y6 + (1 : Int32))), (0, .ref a0), (1, .int x1)]) [1, 0, 3, 4] rfl ?_
          exact hself3 ((0 : Int32), (y6 + (1 : Int32))) σ4 hp29
        · have hp30 := hp28.2 c47
          refine x_up (pc' := 52) (fun _ _ _ _ _ L => lv_iload hx hb dX4_isLineRight_50 (lv_at L 0 rfl)) ?_
          refine x_ifn (C := (0 : Int32) = 0) (pt := 92) (pc' := 55) (fun _ _ _ _ _ => lv_if_ne (tgt := 92) hx hb dX4_isLineRight_52 (by decide)) (fun c52 => ?_) (fun c52 => ?_)
          · have hp31 := hp30.1 c52
            refine x_up (pc' := 56) (fun _ _ _ _ _ L => lv_aload_n hx hb dX4_isLineRight_55 rfl (lv_at L 3 rfl)) ?_
            refine x_gq X (kX4 hG) 0 (by decide) q3266 (fun _ h => h) dX4_isLineRight_56 hp31 (fun v22 hp32 => ?_)
            refine x_pc (pc' := 59) rfl ?_
            refine x_up (pc' := 62) (fun _ _ _ _ _ L => lv_sipush (v := (169 : Int32)) hx hb dX4_isLineRight_59 (by decide)) ?_
            refine x_up (pc' := 63) (fun _ _ _ _ _ L => lv_iconst (v := (4 : Int32)) hx hb dX4_isLineRight_62 (by decide)) ?_
            refine x_up (pc' := 64) (fun _ _ _ _ _ L => lv_iload_n hx hb dX4_isLineRight_63 rfl (lv_at L 4 rfl)) ?_
            refine x_up (pc' := 65) (fun _ _ _ _ _ L => lv_imul hx hb dX4_isLineRight_64) ?_
            refine x_up (pc' := 66) (fun _ _ _ _ _ L => lv_iadd hx hb dX4_isLineRight_65) ?_
            refine x_up (pc' := 67) (fun _ _ _ _ _ L => lv_iload_n hx hb dX4_isLineRight_66 rfl (lv_at L 2 rfl)) ?_
            refine x_up (pc' := 68) (fun _ _ _ _ _ L => lv_iadd hx hb dX4_isLineRight_67) ?_
            obtain ⟨b23, rfl, hp33⟩ := hp32
            refine x_iald X dX4_isLineRight_68 hp33 (fun v24 hp34 => ?_)
            refine x_pc (pc' := 69) rfl ?_
            refine x_up (pc' := 70) (fun _ _ _ _ _ L => lv_aload_n hx hb dX4_isLineRight_69 rfl (lv_at L 3 rfl)) ?_
            refine x_gq X (kX4 hG) 0 (by decide) q3266 (fun _ h => h) dX4_isLineRight_70 hp34 (fun v25 hp35 => ?_)
            refine x_pc (pc' := 73) rfl ?_
            refine x_up (pc' := 74) (fun _ _ _ _ _ L => lv_iconst (v := (5 : Int32)) hx hb dX4_isLineRight_73 (by decide)) ?_
            refine x_up (pc' := 75) (fun _ _ _ _ _ L => lv_iconst (v := (4 : Int32)) hx hb dX4_isLineRight_74 (by decide)) ?_
            refine x_up (pc' := 76) (fun _ _ _ _ _ L => lv_aload_n hx hb dX4_isLineRight_75 rfl (lv_at L 3 rfl)) ?_
            refine x_gq X (kX4 hG) 0 (by decide) q3266 (fun _ h => h) dX4_isLineRight_76 hp35 (fun v26 hp36 => ?_)
            refine x_pc (pc' := 79) rfl ?_
            refine x_up (pc' := 81) (fun _ _ _ _ _ L => lv_bipush (v := (73 : Int32)) hx hb dX4_isLineRight_79 (by decide)) ?_
            refine x_up (pc' := 82) (fun _ _ _ _ _ L => lv_iload_n hx hb dX4_isLineRight_81 rfl (lv_at L 4 rfl)) ?_
            refine x_up (pc' := 83) (fun _ _ _ _ _ L => lv_iadd hx hb dX4_isLineRight_82) ?_
            obtain ⟨b27, rfl, hp37⟩ := hp36
            refine x_iald X dX4_isLineRight_83 hp37 (fun v28 hp38 => ?_)
            refine x_pc (pc' := 84) rfl ?_
            refine x_up (pc' := 85) (fun _ _ _ _ _ L => lv_imul hx hb dX4_isLineRight_84) ?_
            refine x_up (pc' := 86) (fun _ _ _ _ _ L => lv_iadd hx hb dX4_isLineRight_85) ?_
            refine x_up (pc' := 87) (fun _ _ _ _ _ L => lv_iload_n hx hb dX4_isLineRight_86 rfl (lv_at L 2 rfl)) ?_
            refine x_up (pc' := 88) (fun _ _ _ _ _ L => lv_iadd hx hb dX4_isLineRight_87) ?_
            obtain ⟨b29, rfl, hp39⟩ := hp38
            refine x_iald X dX4_isLineRight_88 hp39 (fun v30 hp40 => ?_)
            refine x_pc (pc' := 89) rfl ?_
            refine x_ifn (C := v24 = v30) (pt := 96) (pc' := 92) (fun _ _ _ _ _ => lv_icmp_ne (tgt := 96) hx hb dX4_isLineRight_89 (by decide)) (fun c89 => ?_) (fun c89 => ?_)
            · have hp41 := hp40.1 c89
              refine x_up (pc' := 93) (fun _ _ _ _ _ L => lv_iconst (v := (1 : Int32)) hx hb dX4_isLineRight_92 (by decide)) ?_
              refine x_up (pc' := 97) (fun _ _ _ _ _ L => lv_goto (tgt := 97) hx hb dX4_isLineRight_93 (by decide)) ?_
              refine x_upL (pc' := 98) (lo' := [(2, .int (1 : Int32)), (4, .int (0 : Int32)), (3, .int y6), (0, .ref a0), (1, .int x1)]) (fun _ _ _ _ _ L => lv_istore_n hx hb dX4_isLineRight_97 rfl L (by decide) rfl) ?_
              refine x_upL (pc' := 101) (lo' := [(3, .int (y6 + (1 : Int32))), (2, .int (1 : Int32)), (4, .int (0 : Int32)), (0, .ref a0), (1, .int x1)]) (fun _ _ _ _ _ L => lv_iinc (v := y6 + (1 : Int32)) hx hb dX4_isLineRight_98 L (k := 2) rfl rfl (by decide) rfl) ?_
              refine x_up (pc' := 4) (fun _ _ _ _ _ L => lv_goto (tgt := 4) hx hb dX4_isLineRight_101 (by decide)) ?_
              refine x_lo (lo' := [(2, .int (1 : Int32)), (3, .int (y6 + (1 : Int32))), (0, .ref a0), (1, .int x1)]) [1, 0, 3, 4] rfl ?_
              exact hself3 ((1 : Int32), (y6 + (1 : Int32))) σ4 hp41
            · have hp42 := hp40.2 c89
              refine x_up (pc' := 97) (fun _ _ _ _ _ L => lv_iconst (v := (0 : Int32)) hx hb dX4_isLineRight_96 (by decide)) ?_
              refine x_upL (pc' := 98) (lo' := [(2, .int (0 : Int32)), (4, .int (0 : Int32)), (3, .int y6), (0, .ref a0), (1, .int x1)]) (fun _ _ _ _ _ L => lv_istore_n hx hb dX4_isLineRight_97 rfl L (by decide) rfl) ?_
              refine x_upL (pc' := 101) (lo' := [(3, .int (y6 + (1 : Int32))), (2, .int (0 : Int32)), (4, .int (0 : Int32)), (0, .ref a0), (1, .int x1)]) (fun _ _ _ _ _ L => lv_iinc (v := y6 + (1 : Int32)) hx hb dX4_isLineRight_98 L (k := 2) rfl rfl (by decide) rfl) ?_
              refine x_up (pc' := 4) (fun _ _ _ _ _ L => lv_goto (tgt := 4) hx hb dX4_isLineRight_101 (by decide)) ?_
              refine x_lo (lo' := [(2, .int (0 : Int32)), (3, .int (y6 + (1 : Int32))), (0, .ref a0), (1, .int x1)]) [1, 0, 3, 4] rfl ?_
              exact hself3 ((0 : Int32), (y6 + (1 : Int32))) σ4 hp42
          · have hp43 := hp30.2 c52
            refine x_up (pc' := 93) (fun _ _ _ _ _ L => lv_iconst (v := (1 : Int32)) hx hb dX4_isLineRight_92 (by decide)) ?_
            refine x_up (pc' := 97) (fun _ _ _ _ _ L => lv_goto (tgt := 97) hx hb dX4_isLineRight_93 (by decide)) ?_
            refine x_upL (pc' := 98) (lo' := [(2, .int (1 : Int32)), (4, .int (0 : Int32)), (3, .int y6), (0, .ref a0), (1, .int x1)]) (fun _ _ _ _ _ L => lv_istore_n hx hb dX4_isLineRight_97 rfl L (by decide) rfl) ?_
            refine x_upL (pc' := 101) (lo' := [(3, .int (y6 + (1 : Int32))), (2, .int (1 : Int32)), (4, .int (0 : Int32)), (0, .ref a0), (1, .int x1)]) (fun _ _ _ _ _ L => lv_iinc (v := y6 + (1 : Int32)) hx hb dX4_isLineRight_98 L (k := 2) rfl rfl (by decide) rfl) ?_
            refine x_up (pc' := 4) (fun _ _ _ _ _ L => lv_goto (tgt := 4) hx hb dX4_isLineRight_101 (by decide)) ?_
            refine x_lo (lo' := [(2, .int (1 : Int32)), (3, .int (y6 + (1 : Int32))), (0, .ref a0), (1, .int x1)]) [1, 0, 3, 4] rfl ?_
            exact hself3 ((1 : Int32), (y6 + (1 : Int32))) σ4 hp43
-- X4_isBalanced
def B_X4_isBalanced_68 (κ : Nat → Nat) (K : Int32 → xH → Prop) (f0 : Nat) : ((Int32 × Int32) → xS → Prop) → (Int32 × Int32) → xS → Prop := fun self69003 w69001 σ69002 =>
  (((16 : Int32) ≤ w69001.2 → ((narrow .boolean (.int w69001.1) = .int w69001.1 ∧ K w69001.1 σ69002.1))) ∧ (¬ (16 : Int32) ≤ w69001.2 → (((w69001.1 = 0 → (self69003 ((0 : Int32), (w69001.2 + (1 : Int32))) σ69002)) ∧ (¬ w69001.1 = 0 → (xrc σ69002 f0 10 ∧ xcall (fun τ L => P_X4_isLineRight κ f0 w69001.2 τ L) σ69002 fun v69004 σ69005 => ((v69004 = 0 → (self69003 ((0 : Int32), (w69001.2 + (1 : Int32))) σ69005)) ∧ (¬ v69004 = 0 → (xgq σ69005 f0 10 0 fun v69006 => xnn v69006 fun b69007 => xai .int σ69005 b69007 ((73 : Int32) + w69001.2) fun v69008 => ((v69008 = (-1 : Int32) → (self69003 ((1 : Int32), (w69001.2 + (1 : Int32))) σ69005)) ∧ (¬ v69008 = (-1 : Int32) → (xgq σ69005 f0 10 0 fun v69009 => xnn v69009 fun b69010 => xai .int σ69005 b69010 ((73 : Int32) + w69001.2) fun v69011 => xrc σ69005 f0 10 ∧ xcall (fun τ L => P_X4_lineWith κ f0 v69011 τ L) σ69005 fun v69012 σ69013 => ((v69012 = w69001.2 → (self69003 ((1 : Int32), (w69001.2 + (1 : Int32))) σ69013)) ∧ (¬ v69012 = w69001.2 → (self69003 ((0 : Int32), (w69001.2 + (1 : Int32))) σ69013)))))))))))))))
def P_X4_isBalanced (κ : Nat → Nat) (a0 : Nat) (σ : xS) (K : Int32 → xH → Prop) : Prop :=
  xpi κ σ a0 10 16 (0 : Int32) fun σ1 => xgq σ1 a0 10 0 fun v2 => xnn v2 fun b3 => xai .int σ1 b3 (283 : Int32) fun v4 => xgq σ1 a0 10 0 fun v5 => xnn v5 fun b6 => xai .int σ1 b6 (284 : Int32) fun v7 => xgq σ1 a0 10 0 fun v8 => xnn v8 fun b9 => xai .int σ1 b9 (285 : Int32) fun v10 => xgq σ1 a0 10 0 fun v11 => xnn v11 fun b12 => xai .int σ1 b12 (286 : Int32) fun v13 => xgq σ1 a0 10 0 fun v14 => xnn v14 fun b15 => xai .int σ1 b15 (287 : Int32) fun v16 => xgq σ1 a0 10 0 fun v17 => xnn v17 fun b18 => xai .int σ1 b18 (288 : Int32) fun v19 => (((v4 + v7) = (((v10 + v13) + v16) + v19) → (xwhile (B_X4_isBalanced_68 κ K a0) ((1 : Int32), (0 : Int32)) σ1)) ∧ (¬ (v4 + v7) = (((v10 + v13) + v16) + v19) → (xwhile (B_X4_isBalanced_68 κ K a0) ((0 : Int32), (0 : Int32)) σ1)))
theorem mdX4_isBalanced : yX4_isBalanced.cls ≠ "java/lang/invoke/MethodHandle" ∧ yX4_isBalanced.cls ≠ "java/lang/invoke/VarHandle" ∧ (parseMethodDescriptor yX4_isBalanced.desc).map (fun d => d.parameters.length) = some 0 := by decide +kernel
set_option maxHeartbeats 4000000 in
set_option maxRecDepth 100000 in
theorem R_X4_isBalanced (l : Launch) (hl : l.stackTraces = false) (G : xG) (hG : G.1.2 = x_cl) (a0 : Nat) (σ : xS) (K : Int32 → xH → Prop) (hp : P_X4_isBalanced G.2 a0 σ K) : xM l yX4_isBalanced cX4_isBalanced 3 (Option.some Jvm.ClassFile.FieldType.boolean) 1 24 G [(.ref a0)] σ (xlift emI K) := by
  refine x_entry (by decide) (Nat.le_of_ble_eq_true rfl) ?_
  intro p e s m args below meth c X hr hin
  have X : xX p s m args meth c G cX4_isBalanced 3 RX4 := X
  have hx := X.1
  have hb := X.2.1
  have hts := X.2.2.2.2.1
  have hown := X.2.2.2.1
  unfold P_X4_isBalanced at hp
  refine x_same (lo' := [(0, .ref a0)]) rfl ?_
  refine x_up (pc' := 1) (fun _ _ _ _ _ L => lv_aload_n hx hb dX4_isBalanced_0 rfl (lv_at L 0 rfl)) ?_
  refine x_up (pc' := 2) (fun _ _ _ _ _ L => lv_iconst (v := (0 : Int32)) hx hb dX4_isBalanced_1 (by decide)) ?_
  refine x_pi X (kX4 hG) 16 (by decide) q3282 (fun _ h => h) rfl rfl rfl dX4_isBalanced_2 hp (fun σ1 hp1 => ?_)
  refine x_pc (pc' := 5) rfl ?_
  refine x_up (pc' := 6) (fun _ _ _ _ _ L => lv_aload_n hx hb dX4_isBalanced_5 rfl (lv_at L 0 rfl)) ?_
  refine x_gq X (kX4 hG) 0 (by decide) q3266 (fun _ h => h) dX4_isBalanced_6 hp1 (fun v2 hp2 => ?_)
  refine x_pc (pc' := 9) rfl ?_
  refine x_up (pc' := 12) (fun _ _ _ _ _ L => lv_sipush (v := (283 : Int32)) hx hb dX4_isBalanced_9 (by decide)) ?_
  obtain ⟨b3, rfl, hp3⟩ := hp2
  refine x_iald X dX4_isBalanced_12 hp3 (fun v4 hp4 => ?_)
  refine x_pc (pc' := 13) rfl ?_
  refine x_up (pc' := 14) (fun _ _ _ _ _ L => lv_aload_n hx hb dX4_isBalanced_13 rfl (lv_at L 0 rfl)) ?_
  refine x_gq X (kX4 hG) 0 (by decide) q3266 (fun _ h => h) dX4_isBalanced_14 hp4 (fun v5 hp5 => ?_)
  refine x_pc (pc' := 17) rfl ?_
  refine x_up (pc' := 20) (fun _ _ _ _ _ L => lv_sipush (v := (284 : Int32)) hx hb dX4_isBalanced_17 (by decide)) ?_
  obtain ⟨b6, rfl, hp6⟩ := hp5
  refine x_iald X dX4_isBalanced_20 hp6 (fun v7 hp7 => ?_)
  refine x_pc (pc' := 21) rfl ?_
  refine x_up (pc' := 22) (fun _ _ _ _ _ L => lv_iadd hx hb dX4_isBalanced_21) ?_
  refine x_up (pc' := 23) (fun _ _ _ _ _ L => lv_aload_n hx hb dX4_isBalanced_22 rfl (lv_at L 0 rfl)) ?_
  refine x_gq X (kX4 hG) 0 (by decide) q3266 (fun _ h => h) dX4_isBalanced_23 hp7 (fun v8 hp8 => ?_)
  refine x_pc (pc' := 26) rfl ?_
  refine x_up (pc' := 29) (fun _ _ _ _ _ L => lv_sipush (v := (285 : Int32)) hx hb dX4_isBalanced_26 (by decide)) ?_
  obtain ⟨b9, rfl, hp9⟩ := hp8
  refine x_iald X dX4_isBalanced_29 hp9 (fun v10 hp10 => ?_)
  refine x_pc (pc' := 30) rfl ?_
  refine x_up (pc' := 31) (fun _ _ _ _ _ L => lv_aload_n hx hb dX4_isBalanced_30 rfl (lv_at L 0 rfl)) ?_
  refine x_gq X (kX4 hG) 0 (by decide) q3266 (fun _ h => h) dX4_isBalanced_31 hp10 (fun v11 hp11 => ?_)
  refine x_pc (pc' := 34) rfl ?_
  refine x_up (pc' := 37) (fun _ _ _ _ _ L => lv_sipush (v := (286 : Int32)) hx hb dX4_isBalanced_34 (by decide)) ?_
  obtain ⟨b12, rfl, hp12⟩ := hp11
  refine x_iald X dX4_isBalanced_37 hp12 (fun v13 hp13 => ?_)
  refine x_pc (pc' := 38) rfl ?_
  refine x_up (pc' := 39) (fun _ _ _ _ _ L => lv_iadd hx hb dX4_isBalanced_38) ?_
  refine x_up (pc' := 40) (fun _ _ _ _ _ L => lv_aload_n hx hb dX4_isBalanced_39 rfl (lv_at L 0 rfl)) ?_
  refine x_gq X (kX4 hG) 0 (by decide) q3266 (fun _ h => h) dX4_isBalanced_40 hp13 (fun v14 hp14 => ?_)
  refine x_pc (pc' := 43) rfl ?_
  refine x_up (pc' := 46) (fun _ _ _ _ _ L => lv_sipush (v := (287 : Int32)) hx hb dX4_isBalanced_43 (by decide)) ?_
  obtain ⟨b15, rfl, hp15⟩ := hp14
  refine x_iald X dX4_isBalanced_46 hp15 (fun v16 hp16 => ?_)
  refine x_pc (pc' := 47) rfl ?_
  refine x_up (pc' := 48) (fun _ _ _ _ _ L => lv_iadd hx hb dX4_isBalanced_47) ?_
  refine x_up (pc' := 49) (fun _ _ _ _ _ L => lv_aload_n hx hb dX4_isBalanced_48 rfl (lv_at L 0 rfl)) ?_
  refine x_gq X (kX4 hG) 0 (by decide) q3266 (fun _ h => h) dX4_isBalanced_49 hp16 (fun v17 hp17 => ?_)
  refine x_pc (pc' := 52) rfl ?_
  refine x_up (pc' := 55) (fun _ _ _ _ _ L => lv_sipush (v := (288 : Int32)) hx hb dX4_isBalanced_52 (by decide)) ?_
  obtain ⟨b18, rfl, hp18⟩ := hp17
  refine x_iald X dX4_isBalanced_55 hp18 (fun v19 hp19 => ?_)
  refine x_pc (pc' := 56) rfl ?_
  refine x_up (pc' := 57) (fun _ _ _ _ _ L => lv_iadd hx hb dX4_isBalanced_56) ?_
  refine x_ifn (C := (v4 + v7) = (((v10 + v13) + v16) + v19)) (pt := 64) (pc' := 60) (fun _ _ _ _ _ => lv_icmp_ne (tgt := 64) hx hb dX4_isBalanced_57 (by decide)) (fun c57 => ?_) (fun c57 => ?_)
  · have hp20 := hp19.1 c57
    refine x_up (pc' := 61) (fun _ _ _ _ _ L => lv_iconst (v := (1 : Int32)) hx hb dX4_isBalanced_60 (by decide)) ?_
    refine x_up (pc' := 65) (fun _ _ _ _ _ L => lv_goto (tgt := 65) hx hb dX4_isBalanced_61 (by decide)) ?_
    refine x_upL (pc' := 66) (lo' := [(1, .int (1 : Int32)), (0, .ref a0)]) (fun _ _ _ _ _ L => lv_istore_n hx hb dX4_isBalanced_65 rfl L (by decide) rfl) ?_
    refine x_up (pc' := 67) (fun _ _ _ _ _ L => lv_iconst (v := (0 : Int32)) hx hb dX4_isBalanced_66 (by decide)) ?_
    refine x_upL (pc' := 68) (lo' := [(2, .int (0 : Int32)), (1, .int (1 : Int32)), (0, .ref a0)]) (fun _ _ _ _ _ L => lv_istore_n hx hb dX4_isBalanced_67 rfl L (by decide) rfl) ?_
    refine x_lo (lo' := [(1, .int (1 : Int32)), (2, .int (0 : Int32)), (0, .ref a0)]) [1, 0, 2] rfl ?_
    refine x_while (v0 := ((1 : Int32), (0 : Int32))) (fun w20 => [(1, .int w20.1), (2, .int w20.2), (0, .ref a0)]) hp20 (fun self21 hself22 => ?_)
    rintro ⟨y24, y25⟩ σ23 hp21
    unfold B_X4_isBalanced_68 at hp21
    refine x_same (lo' := [(1, .int y24), (2, .int y25), (0, .ref a0)]) rfl ?_
    refine x_up (pc' := 69) (fun _ _ _ _ _ L => lv_iload_n hx hb dX4_isBalanced_68 rfl (lv_at L 1 rfl)) ?_
    refine x_up (pc' := 71) (fun _ _ _ _ _ L => lv_bipush (v := (16 : Int32)) hx hb dX4_isBalanced_69 (by decide)) ?_
    refine x_if (C := (16 : Int32) ≤ y25) (pt := 128) (pc' := 74) (fun _ _ _ _ _ => lv_icmp_ge (tgt := 128) hx hb dX4_isBalanced_71 (by decide)) (fun c71 => ?_) (fun c71 => ?_)
    · have hp22 := hp21.1 c71
      refine x_up (pc' := 129) (fun _ _ _ _ _ L => lv_iload_n hx hb dX4_isBalanced_128 rfl (lv_at L 0 rfl)) ?_
      exact x_iret X hr hp22.1 dX4_isBalanced_129 hp22.2
    · have hp23 := hp21.2 c71
      refine x_up (pc' := 75) (fun _ _ _ _ _ L => lv_iload_n hx hb dX4_isBalanced_74 rfl (lv_at L 0 rfl)) ?_
      refine x_if (C := y24 = 0) (pt := 120) (pc' := 78) (fun _ _ _ _ _ => lv_if_eq (tgt := 120) hx hb dX4_isBalanced_75 (by decide)) (fun c75 => ?_) (fun c75 => ?_)
      · have hp24 := hp23.1 c75
        refine x_up (pc' := 121) (fun _ _ _ _ _ L => lv_iconst (v := (0 : Int32)) hx hb dX4_isBalanced_120 (by decide)) ?_
        refine x_upL (pc' := 122) (lo' := [(1, .int (0 : Int32)), (2, .int y25), (0, .ref a0)]) (fun _ _ _ _ _ L => lv_istore_n hx hb dX4_isBalanced_121 rfl L (by decide) rfl) ?_
        refine x_upL (pc' := 125) (lo' := [(2, .int (y25 + (1 : Int32))), (1, .int (0 : Int32)), (0, .ref a0)]) (fun _ _ _ _ _ L => lv_iinc (v := y25 + (1 : Int32)) hx hb dX4_isBalanced_122 L (k := 1) rfl rfl (by decide) rfl) ?_
        refine x_up (pc' := 68) (fun _ _ _ _ _ L => lv_goto (tgt := 68) hx hb dX4_isBalanced_125 (by decide)) ?_
        refine x_lo (lo' := [(1, .int (0 : Int32)), (2, .int (y25 + (1 : Int32))), (0, .ref a0)]) [1, 0, 2] rfl ?_
        exact hself22 ((0 : Int32), (y25 + (1 : Int32))) σ23 hp24
      · have hp25 := hp23.2 c75
        refine x_up (pc' := 79) (fun _ _ _ _ _ L => lv_aload_n hx hb dX4_isBalanced_78 rfl (lv_at L 2 rfl)) ?_
        refine x_up (pc' := 80) (fun _ _ _ _ _ L => lv_iload_n hx hb dX4_isBalanced_79 rfl (lv_at L 1 rfl)) ?_
        refine x_callV (em := emI) (fun r st => .int r :: st) (fun _ _ => rfl) 1 X (kX4 hG) (fun σ' KK h => R_X4_isLineRight l hl G hG a0 y25 σ' KK h) (lw_V q3656 q3658 qs97 q119 q3659) ⟨rfl, mdX4_isLineRight⟩ ⟨Nat.le_of_ble_eq_true rfl, Nat.le_of_ble_eq_true rfl⟩ rfl rfl (Nat.le_of_ble_eq_true rfl) dX4_isBalanced_80 hp25.1 hp25.2 (fun v26 σ27 hp26 => ?_)
        refine x_pc (pc' := 83) rfl ?_
        refine x_if (C := v26 = 0) (pt := 120) (pc' := 86) (fun _ _ _ _ _ => lv_if_eq (tgt := 120) hx hb dX4_isBalanced_83 (by decide)) (fun c83 => ?_) (fun c83 => ?_)
        · have hp27 := hp26.1 c83
          refine x_up (pc' := 121) (fun _ _ _ _ _ L => lv_iconst (v := (0 : Int32)) hx hb dX4_isBalanced_120 (by decide)) ?_
          refine x_upL (pc' := 122) (lo' := [(1, .int (0 : Int32)), (2, .int y25), (0, .ref a0)]) (fun _ _ _ _ _ L => lv_istore_n hx hb dX4_isBalanced_121 rfl L (by decide) rfl) ?_
          refine x_upL (pc' := 125) (lo' := [(2, .int (y25 + (1 : Int32))), (1, .int (0 : Int32)), (0, .ref a0)]) (fun _ _ _ _ _ L => lv_iinc (v := y25 + (1 : Int32)) hx hb dX4_isBalanced_122 L (k := 1) rfl rfl (by decide) rfl) ?_
          refine x_up (pc' := 68) (fun _ _ _ _ _ L => lv_goto (tgt := 68) hx hb dX4_isBalanced_125 (by decide)) ?_
          refine x_lo (lo' := [(1, .int (0 : Int32)), (2, .int (y25 + (1 : Int32))), (0, .ref a0)]) [1, 0, 2] rfl ?_
          exact hself22 ((0 : Int32), (y25 + (1 : Int32))) σ27 hp27
        · have hp28 := hp26.2 c83
          refine x_up (pc' := 87) (fun _ _ _ _ _ L => lv_aload_n hx hb dX4_isBalanced_86 rfl (lv_at L 2 rfl)) ?_
          refine x_gq X (kX4 hG) 0 (by decide) q3266 (fun _ h => h) dX4_isBalanced_87 hp28 (fun v28 hp29 => ?_)
          refine x_pc (pc' := 90) rfl ?_
          refine x_up (pc' := 92) (fun _ _ _ _ _ L => lv_bipush (v := (73 : Int32)) hx hb dX4_isBalanced_90 (by decide)) ?_
          refine x_up (pc' := 93) (fun _ _ _ _ _ L => lv_iload_n hx hb dX4_isBalanced_92 rfl (lv_at L 1 rfl)) ?_
          refine x_up (pc' := 94) (fun _ _ _ _ _ L => lv_iadd hx hb dX4_isBalanced_93) ?_
          obtain ⟨b29, rfl, hp30⟩ := hp29
          refine x_iald X dX4_isBalanced_94 hp30 (fun v30 hp31 => ?_)
          refine x_pc (pc' := 95) rfl ?_
          refine x_up (pc' := 96) (fun _ _ _ _ _ L => lv_iconst (v := (-1 : Int32)) hx hb dX4_isBalanced_95 (by decide)) ?_
          refine x_if (C := v30 = (-1 : Int32)) (pt := 116) (pc' := 99) (fun _ _ _ _ _ => lv_icmp_eq (tgt := 116) hx hb dX4_isBalanced_96 (by decide)) (fun c96 => ?_) (fun c96 => ?_)
          · have hp32 := hp31.1 c96
            refine x_up (pc' := 117) (fun _ _ _ _ _ L => lv_iconst (v := (1 : Int32)) hx hb dX4_isBalanced_116 (by decide)) ?_
            refine x_up (pc' := 121) (fun _ _ _ _ _ L => lv_goto (tgt := 121) hx hb dX4_isBalanced_117 (by decide)) ?_
            refine x_upL (pc' := 122) (lo' := [(1, .int (1 : Int32)), (2, .int y25), (0, .ref a0)]) (fun _ _ _ _ _ L => lv_istore_n hx hb dX4_isBalanced_121 rfl L (by decide) rfl) ?_
            refine x_upL (pc' := 125) (lo' := [(2, .int (y25 + (1 : Int32))), (1, .int (1 : Int32)), (0, .ref a0)]) (fun _ _ _ _ _ L => lv_iinc (v := y25 + (1 : Int32)) hx hb dX4_isBalanced_122 L (k := 1) rfl rfl (by decide) rfl) ?_
            refine x_up (pc' := 68) (fun _ _ _ _ _ L => lv_goto (tgt := 68) hx hb dX4_isBalanced_125 (by decide)) ?_
            refine x_lo (lo' := [(1, .int (1 : Int32)), (2, .int (y25 + (1 : Int32))), (0, .ref a0)]) [1, 0, 2] rfl ?_
            exact hself22 ((1 : Int32), (y25 + (1 : Int32))) σ27 hp32
          · have hp33 := hp31.2 c96
            refine x_up (pc' := 100) (fun _ _ _ _ _ L => lv_aload_n hx hb dX4_isBalanced_99 rfl (lv_at L 2 rfl)) ?_
            refine x_up (pc' := 101) (fun _ _ _ _ _ L => lv_aload_n hx hb dX4_isBalanced_100 rfl (lv_at L 2 rfl)) ?_
            refine x_gq X (kX4 hG) 0 (by decide) q3266 (fun _ h => h) dX4_isBalanced_101 hp33 (fun v31 hp34 => ?_)
            refine x_pc (pc' := 104) rfl ?_
            refine x_up (pc' := 106) (fun _ _ _ _ _ L => lv_bipush (v := (73 : Int32)) hx hb dX4_isBalanced_104 (by decide)) ?_
            refine x_up (pc' := 107) (fun _ _ _ _ _ L => lv_iload_n hx hb dX4_isBalanced_106 rfl (lv_at L 1 rfl)) ?_
            refine x_up (pc' := 108) (fun _ _ _ _ _ L => lv_iadd hx hb dX4_isBalanced_107) ?_
            obtain ⟨b32, rfl, hp35⟩ := hp34
            refine x_iald X dX4_isBalanced_108 hp35 (fun v33 hp36 => ?_)
            refine x_pc (pc' := 109) rfl ?_
            refine x_callV (em := emI) (fun r st => .int r :: st) (fun _ _ => rfl) 1 X (kX4 hG) (fun σ' KK h => R_X4_lineWith l hl G hG a0 v33 σ' KK h) (lw_V q3365 q3367 qs61 q119 q3368) ⟨rfl, mdX4_lineWith⟩ ⟨Nat.le_of_ble_eq_true rfl, Nat.le_of_ble_eq_true rfl⟩ rfl rfl (Nat.le_of_ble_eq_true rfl) dX4_isBalanced_109 hp36.1 hp36.2 (fun v34 σ35 hp37 => ?_)
            refine x_pc (pc' := 112) rfl ?_
            refine x_up (pc' := 113) (fun _ _ _ _ _ L => lv_iload_n hx hb dX4_isBalanced_112 rfl (lv_at L 1 rfl)) ?_
            refine x_ifn (C := v34 = y25) (pt := 120) (pc' := 116) (fun _ _ _ _ _ => lv_icmp_ne (tgt := 120) hx hb dX4_isBalanced_113 (by decide)) (fun c113 => ?_) (fun c113 => ?_)
            · have hp38 := hp37.1 c113
              refine x_up (pc' := 117) (fun _ _ _ _ _ L => lv_iconst (v := (1 : Int32)) hx hb dX4_isBalanced_116 (by decide)) ?_
              refine x_up (pc' := 121) (fun _ _ _ _ _ L => lv_goto (tgt := 121) hx hb dX4_isBalanced_117 (by decide)) ?_
              refine x_upL (pc' := 122) (lo' := [(1, .int (1 : Int32)), (2, .int y25), (0, .ref a0)]) (fun _ _ _ _ _ L => lv_istore_n hx hb dX4_isBalanced_121 rfl L (by decide) rfl) ?_
              refine x_upL (pc' := 125) (lo' := [(2, .int (y25 + (1 : Int32))), (1, .int (1 : Int32)), (0, .ref a0)]) (fun _ _ _ _ _ L => lv_iinc (v := y25 + (1 : Int32)) hx hb dX4_isBalanced_122 L (k := 1) rfl rfl (by decide) rfl) ?_
              refine x_up (pc' := 68) (fun _ _ _ _ _ L => lv_goto (tgt := 68) hx hb dX4_isBalanced_125 (by decide)) ?_
              refine x_lo (lo' := [(1, .int (1 : Int32)), (2, .int (y25 + (1 : Int32))), (0, .ref a0)]) [1, 0, 2] rfl ?_
              exact hself22 ((1 : Int32), (y25 + (1 : Int32))) σ35 hp38
            · have hp39 := hp37.2 c113
              refine x_up (pc' := 121) (fun _ _ _ _ _ L => lv_iconst (v := (0 : Int32)) hx hb dX4_isBalanced_120 (by decide)) ?_
              refine x_upL (pc' := 122) (lo' := [(1, .int (0 : Int32)), (2, .int y25), (0, .ref a0)]) (fun _ _ _ _ _ L => lv_istore_n hx hb dX4_isBalanced_121 rfl L (by decide) rfl) ?_
              refine x_upL (pc' := 125) (lo' := [(2, .int (y25 + (1 : Int32))), (1, .int (0 : Int32)), (0, .ref a0)]) (fun _ _ _ _ _ L => lv_iinc (v := y25 + (1 : Int32)) hx hb dX4_isBalanced_122 L (k := 1) rfl rfl (by decide) rfl) ?_
              refine x_up (pc' := 68) (fun _ _ _ _ _ L => lv_goto (tgt := 68) hx hb dX4_isBalanced_125 (by decide)) ?_
              refine x_lo (lo' := [(1, .int (0 : Int32)), (2, .int (y25 + (1 : Int32))), (0, .ref a0)]) [1, 0, 2] rfl ?_
              exact hself22 ((0 : Int32), (y25 + (1 : Int32))) σ35 hp39
  · have hp40 := hp19.2 c57
    refine x_up (pc' := 65) (fun _ _ _ _ _ L => lv_iconst (v := (0 : Int32)) hx hb dX4_isBalanced_64 (by decide)) ?_
    refine x_upL (pc' := 66) (lo' := [(1, .int (0 : Int32)), (0, .ref a0)]) (fun _ _ _ _ _ L => lv_istore_n hx hb dX4_isBalanced_65 rfl L (by decide) rfl) ?_
    refine x_up (pc' := 67) (fun _ _ _ _ _ L => lv_iconst (v := (0 : Int32)) hx hb dX4_isBalanced_66 (by decide)) ?_
    refine x_upL (pc' := 68) (lo' := [(2, .int (0 : Int32)), (1, .int (0 : Int32)), (0, .ref a0)]) (fun _ _ _ _ _ L => lv_istore_n hx hb dX4_isBalanced_67 rfl L (by decide) rfl) ?_
    refine x_lo (lo' := [(1, .int (0 : Int32)), (2, .int (0 : Int32)), (0, .ref a0)]) [1, 0, 2] rfl ?_
    refine x_while (v0 := ((0 : Int32), (0 : Int32))) (fun w36 => [(1, .int w36.1), (2, .int w36.2), (0, .ref a0)]) hp40 (fun self37 hself38 => ?_)
    rintro ⟨y40, y41⟩ σ39 hp41
    unfold B_X4_isBalanced_68 at hp41
    refine x_same (lo' := [(1, .int y40), (2, .int y41), (0, .ref a0)]) rfl ?_
    refine x_up (pc' := 69) (fun _ _ _ _ _ L => lv_iload_n hx hb dX4_isBalanced_68 rfl (lv_at L 1 rfl)) ?_
    refine x_up (pc' := 71) (fun _ _ _ _ _ L => lv_bipush (v := (16 : Int32)) hx hb dX4_isBalanced_69 (by decide)) ?_
    refine x_if (C := (16 : Int32) ≤ y41) (pt := 128) (pc' := 74) (fun _ _ _ _ _ => lv_icmp_ge (tgt := 128) hx hb dX4_isBalanced_71 (by decide)) (fun c71 => ?_) (fun c71 => ?_)
    · have hp42 := hp41.1 c71
      refine x_up (pc' := 129) (fun _ _ _ _ _ L => lv_iload_n hx hb dX4_isBalanced_128 rfl (lv_at L 0 rfl)) ?_
      exact x_iret X hr hp42.1 dX4_isBalanced_129 hp42.2
    · have hp43 := hp41.2 c71
      refine x_up (pc' := 75) (fun _ _ _ _ _ L => lv_iload_n hx hb dX4_isBalanced_74 rfl (lv_at L 0 rfl)) ?_
      refine x_if (C := y40 = 0) (pt := 120) (pc' := 78) (fun _ _ _ _ _ => lv_if_eq (tgt := 120) hx hb dX4_isBalanced_75 (by decide)) (fun c75 => ?_) (fun c75 => ?_)
      · have hp44 := hp43.1 c75
        refine x_up (pc' := 121) (fun _ _ _ _ _ L => lv_iconst (v := (0 : Int32)) hx hb dX4_isBalanced_120 (by decide)) ?_
        refine x_upL (pc' := 122) (lo' := [(1, .int (0 : Int32)), (2, .int y41), (0, .ref a0)]) (fun _ _ _ _ _ L => lv_istore_n hx hb dX4_isBalanced_121 rfl L (by decide) rfl) ?_
        refine x_upL (pc' := 125) (lo' := [(2, .int (y41 + (1 : Int32))), (1, .int (0 : Int32)), (0, .ref a0)]) (fun _ _ _ _ _ L => lv_iinc (v := y41 + (1 : Int32)) hx hb dX4_isBalanced_122 L (k := 1) rfl rfl (by decide) rfl) ?_
        refine x_up (pc' := 68) (fun _ _ _ _ _ L => lv_goto (tgt := 68) hx hb dX4_isBalanced_125 (by decide)) ?_
        refine x_lo (lo' := [(1, .int (0 : Int32)), (2, .int (y41 + (1 : Int32))), (0, .ref a0)]) [1, 0, 2] rfl ?_
        exact hself38 ((0 : Int32), (y41 + (1 : Int32))) σ39 hp44
      · have hp45 := hp43.2 c75
        refine x_up (pc' := 79) (fun _ _ _ _ _ L => lv_aload_n hx hb dX4_isBalanced_78 rfl (lv_at L 2 rfl)) ?_
        refine x_up (pc' := 80) (fun _ _ _ _ _ L => lv_iload_n hx hb dX4_isBalanced_79 rfl (lv_at L 1 rfl)) ?_
        refine x_callV (em := emI) (fun r st => .int r :: st) (fun _ _ => rfl) 1 X (kX4 hG) (fun σ' KK h => R_X4_isLineRight l hl G hG a0 y41 σ' KK h) (lw_V q3656 q3658 qs97 q119 q3659) ⟨rfl, mdX4_isLineRight⟩ ⟨Nat.le_of_ble_eq_true rfl, Nat.le_of_ble_eq_true rfl⟩ rfl rfl (Nat.le_of_ble_eq_true rfl) dX4_isBalanced_80 hp45.1 hp45.2 (fun v42 σ43 hp46 => ?_)
        refine x_pc (pc' := 83) rfl ?_
        refine x_if (C := v42 = 0) (pt := 120) (pc' := 86) (fun _ _ _ _ _ => lv_if_eq (tgt := 120) hx hb dX4_isBalanced_83 (by decide)) (fun c83 => ?_) (fun c83 => ?_)
        · have hp47 := hp46.1 c83
          refine x_up (pc' := 121) (fun _ _ _ _ _ L => lv_iconst (v := (0 : Int32)) hx hb dX4_isBalanced_120 (by decide)) ?_
          refine x_upL (pc' := 122) (lo' := [(1, .int (0 : Int32)), (2, .int y41), (0, .ref a0)]) (fun _ _ _ _ _ L => lv_istore_n hx hb dX4_isBalanced_121 rfl L (by decide) rfl) ?_
          refine x_upL (pc' := 125) (lo' := [(2, .int (y41 + (1 : Int32))), (1, .int (0 : Int32)), (0, .ref a0)]) (fun _ _ _ _ _ L => lv_iinc (v := y41 + (1 : Int32)) hx hb dX4_isBalanced_122 L (k := 1) rfl rfl (by decide) rfl) ?_
          refine x_up (pc' := 68) (fun _ _ _ _ _ L => lv_goto (tgt := 68) hx hb dX4_isBalanced_125 (by decide)) ?_
          refine x_lo (lo' := [(1, .int (0 : Int32)), (2, .int (y41 + (1 : Int32))), (0, .ref a0)]) [1, 0, 2] rfl ?_
          exact hself38 ((0 : Int32), (y41 + (1 : Int32))) σ43 hp47
        · have hp48 := hp46.2 c83
          refine x_up (pc' := 87) (fun _ _ _ _ _ L => lv_aload_n hx hb dX4_isBalanced_86 rfl (lv_at L 2 rfl)) ?_
          refine x_gq X (kX4 hG) 0 (by decide) q3266 (fun _ h => h) dX4_isBalanced_87 hp48 (fun v44 hp49 => ?_)
          refine x_pc (pc' := 90) rfl ?_
          refine x_up (pc' := 92) (fun _ _ _ _ _ L => lv_bipush (v := (73 : Int32)) hx hb dX4_isBalanced_90 (by decide)) ?_
          refine x_up (pc' := 93) (fun _ _ _ _ _ L => lv_iload_n hx hb dX4_isBalanced_92 rfl (lv_at L 1 rfl)) ?_
          refine x_up (pc' := 94) (fun _ _ _ _ _ L => lv_iadd hx hb dX4_isBalanced_93) ?_
          obtain ⟨b45, rfl, hp50⟩ := hp49
          refine x_iald X dX4_isBalanced_94 hp50 (fun v46 hp51 => ?_)
          refine x_pc (pc' := 95) rfl ?_
          refine x_up (pc' := 96) (fun _ _ _ _ _ L => lv_iconst (v := (-1 : Int32)) hx hb dX4_isBalanced_95 (by decide)) ?_
          refine x_if (C := v46 = (-1 : Int32)) (pt := 116) (pc' := 99) (fun _ _ _ _ _ => lv_icmp_eq (tgt := 116) hx hb dX4_isBalanced_96 (by decide)) (fun c96 => ?_) (fun c96 => ?_)
          · have hp52 := hp51.1 c96
            refine x_up (pc' := 117) (fun _ _ _ _ _ L => lv_iconst (v := (1 : Int32)) hx hb dX4_isBalanced_116 (by decide)) ?_
            refine x_up (pc' := 121) (fun _ _ _ _ _ L => lv_goto (tgt := 121) hx hb dX4_isBalanced_117 (by decide)) ?_
            refine x_upL (pc' := 122) (lo' := [(1, .int (1 : Int32)), (2, .int y41), (0, .ref a0)]) (fun _ _ _ _ _ L => lv_istore_n hx hb dX4_isBalanced_121 rfl L (by decide) rfl) ?_
            refine x_upL (pc' := 125) (lo' := [(2, .int (y41 + (1 : Int32))), (1, .int (1 : Int32)), (0, .ref a0)]) (fun _ _ _ _ _ L => lv_iinc (v := y41 + (1 : Int32)) hx hb dX4_isBalanced_122 L (k := 1) rfl rfl (by decide) rfl) ?_
            refine x_up (pc' := 68) (fun _ _ _ _ _ L => lv_goto (tgt := 68) hx hb dX4_isBalanced_125 (by decide)) ?_
            refine x_lo (lo' := [(1, .int (1 : Int32)), (2, .int (y41 + (1 : Int32))), (0, .ref a0)]) [1, 0, 2] rfl ?_
            exact hself38 ((1 : Int32), (y41 + (1 : Int32))) σ43 hp52
          · have hp53 := hp51.2 c96
            refine x_up (pc' := 100) (fun _ _ _ _ _ L => lv_aload_n hx hb dX4_isBalanced_99 rfl (lv_at L 2 rfl)) ?_
            refine x_up (pc' := 101) (fun _ _ _ _ _ L => lv_aload_n hx hb dX4_isBalanced_100 rfl (lv_at L 2 rfl)) ?_
            refine x_gq X (kX4 hG) 0 (by decide) q3266 (fun _ h => h) dX4_isBalanced_101 hp53 (fun v47 hp54 => ?_)
            refine x_pc (pc' := 104) rfl ?_
            refine x_up (pc' := 106) (fun _ _ _ _ _ L => lv_bipush (v := (73 : Int32)) hx hb dX4_isBalanced_104 (by decide)) ?_
            refine x_up (pc' := 107) (fun _ _ _ _ _ L => lv_iload_n hx hb dX4_isBalanced_106 rfl (lv_at L 1 rfl)) ?_
            refine x_up (pc' := 108) (fun _ _ _ _ _ L => lv_iadd hx hb dX4_isBalanced_107) ?_
            obtain ⟨b48, rfl, hp55⟩ := hp54
            refine x_iald X dX4_isBalanced_108 hp55 (fun v49 hp56 => ?_)
            refine x_pc (pc' := 109) rfl ?_
            refine x_callV (em := emI) (fun r st => .int r :: st) (fun _ _ => rfl) 1 X (kX4 hG) (fun σ' KK h => R_X4_lineWith l hl G hG a0 v49 σ' KK h) (lw_V q3365 q3367 qs61 q119 q3368) ⟨rfl, mdX4_lineWith⟩ ⟨Nat.le_of_ble_eq_true rfl, Nat.le_of_ble_eq_true rfl⟩ rfl rfl (Nat.le_of_ble_eq_true rfl) dX4_isBalanced_109 hp56.1 hp56.2 (fun v50 σ51 hp57 => ?_)
            refine x_pc (pc' := 112) rfl ?_
            refine x_up (pc' := 113) (fun _ _ _ _ _ L => lv_iload_n hx hb dX4_isBalanced_112 rfl (lv_at L 1 rfl)) ?_
            refine x_ifn (C := v50 = y41) (pt := 120) (pc' := 116) (fun _ _ _ _ _ => lv_icmp_ne (tgt := 120) hx hb dX4_isBalanced_113 (by decide)) (fun c113 => ?_) (fun c113 => ?_)
            · have hp58 := hp57.1 c113
              refine x_up (pc' := 117) (fun _ _ _ _ _ L => lv_iconst (v := (1 : Int32)) hx hb dX4_isBalanced_116 (by decide)) ?_
              refine x_up (pc' := 121) (fun _ _ _ _ _ L => lv_goto (tgt := 121) hx hb dX4_isBalanced_117 (by decide)) ?_
              refine x_upL (pc' := 122) (lo' := [(1, .int (1 : Int32)), (2, .int y41), (0, .ref a0)]) (fun _ _ _ _ _ L => lv_istore_n hx hb dX4_isBalanced_121 rfl L (by decide) rfl) ?_
              refine x_upL (pc' := 125) (lo' := [(2, .int (y41 + (1 : Int32))), (1, .int (1 : Int32)), (0, .ref a0)]) (fun _ _ _ _ _ L => lv_iinc (v := y41 + (1 : Int32)) hx hb dX4_isBalanced_122 L (k := 1) rfl rfl (by decide) rfl) ?_
              refine x_up (pc' := 68) (fun _ _ _ _ _ L => lv_goto (tgt := 68) hx hb dX4_isBalanced_125 (by decide)) ?_
              refine x_lo (lo' := [(1, .int (1 : Int32)), (2, .int (y41 + (1 : Int32))), (0, .ref a0)]) [1, 0, 2] rfl ?_
              exact hself38 ((1 : Int32), (y41 + (1 : Int32))) σ51 hp58
            · have hp59 := hp57.2 c113
              refine x_up (pc' := 121) (fun _ _ _ _ _ L => lv_iconst (v := (0 : Int32)) hx hb dX4_isBalanced_120 (by decide)) ?_
              refine x_upL (pc' := 122) (lo' := [(1, .int (0 : Int32)), (2, .int y41), (0, .ref a0)]) (fun _ _ _ _ _ L => lv_istore_n hx hb dX4_isBalanced_121 rfl L (by decide) rfl) ?_
              refine x_upL (pc' := 125) (lo' := [(2, .int (y41 + (1 : Int32))), (1, .int (0 : Int32)), (0, .ref a0)]) (fun _ _ _ _ _ L => lv_iinc (v := y41 + (1 : Int32)) hx hb dX4_isBalanced_122 L (k := 1) rfl rfl (by decide) rfl) ?_
              refine x_up (pc' := 68) (fun _ _ _ _ _ L => lv_goto (tgt := 68) hx hb dX4_isBalanced_125 (by decide)) ?_
              refine x_lo (lo' := [(1, .int (0 : Int32)), (2, .int (y41 + (1 : Int32))), (0, .ref a0)]) [1, 0, 2] rfl ?_
              exact hself38 ((0 : Int32), (y41 + (1 : Int32))) σ51 hp59
-- X4_undo
def P_X4_undo (κ : Nat → Nat) (a0 : Nat) (σ : xS) (K : Int32 → xH → Prop) : Prop :=
  xgi σ a0 10 3 fun v1 => ((v1 = 0 → (xrc σ a0 10 ∧ xcall (fun τ L => P_X4_fails κ a0 (1 : Int32) τ L) σ fun v2 σ3 => K v2 σ3.1)) ∧ (¬ v1 = 0 → (xgi σ a0 10 3 fun v4 => xpi κ σ a0 10 3 (v4 - (1 : Int32)) fun σ5 => xgq σ5 a0 10 2 fun v6 => xgi σ5 a0 10 3 fun v7 => xgq σ5 a0 10 0 fun v8 => xcall (fun τ L => P_X4_copy κ v6 (v7 * (357 : Int32)) v8 (0 : Int32) τ L) σ5 fun _ σ9 => xgi σ9 a0 10 3 fun v10 => xrc σ9 a0 10 ∧ xcall (fun τ L => P_X4_done κ a0 v10 τ L) σ9 fun v11 σ12 => K v11 σ12.1)))
theorem mdX4_undo : yX4_undo.cls ≠ "java/lang/invoke/MethodHandle" ∧ yX4_undo.cls ≠ "java/lang/invoke/VarHandle" ∧ (parseMethodDescriptor yX4_undo.desc).map (fun d => d.parameters.length) = some 0 := by decide +kernel
set_option maxHeartbeats 4000000 in
set_option maxRecDepth 100000 in
theorem R_X4_undo (l : Launch) (hl : l.stackTraces = false) (G : xG) (hG : G.1.2 = x_cl) (a0 : Nat) (σ : xS) (K : Int32 → xH → Prop) (hp : P_X4_undo G.2 a0 σ K) : xM l yX4_undo cX4_undo 1 (Option.some Jvm.ClassFile.FieldType.int) 1 24 G [(.ref a0)] σ (xlift emI K) := by
  refine x_entry (by decide) (Nat.le_of_ble_eq_true rfl) ?_
  intro p e s m args below meth c X hr hin
  have X : xX p s m args meth c G cX4_undo 1 RX4 := X
  have hx := X.1
  have hb := X.2.1
  have hts := X.2.2.2.2.1
  have hown := X.2.2.2.1
  unfold P_X4_undo at hp
  refine x_same (lo' := [(0, .ref a0)]) rfl ?_
  refine x_up (pc' := 1) (fun _ _ _ _ _ L => lv_aload_n hx hb dX4_undo_0 rfl (lv_at L 0 rfl)) ?_
  refine x_gi X (kX4 hG) 3 (by decide) q3269 (fun _ h => h) dX4_undo_1 hp (fun v1 hp1 => ?_)
  refine x_pc (pc' := 4) rfl ?_
  refine x_ifn (C := v1 = 0) (pt := 13) (pc' := 7) (fun _ _ _ _ _ => lv_if_ne (tgt := 13) hx hb dX4_undo_4 (by decide)) (fun c4 => ?_) (fun c4 => ?_)
  · have hp2 := hp1.1 c4
    refine x_up (pc' := 8) (fun _ _ _ _ _ L => lv_aload_n hx hb dX4_undo_7 rfl (lv_at L 0 rfl)) ?_
    refine x_up (pc' := 9) (fun _ _ _ _ _ L => lv_iconst (v := (1 : Int32)) hx hb dX4_undo_8 (by decide)) ?_
    refine x_callV (em := emI) (fun r st => .int r :: st) (fun _ _ => rfl) 1 X (kX4 hG) (fun σ' KK h => R_X4_fails l hl G hG a0 (1 : Int32) σ' KK h) (lw_V q3357 q3359 qs59 q119 q3360) ⟨rfl, mdX4_fails⟩ ⟨Nat.le_of_ble_eq_true rfl, Nat.le_of_ble_eq_true rfl⟩ rfl rfl (Nat.le_of_ble_eq_true rfl) dX4_undo_9 hp2.1 hp2.2 (fun v2 σ3 hp3 => ?_)
    refine x_pc (pc' := 12) rfl ?_
    exact x_iret X hr rfl dX4_undo_12 hp3
  · have hp4 := hp1.2 c4
    refine x_up (pc' := 14) (fun _ _ _ _ _ L => lv_aload_n hx hb dX4_undo_13 rfl (lv_at L 0 rfl)) ?_
    refine x_up (pc' := 15) (fun _ _ _ _ _ L => lv_dup hx hb dX4_undo_14 rfl) ?_
    refine x_gi X (kX4 hG) 3 (by decide) q3269 (fun _ h => h) dX4_undo_15 hp4 (fun v4 hp5 => ?_)
    refine x_pc (pc' := 18) rfl ?_
    refine x_up (pc' := 19) (fun _ _ _ _ _ L => lv_iconst (v := (1 : Int32)) hx hb dX4_undo_18 (by decide)) ?_
    refine x_up (pc' := 20) (fun _ _ _ _ _ L => lv_isub hx hb dX4_undo_19) ?_
    refine x_pi X (kX4 hG) 3 (by decide) q3269 (fun _ h => h) rfl rfl rfl dX4_undo_20 hp5 (fun σ5 hp6 => ?_)
    refine x_pc (pc' := 23) rfl ?_
    refine x_up (pc' := 24) (fun _ _ _ _ _ L => lv_aload_n hx hb dX4_undo_23 rfl (lv_at L 0 rfl)) ?_
    refine x_gq X (kX4 hG) 2 (by decide) q3268 (fun _ h => h) dX4_undo_24 hp6 (fun v6 hp7 => ?_)
    refine x_pc (pc' := 27) rfl ?_
    refine x_up (pc' := 28) (fun _ _ _ _ _ L => lv_aload_n hx hb dX4_undo_27 rfl (lv_at L 0 rfl)) ?_
    refine x_gi X (kX4 hG) 3 (by decide) q3269 (fun _ h => h) dX4_undo_28 hp7 (fun v7 hp8 => ?_)
    refine x_pc (pc' := 31) rfl ?_
    refine x_up (pc' := 34) (fun _ _ _ _ _ L => lv_sipush (v := (357 : Int32)) hx hb dX4_undo_31 (by decide)) ?_
    refine x_up (pc' := 35) (fun _ _ _ _ _ L => lv_imul hx hb dX4_undo_34) ?_
    refine x_up (pc' := 36) (fun _ _ _ _ _ L => lv_aload_n hx hb dX4_undo_35 rfl (lv_at L 0 rfl)) ?_
    refine x_gq X (kX4 hG) 0 (by decide) q3266 (fun _ h => h) dX4_undo_36 hp8 (fun v8 hp9 => ?_)
    refine x_pc (pc' := 39) rfl ?_
    refine x_up (pc' := 40) (fun _ _ _ _ _ L => lv_iconst (v := (0 : Int32)) hx hb dX4_undo_39 (by decide)) ?_
    refine x_callS (em := emV) (fun r st => st) (fun _ _ => rfl) 4 X (fun σ' KK h => R_X4_copy l hl G hG v6 (v7 * (357 : Int32)) v8 (0 : Int32) σ' KK h) (lw_S q3340 q3341 q119 q3342) mdX4_copy ⟨Nat.le_of_ble_eq_true rfl, Nat.le_of_ble_eq_true rfl⟩ rfl rfl (Nat.le_of_ble_eq_true rfl) dX4_undo_40 hp9 (fun _ σ9 hp10 => ?_)
    refine x_pc (pc' := 43) rfl ?_
    refine x_up (pc' := 44) (fun _ _ _ _ _ L => lv_aload_n hx hb dX4_undo_43 rfl (lv_at L 0 rfl)) ?_
    refine x_up (pc' := 45) (fun _ _ _ _ _ L => lv_aload_n hx hb dX4_undo_44 rfl (lv_at L 0 rfl)) ?_
    refine x_gi X (kX4 hG) 3 (by decide) q3269 (fun _ h => h) dX4_undo_45 hp10 (fun v10 hp11 => ?_)
    refine x_pc (pc' := 48) rfl ?_
    refine x_callV (em := emI) (fun r st => .int r :: st) (fun _ _ => rfl) 1 X (kX4 hG) (fun σ' KK h => R_X4_done l hl G hG a0 v10 σ' KK h) (lw_V q3404 q3406 qs70 q119 q3407) ⟨rfl, mdX4_done⟩ ⟨Nat.le_of_ble_eq_true rfl, Nat.le_of_ble_eq_true rfl⟩ rfl rfl (Nat.le_of_ble_eq_true rfl) dX4_undo_48 hp11.1 hp11.2 (fun v11 σ12 hp12 => ?_)
    refine x_pc (pc' := 51) rfl ?_
    exact x_iret X hr rfl dX4_undo_51 hp12
-- X4_save
def P_X4_save (κ : Nat → Nat) (a0 : Nat) (σ : xS) (K : Int32 → xH → Prop) : Prop :=
  xgq σ a0 10 0 fun v1 => xgq σ a0 10 4 fun v2 => xcall (fun τ L => P_X4_copy κ v1 (0 : Int32) v2 (0 : Int32) τ L) σ fun _ σ3 => xpi κ σ3 a0 10 5 (1 : Int32) fun σ4 => xgq σ4 a0 10 0 fun v5 => xnn v5 fun b6 => xai .int σ4 b6 (0 : Int32) fun v7 => xrc σ4 a0 10 ∧ xcall (fun τ L => P_X4_done κ a0 v7 τ L) σ4 fun v8 σ9 => K v8 σ9.1
theorem mdX4_save : yX4_save.cls ≠ "java/lang/invoke/MethodHandle" ∧ yX4_save.cls ≠ "java/lang/invoke/VarHandle" ∧ (parseMethodDescriptor yX4_save.desc).map (fun d => d.parameters.length) = some 0 := by decide +kernel
set_option maxHeartbeats 4000000 in
set_option maxRecDepth 100000 in
theorem R_X4_save (l : Launch) (hl : l.stackTraces = false) (G : xG) (hG : G.1.2 = x_cl) (a0 : Nat) (σ : xS) (K : Int32 → xH → Prop) (hp : P_X4_save G.2 a0 σ K) : xM l yX4_save cX4_save 1 (Option.some Jvm.ClassFile.FieldType.int) 1 24 G [(.ref a0)] σ (xlift emI K) := by
  refine x_entry (by decide) (Nat.le_of_ble_eq_true rfl) ?_
  intro p e s m args below meth c X hr hin
  have X : xX p s m args meth c G cX4_save 1 RX4 := X
  have hx := X.1
  have hb := X.2.1
  have hts := X.2.2.2.2.1
  have hown := X.2.2.2.1
  unfold P_X4_save at hp
  refine x_same (lo' := [(0, .ref a0)]) rfl ?_
  refine x_up (pc' := 1) (fun _ _ _ _ _ L => lv_aload_n hx hb dX4_save_0 rfl (lv_at L 0 rfl)) ?_
  refine x_gq X (kX4 hG) 0 (by decide) q3266 (fun _ h => h) dX4_save_1 hp (fun v1 hp1 => ?_)
  refine x_pc (pc' := 4) rfl ?_
  refine x_up (pc' := 5) (fun _ _ _ _ _ L => lv_iconst (v := (0 : Int32)) hx hb dX4_save_4 (by decide)) ?_
  refine x_up (pc' := 6) (fun _ _ _ _ _ L => lv_aload_n hx hb dX4_save_5 rfl (lv_at L 0 rfl)) ?_
  refine x_gq X (kX4 hG) 4 (by decide) q3270 (fun _ h => h) dX4_save_6 hp1 (fun v2 hp2 => ?_)
  refine x_pc (pc' := 9) rfl ?_
  refine x_up (pc' := 10) (fun _ _ _ _ _ L => lv_iconst (v := (0 : Int32)) hx hb dX4_save_9 (by decide)) ?_
  refine x_callS (em := emV) (fun r st => st) (fun _ _ => rfl) 4 X (fun σ' KK h => R_X4_copy l hl G hG v1 (0 : Int32) v2 (0 : Int32) σ' KK h) (lw_S q3340 q3341 q119 q3342) mdX4_copy ⟨Nat.le_of_ble_eq_true rfl, Nat.le_of_ble_eq_true rfl⟩ rfl rfl (Nat.le_of_ble_eq_true rfl) dX4_save_10 hp2 (fun _ σ3 hp3 => ?_)
  refine x_pc (pc' := 13) rfl ?_
  refine x_up (pc' := 14) (fun _ _ _ _ _ L => lv_aload_n hx hb dX4_save_13 rfl (lv_at L 0 rfl)) ?_
  refine x_up (pc' := 15) (fun _ _ _ _ _ L => lv_iconst (v := (1 : Int32)) hx hb dX4_save_14 (by decide)) ?_
  refine x_pi X (kX4 hG) 5 (by decide) q3271 (fun _ h => h) rfl rfl rfl dX4_save_15 hp3 (fun σ4 hp4 => ?_)
  refine x_pc (pc' := 18) rfl ?_
  refine x_up (pc' := 19) (fun _ _ _ _ _ L => lv_aload_n hx hb dX4_save_18 rfl (lv_at L 0 rfl)) ?_
  refine x_up (pc' := 20) (fun _ _ _ _ _ L => lv_aload_n hx hb dX4_save_19 rfl (lv_at L 0 rfl)) ?_
  refine x_gq X (kX4 hG) 0 (by decide) q3266 (fun _ h => h) dX4_save_20 hp4 (fun v5 hp5 => ?_)
  refine x_pc (pc' := 23) rfl ?_
  refine x_up (pc' := 24) (fun _ _ _ _ _ L => lv_iconst (v := (0 : Int32)) hx hb dX4_save_23 (by decide)) ?_
  obtain ⟨b6, rfl, hp6⟩ := hp5
  refine x_iald X dX4_save_24 hp6 (fun v7 hp7 => ?_)
  refine x_pc (pc' := 25) rfl ?_
  refine x_callV (em := emI) (fun r st => .int r :: st) (fun _ _ => rfl) 1 X (kX4 hG) (fun σ' KK h => R_X4_done l hl G hG a0 v7 σ' KK h) (lw_V q3404 q3406 qs70 q119 q3407) ⟨rfl, mdX4_done⟩ ⟨Nat.le_of_ble_eq_true rfl, Nat.le_of_ble_eq_true rfl⟩ rfl rfl (Nat.le_of_ble_eq_true rfl) dX4_save_25 hp7.1 hp7.2 (fun v8 σ9 hp8 => ?_)
  refine x_pc (pc' := 28) rfl ?_
  exact x_iret X hr rfl dX4_save_28 hp8
-- X4_restore
def P_X4_restore (κ : Nat → Nat) (a0 : Nat) (σ : xS) (K : Int32 → xH → Prop) : Prop :=
  xgi σ a0 10 5 fun v1 => ((v1 = 0 → (xrc σ a0 10 ∧ xcall (fun τ L => P_X4_fails κ a0 (1 : Int32) τ L) σ fun v2 σ3 => K v2 σ3.1)) ∧ (¬ v1 = 0 → (xgq σ a0 10 4 fun v4 => xgq σ a0 10 0 fun v5 => xcall (fun τ L => P_X4_copy κ v4 (0 : Int32) v5 (0 : Int32) τ L) σ fun _ σ6 => xpi κ σ6 a0 10 3 (0 : Int32) fun σ7 => xgq σ7 a0 10 0 fun v8 => xnn v8 fun b9 => xai .int σ7 b9 (0 : Int32) fun v10 => xrc σ7 a0 10 ∧ xcall (fun τ L => P_X4_done κ a0 v10 τ L) σ7 fun v11 σ12 => K v11 σ12.1)))
theorem mdX4_restore : yX4_restore.cls ≠ "java/lang/invoke/MethodHandle" ∧ yX4_restore.cls ≠ "java/lang/invoke/VarHandle" ∧ (parseMethodDescriptor yX4_restore.desc).map (fun d => d.parameters.length) = some 0 := by decide +kernel
set_option maxHeartbeats 4000000 in
set_option maxRecDepth 100000 in
theorem R_X4_restore (l : Launch) (hl : l.stackTraces = false) (G : xG) (hG : G.1.2 = x_cl) (a0 : Nat) (σ : xS) (K : Int32 → xH → Prop) (hp : P_X4_restore G.2 a0 σ K) : xM l yX4_restore cX4_restore 1 (Option.some Jvm.ClassFile.FieldType.int) 1 24 G [(.ref a0)] σ (xlift emI K) := by
  refine x_entry (by decide) (Nat.le_of_ble_eq_true rfl) ?_
  intro p e s m args below meth c X hr hin
  have X : xX p s m args meth c G cX4_restore 1 RX4 := X
  have hx := X.1
  have hb := X.2.1
  have hts := X.2.2.2.2.1
  have hown := X.2.2.2.1
  unfold P_X4_restore at hp
  refine x_same (lo' := [(0, .ref a0)]) rfl ?_
  refine x_up (pc' := 1) (fun _ _ _ _ _ L => lv_aload_n hx hb dX4_restore_0 rfl (lv_at L 0 rfl)) ?_
  refine x_gi X (kX4 hG) 5 (by decide) q3271 (fun _ h => h) dX4_restore_1 hp (fun v1 hp1 => ?_)
  refine x_pc (pc' := 4) rfl ?_
  refine x_ifn (C := v1 = 0) (pt := 13) (pc' := 7) (fun _ _ _ _ _ => lv_if_ne (tgt := 13) hx hb dX4_restore_4 (by decide)) (fun c4 => ?_) (fun c4 => ?_)
  · have hp2 := hp1.1 c4
    refine x_up (pc' := 8) (fun _ _ _ _ _ L => lv_aload_n hx hb dX4_restore_7 rfl (lv_at L 0 rfl)) ?_
    refine x_up (pc' := 9) (fun _ _ _ _ _ L => lv_iconst (v := (1 : Int32)) hx hb dX4_restore_8 (by decide)) ?_
    refine x_callV (em := emI) (fun r st => .int r :: st) (fun _ _ => rfl) 1 X (kX4 hG) (fun σ' KK h => R_X4_fails l hl G hG a0 (1 : Int32) σ' KK h) (lw_V q3357 q3359 qs59 q119 q3360) ⟨rfl, mdX4_fails⟩ ⟨Nat.le_of_ble_eq_true rfl, Nat.le_of_ble_eq_true rfl⟩ rfl rfl (Nat.le_of_ble_eq_true rfl) dX4_restore_9 hp2.1 hp2.2 (fun v2 σ3 hp3 => ?_)
    refine x_pc (pc' := 12) rfl ?_
    exact x_iret X hr rfl dX4_restore_12 hp3
  · have hp4 := hp1.2 c4
    refine x_up (pc' := 14) (fun _ _ _ _ _ L => lv_aload_n hx hb dX4_restore_13 rfl (lv_at L 0 rfl)) ?_
    refine x_gq X (kX4 hG) 4 (by decide) q3270 (fun _ h => h) dX4_restore_14 hp4 (fun v4 hp5 => ?_)
    refine x_pc (pc' := 17) rfl ?_
    refine x_up (pc' := 18) (fun _ _ _ _ _ L => lv_iconst (v := (0 : Int32)) hx hb dX4_restore_17 (by decide)) ?_
    refine x_up (pc' := 19) (fun _ _ _ _ _ L => lv_aload_n hx hb dX4_restore_18 rfl (lv_at L 0 rfl)) ?_
    refine x_gq X (kX4 hG) 0 (by decide) q3266 (fun _ h => h) dX4_restore_19 hp5 (fun v5 hp6 => ?_)
    refine x_pc (pc' := 22) rfl ?_
    refine x_up (pc' := 23) (fun _ _ _ _ _ L => lv_iconst (v := (0 : Int32)) hx hb dX4_restore_22 (by decide)) ?_
    refine x_callS (em := emV) (fun r st => st) (fun _ _ => rfl) 4 X (fun σ' KK h => R_X4_copy l hl G hG v4 (0 : Int32) v5 (0 : Int32) σ' KK h) (lw_S q3340 q3341 q119 q3342) mdX4_copy ⟨Nat.le_of_ble_eq_true rfl, Nat.le_of_ble_eq_true rfl⟩ rfl rfl (Nat.le_of_ble_eq_true rfl) dX4_restore_23 hp6 (fun _ σ6 hp7 => ?_)
    refine x_pc (pc' := 26) rfl ?_
    refine x_up (pc' := 27) (fun _ _ _ _ _ L => lv_aload_n hx hb dX4_restore_26 rfl (lv_at L 0 rfl)) ?_
    refine x_up (pc' := 28) (fun _ _ _ _ _ L => lv_iconst (v := (0 : Int32)) hx hb dX4_restore_27 (by decide)) ?_
    refine x_pi X (kX4 hG) 3 (by decide) q3269 (fun _ h => h) rfl rfl rfl dX4_restore_28 hp7 (fun σ7 hp8 => ?_)
    refine x_pc (pc' := 31) rfl ?_
    refine x_up (pc' := 32) (fun _ _ _ _ _ L => lv_aload_n hx hb dX4_restore_31 rfl (lv_at L 0 rfl)) ?_
    refine x_up (pc' := 33) (fun _ _ _ _ _ L => lv_aload_n hx hb dX4_restore_32 rfl (lv_at L 0 rfl)) ?_
    refine x_gq X (kX4 hG) 0 (by decide) q3266 (fun _ h => h) dX4_restore_33 hp8 (fun v8 hp9 => ?_)
    refine x_pc (pc' := 36) rfl ?_
    refine x_up (pc' := 37) (fun _ _ _ _ _ L => lv_iconst (v := (0 : Int32)) hx hb dX4_restore_36 (by decide)) ?_
    obtain ⟨b9, rfl, hp10⟩ := hp9
    refine x_iald X dX4_restore_37 hp10 (fun v10 hp11 => ?_)
    refine x_pc (pc' := 38) rfl ?_
    refine x_callV (em := emI) (fun r st => .int r :: st) (fun _ _ => rfl) 1 X (kX4 hG) (fun σ' KK h => R_X4_done l hl G hG a0 v10 σ' KK h) (lw_V q3404 q3406 qs70 q119 q3407) ⟨rfl, mdX4_done⟩ ⟨Nat.le_of_ble_eq_true rfl, Nat.le_of_ble_eq_true rfl⟩ rfl rfl (Nat.le_of_ble_eq_true rfl) dX4_restore_38 hp11.1 hp11.2 (fun v11 σ12 hp12 => ?_)
    refine x_pc (pc' := 41) rfl ?_
    exact x_iret X hr rfl dX4_restore_41 hp12
-- J0_init
def P_J0_init (κ : Nat → Nat) (a0 : Nat) (σ : xS) (K : Unit → xH → Prop) : Prop :=
  K () σ.1
theorem mdJ0_init : yJ0_init.cls ≠ "java/lang/invoke/MethodHandle" ∧ yJ0_init.cls ≠ "java/lang/invoke/VarHandle" ∧ (parseMethodDescriptor yJ0_init.desc).map (fun d => d.parameters.length) = some 0 := by decide +kernel
set_option maxHeartbeats 4000000 in
set_option maxRecDepth 100000 in
theorem R_J0_init (l : Launch) (hl : l.stackTraces = false) (G : xG) (hG : G.1.2 = x_cl) (a0 : Nat) (σ : xS) (K : Unit → xH → Prop) (hp : P_J0_init G.2 a0 σ K) : xM l yJ0_init cJ0_init 1 (Option.none : Option Jvm.ClassFile.FieldType) 1 20 G [(.ref a0)] σ (xlift emV K) := by
  refine x_entry (by decide) (Nat.le_of_ble_eq_true rfl) ?_
  intro p e s m args below meth c X hr hin
  have X : xX p s m args meth c G cJ0_init 1 RJ0 := X
  have hx := X.1
  have hb := X.2.1
  have hts := X.2.2.2.2.1
  have hown := X.2.2.2.1
  unfold P_J0_init at hp
  refine x_same (lo' := [(0, .ref a0)]) rfl ?_
  refine x_up (pc' := 1) (fun _ _ _ _ _ L => lv_aload_n hx hb dJ0_init_0 rfl (lv_at L 0 rfl)) ?_
  refine x_objInit X q186 q170 q171 dJ0_init_1 (Nat.le_of_ble_eq_true rfl) ⟨Nat.le_of_ble_eq_true rfl, Nat.le_of_ble_eq_true rfl⟩ ?_
  refine x_pc (pc' := 4) rfl ?_
  exact x_vret X hr dJ0_init_4 hp
-- J1_init
def P_J1_init (κ : Nat → Nat) (a0 : Nat) (σ : xS) (K : Unit → xH → Prop) : Prop :=
  xcall (fun τ L => P_J0_init κ a0 τ L) σ fun _ σ1 => xpi κ σ1 a0 2 4 (0 : Int32) fun σ2 => xpi κ σ2 a0 2 5 (0 : Int32) fun σ3 => xpq κ σ3 a0 2 2 none fun σ4 => K () σ4.1
theorem mdJ1_init : yJ1_init.cls ≠ "java/lang/invoke/MethodHandle" ∧ yJ1_init.cls ≠ "java/lang/invoke/VarHandle" ∧ (parseMethodDescriptor yJ1_init.desc).map (fun d => d.parameters.length) = some 0 := by decide +kernel
set_option maxHeartbeats 4000000 in
set_option maxRecDepth 100000 in
theorem R_J1_init (l : Launch) (hl : l.stackTraces = false) (G : xG) (hG : G.1.2 = x_cl) (a0 : Nat) (σ : xS) (K : Unit → xH → Prop) (hp : P_J1_init G.2 a0 σ K) : xM l yJ1_init cJ1_init 1 (Option.none : Option Jvm.ClassFile.FieldType) 2 40 G [(.ref a0)] σ (xlift emV K) := by
  refine x_entry (by decide) (Nat.le_of_ble_eq_true rfl) ?_
  intro p e s m args below meth c X hr hin
  have X : xX p s m args meth c G cJ1_init 1 RJ1 := X
  have hx := X.1
  have hb := X.2.1
  have hts := X.2.2.2.2.1
  have hown := X.2.2.2.1
  unfold P_J1_init at hp
  refine x_same (lo' := [(0, .ref a0)]) rfl ?_
  refine x_up (pc' := 1) (fun _ _ _ _ _ L => lv_aload_n hx hb dJ1_init_0 rfl (lv_at L 0 rfl)) ?_
  refine x_callI 0 X (fun σ' KK h => R_J0_init l hl G hG a0 σ' KK h) (lw_meth q185) q101 q183 q184 rfl mdJ0_init ⟨Nat.le_of_ble_eq_true rfl, Nat.le_of_ble_eq_true rfl⟩ rfl rfl (Nat.le_of_ble_eq_true rfl) dJ1_init_1 hp (fun σ1 hp1 => ?_)
  refine x_pc (pc' := 4) rfl ?_
  refine x_up (pc' := 5) (fun _ _ _ _ _ L => lv_aload_n hx hb dJ1_init_4 rfl (lv_at L 0 rfl)) ?_
  refine x_up (pc' := 6) (fun _ _ _ _ _ L => lv_iconst (v := (0 : Int32)) hx hb dJ1_init_5 (by decide)) ?_
  refine x_pi X (kJ1 hG) 4 (by decide) q189 (fun _ h => h) rfl rfl rfl dJ1_init_6 hp1 (fun σ2 hp2 => ?_)
  refine x_pc (pc' := 9) rfl ?_
  refine x_up (pc' := 10) (fun _ _ _ _ _ L => lv_aload_n hx hb dJ1_init_9 rfl (lv_at L 0 rfl)) ?_
  refine x_up (pc' := 11) (fun _ _ _ _ _ L => lv_iconst (v := (0 : Int32)) hx hb dJ1_init_10 (by decide)) ?_
  refine x_pi X (kJ1 hG) 5 (by decide) q190 (fun _ h => h) rfl rfl rfl dJ1_init_11 hp2 (fun σ3 hp3 => ?_)
  refine x_pc (pc' := 14) rfl ?_
  refine x_up (pc' := 15) (fun _ _ _ _ _ L => lv_aload_n hx hb dJ1_init_14 rfl (lv_at L 0 rfl)) ?_
  refine x_up (pc' := 16) (fun _ _ _ _ _ L => lv_null hx hb dJ1_init_15) ?_
  refine x_pqF X (kJ1 hG) 2 (by decide) q187 (fun _ h => h) rfl hin rfl none (x_nar _ (by decide)) (x_fit _ (by decide)) dJ1_init_16 hp3 (fun σ4 hp4 => ?_)
  refine x_pc (pc' := 19) rfl ?_
  exact x_vret X hr dJ1_init_19 hp4
-- J2_init_J4
def P_J2_init_J4 (κ : Nat → Nat) (a0 : Nat) (σ : xS) (K : Unit → xH → Prop) : Prop :=
  K () σ.1
theorem mdJ2_init : yJ2_init.cls ≠ "java/lang/invoke/MethodHandle" ∧ yJ2_init.cls ≠ "java/lang/invoke/VarHandle" ∧ (parseMethodDescriptor yJ2_init.desc).map (fun d => d.parameters.length) = some 0 := by decide +kernel
set_option maxHeartbeats 4000000 in
set_option maxRecDepth 100000 in
theorem R_J2_init_J4 (l : Launch) (hl : l.stackTraces = false) (G : xG) (hG : G.1.2 = x_cl) (a0 : Nat) (σ : xS) (K : Unit → xH → Prop) (hp : P_J2_init_J4 G.2 a0 σ K) : xM l yJ2_init cJ2_init 1 (Option.none : Option Jvm.ClassFile.FieldType) 1 20 G [(.ref a0)] σ (xlift emV K) := by
  refine x_entry (by decide) (Nat.le_of_ble_eq_true rfl) ?_
  intro p e s m args below meth c X hr hin
  have X : xX p s m args meth c G cJ2_init 1 RJ2 := X
  have hx := X.1
  have hb := X.2.1
  have hts := X.2.2.2.2.1
  have hown := X.2.2.2.1
  unfold P_J2_init_J4 at hp
  refine x_same (lo' := [(0, .ref a0)]) rfl ?_
  refine x_up (pc' := 1) (fun _ _ _ _ _ L => lv_aload_n hx hb dJ2_init_0 rfl (lv_at L 0 rfl)) ?_
  refine x_objInit X q224 q170 q171 dJ2_init_1 (Nat.le_of_ble_eq_true rfl) ⟨Nat.le_of_ble_eq_true rfl, Nat.le_of_ble_eq_true rfl⟩ ?_
  refine x_pc (pc' := 4) rfl ?_
  exact x_vret X hr dJ2_init_4 hp
-- J3_init
def P_J3_init (κ : Nat → Nat) (a0 : Nat) (σ : xS) (K : Unit → xH → Prop) : Prop :=
  xcall (fun τ L => P_J2_init_J4 κ a0 τ L) σ fun _ σ1 => xpi κ σ1 a0 3 0 (0 : Int32) fun σ2 => K () σ2.1
theorem mdJ3_init : yJ3_init.cls ≠ "java/lang/invoke/MethodHandle" ∧ yJ3_init.cls ≠ "java/lang/invoke/VarHandle" ∧ (parseMethodDescriptor yJ3_init.desc).map (fun d => d.parameters.length) = some 0 := by decide +kernel
set_option maxHeartbeats 4000000 in
set_option maxRecDepth 100000 in
theorem R_J3_init (l : Launch) (hl : l.stackTraces = false) (G : xG) (hG : G.1.2 = x_cl) (a0 : Nat) (σ : xS) (K : Unit → xH → Prop) (hp : P_J3_init G.2 a0 σ K) : xM l yJ3_init cJ3_init 1 (Option.none : Option Jvm.ClassFile.FieldType) 2 40 G [(.ref a0)] σ (xlift emV K) := by
  refine x_entry (by decide) (Nat.le_of_ble_eq_true rfl) ?_
  intro p e s m args below meth c X hr hin
  have X : xX p s m args meth c G cJ3_init 1 RJ3 := X
  have hx := X.1
  have hb := X.2.1
  have hts := X.2.2.2.2.1
  have hown := X.2.2.2.1
  unfold P_J3_init at hp
  refine x_same (lo' := [(0, .ref a0)]) rfl ?_
  refine x_up (pc' := 1) (fun _ _ _ _ _ L => lv_aload_n hx hb dJ3_init_0 rfl (lv_at L 0 rfl)) ?_
  refine x_callI 0 X (fun σ' KK h => R_J2_init_J4 l hl G hG a0 σ' KK h) (lw_meth q223) q103 q221 q222 rfl mdJ2_init ⟨Nat.le_of_ble_eq_true rfl, Nat.le_of_ble_eq_true rfl⟩ rfl rfl (Nat.le_of_ble_eq_true rfl) dJ3_init_1 hp (fun σ1 hp1 => ?_)
  refine x_pc (pc' := 4) rfl ?_
  refine x_up (pc' := 5) (fun _ _ _ _ _ L => lv_aload_n hx hb dJ3_init_4 rfl (lv_at L 0 rfl)) ?_
  refine x_up (pc' := 6) (fun _ _ _ _ _ L => lv_iconst (v := (0 : Int32)) hx hb dJ3_init_5 (by decide)) ?_
  refine x_pi X (kJ4 hG) 0 (by decide) q231 (fun _ h => h) rfl rfl rfl dJ3_init_6 hp1 (fun σ2 hp2 => ?_)
  refine x_pc (pc' := 9) rfl ?_
  exact x_vret X hr dJ3_init_9 hp2
-- J4_init
def P_J4_init (κ : Nat → Nat) (a0 : Nat) (σ : xS) (K : Unit → xH → Prop) : Prop :=
  xcall (fun τ L => P_J3_init κ a0 τ L) σ fun _ σ1 => xpq κ σ1 a0 3 1 (some (κ 2)) fun σ2 => K () σ2.1
theorem mdJ4_init : yJ4_init.cls ≠ "java/lang/invoke/MethodHandle" ∧ yJ4_init.cls ≠ "java/lang/invoke/VarHandle" ∧ (parseMethodDescriptor yJ4_init.desc).map (fun d => d.parameters.length) = some 0 := by decide +kernel
set_option maxHeartbeats 4000000 in
set_option maxRecDepth 100000 in
theorem R_J4_init (l : Launch) (hl : l.stackTraces = false) (G : xG) (hG : G.1.2 = x_cl) (a0 : Nat) (σ : xS) (K : Unit → xH → Prop) (hp : P_J4_init G.2 a0 σ K) : xM l yJ4_init cJ4_init 1 (Option.none : Option Jvm.ClassFile.FieldType) 3 60 G [(.ref a0)] σ (xlift emV K) := by
  refine x_entry (by decide) (Nat.le_of_ble_eq_true rfl) ?_
  intro p e s m args below meth c X hr hin
  have X : xX p s m args meth c G cJ4_init 1 RJ4 := X
  have hx := X.1
  have hb := X.2.1
  have hts := X.2.2.2.2.1
  have hown := X.2.2.2.1
  unfold P_J4_init at hp
  refine x_same (lo' := [(0, .ref a0)]) rfl ?_
  refine x_up (pc' := 1) (fun _ _ _ _ _ L => lv_aload_n hx hb dJ4_init_0 rfl (lv_at L 0 rfl)) ?_
  refine x_callI 0 X (fun σ' KK h => R_J3_init l hl G hG a0 σ' KK h) (lw_meth q220) q104 q218 q219 rfl mdJ3_init ⟨Nat.le_of_ble_eq_true rfl, Nat.le_of_ble_eq_true rfl⟩ rfl rfl (Nat.le_of_ble_eq_true rfl) dJ4_init_1 hp (fun σ1 hp1 => ?_)
  refine x_pc (pc' := 4) rfl ?_
  refine x_up (pc' := 5) (fun _ _ _ _ _ L => lv_aload_n hx hb dJ4_init_4 rfl (lv_at L 0 rfl)) ?_
  refine x_gets (C := "java/util/ArrayList") (n := "DEFAULTCAPACITY_EMPTY_ELEMENTDATA") (d := "[Ljava/lang/Object;") (v := .ref (G.2 2)) X (by simp [x_sts]) q225 (fun _ h => h) dJ4_init_5 ?_
  refine x_pc (pc' := 8) rfl ?_
  refine x_pq X (kJ4 hG) 1 (by decide) q227 (fun _ h => h) rfl (some (G.2 2)) (x_nar _ (by decide)) (x_fit _ (by decide)) dJ4_init_8 hp1 (fun σ2 hp2 => ?_)
  refine x_pc (pc' := 11) rfl ?_
  exact x_vret X hr dJ4_init_11 hp2
-- J2_init_J6
def P_J2_init_J6 (κ : Nat → Nat) (a0 : Nat) (σ : xS) (K : Unit → xH → Prop) : Prop :=
  K () σ.1
set_option maxHeartbeats 4000000 in
set_option maxRecDepth 100000 in
theorem R_J2_init_J6 (l : Launch) (hl : l.stackTraces = false) (G : xG) (hG : G.1.2 = x_cl) (a0 : Nat) (σ : xS) (K : Unit → xH → Prop) (hp : P_J2_init_J6 G.2 a0 σ K) : xM l yJ2_init cJ2_init 1 (Option.none : Option Jvm.ClassFile.FieldType) 1 20 G [(.ref a0)] σ (xlift emV K) := by
  refine x_entry (by decide) (Nat.le_of_ble_eq_true rfl) ?_
  intro p e s m args below meth c X hr hin
  have X : xX p s m args meth c G cJ2_init 1 RJ2 := X
  have hx := X.1
  have hb := X.2.1
  have hts := X.2.2.2.2.1
  have hown := X.2.2.2.1
  unfold P_J2_init_J6 at hp
  refine x_same (lo' := [(0, .ref a0)]) rfl ?_
  refine x_up (pc' := 1) (fun _ _ _ _ _ L => lv_aload_n hx hb dJ2_init_0 rfl (lv_at L 0 rfl)) ?_
  refine x_objInit X q224 q170 q171 dJ2_init_1 (Nat.le_of_ble_eq_true rfl) ⟨Nat.le_of_ble_eq_true rfl, Nat.le_of_ble_eq_true rfl⟩ ?_
  refine x_pc (pc' := 4) rfl ?_
  exact x_vret X hr dJ2_init_4 hp
-- J3_init_J6
def P_J3_init_J6 (κ : Nat → Nat) (a0 : Nat) (σ : xS) (K : Unit → xH → Prop) : Prop :=
  xcall (fun τ L => P_J2_init_J6 κ a0 τ L) σ fun _ σ1 => xpi κ σ1 a0 4 0 (0 : Int32) fun σ2 => K () σ2.1
set_option maxHeartbeats 4000000 in
set_option maxRecDepth 100000 in
theorem R_J3_init_J6 (l : Launch) (hl : l.stackTraces = false) (G : xG) (hG : G.1.2 = x_cl) (a0 : Nat) (σ : xS) (K : Unit → xH → Prop) (hp : P_J3_init_J6 G.2 a0 σ K) : xM l yJ3_init cJ3_init 1 (Option.none : Option Jvm.ClassFile.FieldType) 2 40 G [(.ref a0)] σ (xlift emV K) := by
  refine x_entry (by decide) (Nat.le_of_ble_eq_true rfl) ?_
  intro p e s m args below meth c X hr hin
  have X : xX p s m args meth c G cJ3_init 1 RJ3 := X
  have hx := X.1
  have hb := X.2.1
  have hts := X.2.2.2.2.1
  have hown := X.2.2.2.1
  unfold P_J3_init_J6 at hp
  refine x_same (lo' := [(0, .ref a0)]) rfl ?_
  refine x_up (pc' := 1) (fun _ _ _ _ _ L => lv_aload_n hx hb dJ3_init_0 rfl (lv_at L 0 rfl)) ?_
  refine x_callI 0 X (fun σ' KK h => R_J2_init_J6 l hl G hG a0 σ' KK h) (lw_meth q223) q103 q221 q222 rfl mdJ2_init ⟨Nat.le_of_ble_eq_true rfl, Nat.le_of_ble_eq_true rfl⟩ rfl rfl (Nat.le_of_ble_eq_true rfl) dJ3_init_1 hp (fun σ1 hp1 => ?_)
  refine x_pc (pc' := 4) rfl ?_
  refine x_up (pc' := 5) (fun _ _ _ _ _ L => lv_aload_n hx hb dJ3_init_4 rfl (lv_at L 0 rfl)) ?_
  refine x_up (pc' := 6) (fun _ _ _ _ _ L => lv_iconst (v := (0 : Int32)) hx hb dJ3_init_5 (by decide)) ?_
  refine x_pi X (kJ6 hG) 0 (by decide) q231 (fun _ h => h) rfl rfl rfl dJ3_init_6 hp1 (fun σ2 hp2 => ?_)
  refine x_pc (pc' := 9) rfl ?_
  exact x_vret X hr dJ3_init_9 hp2
-- J5_init
def P_J5_init (κ : Nat → Nat) (a0 : Nat) (σ : xS) (K : Unit → xH → Prop) : Prop :=
  xcall (fun τ L => P_J3_init_J6 κ a0 τ L) σ fun _ σ1 => K () σ1.1
theorem mdJ5_init : yJ5_init.cls ≠ "java/lang/invoke/MethodHandle" ∧ yJ5_init.cls ≠ "java/lang/invoke/VarHandle" ∧ (parseMethodDescriptor yJ5_init.desc).map (fun d => d.parameters.length) = some 0 := by decide +kernel
set_option maxHeartbeats 4000000 in
set_option maxRecDepth 100000 in
theorem R_J5_init (l : Launch) (hl : l.stackTraces = false) (G : xG) (hG : G.1.2 = x_cl) (a0 : Nat) (σ : xS) (K : Unit → xH → Prop) (hp : P_J5_init G.2 a0 σ K) : xM l yJ5_init cJ5_init 1 (Option.none : Option Jvm.ClassFile.FieldType) 3 60 G [(.ref a0)] σ (xlift emV K) := by
  refine x_entry (by decide) (Nat.le_of_ble_eq_true rfl) ?_
  intro p e s m args below meth c X hr hin
  have X : xX p s m args meth c G cJ5_init 1 RJ5 := X
  have hx := X.1
  have hb := X.2.1
  have hts := X.2.2.2.2.1
  have hown := X.2.2.2.1
  unfold P_J5_init at hp
  refine x_same (lo' := [(0, .ref a0)]) rfl ?_
  refine x_up (pc' := 1) (fun _ _ _ _ _ L => lv_aload_n hx hb dJ5_init_0 rfl (lv_at L 0 rfl)) ?_
  refine x_callI 0 X (fun σ' KK h => R_J3_init_J6 l hl G hG a0 σ' KK h) (lw_meth q220) q104 q254 q219 rfl mdJ3_init ⟨Nat.le_of_ble_eq_true rfl, Nat.le_of_ble_eq_true rfl⟩ rfl rfl (Nat.le_of_ble_eq_true rfl) dJ5_init_1 hp (fun σ1 hp1 => ?_)
  refine x_pc (pc' := 4) rfl ?_
  exact x_vret X hr dJ5_init_4 hp1
-- J6_init
def P_J6_init (κ : Nat → Nat) (a0 : Nat) (σ : xS) (K : Unit → xH → Prop) : Prop :=
  xcall (fun τ L => P_J5_init κ a0 τ L) σ fun _ σ1 => xpi κ σ1 a0 4 1 (0 : Int32) fun σ2 => K () σ2.1
theorem mdJ6_init : yJ6_init.cls ≠ "java/lang/invoke/MethodHandle" ∧ yJ6_init.cls ≠ "java/lang/invoke/VarHandle" ∧ (parseMethodDescriptor yJ6_init.desc).map (fun d => d.parameters.length) = some 0 := by decide +kernel
set_option maxHeartbeats 4000000 in
set_option maxRecDepth 100000 in
theorem R_J6_init (l : Launch) (hl : l.stackTraces = false) (G : xG) (hG : G.1.2 = x_cl) (a0 : Nat) (σ : xS) (K : Unit → xH → Prop) (hp : P_J6_init G.2 a0 σ K) : xM l yJ6_init cJ6_init 1 (Option.none : Option Jvm.ClassFile.FieldType) 4 80 G [(.ref a0)] σ (xlift emV K) := by
  refine x_entry (by decide) (Nat.le_of_ble_eq_true rfl) ?_
  intro p e s m args below meth c X hr hin
  have X : xX p s m args meth c G cJ6_init 1 RJ6 := X
  have hx := X.1
  have hb := X.2.1
  have hts := X.2.2.2.2.1
  have hown := X.2.2.2.1
  unfold P_J6_init at hp
  refine x_same (lo' := [(0, .ref a0)]) rfl ?_
  refine x_up (pc' := 1) (fun _ _ _ _ _ L => lv_aload_n hx hb dJ6_init_0 rfl (lv_at L 0 rfl)) ?_
  refine x_callI 0 X (fun σ' KK h => R_J5_init l hl G hG a0 σ' KK h) (lw_meth q253) q106 q251 q252 rfl mdJ5_init ⟨Nat.le_of_ble_eq_true rfl, Nat.le_of_ble_eq_true rfl⟩ rfl rfl (Nat.le_of_ble_eq_true rfl) dJ6_init_1 hp (fun σ1 hp1 => ?_)
  refine x_pc (pc' := 4) rfl ?_
  refine x_up (pc' := 5) (fun _ _ _ _ _ L => lv_aload_n hx hb dJ6_init_4 rfl (lv_at L 0 rfl)) ?_
  refine x_up (pc' := 6) (fun _ _ _ _ _ L => lv_iconst (v := (0 : Int32)) hx hb dJ6_init_5 (by decide)) ?_
  refine x_pi X (kJ6 hG) 1 (by decide) q255 (fun _ h => h) rfl rfl rfl dJ6_init_6 hp1 (fun σ2 hp2 => ?_)
  refine x_pc (pc' := 9) rfl ?_
  exact x_vret X hr dJ6_init_9 hp2
-- J4_clear
def B_J4_clear_27 (κ : Nat → Nat) (K : Unit → xH → Prop) (f1 : Option Nat) (f2 : Int32) : (Int32 → xS → Prop) → Int32 → xS → Prop := fun self28003 w28001 σ28002 =>
  ((f2 ≤ w28001 → (K () σ28002.1)) ∧ (¬ f2 ≤ w28001 → (xnn f1 fun b28004 => xsq κ σ28002 b28004 w28001 none fun σ28005 => self28003 (w28001 + (1 : Int32)) σ28005)))
def P_J4_clear (κ : Nat → Nat) (a0 : Nat) (σ : xS) (K : Unit → xH → Prop) : Prop :=
  xgi σ a0 3 0 fun v1 => xpi κ σ a0 3 0 (v1 + (1 : Int32)) fun σ2 => xgq σ2 a0 3 1 fun v3 => xgi σ2 a0 3 2 fun v4 => xpi κ σ2 a0 3 2 (0 : Int32) fun σ5 => xwhile (B_J4_clear_27 κ K v3 v4) (0 : Int32) σ5
theorem mdJ4_clear : yJ4_clear.cls ≠ "java/lang/invoke/MethodHandle" ∧ yJ4_clear.cls ≠ "java/lang/invoke/VarHandle" ∧ (parseMethodDescriptor yJ4_clear.desc).map (fun d => d.parameters.length) = some 0 := by decide +kernel
set_option maxHeartbeats 4000000 in
set_option maxRecDepth 100000 in
theorem R_J4_clear (l : Launch) (hl : l.stackTraces = false) (G : xG) (hG : G.1.2 = x_cl) (a0 : Nat) (σ : xS) (K : Unit → xH → Prop) (hp : P_J4_clear G.2 a0 σ K) : xM l yJ4_clear cJ4_clear 4 (Option.none : Option Jvm.ClassFile.FieldType) 0 0 G [(.ref a0)] σ (xlift emV K) := by
  refine x_entry (by decide) (Nat.le_of_ble_eq_true rfl) ?_
  intro p e s m args below meth c X hr hin
  have X : xX p s m args meth c G cJ4_clear 4 RJ4 := X
  have hx := X.1
  have hb := X.2.1
  have hts := X.2.2.2.2.1
  have hown := X.2.2.2.1
  unfold P_J4_clear at hp
  refine x_same (lo' := [(0, .ref a0)]) rfl ?_
  refine x_up (pc' := 1) (fun _ _ _ _ _ L => lv_aload_n hx hb dJ4_clear_0 rfl (lv_at L 0 rfl)) ?_
  refine x_up (pc' := 2) (fun _ _ _ _ _ L => lv_dup hx hb dJ4_clear_1 rfl) ?_
  refine x_gi X (kJ4 hG) 0 (by decide) q238 (x_sameF (X.2.2.2.2.1 _ q235)) dJ4_clear_2 hp (fun v1 hp1 => ?_)
  refine x_pc (pc' := 5) rfl ?_
  refine x_up (pc' := 6) (fun _ _ _ _ _ L => lv_iconst (v := (1 : Int32)) hx hb dJ4_clear_5 (by decide)) ?_
  refine x_up (pc' := 7) (fun _ _ _ _ _ L => lv_iadd hx hb dJ4_clear_6) ?_
  refine x_pi X (kJ4 hG) 0 (by decide) q238 (x_sameF (X.2.2.2.2.1 _ q235)) rfl rfl rfl dJ4_clear_7 hp1 (fun σ2 hp2 => ?_)
  refine x_pc (pc' := 10) rfl ?_
  refine x_up (pc' := 11) (fun _ _ _ _ _ L => lv_aload_n hx hb dJ4_clear_10 rfl (lv_at L 0 rfl)) ?_
  refine x_gq X (kJ4 hG) 1 (by decide) q227 (fun _ h => h) dJ4_clear_11 hp2 (fun v3 hp3 => ?_)
  refine x_pc (pc' := 14) rfl ?_
  refine x_upL (pc' := 15) (lo' := [(1, va_rf v3), (0, .ref a0)]) (fun _ _ _ _ _ L => lv_astoreq_n hx hb dJ4_clear_14 rfl L (by decide) rfl) ?_
  refine x_up (pc' := 16) (fun _ _ _ _ _ L => lv_aload_n hx hb dJ4_clear_15 rfl (lv_at L 1 rfl)) ?_
  refine x_gi X (kJ4 hG) 2 (by decide) q230 (fun _ h => h) dJ4_clear_16 hp3 (fun v4 hp4 => ?_)
  refine x_pc (pc' := 19) rfl ?_
  refine x_st (pc' := 20) ([(2, .int v4), (1, va_rf v3), (0, .ref a0)]) rfl (by simp [x_catq, x_cati, x_catr, x_catn]) (fun _ _ _ _ _ L => lv_istore_n hx hb dJ4_clear_19 rfl L (by decide) rfl) ?_
  refine x_up (pc' := 21) (fun _ _ _ _ _ L => lv_aload_n hx hb dJ4_clear_20 rfl (lv_at L 2 rfl)) ?_
  refine x_up (pc' := 22) (fun _ _ _ _ _ L => lv_iconst (v := (0 : Int32)) hx hb dJ4_clear_21 (by decide)) ?_
  refine x_up (pc' := 23) (fun _ _ _ _ _ L => lv_dup_x1 hx hb dJ4_clear_22 rfl rfl) ?_
  refine x_pi X (kJ4 hG) 2 (by decide) q230 (fun _ h => h) rfl rfl rfl dJ4_clear_23 hp4 (fun σ5 hp5 => ?_)
  refine x_pc (pc' := 26) rfl ?_
  refine x_upL (pc' := 27) (lo' := [(3, .int (0 : Int32)), (2, .int v4), (1, va_rf v3), (0, .ref a0)]) (fun _ _ _ _ _ L => lv_istore_n hx hb dJ4_clear_26 rfl L (by decide) rfl) ?_
  refine x_lo (lo' := [(3, .int (0 : Int32)), (1, va_rf v3), (2, .int v4)]) [0, 2, 1] rfl ?_
  refine x_while (v0 := (0 : Int32)) (fun w6 => [(3, .int w6), (1, va_rf v3), (2, .int v4)]) hp5 (fun self7 hself8 => ?_)
  rintro y10 σ9 hp6
  unfold B_J4_clear_27 at hp6
  refine x_same (lo' := [(3, .int y10), (1, va_rf v3), (2, .int v4)]) rfl ?_
  refine x_up (pc' := 28) (fun _ _ _ _ _ L => lv_iload_n hx hb dJ4_clear_27 rfl (lv_at L 0 rfl)) ?_
  refine x_up (pc' := 29) (fun _ _ _ _ _ L => lv_iload_n hx hb dJ4_clear_28 rfl (lv_at L 2 rfl)) ?_
  refine x_if (C := v4 ≤ y10) (pt := 42) (pc' := 32) (fun _ _ _ _ _ => lv_icmp_ge (tgt := 42) hx hb dJ4_clear_29 (by decide)) (fun c29 => ?_) (fun c29 => ?_)
  · have hp7 := hp6.1 c29
    exact x_vret X hr dJ4_clear_42 hp7
  · have hp8 := hp6.2 c29
    refine x_up (pc' := 33) (fun _ _ _ _ _ L => lv_aloadq_n hx hb dJ4_clear_32 rfl (lv_at L 1 rfl)) ?_
    refine x_up (pc' := 34) (fun _ _ _ _ _ L => lv_iload_n hx hb dJ4_clear_33 rfl (lv_at L 0 rfl)) ?_
    refine x_up (pc' := 35) (fun _ _ _ _ _ L => lv_null hx hb dJ4_clear_34) ?_
    obtain ⟨b11, rfl, hp9⟩ := hp8
    refine x_aast X hG none dJ4_clear_35 hp9 (fun σ12 hp10 => ?_)
    refine x_pc (pc' := 36) rfl ?_
    refine x_upL (pc' := 39) (lo' := [(3, .int (y10 + (1 : Int32))), (1, .ref b11), (2, .int v4)]) (fun _ _ _ _ _ L => lv_iinc (v := y10 + (1 : Int32)) hx hb dJ4_clear_36 L (k := 0) rfl rfl (by decide) rfl) ?_
    refine x_up (pc' := 27) (fun _ _ _ _ _ L => lv_goto (tgt := 27) hx hb dJ4_clear_39 (by decide)) ?_
    refine x_lo (lo' := [(3, .int (y10 + (1 : Int32))), (1, .ref b11), (2, .int v4)]) [0, 1, 2] rfl ?_
    exact hself8 (y10 + (1 : Int32)) σ12 hp10
-- X3_init
def P_X3_init (κ : Nat → Nat) (a0 : Nat) (x1 : Int32) (σ : xS) (K : Unit → xH → Prop) : Prop :=
  xnea κ σ .int (4 : Int32) (fun N => (N, .inl fun _ => 0)) fun q1 σ2 => xpq κ σ2 a0 5 1 (some q1) fun σ3 => xpi κ σ3 a0 5 2 (-1 : Int32) fun σ4 => xpi κ σ4 a0 5 5 (-1 : Int32) fun σ5 => xpi κ σ5 a0 5 6 (-1 : Int32) fun σ6 => xpi κ σ6 a0 5 7 (-1 : Int32) fun σ7 => xpi κ σ7 a0 5 0 x1 fun σ8 => K () σ8.1
theorem mdX3_init : yX3_init.cls ≠ "java/lang/invoke/MethodHandle" ∧ yX3_init.cls ≠ "java/lang/invoke/VarHandle" ∧ (parseMethodDescriptor yX3_init.desc).map (fun d => d.parameters.length) = some 1 := by decide +kernel
set_option maxHeartbeats 4000000 in
set_option maxRecDepth 100000 in
theorem R_X3_init (l : Launch) (hl : l.stackTraces = false) (G : xG) (hG : G.1.2 = x_cl) (a0 : Nat) (x1 : Int32) (σ : xS) (K : Unit → xH → Prop) (hp : P_X3_init G.2 a0 x1 σ K) : xM l yX3_init cX3_init 2 (Option.none : Option Jvm.ClassFile.FieldType) 1 20 G [(.ref a0), .int x1] σ (xlift emV K) := by
  refine x_entry (by decide) (Nat.le_of_ble_eq_true rfl) ?_
  intro p e s m args below meth c X hr hin
  have X : xX p s m args meth c G cX3_init 2 RX3 := X
  have hx := X.1
  have hb := X.2.1
  have hts := X.2.2.2.2.1
  have hown := X.2.2.2.1
  unfold P_X3_init at hp
  refine x_same (lo' := [(0, .ref a0), (1, .int x1)]) rfl ?_
  refine x_up (pc' := 1) (fun _ _ _ _ _ L => lv_aload_n hx hb dX3_init_0 rfl (lv_at L 0 rfl)) ?_
  refine x_objInit X q292 q170 q171 dX3_init_1 (Nat.le_of_ble_eq_true rfl) ⟨Nat.le_of_ble_eq_true rfl, Nat.le_of_ble_eq_true rfl⟩ ?_
  refine x_pc (pc' := 4) rfl ?_
  refine x_up (pc' := 5) (fun _ _ _ _ _ L => lv_aload_n hx hb dX3_init_4 rfl (lv_at L 0 rfl)) ?_
  refine x_up (pc' := 6) (fun _ _ _ _ _ L => lv_iconst (v := (4 : Int32)) hx hb dX3_init_5 (by decide)) ?_
  refine x_nea .int rfl (fun _ h => nomatch h) X q212 (fun N => (N, .inl fun _ => 0)) (fun _ => rfl) (fun _ _ => rfl) (by decide) dX3_init_6 hp (fun q1 σ2 hp1 => ?_)
  refine x_pc (pc' := 8) rfl ?_
  refine x_pqF X (kX3 hG) 1 (by decide) q296 (fun _ h => h) rfl hin rfl (some q1) (x_nar _ (by decide)) (x_fit _ (by decide)) dX3_init_8 hp1 (fun σ3 hp2 => ?_)
  refine x_pc (pc' := 11) rfl ?_
  refine x_up (pc' := 12) (fun _ _ _ _ _ L => lv_aload_n hx hb dX3_init_11 rfl (lv_at L 0 rfl)) ?_
  refine x_up (pc' := 13) (fun _ _ _ _ _ L => lv_iconst (v := (-1 : Int32)) hx hb dX3_init_12 (by decide)) ?_
  refine x_pi X (kX3 hG) 2 (by decide) q298 (fun _ h => h) rfl rfl rfl dX3_init_13 hp2 (fun σ4 hp3 => ?_)
  refine x_pc (pc' := 16) rfl ?_
  refine x_up (pc' := 17) (fun _ _ _ _ _ L => lv_aload_n hx hb dX3_init_16 rfl (lv_at L 0 rfl)) ?_
  refine x_up (pc' := 18) (fun _ _ _ _ _ L => lv_iconst (v := (-1 : Int32)) hx hb dX3_init_17 (by decide)) ?_
  refine x_pi X (kX3 hG) 5 (by decide) q307 (fun _ h => h) rfl rfl rfl dX3_init_18 hp3 (fun σ5 hp4 => ?_)
  refine x_pc (pc' := 21) rfl ?_
  refine x_up (pc' := 22) (fun _ _ _ _ _ L => lv_aload_n hx hb dX3_init_21 rfl (lv_at L 0 rfl)) ?_
  refine x_up (pc' := 23) (fun _ _ _ _ _ L => lv_iconst (v := (-1 : Int32)) hx hb dX3_init_22 (by decide)) ?_
  refine x_pi X (kX3 hG) 6 (by decide) q310 (fun _ h => h) rfl rfl rfl dX3_init_23 hp4 (fun σ6 hp5 => ?_)
  refine x_pc (pc' := 26) rfl ?_
  refine x_up (pc' := 27) (fun _ _ _ _ _ L => lv_aload_n hx hb dX3_init_26 rfl (lv_at L 0 rfl)) ?_
  refine x_up (pc' := 28) (fun _ _ _ _ _ L => lv_iconst (v := (-1 : Int32)) hx hb dX3_init_27 (by decide)) ?_
  refine x_pi X (kX3 hG) 7 (by decide) q313 (fun _ h => h) rfl rfl rfl dX3_init_28 hp5 (fun σ7 hp6 => ?_)
  refine x_pc (pc' := 31) rfl ?_
  refine x_up (pc' := 32) (fun _ _ _ _ _ L => lv_aload_n hx hb dX3_init_31 rfl (lv_at L 0 rfl)) ?_
  refine x_up (pc' := 33) (fun _ _ _ _ _ L => lv_iload_n hx hb dX3_init_32 rfl (lv_at L 1 rfl)) ?_
  refine x_piF X (kX3 hG) 0 (by decide) q293 (fun _ h => h) rfl hin rfl rfl rfl dX3_init_33 hp6 (fun σ8 hp7 => ?_)
  refine x_pc (pc' := 36) rfl ?_
  exact x_vret X hr dX3_init_36 hp7
-- J7_hugeLength
def P_J7_hugeLength (κ : Nat → Nat) (x0 : Int32) (x1 : Int32) (σ : xS) (K : Int32 → xH → Prop) : Prop :=
  ((0 ≤ (x0 + x1) → ((((2147483639 : Int32) < (x0 + x1) → (K (x0 + x1) σ.1)) ∧ (¬ (2147483639 : Int32) < (x0 + x1) → (K (2147483639 : Int32) σ.1))))) ∧ (¬ 0 ≤ (x0 + x1) → (False)))
theorem mdJ7_hugeLength : yJ7_hugeLength.cls ≠ "java/lang/invoke/MethodHandle" ∧ yJ7_hugeLength.cls ≠ "java/lang/invoke/VarHandle" ∧ (parseMethodDescriptor yJ7_hugeLength.desc).map (fun d => d.parameters.length) = some 2 := by decide +kernel
set_option maxHeartbeats 4000000 in
set_option maxRecDepth 100000 in
theorem R_J7_hugeLength (l : Launch) (hl : l.stackTraces = false) (G : xG) (hG : G.1.2 = x_cl) (x0 : Int32) (x1 : Int32) (σ : xS) (K : Int32 → xH → Prop) (hp : P_J7_hugeLength G.2 x0 x1 σ K) : xM l yJ7_hugeLength cJ7_hugeLength 3 (Option.some Jvm.ClassFile.FieldType.int) 0 0 G [.int x0, .int x1] σ (xlift emI K) := by
  refine x_entry (by decide) (Nat.le_of_ble_eq_true rfl) ?_
  intro p e s m args below meth c X hr hin
  have X : xX p s m args meth c G cJ7_hugeLength 3 RJ7 := X
  have hx := X.1
  have hb := X.2.1
  have hts := X.2.2.2.2.1
  have hown := X.2.2.2.1
  unfold P_J7_hugeLength at hp
  refine x_same (lo' := [(0, .int x0), (1, .int x1)]) rfl ?_
  refine x_up (pc' := 1) (fun _ _ _ _ _ L => lv_iload_n hx hb dJ7_hugeLength_0 rfl (lv_at L 0 rfl)) ?_
  refine x_up (pc' := 2) (fun _ _ _ _ _ L => lv_iload_n hx hb dJ7_hugeLength_1 rfl (lv_at L 1 rfl)) ?_
  refine x_up (pc' := 3) (fun _ _ _ _ _ L => lv_iadd hx hb dJ7_hugeLength_2) ?_
  refine x_upL (pc' := 4) (lo' := [(2, .int (x0 + x1)), (0, .int x0), (1, .int x1)]) (fun _ _ _ _ _ L => lv_istore_n hx hb dJ7_hugeLength_3 rfl L (by decide) rfl) ?_
  refine x_up (pc' := 5) (fun _ _ _ _ _ L => lv_iload_n hx hb dJ7_hugeLength_4 rfl (lv_at L 0 rfl)) ?_
  refine x_if (C := 0 ≤ (x0 + x1)) (pt := 49) (pc' := 8) (fun _ _ _ _ _ => lv_if_ge (tgt := 49) hx hb dJ7_hugeLength_5 (by decide)) (fun c5 => ?_) (fun c5 => ?_)
  · have hp1 := hp.1 c5
    refine x_up (pc' := 50) (fun _ _ _ _ _ L => lv_iload_n hx hb dJ7_hugeLength_49 rfl (lv_at L 0 rfl)) ?_
    refine x_up (pc' := 52) (fun _ _ _ _ _ L => lv_ldc (v := 2147483639) hx hb hown (hts _ q360) dJ7_hugeLength_50) ?_
    refine x_if (C := (2147483639 : Int32) < (x0 + x1)) (pt := 58) (pc' := 55) (fun _ _ _ _ _ => lv_icmp_gt (tgt := 58) hx hb dJ7_hugeLength_52 (by decide)) (fun c52 => ?_) (fun c52 => ?_)
    · have hp2 := hp1.1 c52
      refine x_up (pc' := 59) (fun _ _ _ _ _ L => lv_iload_n hx hb dJ7_hugeLength_58 rfl (lv_at L 0 rfl)) ?_
      exact x_iret X hr rfl dJ7_hugeLength_59 hp2
    · have hp3 := hp1.2 c52
      refine x_up (pc' := 57) (fun _ _ _ _ _ L => lv_ldc (v := 2147483639) hx hb hown (hts _ q360) dJ7_hugeLength_55) ?_
      exact x_iret X hr rfl dJ7_hugeLength_57 hp3
  · have hp4 := hp.2 c5
    exact hp4.elim
-- J7_newLength
def P_J7_newLength (κ : Nat → Nat) (x0 : Int32) (x1 : Int32) (x2 : Int32) (σ : xS) (K : Int32 → xH → Prop) : Prop :=
  (((x0 + (if x1 < x2 then x2 else x1)) ≤ (0 : Int32) → (xcall (fun τ L => P_J7_hugeLength κ x0 x1 τ L) σ fun v1 σ2 => K v1 σ2.1)) ∧ (¬ (x0 + (if x1 < x2 then x2 else x1)) ≤ (0 : Int32) → ((((2147483639 : Int32) < (x0 + (if x1 < x2 then x2 else x1)) → (xcall (fun τ L => P_J7_hugeLength κ x0 x1 τ L) σ fun v3 σ4 => K v3 σ4.1)) ∧ (¬ (2147483639 : Int32) < (x0 + (if x1 < x2 then x2 else x1)) → (K (x0 + (if x1 < x2 then x2 else x1)) σ.1))))))
theorem mdJ7_newLength : yJ7_newLength.cls ≠ "java/lang/invoke/MethodHandle" ∧ yJ7_newLength.cls ≠ "java/lang/invoke/VarHandle" ∧ (parseMethodDescriptor yJ7_newLength.desc).map (fun d => d.parameters.length) = some 3 := by decide +kernel
set_option maxHeartbeats 4000000 in
set_option maxRecDepth 100000 in
theorem R_J7_newLength (l : Launch) (hl : l.stackTraces = false) (G : xG) (hG : G.1.2 = x_cl) (x0 : Int32) (x1 : Int32) (x2 : Int32) (σ : xS) (K : Int32 → xH → Prop) (hp : P_J7_newLength G.2 x0 x1 x2 σ K) : xM l yJ7_newLength cJ7_newLength 4 (Option.some Jvm.ClassFile.FieldType.int) 1 22 G [.int x0, .int x1, .int x2] σ (xlift emI K) := by
  refine x_entry (by decide) (Nat.le_of_ble_eq_true rfl) ?_
  intro p e s m args below meth c X hr hin
  have X : xX p s m args meth c G cJ7_newLength 4 RJ7 := X
  have hx := X.1
  have hb := X.2.1
  have hts := X.2.2.2.2.1
  have hown := X.2.2.2.1
  unfold P_J7_newLength at hp
  refine x_same (lo' := [(0, .int x0), (1, .int x1), (2, .int x2)]) rfl ?_
  refine x_up (pc' := 1) (fun _ _ _ _ _ L => lv_iload_n hx hb dJ7_newLength_0 rfl (lv_at L 0 rfl)) ?_
  refine x_up (pc' := 2) (fun _ _ _ _ _ L => lv_iload_n hx hb dJ7_newLength_1 rfl (lv_at L 1 rfl)) ?_
  refine x_up (pc' := 3) (fun _ _ _ _ _ L => lv_iload_n hx hb dJ7_newLength_2 rfl (lv_at L 2 rfl)) ?_
  refine x_mmax X q357 q358 q110 q359 x_maxB ⟨Nat.le_of_ble_eq_true rfl, Nat.le_of_ble_eq_true rfl⟩ (Nat.le_of_ble_eq_true rfl) dJ7_newLength_3 ?_
  refine x_pc (pc' := 6) rfl ?_
  refine x_up (pc' := 7) (fun _ _ _ _ _ L => lv_iadd hx hb dJ7_newLength_6) ?_
  refine x_upL (pc' := 8) (lo' := [(3, .int (x0 + (if x1 < x2 then x2 else x1))), (0, .int x0), (1, .int x1), (2, .int x2)]) (fun _ _ _ _ _ L => lv_istore_n hx hb dJ7_newLength_7 rfl L (by decide) rfl) ?_
  refine x_up (pc' := 9) (fun _ _ _ _ _ L => lv_iconst (v := (0 : Int32)) hx hb dJ7_newLength_8 (by decide)) ?_
  refine x_up (pc' := 10) (fun _ _ _ _ _ L => lv_iload_n hx hb dJ7_newLength_9 rfl (lv_at L 0 rfl)) ?_
  refine x_if (C := (x0 + (if x1 < x2 then x2 else x1)) ≤ (0 : Int32)) (pt := 21) (pc' := 13) (fun _ _ _ _ _ => lv_icmp_ge (tgt := 21) hx hb dJ7_newLength_10 (by decide)) (fun c10 => ?_) (fun c10 => ?_)
  · have hp1 := hp.1 c10
    refine x_up (pc' := 22) (fun _ _ _ _ _ L => lv_iload_n hx hb dJ7_newLength_21 rfl (lv_at L 1 rfl)) ?_
    refine x_up (pc' := 23) (fun _ _ _ _ _ L => lv_iload_n hx hb dJ7_newLength_22 rfl (lv_at L 2 rfl)) ?_
    refine x_callS (em := emI) (fun r st => .int r :: st) (fun _ _ => rfl) 2 X (fun σ' KK h => R_J7_hugeLength l hl G hG x0 x1 σ' KK h) (lw_S q361 q362 q109 q363) mdJ7_hugeLength ⟨Nat.le_of_ble_eq_true rfl, Nat.le_of_ble_eq_true rfl⟩ rfl rfl (Nat.le_of_ble_eq_true rfl) dJ7_newLength_23 hp1 (fun v1 σ2 hp2 => ?_)
    refine x_pc (pc' := 26) rfl ?_
    exact x_iret X hr rfl dJ7_newLength_26 hp2
  · have hp3 := hp.2 c10
    refine x_up (pc' := 14) (fun _ _ _ _ _ L => lv_iload_n hx hb dJ7_newLength_13 rfl (lv_at L 0 rfl)) ?_
    refine x_up (pc' := 16) (fun _ _ _ _ _ L => lv_ldc (v := 2147483639) hx hb hown (hts _ q360) dJ7_newLength_14) ?_
    refine x_if (C := (2147483639 : Int32) < (x0 + (if x1 < x2 then x2 else x1))) (pt := 21) (pc' := 19) (fun _ _ _ _ _ => lv_icmp_gt (tgt := 21) hx hb dJ7_newLength_16 (by decide)) (fun c16 => ?_) (fun c16 => ?_)
    · have hp4 := hp3.1 c16
      refine x_up (pc' := 22) (fun _ _ _ _ _ L => lv_iload_n hx hb dJ7_newLength_21 rfl (lv_at L 1 rfl)) ?_
      refine x_up (pc' := 23) (fun _ _ _ _ _ L => lv_iload_n hx hb dJ7_newLength_22 rfl (lv_at L 2 rfl)) ?_
      refine x_callS (em := emI) (fun r st => .int r :: st) (fun _ _ => rfl) 2 X (fun σ' KK h => R_J7_hugeLength l hl G hG x0 x1 σ' KK h) (lw_S q361 q362 q109 q363) mdJ7_hugeLength ⟨Nat.le_of_ble_eq_true rfl, Nat.le_of_ble_eq_true rfl⟩ rfl rfl (Nat.le_of_ble_eq_true rfl) dJ7_newLength_23 hp4 (fun v3 σ4 hp5 => ?_)
      refine x_pc (pc' := 26) rfl ?_
      exact x_iret X hr rfl dJ7_newLength_26 hp5
    · have hp6 := hp3.2 c16
      refine x_up (pc' := 20) (fun _ _ _ _ _ L => lv_iload_n hx hb dJ7_newLength_19 rfl (lv_at L 0 rfl)) ?_
      exact x_iret X hr rfl dJ7_newLength_20 hp6
-- J9_copyOf_2
def P_J9_copyOf_2 (κ : Nat → Nat) (x0 : Option Nat) (x1 : Int32) (x2 : Option Nat) (σ : xS) (K : Option Nat → xH → Prop) : Prop :=
  ((x2 = (some (κ 7)) → (xneq κ σ x1 fun q1 σ2 => xnn x0 fun b3 => xan σ2 b3 fun v4 => xcpq κ σ2 b3 (0 : Int32) q1 (0 : Int32) (if x1 < v4 then x1 else v4) fun σ5 => K (some q1) σ5.1)) ∧ (¬ x2 = (some (κ 7)) → (False)))
theorem mdJ9_copyOf_2 : yJ9_copyOf_2.cls ≠ "java/lang/invoke/MethodHandle" ∧ yJ9_copyOf_2.cls ≠ "java/lang/invoke/VarHandle" ∧ (parseMethodDescriptor yJ9_copyOf_2.desc).map (fun d => d.parameters.length) = some 3 := by decide +kernel
set_option maxHeartbeats 4000000 in
set_option maxRecDepth 100000 in
theorem R_J9_copyOf_2 (l : Launch) (hl : l.stackTraces = false) (G : xG) (hG : G.1.2 = x_cl) (x0 : Option Nat) (x1 : Int32) (x2 : Option Nat) (σ : xS) (K : Option Nat → xH → Prop) (hp : P_J9_copyOf_2 G.2 x0 x1 x2 σ K) : xM l yJ9_copyOf_2 cJ9_copyOf_2 4 (Option.some (Jvm.ClassFile.FieldType.array (Jvm.ClassFile.FieldType.object "java/lang/Object"))) 1 60 G [va_rf x0, .int x1, va_rf x2] σ (xlift emQ K) := by
  refine x_entry (by decide) (by simp [lg_sl, x_catq, x_cati, x_catr, x_catn]) ?_
  intro p e s m args below meth c X hr hin
  have X : xX p s m args meth c G cJ9_copyOf_2 4 RJ9 := X
  have hx := X.1
  have hb := X.2.1
  have hts := X.2.2.2.2.1
  have hown := X.2.2.2.1
  unfold P_J9_copyOf_2 at hp
  refine x_same (lo' := [(0, va_rf x0), (1, .int x1), (2, va_rf x2)]) (by simp [lv_args, x_catq, x_cati, x_catr, x_catn]) ?_
  refine x_up (pc' := 1) (fun _ _ _ _ _ L => lv_aloadq_n hx hb dJ9_copyOf_2_0 rfl (lv_at L 2 rfl)) ?_
  refine x_ldcM X q416 dJ9_copyOf_2_1 ?_
  refine x_pc (pc' := 3) rfl ?_
  refine x_ifn (C := x2 = (some (G.2 7))) (pt := 13) (pc' := 6) (fun _ _ _ _ _ => lv_acmp_ne (rx := x2) (ry := (some (G.2 7))) (tgt := 13) hx hb dJ9_copyOf_2_3 (by decide)) (fun c3 => ?_) (fun c3 => ?_)
  · have hp1 := hp.1 c3
    refine x_up (pc' := 7) (fun _ _ _ _ _ L => lv_iload_n hx hb dJ9_copyOf_2_6 rfl (lv_at L 1 rfl)) ?_
    refine x_neq X q418 dJ9_copyOf_2_7 hp1 (fun q1 σ2 hp2 => ?_)
    refine x_pc (pc' := 10) rfl ?_
    refine x_up (pc' := 24) (fun _ _ _ _ _ L => lv_goto (tgt := 24) hx hb dJ9_copyOf_2_10 (by decide)) ?_
    refine x_st (pc' := 25) ([(3, .ref q1), (0, va_rf x0), (1, .int x1), (2, va_rf x2)]) rfl (by simp [x_catq, x_cati, x_catr, x_catn]) (fun _ _ _ _ _ L => lv_astore_n hx hb dJ9_copyOf_2_24 rfl L (by decide) rfl) ?_
    refine x_up (pc' := 26) (fun _ _ _ _ _ L => lv_aloadq_n hx hb dJ9_copyOf_2_25 rfl (lv_at L 1 rfl)) ?_
    refine x_up (pc' := 27) (fun _ _ _ _ _ L => lv_iconst (v := (0 : Int32)) hx hb dJ9_copyOf_2_26 (by decide)) ?_
    refine x_up (pc' := 28) (fun _ _ _ _ _ L => lv_aload_n hx hb dJ9_copyOf_2_27 rfl (lv_at L 0 rfl)) ?_
    refine x_up (pc' := 29) (fun _ _ _ _ _ L => lv_iconst (v := (0 : Int32)) hx hb dJ9_copyOf_2_28 (by decide)) ?_
    refine x_up (pc' := 30) (fun _ _ _ _ _ L => lv_aloadq_n hx hb dJ9_copyOf_2_29 rfl (lv_at L 1 rfl)) ?_
    obtain ⟨b3, rfl, hp3⟩ := hp2
    refine x_alen X dJ9_copyOf_2_30 hp3 (fun v4 hp4 => ?_)
    refine x_pc (pc' := 31) rfl ?_
    refine x_up (pc' := 32) (fun _ _ _ _ _ L => lv_iload_n hx hb dJ9_copyOf_2_31 rfl (lv_at L 2 rfl)) ?_
    refine x_mmin X q419 q420 q110 q421 x_minB ⟨Nat.le_of_ble_eq_true rfl, Nat.le_of_ble_eq_true rfl⟩ (Nat.le_of_ble_eq_true rfl) dJ9_copyOf_2_32 ?_
    refine x_pc (pc' := 35) rfl ?_
    refine x_cpq X hG q422 q424 q423 q112 (Nat.le_of_ble_eq_true rfl) ⟨Nat.le_of_ble_eq_true rfl, Nat.le_of_ble_eq_true rfl⟩ dJ9_copyOf_2_35 hp4 (fun σ5 hp5 => ?_)
    refine x_pc (pc' := 38) rfl ?_
    refine x_up (pc' := 39) (fun _ _ _ _ _ L => lv_aload_n hx hb dJ9_copyOf_2_38 rfl (lv_at L 0 rfl)) ?_
    exact x_aret X hr (Or.inr ⟨_, rfl⟩) dJ9_copyOf_2_39 (some q1) hp5
  · have hp6 := hp.2 c3
    refine x_up (pc' := 14) (fun _ _ _ _ _ L => lv_aloadq_n hx hb dJ9_copyOf_2_13 rfl (lv_at L 2 rfl)) ?_
    exact hp6.elim
-- J9_copyOf
def P_J9_copyOf (κ : Nat → Nat) (x0 : Option Nat) (x1 : Int32) (σ : xS) (K : Option Nat → xH → Prop) : Prop :=
  xnn x0 fun b1 => xoa κ σ b1 ∧ xcall (fun τ L => P_J9_copyOf_2 κ (some b1) x1 (some (κ 7)) τ L) σ fun v2 σ3 => K v2 σ3.1
theorem mdJ9_copyOf : yJ9_copyOf.cls ≠ "java/lang/invoke/MethodHandle" ∧ yJ9_copyOf.cls ≠ "java/lang/invoke/VarHandle" ∧ (parseMethodDescriptor yJ9_copyOf.desc).map (fun d => d.parameters.length) = some 2 := by decide +kernel
set_option maxHeartbeats 4000000 in
set_option maxRecDepth 100000 in
theorem R_J9_copyOf (l : Launch) (hl : l.stackTraces = false) (G : xG) (hG : G.1.2 = x_cl) (x0 : Option Nat) (x1 : Int32) (σ : xS) (K : Option Nat → xH → Prop) (hp : P_J9_copyOf G.2 x0 x1 σ K) : xM l yJ9_copyOf cJ9_copyOf 2 (Option.some (Jvm.ClassFile.FieldType.array (Jvm.ClassFile.FieldType.object "java/lang/Object"))) 2 83 G [va_rf x0, .int x1] σ (xlift emQ K) := by
  refine x_entry (by decide) (by simp [lg_sl, x_catq, x_cati, x_catr, x_catn]) ?_
  intro p e s m args below meth c X hr hin
  have X : xX p s m args meth c G cJ9_copyOf 2 RJ9 := X
  have hx := X.1
  have hb := X.2.1
  have hts := X.2.2.2.2.1
  have hown := X.2.2.2.1
  unfold P_J9_copyOf at hp
  refine x_same (lo' := [(0, va_rf x0), (1, .int x1)]) (by simp [lv_args, x_catq, x_cati, x_catr, x_catn]) ?_
  refine x_up (pc' := 1) (fun _ _ _ _ _ L => lv_aloadq_n hx hb dJ9_copyOf_0 rfl (lv_at L 0 rfl)) ?_
  refine x_up (pc' := 2) (fun _ _ _ _ _ L => lv_iload_n hx hb dJ9_copyOf_1 rfl (lv_at L 1 rfl)) ?_
  refine x_up (pc' := 3) (fun _ _ _ _ _ L => lv_aloadq_n hx hb dJ9_copyOf_2 rfl (lv_at L 0 rfl)) ?_
  obtain ⟨b1, rfl, hp1⟩ := hp
  refine x_getClass X q367 q3752 q368 q412 ⟨Nat.le_of_ble_eq_true rfl, Nat.le_of_ble_eq_true rfl⟩ (Nat.le_of_ble_eq_true rfl) hp1.1 dJ9_copyOf_3 ?_
  have hp2 := hp1.2
  refine x_pc (pc' := 6) rfl ?_
  refine x_callS (em := emQ) (fun r st => va_rf r :: st) (fun _ _ => rfl) 3 X (fun σ' KK h => R_J9_copyOf_2 l hl G hG (some b1) x1 (some (G.2 7)) σ' KK h) (lw_S q413 q414 q111 q415) mdJ9_copyOf_2 ⟨Nat.le_of_ble_eq_true rfl, Nat.le_of_ble_eq_true rfl⟩ rfl rfl (Nat.le_of_ble_eq_true rfl) dJ9_copyOf_6 hp2 (fun v2 σ3 hp3 => ?_)
  refine x_pc (pc' := 9) rfl ?_
  exact x_aret X hr (Or.inr ⟨_, rfl⟩) dJ9_copyOf_9 v2 hp3
-- J4_grow_2
def P_J4_grow_2 (κ : Nat → Nat) (a0 : Nat) (x1 : Int32) (σ : xS) (K : Option Nat → xH → Prop) : Prop :=
  xgq σ a0 3 1 fun v1 => xnn v1 fun b2 => xan σ b2 fun v3 => ((0 < v3 → (xcall (fun τ L => P_J7_newLength κ v3 (x1 - v3) (v3 >>> ((1 : Int32) &&& 31)) τ L) σ fun v4 σ5 => xgq σ5 a0 3 1 fun v6 => xcall (fun τ L => P_J9_copyOf κ v6 v4 τ L) σ5 fun v7 σ8 => xpq κ σ8 a0 3 1 v7 fun σ9 => K v7 σ9.1)) ∧ (¬ 0 < v3 → (xgq σ a0 3 1 fun v10 => ((v10 = (some (κ 2)) → (xneq κ σ (if (10 : Int32) < x1 then x1 else (10 : Int32)) fun q11 σ12 => xpq κ σ12 a0 3 1 (some q11) fun σ13 => K (some q11) σ13.1)) ∧ (¬ v10 = (some (κ 2)) → (xcall (fun τ L => P_J7_newLength κ v3 (x1 - v3) (v3 >>> ((1 : Int32) &&& 31)) τ L) σ fun v14 σ15 => xgq σ15 a0 3 1 fun v16 => xcall (fun τ L => P_J9_copyOf κ v16 v14 τ L) σ15 fun v17 σ18 => xpq κ σ18 a0 3 1 v17 fun σ19 => K v17 σ19.1))))))
theorem mdJ4_grow_2 : yJ4_grow_2.cls ≠ "java/lang/invoke/MethodHandle" ∧ yJ4_grow_2.cls ≠ "java/lang/invoke/VarHandle" ∧ (parseMethodDescriptor yJ4_grow_2.desc).map (fun d => d.parameters.length) = some 1 := by decide +kernel
set_option maxHeartbeats 4000000 in
set_option maxRecDepth 100000 in
theorem R_J4_grow_2 (l : Launch) (hl : l.stackTraces = false) (G : xG) (hG : G.1.2 = x_cl) (a0 : Nat) (x1 : Int32) (σ : xS) (K : Option Nat → xH → Prop) (hp : P_J4_grow_2 G.2 a0 x1 σ K) : xM l yJ4_grow_2 cJ4_grow_2 4 (Option.some (Jvm.ClassFile.FieldType.array (Jvm.ClassFile.FieldType.object "java/lang/Object"))) 3 104 G [(.ref a0), .int x1] σ (xlift emQ K) := by
  refine x_entry (by decide) (Nat.le_of_ble_eq_true rfl) ?_
  intro p e s m args below meth c X hr hin
  have X : xX p s m args meth c G cJ4_grow_2 4 RJ4 := X
  have hx := X.1
  have hb := X.2.1
  have hts := X.2.2.2.2.1
  have hown := X.2.2.2.1
  unfold P_J4_grow_2 at hp
  refine x_same (lo' := [(0, .ref a0), (1, .int x1)]) rfl ?_
  refine x_up (pc' := 1) (fun _ _ _ _ _ L => lv_aload_n hx hb dJ4_grow_2_0 rfl (lv_at L 0 rfl)) ?_
  refine x_gq X (kJ4 hG) 1 (by decide) q227 (fun _ h => h) dJ4_grow_2_1 hp (fun v1 hp1 => ?_)
  refine x_pc (pc' := 4) rfl ?_
  obtain ⟨b2, rfl, hp2⟩ := hp1
  refine x_alen X dJ4_grow_2_4 hp2 (fun v3 hp3 => ?_)
  refine x_pc (pc' := 5) rfl ?_
  refine x_upL (pc' := 6) (lo' := [(2, .int v3), (0, .ref a0), (1, .int x1)]) (fun _ _ _ _ _ L => lv_istore_n hx hb dJ4_grow_2_5 rfl L (by decide) rfl) ?_
  refine x_up (pc' := 7) (fun _ _ _ _ _ L => lv_iload_n hx hb dJ4_grow_2_6 rfl (lv_at L 0 rfl)) ?_
  refine x_if (C := 0 < v3) (pt := 20) (pc' := 10) (fun _ _ _ _ _ => lv_if_gt (tgt := 20) hx hb dJ4_grow_2_7 (by decide)) (fun c7 => ?_) (fun c7 => ?_)
  · have hp4 := hp3.1 c7
    refine x_up (pc' := 21) (fun _ _ _ _ _ L => lv_iload_n hx hb dJ4_grow_2_20 rfl (lv_at L 0 rfl)) ?_
    refine x_up (pc' := 22) (fun _ _ _ _ _ L => lv_iload_n hx hb dJ4_grow_2_21 rfl (lv_at L 2 rfl)) ?_
    refine x_up (pc' := 23) (fun _ _ _ _ _ L => lv_iload_n hx hb dJ4_grow_2_22 rfl (lv_at L 0 rfl)) ?_
    refine x_up (pc' := 24) (fun _ _ _ _ _ L => lv_isub hx hb dJ4_grow_2_23) ?_
    refine x_up (pc' := 25) (fun _ _ _ _ _ L => lv_iload_n hx hb dJ4_grow_2_24 rfl (lv_at L 0 rfl)) ?_
    refine x_up (pc' := 26) (fun _ _ _ _ _ L => lv_iconst (v := (1 : Int32)) hx hb dJ4_grow_2_25 (by decide)) ?_
    refine x_up (pc' := 27) (fun _ _ _ _ _ L => lv_ishr hx hb dJ4_grow_2_26) ?_
    refine x_callS (em := emI) (fun r st => .int r :: st) (fun _ _ => rfl) 3 X (fun σ' KK h => R_J7_newLength l hl G hG v3 (x1 - v3) (v3 >>> ((1 : Int32) &&& 31)) σ' KK h) (lw_S q354 q355 q109 q356) mdJ7_newLength ⟨Nat.le_of_ble_eq_true rfl, Nat.le_of_ble_eq_true rfl⟩ rfl rfl (Nat.le_of_ble_eq_true rfl) dJ4_grow_2_27 hp4 (fun v4 σ5 hp5 => ?_)
    refine x_pc (pc' := 30) rfl ?_
    refine x_upL (pc' := 31) (lo' := [(3, .int v4), (2, .int v3), (0, .ref a0), (1, .int x1)]) (fun _ _ _ _ _ L => lv_istore_n hx hb dJ4_grow_2_30 rfl L (by decide) rfl) ?_
    refine x_up (pc' := 32) (fun _ _ _ _ _ L => lv_aload_n hx hb dJ4_grow_2_31 rfl (lv_at L 2 rfl)) ?_
    refine x_up (pc' := 33) (fun _ _ _ _ _ L => lv_aload_n hx hb dJ4_grow_2_32 rfl (lv_at L 2 rfl)) ?_
    refine x_gq X (kJ4 hG) 1 (by decide) q227 (fun _ h => h) dJ4_grow_2_33 hp5 (fun v6 hp6 => ?_)
    refine x_pc (pc' := 36) rfl ?_
    refine x_up (pc' := 37) (fun _ _ _ _ _ L => lv_iload_n hx hb dJ4_grow_2_36 rfl (lv_at L 0 rfl)) ?_
    refine x_callS (em := emQ) (fun r st => va_rf r :: st) (fun _ _ => rfl) 2 X (fun σ' KK h => R_J9_copyOf l hl G hG v6 v4 σ' KK h) (lw_S q364 q365 q111 q366) mdJ9_copyOf ⟨Nat.le_of_ble_eq_true rfl, Nat.le_of_ble_eq_true rfl⟩ rfl rfl (Nat.le_of_ble_eq_true rfl) dJ4_grow_2_37 hp6 (fun v7 σ8 hp7 => ?_)
    refine x_pc (pc' := 40) rfl ?_
    refine x_up (pc' := 41) (fun _ _ _ _ _ L => lv_dup_x1 hx hb dJ4_grow_2_40 (x_catq _) rfl) ?_
    refine x_pq X (kJ4 hG) 1 (by decide) q227 (fun _ h => h) rfl v7 (x_nar _ (by decide)) (x_fit _ (by decide)) dJ4_grow_2_41 hp7 (fun σ9 hp8 => ?_)
    refine x_pc (pc' := 44) rfl ?_
    exact x_aret X hr (Or.inr ⟨_, rfl⟩) dJ4_grow_2_44 v7 hp8
  · have hp9 := hp3.2 c7
    refine x_up (pc' := 11) (fun _ _ _ _ _ L => lv_aload_n hx hb dJ4_grow_2_10 rfl (lv_at L 1 rfl)) ?_
    refine x_gq X (kJ4 hG) 1 (by decide) q227 (fun _ h => h) dJ4_grow_2_11 hp9 (fun v10 hp10 => ?_)
    refine x_pc (pc' := 14) rfl ?_
    refine x_gets (C := "java/util/ArrayList") (n := "DEFAULTCAPACITY_EMPTY_ELEMENTDATA") (d := "[Ljava/lang/Object;") (v := .ref (G.2 2)) X (by simp [x_sts]) q225 (fun _ h => h) dJ4_grow_2_14 ?_
    refine x_pc (pc' := 17) rfl ?_
    refine x_if (C := v10 = (some (G.2 2))) (pt := 45) (pc' := 20) (fun _ _ _ _ _ => lv_acmp_eq (rx := v10) (ry := (some (G.2 2))) (tgt := 45) hx hb dJ4_grow_2_17 (by decide)) (fun c17 => ?_) (fun c17 => ?_)
    · have hp11 := hp10.1 c17
      refine x_up (pc' := 46) (fun _ _ _ _ _ L => lv_aload_n hx hb dJ4_grow_2_45 rfl (lv_at L 1 rfl)) ?_
      refine x_up (pc' := 48) (fun _ _ _ _ _ L => lv_bipush (v := (10 : Int32)) hx hb dJ4_grow_2_46 (by decide)) ?_
      refine x_up (pc' := 49) (fun _ _ _ _ _ L => lv_iload_n hx hb dJ4_grow_2_48 rfl (lv_at L 2 rfl)) ?_
      refine x_mmax X q425 q358 q110 q359 x_maxB ⟨Nat.le_of_ble_eq_true rfl, Nat.le_of_ble_eq_true rfl⟩ (Nat.le_of_ble_eq_true rfl) dJ4_grow_2_49 ?_
      refine x_pc (pc' := 52) rfl ?_
      refine x_neq X q426 dJ4_grow_2_52 hp11 (fun q11 σ12 hp12 => ?_)
      refine x_pc (pc' := 55) rfl ?_
      refine x_up (pc' := 56) (fun _ _ _ _ _ L => lv_dup_x1 hx hb dJ4_grow_2_55 rfl rfl) ?_
      refine x_pq X (kJ4 hG) 1 (by decide) q227 (fun _ h => h) rfl (some q11) (x_nar _ (by decide)) (x_fit _ (by decide)) dJ4_grow_2_56 hp12 (fun σ13 hp13 => ?_)
      refine x_pc (pc' := 59) rfl ?_
      exact x_aret X hr (Or.inr ⟨_, rfl⟩) dJ4_grow_2_59 (some q11) hp13
    · have hp14 := hp10.2 c17
      refine x_up (pc' := 21) (fun _ _ _ _ _ L => lv_iload_n hx hb dJ4_grow_2_20 rfl (lv_at L 0 rfl)) ?_
      refine x_up (pc' := 22) (fun _ _ _ _ _ L => lv_iload_n hx hb dJ4_grow_2_21 rfl (lv_at L 2 rfl)) ?_
      refine x_up (pc' := 23) (fun _ _ _ _ _ L => lv_iload_n hx hb dJ4_grow_2_22 rfl (lv_at L 0 rfl)) ?_
      refine x_up (pc' := 24) (fun _ _ _ _ _ L => lv_isub hx hb dJ4_grow_2_23) ?_
      refine x_up (pc' := 25) (fun _ _ _ _ _ L => lv_iload_n hx hb dJ4_grow_2_24 rfl (lv_at L 0 rfl)) ?_
      refine x_up (pc' := 26) (fun _ _ _ _ _ L => lv_iconst (v := (1 : Int32)) hx hb dJ4_grow_2_25 (by decide)) ?_
      refine x_up (pc' := 27) (fun _ _ _ _ _ L => lv_ishr hx hb dJ4_grow_2_26) ?_
      refine x_callS (em := emI) (fun r st => .int r :: st) (fun _ _ => rfl) 3 X (fun σ' KK h => R_J7_newLength l hl G hG v3 (x1 - v3) (v3 >>> ((1 : Int32) &&& 31)) σ' KK h) (lw_S q354 q355 q109 q356) mdJ7_newLength ⟨Nat.le_of_ble_eq_true rfl, Nat.le_of_ble_eq_true rfl⟩ rfl rfl (Nat.le_of_ble_eq_true rfl) dJ4_grow_2_27 hp14 (fun v14 σ15 hp15 => ?_)
      refine x_pc (pc' := 30) rfl ?_
      refine x_upL (pc' := 31) (lo' := [(3, .int v14), (2, .int v3), (0, .ref a0), (1, .int x1)]) (fun _ _ _ _ _ L => lv_istore_n hx hb dJ4_grow_2_30 rfl L (by decide) rfl) ?_
      refine x_up (pc' := 32) (fun _ _ _ _ _ L => lv_aload_n hx hb dJ4_grow_2_31 rfl (lv_at L 2 rfl)) ?_
      refine x_up (pc' := 33) (fun _ _ _ _ _ L => lv_aload_n hx hb dJ4_grow_2_32 rfl (lv_at L 2 rfl)) ?_
      refine x_gq X (kJ4 hG) 1 (by decide) q227 (fun _ h => h) dJ4_grow_2_33 hp15 (fun v16 hp16 => ?_)
      refine x_pc (pc' := 36) rfl ?_
      refine x_up (pc' := 37) (fun _ _ _ _ _ L => lv_iload_n hx hb dJ4_grow_2_36 rfl (lv_at L 0 rfl)) ?_
      refine x_callS (em := emQ) (fun r st => va_rf r :: st) (fun _ _ => rfl) 2 X (fun σ' KK h => R_J9_copyOf l hl G hG v16 v14 σ' KK h) (lw_S q364 q365 q111 q366) mdJ9_copyOf ⟨Nat.le_of_ble_eq_true rfl, Nat.le_of_ble_eq_true rfl⟩ rfl rfl (Nat.le_of_ble_eq_true rfl) dJ4_grow_2_37 hp16 (fun v17 σ18 hp17 => ?_)
      refine x_pc (pc' := 40) rfl ?_
      refine x_up (pc' := 41) (fun _ _ _ _ _ L => lv_dup_x1 hx hb dJ4_grow_2_40 (x_catq _) rfl) ?_
      refine x_pq X (kJ4 hG) 1 (by decide) q227 (fun _ h => h) rfl v17 (x_nar _ (by decide)) (x_fit _ (by decide)) dJ4_grow_2_41 hp17 (fun σ19 hp18 => ?_)
      refine x_pc (pc' := 44) rfl ?_
      exact x_aret X hr (Or.inr ⟨_, rfl⟩) dJ4_grow_2_44 v17 hp18
-- J4_grow
def P_J4_grow (κ : Nat → Nat) (a0 : Nat) (σ : xS) (K : Option Nat → xH → Prop) : Prop :=
  xgi σ a0 3 2 fun v1 => xrc σ a0 3 ∧ xcall (fun τ L => P_J4_grow_2 κ a0 (v1 + (1 : Int32)) τ L) σ fun v2 σ3 => K v2 σ3.1
theorem mdJ4_grow : yJ4_grow.cls ≠ "java/lang/invoke/MethodHandle" ∧ yJ4_grow.cls ≠ "java/lang/invoke/VarHandle" ∧ (parseMethodDescriptor yJ4_grow.desc).map (fun d => d.parameters.length) = some 0 := by decide +kernel
set_option maxHeartbeats 4000000 in
set_option maxRecDepth 100000 in
theorem R_J4_grow (l : Launch) (hl : l.stackTraces = false) (G : xG) (hG : G.1.2 = x_cl) (a0 : Nat) (σ : xS) (K : Option Nat → xH → Prop) (hp : P_J4_grow G.2 a0 σ K) : xM l yJ4_grow cJ4_grow 1 (Option.some (Jvm.ClassFile.FieldType.array (Jvm.ClassFile.FieldType.object "java/lang/Object"))) 4 127 G [(.ref a0)] σ (xlift emQ K) := by
  refine x_entry (by decide) (Nat.le_of_ble_eq_true rfl) ?_
  intro p e s m args below meth c X hr hin
  have X : xX p s m args meth c G cJ4_grow 1 RJ4 := X
  have hx := X.1
  have hb := X.2.1
  have hts := X.2.2.2.2.1
  have hown := X.2.2.2.1
  unfold P_J4_grow at hp
  refine x_same (lo' := [(0, .ref a0)]) rfl ?_
  refine x_up (pc' := 1) (fun _ _ _ _ _ L => lv_aload_n hx hb dJ4_grow_0 rfl (lv_at L 0 rfl)) ?_
  refine x_up (pc' := 2) (fun _ _ _ _ _ L => lv_aload_n hx hb dJ4_grow_1 rfl (lv_at L 0 rfl)) ?_
  refine x_gi X (kJ4 hG) 2 (by decide) q230 (fun _ h => h) dJ4_grow_2 hp (fun v1 hp1 => ?_)
  refine x_pc (pc' := 5) rfl ?_
  refine x_up (pc' := 6) (fun _ _ _ _ _ L => lv_iconst (v := (1 : Int32)) hx hb dJ4_grow_5 (by decide)) ?_
  refine x_up (pc' := 7) (fun _ _ _ _ _ L => lv_iadd hx hb dJ4_grow_6) ?_
  refine x_callV (em := emQ) (fun r st => va_rf r :: st) (fun _ _ => rfl) 1 X (kJ4 hG) (fun σ' KK h => R_J4_grow_2 l hl G hG a0 (v1 + (1 : Int32)) σ' KK h) (lw_V q350 q352 qs3 q105 q353) ⟨rfl, mdJ4_grow_2⟩ ⟨Nat.le_of_ble_eq_true rfl, Nat.le_of_ble_eq_true rfl⟩ rfl rfl (Nat.le_of_ble_eq_true rfl) dJ4_grow_7 hp1.1 hp1.2 (fun v2 σ3 hp2 => ?_)
  refine x_pc (pc' := 10) rfl ?_
  exact x_aret X hr (Or.inr ⟨_, rfl⟩) dJ4_grow_10 v2 hp2
-- J4_add_2
def P_J4_add_2 (κ : Nat → Nat) (a0 : Nat) (x1 : Option Nat) (x2 : Option Nat) (x3 : Int32) (σ : xS) (K : Unit → xH → Prop) : Prop :=
  xnn x2 fun b1 => xan σ b1 fun v2 => ((x3 = v2 → (xrc σ a0 3 ∧ xcall (fun τ L => P_J4_grow κ a0 τ L) σ fun v3 σ4 => xnn v3 fun b5 => xsq κ σ4 b5 x3 x1 fun σ6 => xpi κ σ6 a0 3 2 (x3 + (1 : Int32)) fun σ7 => K () σ7.1)) ∧ (¬ x3 = v2 → (xsq κ σ b1 x3 x1 fun σ8 => xpi κ σ8 a0 3 2 (x3 + (1 : Int32)) fun σ9 => K () σ9.1)))
theorem mdJ4_add_2 : yJ4_add_2.cls ≠ "java/lang/invoke/MethodHandle" ∧ yJ4_add_2.cls ≠ "java/lang/invoke/VarHandle" ∧ (parseMethodDescriptor yJ4_add_2.desc).map (fun d => d.parameters.length) = some 3 := by decide +kernel
set_option maxHeartbeats 4000000 in
set_option maxRecDepth 100000 in
theorem R_J4_add_2 (l : Launch) (hl : l.stackTraces = false) (G : xG) (hG : G.1.2 = x_cl) (a0 : Nat) (x1 : Option Nat) (x2 : Option Nat) (x3 : Int32) (σ : xS) (K : Unit → xH → Prop) (hp : P_J4_add_2 G.2 a0 x1 x2 x3 σ K) : xM l yJ4_add_2 cJ4_add_2 4 (Option.none : Option Jvm.ClassFile.FieldType) 5 147 G [(.ref a0), va_rf x1, va_rf x2, .int x3] σ (xlift emV K) := by
  refine x_entry (by decide) (by simp [lg_sl, x_catq, x_cati, x_catr, x_catn]) ?_
  intro p e s m args below meth c X hr hin
  have X : xX p s m args meth c G cJ4_add_2 4 RJ4 := X
  have hx := X.1
  have hb := X.2.1
  have hts := X.2.2.2.2.1
  have hown := X.2.2.2.1
  unfold P_J4_add_2 at hp
  refine x_same (lo' := [(0, .ref a0), (1, va_rf x1), (2, va_rf x2), (3, .int x3)]) (by simp [lv_args, x_catq, x_cati, x_catr, x_catn]) ?_
  refine x_up (pc' := 1) (fun _ _ _ _ _ L => lv_iload_n hx hb dJ4_add_2_0 rfl (lv_at L 3 rfl)) ?_
  refine x_up (pc' := 2) (fun _ _ _ _ _ L => lv_aloadq_n hx hb dJ4_add_2_1 rfl (lv_at L 2 rfl)) ?_
  obtain ⟨b1, rfl, hp1⟩ := hp
  refine x_alen X dJ4_add_2_2 hp1 (fun v2 hp2 => ?_)
  refine x_pc (pc' := 3) rfl ?_
  refine x_ifn (C := x3 = v2) (pt := 11) (pc' := 6) (fun _ _ _ _ _ => lv_icmp_ne (tgt := 11) hx hb dJ4_add_2_3 (by decide)) (fun c3 => ?_) (fun c3 => ?_)
  · have hp3 := hp2.1 c3
    refine x_up (pc' := 7) (fun _ _ _ _ _ L => lv_aload_n hx hb dJ4_add_2_6 rfl (lv_at L 0 rfl)) ?_
    refine x_callV (em := emQ) (fun r st => va_rf r :: st) (fun _ _ => rfl) 0 X (kJ4 hG) (fun σ' KK h => R_J4_grow l hl G hG a0 σ' KK h) (lw_V q346 q348 qs2 q105 q349) ⟨rfl, mdJ4_grow⟩ ⟨Nat.le_of_ble_eq_true rfl, Nat.le_of_ble_eq_true rfl⟩ rfl rfl (Nat.le_of_ble_eq_true rfl) dJ4_add_2_7 hp3.1 hp3.2 (fun v3 σ4 hp4 => ?_)
    refine x_pc (pc' := 10) rfl ?_
    refine x_st (pc' := 11) ([(2, va_rf v3), (0, .ref a0), (1, va_rf x1), (3, .int x3)]) rfl (by simp [x_catq, x_cati, x_catr, x_catn]) (fun _ _ _ _ _ L => lv_astoreq_n hx hb dJ4_add_2_10 rfl L (by decide) rfl) ?_
    refine x_up (pc' := 12) (fun _ _ _ _ _ L => lv_aloadq_n hx hb dJ4_add_2_11 rfl (lv_at L 0 rfl)) ?_
    refine x_up (pc' := 13) (fun _ _ _ _ _ L => lv_iload_n hx hb dJ4_add_2_12 rfl (lv_at L 3 rfl)) ?_
    refine x_up (pc' := 14) (fun _ _ _ _ _ L => lv_aloadq_n hx hb dJ4_add_2_13 rfl (lv_at L 2 rfl)) ?_
    obtain ⟨b5, rfl, hp5⟩ := hp4
    refine x_aast X hG x1 dJ4_add_2_14 hp5 (fun σ6 hp6 => ?_)
    refine x_pc (pc' := 15) rfl ?_
    refine x_up (pc' := 16) (fun _ _ _ _ _ L => lv_aload_n hx hb dJ4_add_2_15 rfl (lv_at L 1 rfl)) ?_
    refine x_up (pc' := 17) (fun _ _ _ _ _ L => lv_iload_n hx hb dJ4_add_2_16 rfl (lv_at L 3 rfl)) ?_
    refine x_up (pc' := 18) (fun _ _ _ _ _ L => lv_iconst (v := (1 : Int32)) hx hb dJ4_add_2_17 (by decide)) ?_
    refine x_up (pc' := 19) (fun _ _ _ _ _ L => lv_iadd hx hb dJ4_add_2_18) ?_
    refine x_pi X (kJ4 hG) 2 (by decide) q230 (fun _ h => h) rfl rfl rfl dJ4_add_2_19 hp6 (fun σ7 hp7 => ?_)
    refine x_pc (pc' := 22) rfl ?_
    exact x_vret X hr dJ4_add_2_22 hp7
  · have hp8 := hp2.2 c3
    refine x_up (pc' := 12) (fun _ _ _ _ _ L => lv_aload_n hx hb dJ4_add_2_11 rfl (lv_at L 2 rfl)) ?_
    refine x_up (pc' := 13) (fun _ _ _ _ _ L => lv_iload_n hx hb dJ4_add_2_12 rfl (lv_at L 3 rfl)) ?_
    refine x_up (pc' := 14) (fun _ _ _ _ _ L => lv_aloadq_n hx hb dJ4_add_2_13 rfl (lv_at L 1 rfl)) ?_
    refine x_aast X hG x1 dJ4_add_2_14 hp8 (fun σ8 hp9 => ?_)
    refine x_pc (pc' := 15) rfl ?_
    refine x_up (pc' := 16) (fun _ _ _ _ _ L => lv_aload_n hx hb dJ4_add_2_15 rfl (lv_at L 0 rfl)) ?_
    refine x_up (pc' := 17) (fun _ _ _ _ _ L => lv_iload_n hx hb dJ4_add_2_16 rfl (lv_at L 3 rfl)) ?_
    refine x_up (pc' := 18) (fun _ _ _ _ _ L => lv_iconst (v := (1 : Int32)) hx hb dJ4_add_2_17 (by decide)) ?_
    refine x_up (pc' := 19) (fun _ _ _ _ _ L => lv_iadd hx hb dJ4_add_2_18) ?_
    refine x_pi X (kJ4 hG) 2 (by decide) q230 (fun _ h => h) rfl rfl rfl dJ4_add_2_19 hp9 (fun σ9 hp10 => ?_)
    refine x_pc (pc' := 22) rfl ?_
    exact x_vret X hr dJ4_add_2_22 hp10
-- J4_add
def P_J4_add (κ : Nat → Nat) (a0 : Nat) (x1 : Option Nat) (σ : xS) (K : Int32 → xH → Prop) : Prop :=
  xgi σ a0 3 0 fun v1 => xpi κ σ a0 3 0 (v1 + (1 : Int32)) fun σ2 => xgq σ2 a0 3 1 fun v3 => xgi σ2 a0 3 2 fun v4 => xrc σ2 a0 3 ∧ xcall (fun τ L => P_J4_add_2 κ a0 x1 v3 v4 τ L) σ2 fun _ σ5 => K (1 : Int32) σ5.1
theorem mdJ4_add : yJ4_add.cls ≠ "java/lang/invoke/MethodHandle" ∧ yJ4_add.cls ≠ "java/lang/invoke/VarHandle" ∧ (parseMethodDescriptor yJ4_add.desc).map (fun d => d.parameters.length) = some 1 := by decide +kernel
set_option maxHeartbeats 4000000 in
set_option maxRecDepth 100000 in
theorem R_J4_add (l : Launch) (hl : l.stackTraces = false) (G : xG) (hG : G.1.2 = x_cl) (a0 : Nat) (x1 : Option Nat) (σ : xS) (K : Int32 → xH → Prop) (hp : P_J4_add G.2 a0 x1 σ K) : xM l yJ4_add cJ4_add 2 (Option.some Jvm.ClassFile.FieldType.boolean) 6 170 G [(.ref a0), va_rf x1] σ (xlift emI K) := by
  refine x_entry (by decide) (by simp [lg_sl, x_catq, x_cati, x_catr, x_catn]) ?_
  intro p e s m args below meth c X hr hin
  have X : xX p s m args meth c G cJ4_add 2 RJ4 := X
  have hx := X.1
  have hb := X.2.1
  have hts := X.2.2.2.2.1
  have hown := X.2.2.2.1
  unfold P_J4_add at hp
  refine x_same (lo' := [(0, .ref a0), (1, va_rf x1)]) (by simp [lv_args, x_catq, x_cati, x_catr, x_catn]) ?_
  refine x_up (pc' := 1) (fun _ _ _ _ _ L => lv_aload_n hx hb dJ4_add_0 rfl (lv_at L 0 rfl)) ?_
  refine x_up (pc' := 2) (fun _ _ _ _ _ L => lv_dup hx hb dJ4_add_1 rfl) ?_
  refine x_gi X (kJ4 hG) 0 (by decide) q238 (x_sameF (X.2.2.2.2.1 _ q235)) dJ4_add_2 hp (fun v1 hp1 => ?_)
  refine x_pc (pc' := 5) rfl ?_
  refine x_up (pc' := 6) (fun _ _ _ _ _ L => lv_iconst (v := (1 : Int32)) hx hb dJ4_add_5 (by decide)) ?_
  refine x_up (pc' := 7) (fun _ _ _ _ _ L => lv_iadd hx hb dJ4_add_6) ?_
  refine x_pi X (kJ4 hG) 0 (by decide) q238 (x_sameF (X.2.2.2.2.1 _ q235)) rfl rfl rfl dJ4_add_7 hp1 (fun σ2 hp2 => ?_)
  refine x_pc (pc' := 10) rfl ?_
  refine x_up (pc' := 11) (fun _ _ _ _ _ L => lv_aload_n hx hb dJ4_add_10 rfl (lv_at L 0 rfl)) ?_
  refine x_up (pc' := 12) (fun _ _ _ _ _ L => lv_aloadq_n hx hb dJ4_add_11 rfl (lv_at L 1 rfl)) ?_
  refine x_up (pc' := 13) (fun _ _ _ _ _ L => lv_aload_n hx hb dJ4_add_12 rfl (lv_at L 0 rfl)) ?_
  refine x_gq X (kJ4 hG) 1 (by decide) q227 (fun _ h => h) dJ4_add_13 hp2 (fun v3 hp3 => ?_)
  refine x_pc (pc' := 16) rfl ?_
  refine x_up (pc' := 17) (fun _ _ _ _ _ L => lv_aload_n hx hb dJ4_add_16 rfl (lv_at L 0 rfl)) ?_
  refine x_gi X (kJ4 hG) 2 (by decide) q230 (fun _ h => h) dJ4_add_17 hp3 (fun v4 hp4 => ?_)
  refine x_pc (pc' := 20) rfl ?_
  refine x_callV (em := emV) (fun r st => st) (fun _ _ => rfl) 3 X (kJ4 hG) (fun σ' KK h => R_J4_add_2 l hl G hG a0 x1 v3 v4 σ' KK h) (lw_V q342 q344 qs1 q105 q345) ⟨rfl, mdJ4_add_2⟩ ⟨Nat.le_of_ble_eq_true rfl, Nat.le_of_ble_eq_true rfl⟩ rfl rfl (Nat.le_of_ble_eq_true rfl) dJ4_add_20 hp4.1 hp4.2 (fun _ σ5 hp5 => ?_)
  refine x_pc (pc' := 23) rfl ?_
  refine x_up (pc' := 24) (fun _ _ _ _ _ L => lv_iconst (v := (1 : Int32)) hx hb dJ4_add_23 (by decide)) ?_
  exact x_iret X hr rfl dJ4_add_24 hp5
-- J6_clear
def B_J6_clear_5 (κ : Nat → Nat) (kx6004 : Unit → xS → Prop) (f0 : Nat) : ((Option Nat) → xS → Prop) → (Option Nat) → xS → Prop := fun self6003 w6001 σ6002 =>
  ((w6001 = none → (kx6004 () σ6002)) ∧ (∀ b6005 : Nat, w6001 = some b6005 → (xgq σ6002 b6005 6 1 fun v6006 => xpq κ σ6002 b6005 6 0 none fun σ6007 => xpq κ σ6007 b6005 6 1 none fun σ6008 => xpq κ σ6008 b6005 6 2 none fun σ6009 => self6003 v6006 σ6009)))
def P_J6_clear (κ : Nat → Nat) (a0 : Nat) (σ : xS) (K : Unit → xH → Prop) : Prop :=
  xgq σ a0 4 2 fun v1 => xwhile (B_J6_clear_5 κ (fun e2 σ3 => xpq κ σ3 a0 4 3 none fun σ4 => xpq κ σ4 a0 4 2 none fun σ5 => xpi κ σ5 a0 4 1 (0 : Int32) fun σ6 => xgi σ6 a0 4 0 fun v7 => xpi κ σ6 a0 4 0 (v7 + (1 : Int32)) fun σ8 => K () σ8.1) a0) v1 σ
theorem mdJ6_clear : yJ6_clear.cls ≠ "java/lang/invoke/MethodHandle" ∧ yJ6_clear.cls ≠ "java/lang/invoke/VarHandle" ∧ (parseMethodDescriptor yJ6_clear.desc).map (fun d => d.parameters.length) = some 0 := by decide +kernel
set_option maxHeartbeats 4000000 in
set_option maxRecDepth 100000 in
theorem R_J6_clear (l : Launch) (hl : l.stackTraces = false) (G : xG) (hG : G.1.2 = x_cl) (a0 : Nat) (σ : xS) (K : Unit → xH → Prop) (hp : P_J6_clear G.2 a0 σ K) : xM l yJ6_clear cJ6_clear 3 (Option.none : Option Jvm.ClassFile.FieldType) 0 0 G [(.ref a0)] σ (xlift emV K) := by
  refine x_entry (by decide) (Nat.le_of_ble_eq_true rfl) ?_
  intro p e s m args below meth c X hr hin
  have X : xX p s m args meth c G cJ6_clear 3 RJ6 := X
  have hx := X.1
  have hb := X.2.1
  have hts := X.2.2.2.2.1
  have hown := X.2.2.2.1
  unfold P_J6_clear at hp
  refine x_same (lo' := [(0, .ref a0)]) rfl ?_
  refine x_up (pc' := 1) (fun _ _ _ _ _ L => lv_aload_n hx hb dJ6_clear_0 rfl (lv_at L 0 rfl)) ?_
  refine x_gq X (kJ6 hG) 2 (by decide) q257 (fun _ h => h) dJ6_clear_1 hp (fun v1 hp1 => ?_)
  refine x_pc (pc' := 4) rfl ?_
  refine x_upL (pc' := 5) (lo' := [(1, va_rf v1), (0, .ref a0)]) (fun _ _ _ _ _ L => lv_astoreq_n hx hb dJ6_clear_4 rfl L (by decide) rfl) ?_
  refine x_lo (lo' := [(1, va_rf v1), (0, .ref a0)]) [0, 1] rfl ?_
  refine x_while (v0 := v1) (fun w2 => [(1, va_rf w2), (0, .ref a0)]) hp1 (fun self3 hself4 => ?_)
  rintro y6 σ5 hp2
  unfold B_J6_clear_5 at hp2
  refine x_same (lo' := [(1, va_rf y6), (0, .ref a0)]) rfl ?_
  refine x_up (pc' := 6) (fun _ _ _ _ _ L => lv_aloadq_n hx hb dJ6_clear_5 rfl (lv_at L 0 rfl)) ?_
  rcases y6 with _ | b7
  · have hp3 := hp2.1 rfl
    refine x_up (pc' := 34) (fun _ _ _ _ _ L => lv_ifnullN (tgt := 34) hx hb dJ6_clear_6 (by decide)) ?_
    refine x_up (pc' := 35) (fun _ _ _ _ _ L => lv_aload_n hx hb dJ6_clear_34 rfl (lv_at L 1 rfl)) ?_
    refine x_up (pc' := 36) (fun _ _ _ _ _ L => lv_aload_n hx hb dJ6_clear_35 rfl (lv_at L 1 rfl)) ?_
    refine x_up (pc' := 37) (fun _ _ _ _ _ L => lv_null hx hb dJ6_clear_36) ?_
    refine x_up (pc' := 38) (fun _ _ _ _ _ L => lv_dup_x1 hx hb dJ6_clear_37 rfl rfl) ?_
    refine x_pq X (kJ6 hG) 3 (by decide) q258 (fun _ h => h) rfl none (x_nar _ (by decide)) (x_fit _ (by decide)) dJ6_clear_38 hp3 (fun σ8 hp4 => ?_)
    refine x_pc (pc' := 41) rfl ?_
    refine x_pq X (kJ6 hG) 2 (by decide) q257 (fun _ h => h) rfl none (x_nar _ (by decide)) (x_fit _ (by decide)) dJ6_clear_41 hp4 (fun σ9 hp5 => ?_)
    refine x_pc (pc' := 44) rfl ?_
    refine x_up (pc' := 45) (fun _ _ _ _ _ L => lv_aload_n hx hb dJ6_clear_44 rfl (lv_at L 1 rfl)) ?_
    refine x_up (pc' := 46) (fun _ _ _ _ _ L => lv_iconst (v := (0 : Int32)) hx hb dJ6_clear_45 (by decide)) ?_
    refine x_pi X (kJ6 hG) 1 (by decide) q255 (fun _ h => h) rfl rfl rfl dJ6_clear_46 hp5 (fun σ10 hp6 => ?_)
    refine x_pc (pc' := 49) rfl ?_
    refine x_up (pc' := 50) (fun _ _ _ _ _ L => lv_aload_n hx hb dJ6_clear_49 rfl (lv_at L 1 rfl)) ?_
    refine x_up (pc' := 51) (fun _ _ _ _ _ L => lv_dup hx hb dJ6_clear_50 rfl) ?_
    refine x_gi X (kJ6 hG) 0 (by decide) q237 (x_sameF (X.2.2.2.2.1 _ q233)) dJ6_clear_51 hp6 (fun v11 hp7 => ?_)
    refine x_pc (pc' := 54) rfl ?_
    refine x_up (pc' := 55) (fun _ _ _ _ _ L => lv_iconst (v := (1 : Int32)) hx hb dJ6_clear_54 (by decide)) ?_
    refine x_up (pc' := 56) (fun _ _ _ _ _ L => lv_iadd hx hb dJ6_clear_55) ?_
    refine x_pi X (kJ6 hG) 0 (by decide) q237 (x_sameF (X.2.2.2.2.1 _ q233)) rfl rfl rfl dJ6_clear_56 hp7 (fun σ12 hp8 => ?_)
    refine x_pc (pc' := 59) rfl ?_
    exact x_vret X hr dJ6_clear_59 hp8
  · have hp9 := hp2.2 _ rfl
    refine x_up (pc' := 9) (fun _ _ _ _ _ L => lv_ifnull hx hb dJ6_clear_6) ?_
    refine x_up (pc' := 10) (fun _ _ _ _ _ L => lv_aload_n hx hb dJ6_clear_9 rfl (lv_at L 0 rfl)) ?_
    refine x_gq X (kJ10 hG) 1 (by decide) q447 (fun _ h => h) dJ6_clear_10 hp9 (fun v13 hp10 => ?_)
    refine x_pc (pc' := 13) rfl ?_
    refine x_upL (pc' := 14) (lo' := [(2, va_rf v13), (1, .ref b7), (0, .ref a0)]) (fun _ _ _ _ _ L => lv_astoreq_n hx hb dJ6_clear_13 rfl L (by decide) rfl) ?_
    refine x_up (pc' := 15) (fun _ _ _ _ _ L => lv_aload_n hx hb dJ6_clear_14 rfl (lv_at L 1 rfl)) ?_
    refine x_up (pc' := 16) (fun _ _ _ _ _ L => lv_null hx hb dJ6_clear_15) ?_
    refine x_pq X (kJ10 hG) 0 (by decide) q444 (fun _ h => h) rfl none (x_nar _ (by decide)) (x_fit _ (by decide)) dJ6_clear_16 hp10 (fun σ14 hp11 => ?_)
    refine x_pc (pc' := 19) rfl ?_
    refine x_up (pc' := 20) (fun _ _ _ _ _ L => lv_aload_n hx hb dJ6_clear_19 rfl (lv_at L 1 rfl)) ?_
    refine x_up (pc' := 21) (fun _ _ _ _ _ L => lv_null hx hb dJ6_clear_20) ?_
    refine x_pq X (kJ10 hG) 1 (by decide) q447 (fun _ h => h) rfl none (x_nar _ (by decide)) (x_fit _ (by decide)) dJ6_clear_21 hp11 (fun σ15 hp12 => ?_)
    refine x_pc (pc' := 24) rfl ?_
    refine x_up (pc' := 25) (fun _ _ _ _ _ L => lv_aload_n hx hb dJ6_clear_24 rfl (lv_at L 1 rfl)) ?_
    refine x_up (pc' := 26) (fun _ _ _ _ _ L => lv_null hx hb dJ6_clear_25) ?_
    refine x_pq X (kJ10 hG) 2 (by decide) q449 (fun _ h => h) rfl none (x_nar _ (by decide)) (x_fit _ (by decide)) dJ6_clear_26 hp12 (fun σ16 hp13 => ?_)
    refine x_pc (pc' := 29) rfl ?_
    refine x_up (pc' := 30) (fun _ _ _ _ _ L => lv_aloadq_n hx hb dJ6_clear_29 rfl (lv_at L 0 rfl)) ?_
    refine x_upL (pc' := 31) (lo' := [(1, va_rf v13), (2, va_rf v13), (0, .ref a0)]) (fun _ _ _ _ _ L => lv_astoreq_n hx hb dJ6_clear_30 rfl L (by decide) rfl) ?_
    refine x_up (pc' := 5) (fun _ _ _ _ _ L => lv_goto (tgt := 5) hx hb dJ6_clear_31 (by decide)) ?_
    refine x_lo (lo' := [(1, va_rf v13), (0, .ref a0)]) [0, 2] rfl ?_
    exact hself4 v13 σ16 hp13
-- X2_shapesAnew
def B_X2_shapesAnew_28 (κ : Nat → Nat) (kx29104 : Unit → xS → Prop) (f0 : Nat) (f1 : Int32) (f2 : Int32) (f3 : Int32) (f4 : Nat) : (Int32 → xS → Prop) → Int32 → xS → Prop := fun self29103 w29101 σ29102 =>
  ((f2 ≤ w29101 → (kx29104 () σ29102)) ∧ (¬ f2 ≤ w29101 → (xnew κ σ29102 5 8 [.int 0, va_rf none, .int 0, .int 0, .int 0, .int 0, .int 0, .int 0] fun q29105 σ29106 => xcall (fun τ L => P_X3_init κ q29105 w29101 τ L) σ29106 fun _ σ29107 => xrc σ29107 f4 3 ∧ xcall (fun τ L => P_J4_add κ f4 (some q29105) τ L) σ29107 fun v29108 σ29109 => self29103 (w29101 + (1 : Int32)) σ29109)))
def B_X2_shapesAnew_11 (κ : Nat → Nat) (kx12004 : Unit → xS → Prop) (f0 : Nat) (f1 : Int32) (f2 : Int32) : (Int32 → xS → Prop) → Int32 → xS → Prop := fun self12003 w12001 σ12002 =>
  ((f1 ≤ w12001 → (kx12004 () σ12002)) ∧ (¬ f1 ≤ w12001 → (xnew κ σ12002 3 3 [.int 0, va_rf none, .int 0] fun q12005 σ12006 => xcall (fun τ L => P_J4_init κ q12005 τ L) σ12006 fun _ σ12007 => xwhile (B_X2_shapesAnew_28 κ (fun e12008 σ12009 => xgq σ12009 f0 1 2 fun v12010 => xnn v12010 fun b12011 => xrc σ12009 b12011 3 ∧ xcall (fun τ L => P_J4_add κ b12011 (some q12005) τ L) σ12009 fun v12012 σ12013 => self12003 (w12001 + (1 : Int32)) σ12013) f0 f1 f2 w12001 q12005) (0 : Int32) σ12007)))
def P_X2_shapesAnew (κ : Nat → Nat) (a0 : Nat) (x1 : Int32) (x2 : Int32) (σ : xS) (K : Unit → xH → Prop) : Prop :=
  xgq σ a0 1 2 fun v1 => xnn v1 fun b2 => xrc σ b2 3 ∧ xcall (fun τ L => P_J4_clear κ b2 τ L) σ fun _ σ3 => xwhile (B_X2_shapesAnew_11 κ (fun e4 σ5 => xpi κ σ5 a0 1 8 x2 fun σ6 => xgq σ6 a0 1 3 fun v7 => xnn v7 fun b8 => xrc σ6 b8 4 ∧ xcall (fun τ L => P_J6_clear κ b8 τ L) σ6 fun _ σ9 => xpi κ σ9 a0 1 9 (0 : Int32) fun σ10 => K () σ10.1) a0 x1 x2) (0 : Int32) σ3
theorem mdX2_shapesAnew : yX2_shapesAnew.cls ≠ "java/lang/invoke/MethodHandle" ∧ yX2_shapesAnew.cls ≠ "java/lang/invoke/VarHandle" ∧ (parseMethodDescriptor yX2_shapesAnew.desc).map (fun d => d.parameters.length) = some 2 := by decide +kernel
set_option maxHeartbeats 4000000 in
set_option maxRecDepth 100000 in
theorem R_X2_shapesAnew (l : Launch) (hl : l.stackTraces = false) (G : xG) (hG : G.1.2 = x_cl) (a0 : Nat) (x1 : Int32) (x2 : Int32) (σ : xS) (K : Unit → xH → Prop) (hp : P_X2_shapesAnew G.2 a0 x1 x2 σ K) : xM l yX2_shapesAnew cX2_shapesAnew 6 (Option.none : Option Jvm.ClassFile.FieldType) 7 191 G [(.ref a0), .int x1, .int x2] σ (xlift emV K) := by
  refine x_entry (by decide) (Nat.le_of_ble_eq_true rfl) ?_
  intro p e s m args below meth c X hr hin
  have X : xX p s m args meth c G cX2_shapesAnew 6 RX2 := X
  have hx := X.1
  have hb := X.2.1
  have hts := X.2.2.2.2.1
  have hown := X.2.2.2.1
  unfold P_X2_shapesAnew at hp
  refine x_same (lo' := [(0, .ref a0), (1, .int x1), (2, .int x2)]) rfl ?_
  refine x_up (pc' := 1) (fun _ _ _ _ _ L => lv_aload_n hx hb dX2_shapesAnew_0 rfl (lv_at L 0 rfl)) ?_
  refine x_gq X (kX2 hG) 2 (by decide) q462 (fun _ h => h) dX2_shapesAnew_1 hp (fun v1 hp1 => ?_)
  refine x_pc (pc' := 4) rfl ?_
  obtain ⟨b2, rfl, hp2⟩ := hp1
  refine x_callF (x := ⟨"java/util/List", "clear", "()V"⟩) (em := emV) (fun r st => st) (fun _ _ => rfl) 0 X (kJ4 hG) (fun σ' KK h => R_J4_clear l hl G hG b2 σ' KK h) q272 q276 q278 q105 q280 ⟨⟨q274, q273, q279, q277, q275⟩, by decide, by decide⟩ (by decide +kernel) ⟨Nat.le_of_ble_eq_true rfl, Nat.le_of_ble_eq_true rfl⟩ rfl rfl (Nat.le_of_ble_eq_true rfl) dX2_shapesAnew_4 hp2.1 hp2.2 (fun _ σ3 hp3 => ?_)
  refine x_pc (pc' := 9) rfl ?_
  refine x_up (pc' := 10) (fun _ _ _ _ _ L => lv_iconst (v := (0 : Int32)) hx hb dX2_shapesAnew_9 (by decide)) ?_
  refine x_upL (pc' := 11) (lo' := [(3, .int (0 : Int32)), (0, .ref a0), (1, .int x1), (2, .int x2)]) (fun _ _ _ _ _ L => lv_istore_n hx hb dX2_shapesAnew_10 rfl L (by decide) rfl) ?_
  refine x_lo (lo' := [(3, .int (0 : Int32)), (0, .ref a0), (1, .int x1), (2, .int x2)]) [0, 1, 2, 3] rfl ?_
  refine x_while (v0 := (0 : Int32)) (fun w4 => [(3, .int w4), (0, .ref a0), (1, .int x1), (2, .int x2)]) hp3 (fun self5 hself6 => ?_)
  rintro y8 σ7 hp4
  unfold B_X2_shapesAnew_11 at hp4
  refine x_same (lo' := [(3, .int y8), (0, .ref a0), (1, .int x1), (2, .int x2)]) rfl ?_
  refine x_up (pc' := 12) (fun _ _ _ _ _ L => lv_iload_n hx hb dX2_shapesAnew_11 rfl (lv_at L 0 rfl)) ?_
  refine x_up (pc' := 13) (fun _ _ _ _ _ L => lv_iload_n hx hb dX2_shapesAnew_12 rfl (lv_at L 2 rfl)) ?_
  refine x_if (C := x1 ≤ y8) (pt := 75) (pc' := 16) (fun _ _ _ _ _ => lv_icmp_ge (tgt := 75) hx hb dX2_shapesAnew_13 (by decide)) (fun c13 => ?_) (fun c13 => ?_)
  · have hp5 := hp4.1 c13
    refine x_up (pc' := 76) (fun _ _ _ _ _ L => lv_aload_n hx hb dX2_shapesAnew_75 rfl (lv_at L 1 rfl)) ?_
    refine x_up (pc' := 77) (fun _ _ _ _ _ L => lv_iload_n hx hb dX2_shapesAnew_76 rfl (lv_at L 3 rfl)) ?_
    refine x_pi X (kX2 hG) 8 (by decide) q472 (fun _ h => h) rfl rfl rfl dX2_shapesAnew_77 hp5 (fun σ9 hp6 => ?_)
    refine x_pc (pc' := 80) rfl ?_
    refine x_up (pc' := 81) (fun _ _ _ _ _ L => lv_aload_n hx hb dX2_shapesAnew_80 rfl (lv_at L 1 rfl)) ?_
    refine x_gq X (kX2 hG) 3 (by decide) q464 (fun _ h => h) dX2_shapesAnew_81 hp6 (fun v10 hp7 => ?_)
    refine x_pc (pc' := 84) rfl ?_
    obtain ⟨b11, rfl, hp8⟩ := hp7
    refine x_callV (em := emV) (fun r st => st) (fun _ _ => rfl) 0 X (kJ6 hG) (fun σ' KK h => R_J6_clear l hl G hG b11 σ' KK h) (lw_V q457 q284 q3674 q107 q286) ⟨rfl, mdJ6_clear⟩ ⟨Nat.le_of_ble_eq_true rfl, Nat.le_of_ble_eq_true rfl⟩ rfl rfl (Nat.le_of_ble_eq_true rfl) dX2_shapesAnew_84 hp8.1 hp8.2 (fun _ σ12 hp9 => ?_)
    refine x_pc (pc' := 87) rfl ?_
    refine x_up (pc' := 88) (fun _ _ _ _ _ L => lv_aload_n hx hb dX2_shapesAnew_87 rfl (lv_at L 1 rfl)) ?_
    refine x_up (pc' := 89) (fun _ _ _ _ _ L => lv_iconst (v := (0 : Int32)) hx hb dX2_shapesAnew_88 (by decide)) ?_
    refine x_pi X (kX2 hG) 9 (by decide) q474 (fun _ h => h) rfl rfl rfl dX2_shapesAnew_89 hp9 (fun σ13 hp10 => ?_)
    refine x_pc (pc' := 92) rfl ?_
    exact x_vret X hr dX2_shapesAnew_92 hp10
  · have hp11 := hp4.2 c13
    refine x_new X (kJ4 hG) q213 q214 q105 (fs := [.int 0, va_rf none, .int 0]) x_dflt_J4 dX2_shapesAnew_16 hp11 (fun q14 σ15 hp12 => ?_)
    refine x_pc (pc' := 19) rfl ?_
    refine x_up (pc' := 20) (fun _ _ _ _ _ L => lv_dup hx hb dX2_shapesAnew_19 rfl) ?_
    refine x_callI 0 X (fun σ' KK h => R_J4_init l hl G hG q14 σ' KK h) (lw_meth q217) q105 q215 q216 rfl mdJ4_init ⟨Nat.le_of_ble_eq_true rfl, Nat.le_of_ble_eq_true rfl⟩ rfl rfl (Nat.le_of_ble_eq_true rfl) dX2_shapesAnew_20 hp12 (fun σ16 hp13 => ?_)
    refine x_pc (pc' := 23) rfl ?_
    refine x_upL (pc' := 25) (lo' := [(4, .ref q14), (3, .int y8), (0, .ref a0), (1, .int x1), (2, .int x2)]) (fun _ _ _ _ _ L => lv_astore hx hb dX2_shapesAnew_23 L (by decide) rfl) ?_
    refine x_up (pc' := 26) (fun _ _ _ _ _ L => lv_iconst (v := (0 : Int32)) hx hb dX2_shapesAnew_25 (by decide)) ?_
    refine x_upL (pc' := 28) (lo' := [(5, .int (0 : Int32)), (4, .ref q14), (3, .int y8), (0, .ref a0), (1, .int x1), (2, .int x2)]) (fun _ _ _ _ _ L => lv_istore hx hb dX2_shapesAnew_26 L (by decide) rfl) ?_
    refine x_lo (lo' := [(5, .int (0 : Int32)), (0, .ref a0), (1, .int x1), (2, .int x2), (3, .int y8), (4, .ref q14)]) [0, 3, 4, 5, 2, 1] rfl ?_
    refine x_while (v0 := (0 : Int32)) (fun w17 => [(5, .int w17), (0, .ref a0), (1, .int x1), (2, .int x2), (3, .int y8), (4, .ref q14)]) hp13 (fun self18 hself19 => ?_)
    rintro y21 σ20 hp14
    unfold B_X2_shapesAnew_28 at hp14
    refine x_same (lo' := [(5, .int y21), (0, .ref a0), (1, .int x1), (2, .int x2), (3, .int y8), (4, .ref q14)]) rfl ?_
    refine x_up (pc' := 30) (fun _ _ _ _ _ L => lv_iload hx hb dX2_shapesAnew_28 (lv_at L 0 rfl)) ?_
    refine x_up (pc' := 31) (fun _ _ _ _ _ L => lv_iload_n hx hb dX2_shapesAnew_30 rfl (lv_at L 3 rfl)) ?_
    refine x_if (C := x2 ≤ y21) (pt := 57) (pc' := 34) (fun _ _ _ _ _ => lv_icmp_ge (tgt := 57) hx hb dX2_shapesAnew_31 (by decide)) (fun c31 => ?_) (fun c31 => ?_)
    · have hp15 := hp14.1 c31
      refine x_up (pc' := 58) (fun _ _ _ _ _ L => lv_aload_n hx hb dX2_shapesAnew_57 rfl (lv_at L 1 rfl)) ?_
      refine x_gq X (kX2 hG) 2 (by decide) q462 (fun _ h => h) dX2_shapesAnew_58 hp15 (fun v22 hp16 => ?_)
      refine x_pc (pc' := 61) rfl ?_
      refine x_up (pc' := 63) (fun _ _ _ _ _ L => lv_aload hx hb dX2_shapesAnew_61 (lv_at L 5 rfl)) ?_
      obtain ⟨b23, rfl, hp17⟩ := hp16
      refine x_callF (x := ⟨"java/util/List", "add", "(Ljava/lang/Object;)Z"⟩) (em := emI) (fun r st => .int r :: st) (fun _ _ => rfl) 1 X (kJ4 hG) (fun σ' KK h => R_J4_add l hl G hG b23 (some q14) σ' KK h) q334 q337 q339 q105 q341 ⟨⟨q336, q335, q340, q338, q275⟩, by decide, by decide⟩ (by decide +kernel) ⟨Nat.le_of_ble_eq_true rfl, Nat.le_of_ble_eq_true rfl⟩ rfl rfl (Nat.le_of_ble_eq_true rfl) dX2_shapesAnew_63 hp17.1 hp17.2 (fun v24 σ25 hp18 => ?_)
      refine x_pc (pc' := 68) rfl ?_
      refine x_up (pc' := 69) (fun _ _ _ _ _ L => lv_pop hx hb dX2_shapesAnew_68 rfl) ?_
      refine x_upL (pc' := 72) (lo' := [(3, .int (y8 + (1 : Int32))), (5, .int y21), (0, .ref a0), (1, .int x1), (2, .int x2), (4, .ref q14)]) (fun _ _ _ _ _ L => lv_iinc (v := y8 + (1 : Int32)) hx hb dX2_shapesAnew_69 L (k := 4) rfl rfl (by decide) rfl) ?_
      refine x_up (pc' := 11) (fun _ _ _ _ _ L => lv_goto (tgt := 11) hx hb dX2_shapesAnew_72 (by decide)) ?_
      refine x_lo (lo' := [(3, .int (y8 + (1 : Int32))), (0, .ref a0), (1, .int x1), (2, .int x2)]) [0, 2, 3, 4] rfl ?_
      exact hself6 (y8 + (1 : Int32)) σ25 hp18
    · have hp19 := hp14.2 c31
      refine x_up (pc' := 36) (fun _ _ _ _ _ L => lv_aload hx hb dX2_shapesAnew_34 (lv_at L 5 rfl)) ?_
      refine x_new X (kX3 hG) q287 q288 q108 (fs := [.int 0, va_rf none, .int 0, .int 0, .int 0, .int 0, .int 0, .int 0]) x_dflt_X3 dX2_shapesAnew_36 hp19 (fun q26 σ27 hp20 => ?_)
      refine x_pc (pc' := 39) rfl ?_
      refine x_up (pc' := 40) (fun _ _ _ _ _ L => lv_dup hx hb dX2_shapesAnew_39 rfl) ?_
      refine x_up (pc' := 42) (fun _ _ _ _ _ L => lv_iload hx hb dX2_shapesAnew_40 (lv_at L 0 rfl)) ?_
      refine x_callI 1 X (fun σ' KK h => R_X3_init l hl G hG q26 y21 σ' KK h) (lw_meth q291) q108 q289 q290 rfl mdX3_init ⟨Nat.le_of_ble_eq_true rfl, Nat.le_of_ble_eq_true rfl⟩ rfl rfl (Nat.le_of_ble_eq_true rfl) dX2_shapesAnew_42 hp20 (fun σ28 hp21 => ?_)
      refine x_pc (pc' := 45) rfl ?_
      refine x_callF (x := ⟨"java/util/List", "add", "(Ljava/lang/Object;)Z"⟩) (em := emI) (fun r st => .int r :: st) (fun _ _ => rfl) 1 X (kJ4 hG) (fun σ' KK h => R_J4_add l hl G hG q14 (some q26) σ' KK h) q334 q337 q339 q105 q341 ⟨⟨q336, q335, q340, q338, q275⟩, by decide, by decide⟩ (by decide +kernel) ⟨Nat.le_of_ble_eq_true rfl, Nat.le_of_ble_eq_true rfl⟩ rfl rfl (Nat.le_of_ble_eq_true rfl) dX2_shapesAnew_45 hp21.1 hp21.2 (fun v29 σ30 hp22 => ?_)
      refine x_pc (pc' := 50) rfl ?_
      refine x_up (pc' := 51) (fun _ _ _ _ _ L => lv_pop hx hb dX2_shapesAnew_50 rfl) ?_
      refine x_upL (pc' := 54) (lo' := [(5, .int (y21 + (1 : Int32))), (0, .ref a0), (1, .int x1), (2, .int x2), (3, .int y8), (4, .ref q14)]) (fun _ _ _ _ _ L => lv_iinc (v := y21 + (1 : Int32)) hx hb dX2_shapesAnew_51 L (k := 0) rfl rfl (by decide) rfl) ?_
      refine x_up (pc' := 28) (fun _ _ _ _ _ L => lv_goto (tgt := 28) hx hb dX2_shapesAnew_54 (by decide)) ?_
      refine x_lo (lo' := [(5, .int (y21 + (1 : Int32))), (0, .ref a0), (1, .int x1), (2, .int x2), (3, .int y8), (4, .ref q14)]) [0, 1, 2, 3, 4, 5] rfl ?_
      exact hself19 (y21 + (1 : Int32)) σ30 hp22
