-- X12_init
def P_X12_init (κ : Nat → Nat) (a0 : Nat) (x1 : Int32) (x2 : Int32) (x3 : Int32) (σ : xS) (K : Unit → xH → Prop) : Prop :=
  xpi κ σ a0 35 0 x1 fun σ1 => xpi κ σ1 a0 35 1 x2 fun σ2 => xpi κ σ2 a0 35 2 x3 fun σ3 => K () σ3.1
theorem mdX12_init : yX12_init.cls ≠ "java/lang/invoke/MethodHandle" ∧ yX12_init.cls ≠ "java/lang/invoke/VarHandle" ∧ (parseMethodDescriptor yX12_init.desc).map (fun d => d.parameters.length) = some 3 := by decide +kernel
set_option maxHeartbeats 4000000 in
set_option maxRecDepth 100000 in
theorem R_X12_init (l : Launch) (hl : l.stackTraces = false) (G : xG) (hG : G.1.2 = x_cl) (a0 : Nat) (x1 : Int32) (x2 : Int32) (x3 : Int32) (σ : xS) (K : Unit → xH → Prop) (hp : P_X12_init G.2 a0 x1 x2 x3 σ K) : xM l yX12_init cX12_init 4 (Option.none : Option Jvm.ClassFile.FieldType) 1 20 G [(.ref a0), .int x1, .int x2, .int x3] σ (xlift emV K) := by
  refine x_entry (by decide) (Nat.le_of_ble_eq_true rfl) ?_
  intro p e s m args below meth c X hr hin
  have X : xX p s m args meth c G cX12_init 4 RX12 := X
  have hx := X.1
  have hb := X.2.1
  have hts := X.2.2.2.2.1
  have hown := X.2.2.2.1
  unfold P_X12_init at hp
  refine x_same (lo' := [(0, .ref a0), (1, .int x1), (2, .int x2), (3, .int x3)]) rfl ?_
  refine x_up (pc' := 1) (fun _ _ _ _ _ L => lv_aload_n hx hb dX12_init_0 rfl (lv_at L 0 rfl)) ?_
  refine x_objInit X q2821 q170 q171 dX12_init_1 (Nat.le_of_ble_eq_true rfl) ⟨Nat.le_of_ble_eq_true rfl, Nat.le_of_ble_eq_true rfl⟩ ?_
  refine x_pc (pc' := 4) rfl ?_
  refine x_up (pc' := 5) (fun _ _ _ _ _ L => lv_aload_n hx hb dX12_init_4 rfl (lv_at L 0 rfl)) ?_
  refine x_up (pc' := 6) (fun _ _ _ _ _ L => lv_iload_n hx hb dX12_init_5 rfl (lv_at L 1 rfl)) ?_
  refine x_piF X (kX12 hG) 0 (by decide) q2822 (fun _ h => h) rfl hin rfl rfl rfl dX12_init_6 hp (fun σ1 hp1 => ?_)
  refine x_pc (pc' := 9) rfl ?_
  refine x_up (pc' := 10) (fun _ _ _ _ _ L => lv_aload_n hx hb dX12_init_9 rfl (lv_at L 0 rfl)) ?_
  refine x_up (pc' := 11) (fun _ _ _ _ _ L => lv_iload_n hx hb dX12_init_10 rfl (lv_at L 2 rfl)) ?_
  refine x_piF X (kX12 hG) 1 (by decide) q2825 (fun _ h => h) rfl hin rfl rfl rfl dX12_init_11 hp1 (fun σ2 hp2 => ?_)
  refine x_pc (pc' := 14) rfl ?_
  refine x_up (pc' := 15) (fun _ _ _ _ _ L => lv_aload_n hx hb dX12_init_14 rfl (lv_at L 0 rfl)) ?_
  refine x_up (pc' := 16) (fun _ _ _ _ _ L => lv_iload_n hx hb dX12_init_15 rfl (lv_at L 3 rfl)) ?_
  refine x_piF X (kX12 hG) 2 (by decide) q2827 (fun _ h => h) rfl hin rfl rfl rfl dX12_init_16 hp2 (fun σ3 hp3 => ?_)
  refine x_pc (pc' := 19) rfl ?_
  exact x_vret X hr dX12_init_19 hp3
-- X2_ranked
def B_X2_ranked_17 (κ : Nat → Nat) (kx18004 : Unit → xS → Prop) (f0 : Nat) (f1 : Int32) (f2 : Nat) : (Int32 → xS → Prop) → Int32 → xS → Prop := fun self18003 w18001 σ18002 =>
  (((16 : Int32) ≤ w18001 → (kx18004 () σ18002)) ∧ (¬ (16 : Int32) ≤ w18001 → (xnew κ σ18002 35 3 [.int 0, .int 0, .int 0] fun q18005 σ18006 => xgq σ18006 f0 1 5 fun v18007 => xnn v18007 fun b18008 => xai .int σ18006 b18008 w18001 fun v18009 => xgq σ18006 f0 1 6 fun v18010 => xnn v18010 fun b18011 => xai .int σ18006 b18011 w18001 fun v18012 => xcall (fun τ L => P_X12_init κ q18005 w18001 v18009 v18012 τ L) σ18006 fun _ σ18013 => xrc σ18013 f2 27 ∧ xcall (fun τ L => P_J42_add κ f2 (some q18005) τ L) σ18013 fun v18014 σ18015 => self18003 (w18001 + (1 : Int32)) σ18015)))
def B_X2_ranked_56 (κ : Nat → Nat) (kx57004 : Unit → xS → Prop) (f1 : Int32) (f2 : Nat) : (Int32 → xS → Prop) → Int32 → xS → Prop := fun self57003 w57001 σ57002 =>
  ((f1 ≤ w57001 → (kx57004 () σ57002)) ∧ (¬ f1 ≤ w57001 → (xrc σ57002 f2 27 ∧ xcall (fun τ L => P_J2_isEmpty κ f2 τ L) σ57002 fun v57005 σ57006 => ((v57005 = 0 → (xrc σ57006 f2 27 ∧ xcall (fun τ L => P_J41_remove κ f2 τ L) σ57006 fun v57007 σ57008 => xnn v57007 fun b57009 => xrc σ57008 b57009 35 ∧ self57003 (w57001 + (1 : Int32)) σ57008)) ∧ (¬ v57005 = 0 → (kx57004 () σ57006))))))
def P_X2_ranked (κ : Nat → Nat) (a0 : Nat) (x1 : Int32) (σ : xS) (K : Int32 → xH → Prop) : Prop :=
  xnew κ σ 27 4 [va_rf none, .int 0, va_rf none, .int 0] fun q1 σ2 => xnew κ σ2 34 0 [] fun q3 σ4 => xcall (fun τ L => P_X11_init κ q3 τ L) σ4 fun _ σ5 => xcall (fun τ L => P_J42_init κ q1 (some q3) τ L) σ5 fun _ σ6 => xwhile (B_X2_ranked_17 κ (fun e7 σ8 => xwhile (B_X2_ranked_56 κ (fun e9 σ10 => ((x1 < 0 → (K (-1 : Int32) σ10.1)) ∧ (¬ x1 < 0 → (xrc σ10 q1 27 ∧ xcall (fun τ L => P_J2_isEmpty κ q1 τ L) σ10 fun v11 σ12 => ((v11 = 0 → (xrc σ12 q1 27 ∧ xcall (fun τ L => P_J41_remove κ q1 τ L) σ12 fun v13 σ14 => xnn v13 fun b15 => xrc σ14 b15 35 ∧ xgi σ14 b15 35 0 fun v16 => K v16 σ14.1)) ∧ (¬ v11 = 0 → (K (-1 : Int32) σ12.1))))))) x1 q1) (0 : Int32) σ8) a0 x1 q1) (0 : Int32) σ6
theorem mdX2_ranked : yX2_ranked.cls ≠ "java/lang/invoke/MethodHandle" ∧ yX2_ranked.cls ≠ "java/lang/invoke/VarHandle" ∧ (parseMethodDescriptor yX2_ranked.desc).map (fun d => d.parameters.length) = some 1 := by decide +kernel
set_option maxHeartbeats 4000000 in
set_option maxRecDepth 100000 in
theorem R_X2_ranked (l : Launch) (hl : l.stackTraces = false) (G : xG) (hG : G.1.2 = x_cl) (a0 : Nat) (x1 : Int32) (σ : xS) (K : Int32 → xH → Prop) (hp : P_X2_ranked G.2 a0 x1 σ K) : xM l yX2_ranked cX2_ranked 5 (Option.some Jvm.ClassFile.FieldType.int) 8 177 G [(.ref a0), .int x1] σ (xlift emI K) := by
  refine x_entry (by decide) (Nat.le_of_ble_eq_true rfl) ?_
  intro p e s m args below meth c X hr hin
  have X : xX p s m args meth c G cX2_ranked 5 RX2 := X
  have hx := X.1
  have hb := X.2.1
  have hts := X.2.2.2.2.1
  have hown := X.2.2.2.1
  unfold P_X2_ranked at hp
  refine x_same (lo' := [(0, .ref a0), (1, .int x1)]) rfl ?_
  refine x_new X (kJ42 hG) q2282 q2283 q150 (fs := [va_rf none, .int 0, va_rf none, .int 0]) x_dflt_J42 dX2_ranked_0 hp (fun q1 σ2 hp1 => ?_)
  refine x_pc (pc' := 3) rfl ?_
  refine x_up (pc' := 4) (fun _ _ _ _ _ L => lv_dup hx hb dX2_ranked_3 rfl) ?_
  refine x_new X (kX11 hG) q2809 q2810 q158 (fs := []) x_dflt_X11 dX2_ranked_4 hp1 (fun q3 σ4 hp2 => ?_)
  refine x_pc (pc' := 7) rfl ?_
  refine x_up (pc' := 8) (fun _ _ _ _ _ L => lv_dup hx hb dX2_ranked_7 rfl) ?_
  refine x_callIN (host := "WordCache") 0 X (fun σ' KK h => R_X11_init l hl G hG q3 σ' KK h) q2811 q2812 q158 (lw_meth q2813) rfl mdX11_init ⟨Nat.le_of_ble_eq_true rfl, Nat.le_of_ble_eq_true rfl⟩ rfl rfl (Nat.le_of_ble_eq_true rfl) dX2_ranked_8 hp2 (fun σ5 hp3 => ?_)
  refine x_pc (pc' := 11) rfl ?_
  refine x_callI 1 X (fun σ' KK h => R_J42_init l hl G hG q1 (some q3) σ' KK h) (lw_meth q2315) q150 q2313 q2314 rfl mdJ42_init ⟨Nat.le_of_ble_eq_true rfl, Nat.le_of_ble_eq_true rfl⟩ rfl rfl (Nat.le_of_ble_eq_true rfl) dX2_ranked_11 hp3 (fun σ6 hp4 => ?_)
  refine x_pc (pc' := 14) rfl ?_
  refine x_upL (pc' := 15) (lo' := [(2, .ref q1), (0, .ref a0), (1, .int x1)]) (fun _ _ _ _ _ L => lv_astore_n hx hb dX2_ranked_14 rfl L (by decide) rfl) ?_
  refine x_up (pc' := 16) (fun _ _ _ _ _ L => lv_iconst (v := (0 : Int32)) hx hb dX2_ranked_15 (by decide)) ?_
  refine x_upL (pc' := 17) (lo' := [(3, .int (0 : Int32)), (2, .ref q1), (0, .ref a0), (1, .int x1)]) (fun _ _ _ _ _ L => lv_istore_n hx hb dX2_ranked_16 rfl L (by decide) rfl) ?_
  refine x_lo (lo' := [(3, .int (0 : Int32)), (0, .ref a0), (1, .int x1), (2, .ref q1)]) [0, 2, 3, 1] rfl ?_
  refine x_while (v0 := (0 : Int32)) (fun w7 => [(3, .int w7), (0, .ref a0), (1, .int x1), (2, .ref q1)]) hp4 (fun self8 hself9 => ?_)
  rintro y11 σ10 hp5
  unfold B_X2_ranked_17 at hp5
  refine x_same (lo' := [(3, .int y11), (0, .ref a0), (1, .int x1), (2, .ref q1)]) rfl ?_
  refine x_up (pc' := 18) (fun _ _ _ _ _ L => lv_iload_n hx hb dX2_ranked_17 rfl (lv_at L 0 rfl)) ?_
  refine x_up (pc' := 20) (fun _ _ _ _ _ L => lv_bipush (v := (16 : Int32)) hx hb dX2_ranked_18 (by decide)) ?_
  refine x_if (C := (16 : Int32) ≤ y11) (pt := 54) (pc' := 23) (fun _ _ _ _ _ => lv_icmp_ge (tgt := 54) hx hb dX2_ranked_20 (by decide)) (fun c20 => ?_) (fun c20 => ?_)
  · have hp6 := hp5.1 c20
    refine x_up (pc' := 55) (fun _ _ _ _ _ L => lv_iconst (v := (0 : Int32)) hx hb dX2_ranked_54 (by decide)) ?_
    refine x_upL (pc' := 56) (lo' := [(3, .int (0 : Int32)), (0, .ref a0), (1, .int x1), (2, .ref q1)]) (fun _ _ _ _ _ L => lv_istore_n hx hb dX2_ranked_55 rfl L (by decide) rfl) ?_
    refine x_lo (lo' := [(3, .int (0 : Int32)), (1, .int x1), (2, .ref q1)]) [0, 2, 3] rfl ?_
    refine x_while (v0 := (0 : Int32)) (fun w12 => [(3, .int w12), (1, .int x1), (2, .ref q1)]) hp6 (fun self13 hself14 => ?_)
    rintro y16 σ15 hp7
    unfold B_X2_ranked_56 at hp7
    refine x_same (lo' := [(3, .int y16), (1, .int x1), (2, .ref q1)]) rfl ?_
    refine x_up (pc' := 57) (fun _ _ _ _ _ L => lv_iload_n hx hb dX2_ranked_56 rfl (lv_at L 0 rfl)) ?_
    refine x_up (pc' := 58) (fun _ _ _ _ _ L => lv_iload_n hx hb dX2_ranked_57 rfl (lv_at L 1 rfl)) ?_
    refine x_if (C := x1 ≤ y16) (pt := 83) (pc' := 61) (fun _ _ _ _ _ => lv_icmp_ge (tgt := 83) hx hb dX2_ranked_58 (by decide)) (fun c58 => ?_) (fun c58 => ?_)
    · have hp8 := hp7.1 c58
      refine x_up (pc' := 84) (fun _ _ _ _ _ L => lv_iload_n hx hb dX2_ranked_83 rfl (lv_at L 1 rfl)) ?_
      refine x_if (C := x1 < 0) (pt := 94) (pc' := 87) (fun _ _ _ _ _ => lv_if_lt (tgt := 94) hx hb dX2_ranked_84 (by decide)) (fun c84 => ?_) (fun c84 => ?_)
      · have hp9 := hp8.1 c84
        refine x_up (pc' := 95) (fun _ _ _ _ _ L => lv_iconst (v := (-1 : Int32)) hx hb dX2_ranked_94 (by decide)) ?_
        refine x_up (pc' := 108) (fun _ _ _ _ _ L => lv_goto (tgt := 108) hx hb dX2_ranked_95 (by decide)) ?_
        exact x_iret X hr rfl dX2_ranked_108 hp9
      · have hp10 := hp8.2 c84
        refine x_up (pc' := 88) (fun _ _ _ _ _ L => lv_aload_n hx hb dX2_ranked_87 rfl (lv_at L 2 rfl)) ?_
        refine x_callO (x := ⟨"java/util/PriorityQueue", "isEmpty", "()Z"⟩) (owner := "java/util/AbstractCollection") (em := emI) (fun r st => .int r :: st) (fun _ _ => rfl) 0 X (kJ42 hG) (fun σ' KK h => R_J2_isEmpty l hl G hG q1 σ' KK h) (hts _ q2378) (hts _ q2379) (x_dcl X q2380) (hts _ q2381) q2382 q103 q2383 (by decide +kernel) ⟨Nat.le_of_ble_eq_true rfl, Nat.le_of_ble_eq_true rfl⟩ rfl rfl (Nat.le_of_ble_eq_true rfl) dX2_ranked_88 hp10.1 hp10.2 (fun v17 σ18 hp11 => ?_)
        refine x_pc (pc' := 91) rfl ?_
        refine x_if (C := v17 = 0) (pt := 98) (pc' := 94) (fun _ _ _ _ _ => lv_if_eq (tgt := 98) hx hb dX2_ranked_91 (by decide)) (fun c91 => ?_) (fun c91 => ?_)
        · have hp12 := hp11.1 c91
          refine x_up (pc' := 99) (fun _ _ _ _ _ L => lv_aload_n hx hb dX2_ranked_98 rfl (lv_at L 2 rfl)) ?_
          refine x_callO (x := ⟨"java/util/PriorityQueue", "remove", "()Ljava/lang/Object;"⟩) (owner := "java/util/AbstractQueue") (em := emQ) (fun r st => va_rf r :: st) (fun _ _ => rfl) 0 X (kJ42 hG) (fun σ' KK h => R_J41_remove l hl G hG q1 σ' KK h) (hts _ q2384) (hts _ q2385) (x_dcl X q2386) (hts _ q2387) q2388 q149 q2389 (by decide +kernel) ⟨Nat.le_of_ble_eq_true rfl, Nat.le_of_ble_eq_true rfl⟩ rfl rfl (Nat.le_of_ble_eq_true rfl) dX2_ranked_99 hp12.1 hp12.2 (fun v19 σ20 hp13 => ?_)
          refine x_pc (pc' := 102) rfl ?_
          obtain ⟨b21, rfl, hp14⟩ := hp13
          refine x_castS X (kX12 hG) q2816 hp14.1 dX2_ranked_102 ?_
          have hp15 := hp14.2
          refine x_pc (pc' := 105) rfl ?_
          refine x_giN X (kX12 hG) 0 (by decide) q2824 (fun _ h => h) dX2_ranked_105 hp15 (fun v22 hp16 => ?_)
          refine x_pc (pc' := 108) rfl ?_
          exact x_iret X hr rfl dX2_ranked_108 hp16
        · have hp17 := hp11.2 c91
          refine x_up (pc' := 95) (fun _ _ _ _ _ L => lv_iconst (v := (-1 : Int32)) hx hb dX2_ranked_94 (by decide)) ?_
          refine x_up (pc' := 108) (fun _ _ _ _ _ L => lv_goto (tgt := 108) hx hb dX2_ranked_95 (by decide)) ?_
          exact x_iret X hr rfl dX2_ranked_108 hp17
    · have hp18 := hp7.2 c58
      refine x_up (pc' := 62) (fun _ _ _ _ _ L => lv_aload_n hx hb dX2_ranked_61 rfl (lv_at L 2 rfl)) ?_
      refine x_callO (x := ⟨"java/util/PriorityQueue", "isEmpty", "()Z"⟩) (owner := "java/util/AbstractCollection") (em := emI) (fun r st => .int r :: st) (fun _ _ => rfl) 0 X (kJ42 hG) (fun σ' KK h => R_J2_isEmpty l hl G hG q1 σ' KK h) (hts _ q2378) (hts _ q2379) (x_dcl X q2380) (hts _ q2381) q2382 q103 q2383 (by decide +kernel) ⟨Nat.le_of_ble_eq_true rfl, Nat.le_of_ble_eq_true rfl⟩ rfl rfl (Nat.le_of_ble_eq_true rfl) dX2_ranked_62 hp18.1 hp18.2 (fun v23 σ24 hp19 => ?_)
      refine x_pc (pc' := 65) rfl ?_
      refine x_ifn (C := v23 = 0) (pt := 83) (pc' := 68) (fun _ _ _ _ _ => lv_if_ne (tgt := 83) hx hb dX2_ranked_65 (by decide)) (fun c65 => ?_) (fun c65 => ?_)
      · have hp20 := hp19.1 c65
        refine x_up (pc' := 69) (fun _ _ _ _ _ L => lv_aload_n hx hb dX2_ranked_68 rfl (lv_at L 2 rfl)) ?_
        refine x_callO (x := ⟨"java/util/PriorityQueue", "remove", "()Ljava/lang/Object;"⟩) (owner := "java/util/AbstractQueue") (em := emQ) (fun r st => va_rf r :: st) (fun _ _ => rfl) 0 X (kJ42 hG) (fun σ' KK h => R_J41_remove l hl G hG q1 σ' KK h) (hts _ q2384) (hts _ q2385) (x_dcl X q2386) (hts _ q2387) q2388 q149 q2389 (by decide +kernel) ⟨Nat.le_of_ble_eq_true rfl, Nat.le_of_ble_eq_true rfl⟩ rfl rfl (Nat.le_of_ble_eq_true rfl) dX2_ranked_69 hp20.1 hp20.2 (fun v25 σ26 hp21 => ?_)
        refine x_pc (pc' := 72) rfl ?_
        obtain ⟨b27, rfl, hp22⟩ := hp21
        refine x_castS X (kX12 hG) q2816 hp22.1 dX2_ranked_72 ?_
        have hp23 := hp22.2
        refine x_pc (pc' := 75) rfl ?_
        refine x_upL (pc' := 77) (lo' := [(4, .ref b27), (3, .int y16), (1, .int x1), (2, .ref q1)]) (fun _ _ _ _ _ L => lv_astore hx hb dX2_ranked_75 L (by decide) rfl) ?_
        refine x_upL (pc' := 80) (lo' := [(3, .int (y16 + (1 : Int32))), (4, .ref b27), (1, .int x1), (2, .ref q1)]) (fun _ _ _ _ _ L => lv_iinc (v := y16 + (1 : Int32)) hx hb dX2_ranked_77 L (k := 1) rfl rfl (by decide) rfl) ?_
        refine x_up (pc' := 56) (fun _ _ _ _ _ L => lv_goto (tgt := 56) hx hb dX2_ranked_80 (by decide)) ?_
        refine x_lo (lo' := [(3, .int (y16 + (1 : Int32))), (1, .int x1), (2, .ref q1)]) [0, 2, 3] rfl ?_
        exact hself14 (y16 + (1 : Int32)) σ26 hp23
      · have hp24 := hp19.2 c65
        refine x_up (pc' := 84) (fun _ _ _ _ _ L => lv_iload_n hx hb dX2_ranked_83 rfl (lv_at L 1 rfl)) ?_
        refine x_if (C := x1 < 0) (pt := 94) (pc' := 87) (fun _ _ _ _ _ => lv_if_lt (tgt := 94) hx hb dX2_ranked_84 (by decide)) (fun c84 => ?_) (fun c84 => ?_)
        · have hp25 := hp24.1 c84
          refine x_up (pc' := 95) (fun _ _ _ _ _ L => lv_iconst (v := (-1 : Int32)) hx hb dX2_ranked_94 (by decide)) ?_
          refine x_up (pc' := 108) (fun _ _ _ _ _ L => lv_goto (tgt := 108) hx hb dX2_ranked_95 (by decide)) ?_
          exact x_iret X hr rfl dX2_ranked_108 hp25
        · have hp26 := hp24.2 c84
          refine x_up (pc' := 88) (fun _ _ _ _ _ L => lv_aload_n hx hb dX2_ranked_87 rfl (lv_at L 2 rfl)) ?_
          refine x_callO (x := ⟨"java/util/PriorityQueue", "isEmpty", "()Z"⟩) (owner := "java/util/AbstractCollection") (em := emI) (fun r st => .int r :: st) (fun _ _ => rfl) 0 X (kJ42 hG) (fun σ' KK h => R_J2_isEmpty l hl G hG q1 σ' KK h) (hts _ q2378) (hts _ q2379) (x_dcl X q2380) (hts _ q2381) q2382 q103 q2383 (by decide +kernel) ⟨Nat.le_of_ble_eq_true rfl, Nat.le_of_ble_eq_true rfl⟩ rfl rfl (Nat.le_of_ble_eq_true rfl) dX2_ranked_88 hp26.1 hp26.2 (fun v28 σ29 hp27 => ?_)
          refine x_pc (pc' := 91) rfl ?_
          refine x_if (C := v28 = 0) (pt := 98) (pc' := 94) (fun _ _ _ _ _ => lv_if_eq (tgt := 98) hx hb dX2_ranked_91 (by decide)) (fun c91 => ?_) (fun c91 => ?_)
          · have hp28 := hp27.1 c91
            refine x_up (pc' := 99) (fun _ _ _ _ _ L => lv_aload_n hx hb dX2_ranked_98 rfl (lv_at L 2 rfl)) ?_
            refine x_callO (x := ⟨"java/util/PriorityQueue", "remove", "()Ljava/lang/Object;"⟩) (owner := "java/util/AbstractQueue") (em := emQ) (fun r st => va_rf r :: st) (fun _ _ => rfl) 0 X (kJ42 hG) (fun σ' KK h => R_J41_remove l hl G hG q1 σ' KK h) (hts _ q2384) (hts _ q2385) (x_dcl X q2386) (hts _ q2387) q2388 q149 q2389 (by decide +kernel) ⟨Nat.le_of_ble_eq_true rfl, Nat.le_of_ble_eq_true rfl⟩ rfl rfl (Nat.le_of_ble_eq_true rfl) dX2_ranked_99 hp28.1 hp28.2 (fun v30 σ31 hp29 => ?_)
            refine x_pc (pc' := 102) rfl ?_
            obtain ⟨b32, rfl, hp30⟩ := hp29
            refine x_castS X (kX12 hG) q2816 hp30.1 dX2_ranked_102 ?_
            have hp31 := hp30.2
            refine x_pc (pc' := 105) rfl ?_
            refine x_giN X (kX12 hG) 0 (by decide) q2824 (fun _ h => h) dX2_ranked_105 hp31 (fun v33 hp32 => ?_)
            refine x_pc (pc' := 108) rfl ?_
            exact x_iret X hr rfl dX2_ranked_108 hp32
          · have hp33 := hp27.2 c91
            refine x_up (pc' := 95) (fun _ _ _ _ _ L => lv_iconst (v := (-1 : Int32)) hx hb dX2_ranked_94 (by decide)) ?_
            refine x_up (pc' := 108) (fun _ _ _ _ _ L => lv_goto (tgt := 108) hx hb dX2_ranked_95 (by decide)) ?_
            exact x_iret X hr rfl dX2_ranked_108 hp33
  · have hp34 := hp5.2 c20
    refine x_up (pc' := 24) (fun _ _ _ _ _ L => lv_aload_n hx hb dX2_ranked_23 rfl (lv_at L 3 rfl)) ?_
    refine x_new X (kX12 hG) q2816 q2817 q159 (fs := [.int 0, .int 0, .int 0]) x_dflt_X12 dX2_ranked_24 hp34 (fun q34 σ35 hp35 => ?_)
    refine x_pc (pc' := 27) rfl ?_
    refine x_up (pc' := 28) (fun _ _ _ _ _ L => lv_dup hx hb dX2_ranked_27 rfl) ?_
    refine x_up (pc' := 29) (fun _ _ _ _ _ L => lv_iload_n hx hb dX2_ranked_28 rfl (lv_at L 0 rfl)) ?_
    refine x_up (pc' := 30) (fun _ _ _ _ _ L => lv_aload_n hx hb dX2_ranked_29 rfl (lv_at L 1 rfl)) ?_
    refine x_gq X (kX2 hG) 5 (by decide) q468 (fun _ h => h) dX2_ranked_30 hp35 (fun v36 hp36 => ?_)
    refine x_pc (pc' := 33) rfl ?_
    refine x_up (pc' := 34) (fun _ _ _ _ _ L => lv_iload_n hx hb dX2_ranked_33 rfl (lv_at L 0 rfl)) ?_
    obtain ⟨b37, rfl, hp37⟩ := hp36
    refine x_iald X dX2_ranked_34 hp37 (fun v38 hp38 => ?_)
    refine x_pc (pc' := 35) rfl ?_
    refine x_up (pc' := 36) (fun _ _ _ _ _ L => lv_aload_n hx hb dX2_ranked_35 rfl (lv_at L 1 rfl)) ?_
    refine x_gq X (kX2 hG) 6 (by decide) q469 (fun _ h => h) dX2_ranked_36 hp38 (fun v39 hp39 => ?_)
    refine x_pc (pc' := 39) rfl ?_
    refine x_up (pc' := 40) (fun _ _ _ _ _ L => lv_iload_n hx hb dX2_ranked_39 rfl (lv_at L 0 rfl)) ?_
    obtain ⟨b40, rfl, hp40⟩ := hp39
    refine x_iald X dX2_ranked_40 hp40 (fun v41 hp41 => ?_)
    refine x_pc (pc' := 41) rfl ?_
    refine x_callI 3 X (fun σ' KK h => R_X12_init l hl G hG q34 y11 v38 v41 σ' KK h) (lw_meth q2820) q159 q2818 q2819 rfl mdX12_init ⟨Nat.le_of_ble_eq_true rfl, Nat.le_of_ble_eq_true rfl⟩ rfl rfl (Nat.le_of_ble_eq_true rfl) dX2_ranked_41 hp41 (fun σ42 hp42 => ?_)
    refine x_pc (pc' := 44) rfl ?_
    refine x_callV (em := emI) (fun r st => .int r :: st) (fun _ _ => rfl) 1 X (kJ42 hG) (fun σ' KK h => R_J42_add l hl G hG q1 (some q34) σ' KK h) (lw_V q2350 q2351 q2352 q150 q2353) ⟨rfl, mdJ42_add⟩ ⟨Nat.le_of_ble_eq_true rfl, Nat.le_of_ble_eq_true rfl⟩ rfl rfl (Nat.le_of_ble_eq_true rfl) dX2_ranked_44 hp42.1 hp42.2 (fun v43 σ44 hp43 => ?_)
    refine x_pc (pc' := 47) rfl ?_
    refine x_up (pc' := 48) (fun _ _ _ _ _ L => lv_pop hx hb dX2_ranked_47 rfl) ?_
    refine x_upL (pc' := 51) (lo' := [(3, .int (y11 + (1 : Int32))), (0, .ref a0), (1, .int x1), (2, .ref q1)]) (fun _ _ _ _ _ L => lv_iinc (v := y11 + (1 : Int32)) hx hb dX2_ranked_48 L (k := 0) rfl rfl (by decide) rfl) ?_
    refine x_up (pc' := 17) (fun _ _ _ _ _ L => lv_goto (tgt := 17) hx hb dX2_ranked_51 (by decide)) ?_
    refine x_lo (lo' := [(3, .int (y11 + (1 : Int32))), (0, .ref a0), (1, .int x1), (2, .ref q1)]) [0, 1, 2, 3] rfl ?_
    exact hself9 (y11 + (1 : Int32)) σ44 hp43
-- X1_ranked
def P_X1_ranked (κ : Nat → Nat) (a0 : Nat) (x1 : Int32) (σ : xS) (K : Int32 → xH → Prop) (KX : Nat → xH → Prop) : Prop :=
  xgq σ a0 0 0 fun v1 => xnn v1 fun b2 => xrc σ b2 1 ∧ xcall (fun τ L => P_X2_ranked κ b2 x1 τ L) σ fun v3 σ4 => xcallX (fun τ L LX => P_X1_existing κ v3 τ L LX) σ4 (fun v5 σ6 => K v5 σ6.1) (fun q7 σ8 => κ 0 ≤ q7 ∧ ((xrc σ8 q7 18 ∧ (KX q7 σ8.1))))
theorem mdX1_ranked : yX1_ranked.cls ≠ "java/lang/invoke/MethodHandle" ∧ yX1_ranked.cls ≠ "java/lang/invoke/VarHandle" ∧ (parseMethodDescriptor yX1_ranked.desc).map (fun d => d.parameters.length) = some 1 := by decide +kernel
set_option maxHeartbeats 4000000 in
set_option maxRecDepth 100000 in
theorem R_X1_ranked (l : Launch) (hl : l.stackTraces = false) (G : xG) (hG : G.1.2 = x_cl) (a0 : Nat) (x1 : Int32) (σ : xS) (K : Int32 → xH → Prop) (KX : Nat → xH → Prop) (hp : P_X1_ranked G.2 a0 x1 σ K KX) : xMX l yX1_ranked cX1_ranked 2 (Option.some Jvm.ClassFile.FieldType.int) 9 201 G [(.ref a0), .int x1] σ (xlift emI K) KX := by
  refine x_entryX (by decide) (Nat.le_of_ble_eq_true rfl) ?_
  intro p e s m args below meth c X hr hin hno
  have X : xX p s m args meth c G cX1_ranked 2 RX1 := X
  have hx := X.1
  have hb := X.2.1
  have hts := X.2.2.2.2.1
  have hown := X.2.2.2.1
  have hout : ∀ pc, ∀ x ∈ c.exceptionTable.toList, covers x pc = false := fun _ x hx => (hno x hx).elim
  unfold P_X1_ranked at hp
  refine x_same (lo' := [(0, .ref a0), (1, .int x1)]) rfl ?_
  refine x_up (pc' := 1) (fun _ _ _ _ _ L => lv_aload_n hx hb dX1_ranked_0 rfl (lv_at L 0 rfl)) ?_
  refine x_gq X (kX1 hG) 0 (by decide) q589 (fun _ h => h) dX1_ranked_1 hp (fun v1 hp1 => ?_)
  refine x_pc (pc' := 4) rfl ?_
  refine x_up (pc' := 5) (fun _ _ _ _ _ L => lv_iload_n hx hb dX1_ranked_4 rfl (lv_at L 1 rfl)) ?_
  obtain ⟨b2, rfl, hp2⟩ := hp1
  refine x_callV (em := emI) (fun r st => .int r :: st) (fun _ _ => rfl) 1 X (kX2 hG) (fun σ' KK h => R_X2_ranked l hl G hG b2 x1 σ' KK h) (lw_V q2805 q2806 q2807 q100 q2808) ⟨rfl, mdX2_ranked⟩ ⟨Nat.le_of_ble_eq_true rfl, Nat.le_of_ble_eq_true rfl⟩ rfl rfl (Nat.le_of_ble_eq_true rfl) dX1_ranked_5 hp2.1 hp2.2 (fun v3 σ4 hp3 => ?_)
  refine x_pc (pc' := 8) rfl ?_
  refine x_callSX (em := emI) (fun r st => .int r :: st) (fun _ _ => rfl) 1 X (fun σ' KK KX h => R_X1_existing l hl G hG v3 σ' KK KX h) (lw_S q2770 q2771 q99 q2772) mdX1_existing ⟨Nat.le_of_ble_eq_true rfl, Nat.le_of_ble_eq_true rfl⟩ rfl rfl (Nat.le_of_ble_eq_true rfl) dX1_ranked_8 hp3 (fun v5 σ6 hpA8 => ?_) (fun q7 σ8 hpB8 => ?_)
  · have hp4 := hpA8
    refine x_pc (pc' := 11) rfl ?_
    refine x_vx ?_; exact x_iret X hr rfl dX1_ranked_11 hp4
  · have hp5 := hpB8
    obtain ⟨hq8, hp6⟩ := hp5
    obtain ⟨hr8, hp7⟩ := hp6
    exact x_out X (kJ30 hG) (hout 8) hr8 hq8 hp7
-- X2_isDirty
def P_X2_isDirty (κ : Nat → Nat) (a0 : Nat) (x1 : Int32) (σ : xS) (K : Int32 → xH → Prop) : Prop :=
  xrc σ a0 1 ∧ xcall (fun τ L => P_X2_holder κ a0 (x1 / (4 : Int32)) τ L) σ fun v1 σ2 => ((v1 = none → (K (0 : Int32) σ2.1)) ∧ (∀ b3 : Nat, v1 = some b3 → (xrc σ2 b3 5 ∧ xcall (fun τ L => P_X3_isDirty κ b3 (x1 - x1 / (4 : Int32) * (4 : Int32)) τ L) σ2 fun v4 σ5 => ((v4 = 0 → (K (0 : Int32) σ5.1)) ∧ (¬ v4 = 0 → (K (1 : Int32) σ5.1))))))
theorem mdX2_isDirty : yX2_isDirty.cls ≠ "java/lang/invoke/MethodHandle" ∧ yX2_isDirty.cls ≠ "java/lang/invoke/VarHandle" ∧ (parseMethodDescriptor yX2_isDirty.desc).map (fun d => d.parameters.length) = some 1 := by decide +kernel
set_option maxHeartbeats 4000000 in
set_option maxRecDepth 100000 in
theorem R_X2_isDirty (l : Launch) (hl : l.stackTraces = false) (G : xG) (hG : G.1.2 = x_cl) (a0 : Nat) (x1 : Int32) (σ : xS) (K : Int32 → xH → Prop) (hp : P_X2_isDirty G.2 a0 x1 σ K) : xM l yX2_isDirty cX2_isDirty 3 (Option.some Jvm.ClassFile.FieldType.boolean) 4 87 G [(.ref a0), .int x1] σ (xlift emI K) := by
  refine x_entry (by decide) (Nat.le_of_ble_eq_true rfl) ?_
  intro p e s m args below meth c X hr hin
  have X : xX p s m args meth c G cX2_isDirty 3 RX2 := X
  have hx := X.1
  have hb := X.2.1
  have hts := X.2.2.2.2.1
  have hown := X.2.2.2.1
  unfold P_X2_isDirty at hp
  refine x_same (lo' := [(0, .ref a0), (1, .int x1)]) rfl ?_
  refine x_up (pc' := 1) (fun _ _ _ _ _ L => lv_aload_n hx hb dX2_isDirty_0 rfl (lv_at L 0 rfl)) ?_
  refine x_up (pc' := 2) (fun _ _ _ _ _ L => lv_iload_n hx hb dX2_isDirty_1 rfl (lv_at L 1 rfl)) ?_
  refine x_up (pc' := 3) (fun _ _ _ _ _ L => lv_iconst (v := (4 : Int32)) hx hb dX2_isDirty_2 (by decide)) ?_
  refine x_up (pc' := 4) (fun _ _ _ _ _ L => lv_idiv hx hb dX2_isDirty_3 (by decide)) ?_
  refine x_callV (em := emQ) (fun r st => va_rf r :: st) (fun _ _ => rfl) 1 X (kX2 hG) (fun σ' KK h => R_X2_holder l hl G hG a0 (x1 / (4 : Int32)) σ' KK h) (lw_V q2066 q2067 q2068 q100 q2069) ⟨rfl, mdX2_holder⟩ ⟨Nat.le_of_ble_eq_true rfl, Nat.le_of_ble_eq_true rfl⟩ rfl rfl (Nat.le_of_ble_eq_true rfl) dX2_isDirty_4 hp.1 hp.2 (fun v1 σ2 hp1 => ?_)
  refine x_pc (pc' := 7) rfl ?_
  refine x_upL (pc' := 8) (lo' := [(2, va_rf v1), (0, .ref a0), (1, .int x1)]) (fun _ _ _ _ _ L => lv_astoreq_n hx hb dX2_isDirty_7 rfl L (by decide) rfl) ?_
  refine x_up (pc' := 9) (fun _ _ _ _ _ L => lv_aloadq_n hx hb dX2_isDirty_8 rfl (lv_at L 0 rfl)) ?_
  rcases v1 with _ | b3
  · have hp2 := hp1.1 rfl
    refine x_up (pc' := 26) (fun _ _ _ _ _ L => lv_ifnullN (tgt := 26) hx hb dX2_isDirty_9 (by decide)) ?_
    refine x_up (pc' := 27) (fun _ _ _ _ _ L => lv_iconst (v := (0 : Int32)) hx hb dX2_isDirty_26 (by decide)) ?_
    exact x_iret X hr rfl dX2_isDirty_27 hp2
  · have hp3 := hp1.2 _ rfl
    refine x_up (pc' := 12) (fun _ _ _ _ _ L => lv_ifnull hx hb dX2_isDirty_9) ?_
    refine x_up (pc' := 13) (fun _ _ _ _ _ L => lv_aload_n hx hb dX2_isDirty_12 rfl (lv_at L 0 rfl)) ?_
    refine x_up (pc' := 14) (fun _ _ _ _ _ L => lv_iload_n hx hb dX2_isDirty_13 rfl (lv_at L 2 rfl)) ?_
    refine x_up (pc' := 15) (fun _ _ _ _ _ L => lv_iconst (v := (4 : Int32)) hx hb dX2_isDirty_14 (by decide)) ?_
    refine x_up (pc' := 16) (fun _ _ _ _ _ L => lv_irem hx hb dX2_isDirty_15 (by decide)) ?_
    refine x_callV (em := emI) (fun r st => .int r :: st) (fun _ _ => rfl) 1 X (kX3 hG) (fun σ' KK h => R_X3_isDirty l hl G hG b3 (x1 - x1 / (4 : Int32) * (4 : Int32)) σ' KK h) (lw_V q2113 q2114 q2115 q108 q2116) ⟨rfl, mdX3_isDirty⟩ ⟨Nat.le_of_ble_eq_true rfl, Nat.le_of_ble_eq_true rfl⟩ rfl rfl (Nat.le_of_ble_eq_true rfl) dX2_isDirty_16 hp3.1 hp3.2 (fun v4 σ5 hp4 => ?_)
    refine x_pc (pc' := 19) rfl ?_
    refine x_if (C := v4 = 0) (pt := 26) (pc' := 22) (fun _ _ _ _ _ => lv_if_eq (tgt := 26) hx hb dX2_isDirty_19 (by decide)) (fun c19 => ?_) (fun c19 => ?_)
    · have hp5 := hp4.1 c19
      refine x_up (pc' := 27) (fun _ _ _ _ _ L => lv_iconst (v := (0 : Int32)) hx hb dX2_isDirty_26 (by decide)) ?_
      exact x_iret X hr rfl dX2_isDirty_27 hp5
    · have hp6 := hp4.2 c19
      refine x_up (pc' := 23) (fun _ _ _ _ _ L => lv_iconst (v := (1 : Int32)) hx hb dX2_isDirty_22 (by decide)) ?_
      refine x_up (pc' := 27) (fun _ _ _ _ _ L => lv_goto (tgt := 27) hx hb dX2_isDirty_23 (by decide)) ?_
      exact x_iret X hr rfl dX2_isDirty_27 hp6
-- X2_nextDirty
def B_X2_nextDirty_2 (κ : Nat → Nat) (K : Int32 → xH → Prop) (f0 : Nat) : (Int32 → xS → Prop) → Int32 → xS → Prop := fun self3003 w3001 σ3002 =>
  (((64 : Int32) ≤ w3001 → (K (-1 : Int32) σ3002.1)) ∧ (¬ (64 : Int32) ≤ w3001 → (xrc σ3002 f0 1 ∧ xcall (fun τ L => P_X2_isDirty κ f0 w3001 τ L) σ3002 fun v3004 σ3005 => ((v3004 = 0 → (self3003 (w3001 + (1 : Int32)) σ3005)) ∧ (¬ v3004 = 0 → (K w3001 σ3005.1))))))
def P_X2_nextDirty (κ : Nat → Nat) (a0 : Nat) (x1 : Int32) (σ : xS) (K : Int32 → xH → Prop) : Prop :=
  xwhile (B_X2_nextDirty_2 κ K a0) x1 σ
theorem mdX2_nextDirty : yX2_nextDirty.cls ≠ "java/lang/invoke/MethodHandle" ∧ yX2_nextDirty.cls ≠ "java/lang/invoke/VarHandle" ∧ (parseMethodDescriptor yX2_nextDirty.desc).map (fun d => d.parameters.length) = some 1 := by decide +kernel
set_option maxHeartbeats 4000000 in
set_option maxRecDepth 100000 in
theorem R_X2_nextDirty (l : Launch) (hl : l.stackTraces = false) (G : xG) (hG : G.1.2 = x_cl) (a0 : Nat) (x1 : Int32) (σ : xS) (K : Int32 → xH → Prop) (hp : P_X2_nextDirty G.2 a0 x1 σ K) : xM l yX2_nextDirty cX2_nextDirty 3 (Option.some Jvm.ClassFile.FieldType.int) 5 109 G [(.ref a0), .int x1] σ (xlift emI K) := by
  refine x_entry (by decide) (Nat.le_of_ble_eq_true rfl) ?_
  intro p e s m args below meth c X hr hin
  have X : xX p s m args meth c G cX2_nextDirty 3 RX2 := X
  have hx := X.1
  have hb := X.2.1
  have hts := X.2.2.2.2.1
  have hown := X.2.2.2.1
  unfold P_X2_nextDirty at hp
  refine x_same (lo' := [(0, .ref a0), (1, .int x1)]) rfl ?_
  refine x_up (pc' := 1) (fun _ _ _ _ _ L => lv_iload_n hx hb dX2_nextDirty_0 rfl (lv_at L 1 rfl)) ?_
  refine x_upL (pc' := 2) (lo' := [(2, .int x1), (0, .ref a0), (1, .int x1)]) (fun _ _ _ _ _ L => lv_istore_n hx hb dX2_nextDirty_1 rfl L (by decide) rfl) ?_
  refine x_lo (lo' := [(2, .int x1), (0, .ref a0)]) [0, 1] rfl ?_
  refine x_while (v0 := x1) (fun w1 => [(2, .int w1), (0, .ref a0)]) hp (fun self2 hself3 => ?_)
  rintro y5 σ4 hp1
  unfold B_X2_nextDirty_2 at hp1
  refine x_same (lo' := [(2, .int y5), (0, .ref a0)]) rfl ?_
  refine x_up (pc' := 3) (fun _ _ _ _ _ L => lv_iload_n hx hb dX2_nextDirty_2 rfl (lv_at L 0 rfl)) ?_
  refine x_up (pc' := 5) (fun _ _ _ _ _ L => lv_bipush (v := (64 : Int32)) hx hb dX2_nextDirty_3 (by decide)) ?_
  refine x_if (C := (64 : Int32) ≤ y5) (pt := 24) (pc' := 8) (fun _ _ _ _ _ => lv_icmp_ge (tgt := 24) hx hb dX2_nextDirty_5 (by decide)) (fun c5 => ?_) (fun c5 => ?_)
  · have hp2 := hp1.1 c5
    refine x_up (pc' := 25) (fun _ _ _ _ _ L => lv_iconst (v := (-1 : Int32)) hx hb dX2_nextDirty_24 (by decide)) ?_
    exact x_iret X hr rfl dX2_nextDirty_25 hp2
  · have hp3 := hp1.2 c5
    refine x_up (pc' := 9) (fun _ _ _ _ _ L => lv_aload_n hx hb dX2_nextDirty_8 rfl (lv_at L 1 rfl)) ?_
    refine x_up (pc' := 10) (fun _ _ _ _ _ L => lv_iload_n hx hb dX2_nextDirty_9 rfl (lv_at L 0 rfl)) ?_
    refine x_callV (em := emI) (fun r st => .int r :: st) (fun _ _ => rfl) 1 X (kX2 hG) (fun σ' KK h => R_X2_isDirty l hl G hG a0 y5 σ' KK h) (lw_V q2847 q2848 q2849 q100 q2850) ⟨rfl, mdX2_isDirty⟩ ⟨Nat.le_of_ble_eq_true rfl, Nat.le_of_ble_eq_true rfl⟩ rfl rfl (Nat.le_of_ble_eq_true rfl) dX2_nextDirty_10 hp3.1 hp3.2 (fun v6 σ7 hp4 => ?_)
    refine x_pc (pc' := 13) rfl ?_
    refine x_if (C := v6 = 0) (pt := 18) (pc' := 16) (fun _ _ _ _ _ => lv_if_eq (tgt := 18) hx hb dX2_nextDirty_13 (by decide)) (fun c13 => ?_) (fun c13 => ?_)
    · have hp5 := hp4.1 c13
      refine x_upL (pc' := 21) (lo' := [(2, .int (y5 + (1 : Int32))), (0, .ref a0)]) (fun _ _ _ _ _ L => lv_iinc (v := y5 + (1 : Int32)) hx hb dX2_nextDirty_18 L (k := 0) rfl rfl (by decide) rfl) ?_
      refine x_up (pc' := 2) (fun _ _ _ _ _ L => lv_goto (tgt := 2) hx hb dX2_nextDirty_21 (by decide)) ?_
      refine x_lo (lo' := [(2, .int (y5 + (1 : Int32))), (0, .ref a0)]) [0, 1] rfl ?_
      exact hself3 (y5 + (1 : Int32)) σ7 hp5
    · have hp6 := hp4.2 c13
      refine x_up (pc' := 17) (fun _ _ _ _ _ L => lv_iload_n hx hb dX2_nextDirty_16 rfl (lv_at L 0 rfl)) ?_
      exact x_iret X hr rfl dX2_nextDirty_17 hp6
-- X1_nextDirty
def P_X1_nextDirty (κ : Nat → Nat) (a0 : Nat) (x1 : Int32) (σ : xS) (K : Int32 → xH → Prop) (KX : Nat → xH → Prop) : Prop :=
  xcallX (fun τ L LX => P_X1_requireAddress κ x1 τ L LX) σ (fun _ σ1 => xgq σ1 a0 0 0 fun v4 => xnn v4 fun b5 => xrc σ1 b5 1 ∧ xcall (fun τ L => P_X2_nextDirty κ b5 x1 τ L) σ1 fun v6 σ7 => xcallX (fun τ L LX => P_X1_existing κ v6 τ L LX) σ7 (fun v8 σ9 => K v8 σ9.1) (fun q10 σ11 => κ 0 ≤ q10 ∧ ((xrc σ11 q10 18 ∧ (KX q10 σ11.1))))) (fun q2 σ3 => κ 0 ≤ q2 ∧ ((xrc σ3 q2 16 ∧ (KX q2 σ3.1))))
theorem mdX1_nextDirty : yX1_nextDirty.cls ≠ "java/lang/invoke/MethodHandle" ∧ yX1_nextDirty.cls ≠ "java/lang/invoke/VarHandle" ∧ (parseMethodDescriptor yX1_nextDirty.desc).map (fun d => d.parameters.length) = some 1 := by decide +kernel
set_option maxHeartbeats 4000000 in
set_option maxRecDepth 100000 in
theorem R_X1_nextDirty (l : Launch) (hl : l.stackTraces = false) (G : xG) (hG : G.1.2 = x_cl) (a0 : Nat) (x1 : Int32) (σ : xS) (K : Int32 → xH → Prop) (KX : Nat → xH → Prop) (hp : P_X1_nextDirty G.2 a0 x1 σ K KX) : xMX l yX1_nextDirty cX1_nextDirty 2 (Option.some Jvm.ClassFile.FieldType.int) 8 131 G [(.ref a0), .int x1] σ (xlift emI K) KX := by
  refine x_entryX (by decide) (Nat.le_of_ble_eq_true rfl) ?_
  intro p e s m args below meth c X hr hin hno
  have X : xX p s m args meth c G cX1_nextDirty 2 RX1 := X
  have hx := X.1
  have hb := X.2.1
  have hts := X.2.2.2.2.1
  have hown := X.2.2.2.1
  have hout : ∀ pc, ∀ x ∈ c.exceptionTable.toList, covers x pc = false := fun _ x hx => (hno x hx).elim
  unfold P_X1_nextDirty at hp
  refine x_same (lo' := [(0, .ref a0), (1, .int x1)]) rfl ?_
  refine x_up (pc' := 1) (fun _ _ _ _ _ L => lv_iload_n hx hb dX1_nextDirty_0 rfl (lv_at L 1 rfl)) ?_
  refine x_callSX (em := emV) (fun r st => st) (fun _ _ => rfl) 1 X (fun σ' KK KX h => R_X1_requireAddress l hl G hG x1 σ' KK KX h) (lw_S q2657 q2658 q99 q2659) mdX1_requireAddress ⟨Nat.le_of_ble_eq_true rfl, Nat.le_of_ble_eq_true rfl⟩ rfl rfl (Nat.le_of_ble_eq_true rfl) dX1_nextDirty_1 hp (fun _ σ1 hpA1 => ?_) (fun q2 σ3 hpB1 => ?_)
  · have hp1 := hpA1
    refine x_pc (pc' := 4) rfl ?_
    refine x_up (pc' := 5) (fun _ _ _ _ _ L => lv_aload_n hx hb dX1_nextDirty_4 rfl (lv_at L 0 rfl)) ?_
    refine x_gq X (kX1 hG) 0 (by decide) q589 (fun _ h => h) dX1_nextDirty_5 hp1 (fun v4 hp2 => ?_)
    refine x_pc (pc' := 8) rfl ?_
    refine x_up (pc' := 9) (fun _ _ _ _ _ L => lv_iload_n hx hb dX1_nextDirty_8 rfl (lv_at L 1 rfl)) ?_
    obtain ⟨b5, rfl, hp3⟩ := hp2
    refine x_callV (em := emI) (fun r st => .int r :: st) (fun _ _ => rfl) 1 X (kX2 hG) (fun σ' KK h => R_X2_nextDirty l hl G hG b5 x1 σ' KK h) (lw_V q2843 q2844 q2845 q100 q2846) ⟨rfl, mdX2_nextDirty⟩ ⟨Nat.le_of_ble_eq_true rfl, Nat.le_of_ble_eq_true rfl⟩ rfl rfl (Nat.le_of_ble_eq_true rfl) dX1_nextDirty_9 hp3.1 hp3.2 (fun v6 σ7 hp4 => ?_)
    refine x_pc (pc' := 12) rfl ?_
    refine x_callSX (em := emI) (fun r st => .int r :: st) (fun _ _ => rfl) 1 X (fun σ' KK KX h => R_X1_existing l hl G hG v6 σ' KK KX h) (lw_S q2770 q2771 q99 q2772) mdX1_existing ⟨Nat.le_of_ble_eq_true rfl, Nat.le_of_ble_eq_true rfl⟩ rfl rfl (Nat.le_of_ble_eq_true rfl) dX1_nextDirty_12 hp4 (fun v8 σ9 hpA12 => ?_) (fun q10 σ11 hpB12 => ?_)
    · have hp5 := hpA12
      refine x_pc (pc' := 15) rfl ?_
      refine x_vx ?_; exact x_iret X hr rfl dX1_nextDirty_15 hp5
    · have hp6 := hpB12
      obtain ⟨hq12, hp7⟩ := hp6
      obtain ⟨hr12, hp8⟩ := hp7
      exact x_out X (kJ30 hG) (hout 12) hr12 hq12 hp8
  · have hp9 := hpB1
    obtain ⟨hq1, hp10⟩ := hp9
    obtain ⟨hr1, hp11⟩ := hp10
    exact x_out X (kJ28 hG) (hout 1) hr1 hq1 hp11
-- J12_length
def P_J12_length (κ : Nat → Nat) (a0 : Nat) (σ : xS) (K : Int32 → xH → Prop) : Prop :=
  xgi σ a0 8 3 fun v1 => K v1 σ.1
theorem mdJ12_length : yJ12_length.cls ≠ "java/lang/invoke/MethodHandle" ∧ yJ12_length.cls ≠ "java/lang/invoke/VarHandle" ∧ (parseMethodDescriptor yJ12_length.desc).map (fun d => d.parameters.length) = some 0 := by decide +kernel
set_option maxHeartbeats 4000000 in
set_option maxRecDepth 100000 in
theorem R_J12_length (l : Launch) (hl : l.stackTraces = false) (G : xG) (hG : G.1.2 = x_cl) (a0 : Nat) (σ : xS) (K : Int32 → xH → Prop) (hp : P_J12_length G.2 a0 σ K) : xM l yJ12_length cJ12_length 1 (Option.some Jvm.ClassFile.FieldType.int) 0 0 G [(.ref a0)] σ (xlift emI K) := by
  refine x_entry (by decide) (Nat.le_of_ble_eq_true rfl) ?_
  intro p e s m args below meth c X hr hin
  have X : xX p s m args meth c G cJ12_length 1 RJ12 := X
  have hx := X.1
  have hb := X.2.1
  have hts := X.2.2.2.2.1
  have hown := X.2.2.2.1
  unfold P_J12_length at hp
  refine x_same (lo' := [(0, .ref a0)]) rfl ?_
  refine x_up (pc' := 1) (fun _ _ _ _ _ L => lv_aload_n hx hb dJ12_length_0 rfl (lv_at L 0 rfl)) ?_
  refine x_gi X (kJ13 hG) 3 (by decide) q577 (fun _ h => h) dJ12_length_1 hp (fun v1 hp1 => ?_)
  refine x_pc (pc' := 4) rfl ?_
  exact x_iret X hr rfl dJ12_length_4 hp1
-- J13_length
def P_J13_length (κ : Nat → Nat) (a0 : Nat) (σ : xS) (K : Int32 → xH → Prop) : Prop :=
  xrc σ a0 8 ∧ xcall (fun τ L => P_J12_length κ a0 τ L) σ fun v1 σ2 => K v1 σ2.1
theorem mdJ13_length : yJ13_length.cls ≠ "java/lang/invoke/MethodHandle" ∧ yJ13_length.cls ≠ "java/lang/invoke/VarHandle" ∧ (parseMethodDescriptor yJ13_length.desc).map (fun d => d.parameters.length) = some 0 := by decide +kernel
set_option maxHeartbeats 4000000 in
set_option maxRecDepth 100000 in
theorem R_J13_length (l : Launch) (hl : l.stackTraces = false) (G : xG) (hG : G.1.2 = x_cl) (a0 : Nat) (σ : xS) (K : Int32 → xH → Prop) (hp : P_J13_length G.2 a0 σ K) : xM l yJ13_length cJ13_length 1 (Option.some Jvm.ClassFile.FieldType.int) 1 20 G [(.ref a0)] σ (xlift emI K) := by
  refine x_entry (by decide) (Nat.le_of_ble_eq_true rfl) ?_
  intro p e s m args below meth c X hr hin
  have X : xX p s m args meth c G cJ13_length 1 RJ13 := X
  have hx := X.1
  have hb := X.2.1
  have hts := X.2.2.2.2.1
  have hown := X.2.2.2.1
  unfold P_J13_length at hp
  refine x_same (lo' := [(0, .ref a0)]) rfl ?_
  refine x_up (pc' := 1) (fun _ _ _ _ _ L => lv_aload_n hx hb dJ13_length_0 rfl (lv_at L 0 rfl)) ?_
  refine x_callSU (em := emI) (fun r st => .int r :: st) (fun _ _ => rfl) 0 X (kJ13 hG) (fun σ' KK h => R_J12_length l hl G hG a0 σ' KK h) q1016 q1012 q586 q1011 q115 q1017 (by decide +kernel) ⟨Nat.le_of_ble_eq_true rfl, Nat.le_of_ble_eq_true rfl⟩ rfl rfl (Nat.le_of_ble_eq_true rfl) dJ13_length_1 hp.1 hp.2 (fun v1 σ2 hp1 => ?_)
  refine x_pc (pc' := 4) rfl ?_
  exact x_iret X hr rfl dJ13_length_4 hp1
-- X1_requireState
def P_X1_requireState (κ : Nat → Nat) (x0 : Int32) (σ : xS) (K : Unit → xH → Prop) (KX : Nat → xH → Prop) : Prop :=
  ((x0 = 0 → (xmak κ σ 32 fun q1 σ2 => κ 0 ≤ q1 ∧ xrc σ2 q1 32 ∧ KX q1 σ2.1)) ∧ (¬ x0 = 0 → (K () σ.1)))
theorem mdX1_requireState : yX1_requireState.cls ≠ "java/lang/invoke/MethodHandle" ∧ yX1_requireState.cls ≠ "java/lang/invoke/VarHandle" ∧ (parseMethodDescriptor yX1_requireState.desc).map (fun d => d.parameters.length) = some 1 := by decide +kernel
set_option maxHeartbeats 4000000 in
set_option maxRecDepth 100000 in
theorem R_X1_requireState (l : Launch) (hl : l.stackTraces = false) (G : xG) (hG : G.1.2 = x_cl) (x0 : Int32) (σ : xS) (K : Unit → xH → Prop) (KX : Nat → xH → Prop) (hp : P_X1_requireState G.2 x0 σ K KX) : xMX l yX1_requireState cX1_requireState 1 (Option.none : Option Jvm.ClassFile.FieldType) 6 89 G [.int x0] σ (xlift emV K) KX := by
  refine x_entryX (by decide) (Nat.le_of_ble_eq_true rfl) ?_
  intro p e s m args below meth c X hr hin hno
  have X : xX p s m args meth c G cX1_requireState 1 RX1 := X
  have hx := X.1
  have hb := X.2.1
  have hts := X.2.2.2.2.1
  have hown := X.2.2.2.1
  have hout : ∀ pc, ∀ x ∈ c.exceptionTable.toList, covers x pc = false := fun _ x hx => (hno x hx).elim
  unfold P_X1_requireState at hp
  refine x_same (lo' := [(0, .int x0)]) rfl ?_
  refine x_up (pc' := 1) (fun _ _ _ _ _ L => lv_iload_n hx hb dX1_requireState_0 rfl (lv_at L 0 rfl)) ?_
  refine x_ifn (C := x0 = 0) (pt := 12) (pc' := 4) (fun _ _ _ _ _ => lv_if_ne (tgt := 12) hx hb dX1_requireState_1 (by decide)) (fun c1 => ?_) (fun c1 => ?_)
  · have hp1 := hp.1 c1
    refine x_make0 (names := ["java/lang/RuntimeException", "java/lang/Exception"]) X hl (kJ43 hG) (by decide +kernel) (by decide +kernel) q2863 q156 xat_X1_9 xal_X1_9 (by decide +kernel) dX1_requireState_4 dX1_requireState_7 dX1_requireState_8 (Nat.le_of_ble_eq_true rfl) (Nat.le_of_ble_eq_true rfl) (Nat.le_of_ble_eq_true rfl) hp1 (fun q1 σ2 hp2 => ?_)
    refine x_pc (pc' := 11) rfl ?_
    obtain ⟨hq11, hr11, hp3⟩ := hp2
    refine x_athrow X dX1_requireState_11 ?_
    exact x_out X (kJ43 hG) (hout 11) hr11 hq11 hp3
  · have hp4 := hp.2 c1
    refine x_vx ?_; exact x_vret X hr dX1_requireState_12 hp4
-- J12_newCapacity
def P_J12_newCapacity (κ : Nat → Nat) (a0 : Nat) (x1 : Int32) (σ : xS) (K : Int32 → xH → Prop) : Prop :=
  xgq σ a0 8 0 fun v1 => xnn v1 fun b2 => xan σ b2 fun v3 => xgi σ a0 8 1 fun v4 => xgi σ a0 8 1 fun v5 => xcall (fun τ L => P_J7_newLength κ v3 ((x1 <<< (v4 &&& 31)) - v3) (v3 + ((2 : Int32) <<< (v5 &&& 31))) τ L) σ fun v6 σ7 => ((v6 = (2147483647 : Int32) → (False)) ∧ (¬ v6 = (2147483647 : Int32) → (xgi σ7 a0 8 1 fun v8 => K (v6 >>> (v8 &&& 31)) σ7.1)))
theorem mdJ12_newCapacity : yJ12_newCapacity.cls ≠ "java/lang/invoke/MethodHandle" ∧ yJ12_newCapacity.cls ≠ "java/lang/invoke/VarHandle" ∧ (parseMethodDescriptor yJ12_newCapacity.desc).map (fun d => d.parameters.length) = some 1 := by decide +kernel
set_option maxHeartbeats 4000000 in
set_option maxRecDepth 100000 in
theorem R_J12_newCapacity (l : Launch) (hl : l.stackTraces = false) (G : xG) (hG : G.1.2 = x_cl) (a0 : Nat) (x1 : Int32) (σ : xS) (K : Int32 → xH → Prop) (hp : P_J12_newCapacity G.2 a0 x1 σ K) : xM l yJ12_newCapacity cJ12_newCapacity 6 (Option.some Jvm.ClassFile.FieldType.int) 2 45 G [(.ref a0), .int x1] σ (xlift emI K) := by
  refine x_entry (by decide) (Nat.le_of_ble_eq_true rfl) ?_
  intro p e s m args below meth c X hr hin
  have X : xX p s m args meth c G cJ12_newCapacity 6 RJ12 := X
  have hx := X.1
  have hb := X.2.1
  have hts := X.2.2.2.2.1
  have hown := X.2.2.2.1
  unfold P_J12_newCapacity at hp
  refine x_same (lo' := [(0, .ref a0), (1, .int x1)]) rfl ?_
  refine x_up (pc' := 1) (fun _ _ _ _ _ L => lv_aload_n hx hb dJ12_newCapacity_0 rfl (lv_at L 0 rfl)) ?_
  refine x_gq X (kJ13 hG) 0 (by decide) q573 (fun _ h => h) dJ12_newCapacity_1 hp (fun v1 hp1 => ?_)
  refine x_pc (pc' := 4) rfl ?_
  obtain ⟨b2, rfl, hp2⟩ := hp1
  refine x_alen X dJ12_newCapacity_4 hp2 (fun v3 hp3 => ?_)
  refine x_pc (pc' := 5) rfl ?_
  refine x_upL (pc' := 6) (lo' := [(2, .int v3), (0, .ref a0), (1, .int x1)]) (fun _ _ _ _ _ L => lv_istore_n hx hb dJ12_newCapacity_5 rfl L (by decide) rfl) ?_
  refine x_up (pc' := 7) (fun _ _ _ _ _ L => lv_iload_n hx hb dJ12_newCapacity_6 rfl (lv_at L 2 rfl)) ?_
  refine x_up (pc' := 8) (fun _ _ _ _ _ L => lv_aload_n hx hb dJ12_newCapacity_7 rfl (lv_at L 1 rfl)) ?_
  refine x_gi X (kJ13 hG) 1 (by decide) q574 (fun _ h => h) dJ12_newCapacity_8 hp3 (fun v4 hp4 => ?_)
  refine x_pc (pc' := 11) rfl ?_
  refine x_up (pc' := 12) (fun _ _ _ _ _ L => lv_ishl hx hb dJ12_newCapacity_11) ?_
  refine x_upL (pc' := 13) (lo' := [(3, .int (x1 <<< (v4 &&& 31))), (2, .int v3), (0, .ref a0), (1, .int x1)]) (fun _ _ _ _ _ L => lv_istore_n hx hb dJ12_newCapacity_12 rfl L (by decide) rfl) ?_
  refine x_up (pc' := 14) (fun _ _ _ _ _ L => lv_iload_n hx hb dJ12_newCapacity_13 rfl (lv_at L 0 rfl)) ?_
  refine x_up (pc' := 15) (fun _ _ _ _ _ L => lv_iload_n hx hb dJ12_newCapacity_14 rfl (lv_at L 1 rfl)) ?_
  refine x_up (pc' := 16) (fun _ _ _ _ _ L => lv_isub hx hb dJ12_newCapacity_15) ?_
  refine x_upL (pc' := 18) (lo' := [(4, .int ((x1 <<< (v4 &&& 31)) - v3)), (3, .int (x1 <<< (v4 &&& 31))), (2, .int v3), (0, .ref a0), (1, .int x1)]) (fun _ _ _ _ _ L => lv_istore hx hb dJ12_newCapacity_16 L (by decide) rfl) ?_
  refine x_up (pc' := 19) (fun _ _ _ _ _ L => lv_iload_n hx hb dJ12_newCapacity_18 rfl (lv_at L 2 rfl)) ?_
  refine x_up (pc' := 21) (fun _ _ _ _ _ L => lv_iload hx hb dJ12_newCapacity_19 (lv_at L 0 rfl)) ?_
  refine x_up (pc' := 22) (fun _ _ _ _ _ L => lv_iload_n hx hb dJ12_newCapacity_21 rfl (lv_at L 2 rfl)) ?_
  refine x_up (pc' := 23) (fun _ _ _ _ _ L => lv_iconst (v := (2 : Int32)) hx hb dJ12_newCapacity_22 (by decide)) ?_
  refine x_up (pc' := 24) (fun _ _ _ _ _ L => lv_aload_n hx hb dJ12_newCapacity_23 rfl (lv_at L 3 rfl)) ?_
  refine x_gi X (kJ13 hG) 1 (by decide) q574 (fun _ h => h) dJ12_newCapacity_24 hp4 (fun v5 hp5 => ?_)
  refine x_pc (pc' := 27) rfl ?_
  refine x_up (pc' := 28) (fun _ _ _ _ _ L => lv_ishl hx hb dJ12_newCapacity_27) ?_
  refine x_up (pc' := 29) (fun _ _ _ _ _ L => lv_iadd hx hb dJ12_newCapacity_28) ?_
  refine x_callS (em := emI) (fun r st => .int r :: st) (fun _ _ => rfl) 3 X (fun σ' KK h => R_J7_newLength l hl G hG v3 ((x1 <<< (v4 &&& 31)) - v3) (v3 + ((2 : Int32) <<< (v5 &&& 31))) σ' KK h) (lw_S q881 q355 q109 q356) mdJ7_newLength ⟨Nat.le_of_ble_eq_true rfl, Nat.le_of_ble_eq_true rfl⟩ rfl rfl (Nat.le_of_ble_eq_true rfl) dJ12_newCapacity_29 hp5 (fun v6 σ7 hp6 => ?_)
  refine x_pc (pc' := 32) rfl ?_
  refine x_upL (pc' := 34) (lo' := [(5, .int v6), (4, .int ((x1 <<< (v4 &&& 31)) - v3)), (3, .int (x1 <<< (v4 &&& 31))), (2, .int v3), (0, .ref a0), (1, .int x1)]) (fun _ _ _ _ _ L => lv_istore hx hb dJ12_newCapacity_32 L (by decide) rfl) ?_
  refine x_up (pc' := 36) (fun _ _ _ _ _ L => lv_iload hx hb dJ12_newCapacity_34 (lv_at L 0 rfl)) ?_
  refine x_up (pc' := 38) (fun _ _ _ _ _ L => lv_ldc (v := 2147483647) hx hb hown (hts _ q882) dJ12_newCapacity_36) ?_
  refine x_ifn (C := v6 = (2147483647 : Int32)) (pt := 51) (pc' := 41) (fun _ _ _ _ _ => lv_icmp_ne (tgt := 51) hx hb dJ12_newCapacity_38 (by decide)) (fun c38 => ?_) (fun c38 => ?_)
  · have hp7 := hp6.1 c38
    exact hp7.elim
  · have hp8 := hp6.2 c38
    refine x_up (pc' := 53) (fun _ _ _ _ _ L => lv_iload hx hb dJ12_newCapacity_51 (lv_at L 0 rfl)) ?_
    refine x_up (pc' := 54) (fun _ _ _ _ _ L => lv_aload_n hx hb dJ12_newCapacity_53 rfl (lv_at L 4 rfl)) ?_
    refine x_gi X (kJ13 hG) 1 (by decide) q574 (fun _ h => h) dJ12_newCapacity_54 hp8 (fun v8 hp9 => ?_)
    refine x_pc (pc' := 57) rfl ?_
    refine x_up (pc' := 58) (fun _ _ _ _ _ L => lv_ishr hx hb dJ12_newCapacity_57) ?_
    exact x_iret X hr rfl dJ12_newCapacity_58 hp9
-- J9_copyOf_3
def P_J9_copyOf_3 (κ : Nat → Nat) (x0 : Option Nat) (x1 : Int32) (σ : xS) (K : Option Nat → xH → Prop) : Prop :=
  xnn x0 fun b1 => xan σ b1 fun v2 => ((x1 = v2 → (xclb κ σ b1 fun q3 σ4 => xab κ σ4 q3 ∧ K (some q3) σ4.1)) ∧ (¬ x1 = v2 → (xnea κ σ .byte x1 (fun N => (N, .inl fun _ => 0)) fun q5 σ6 => xan σ6 b1 fun v7 => xcpi κ .byte σ6 b1 (0 : Int32) q5 (0 : Int32) (if x1 < v7 then x1 else v7) fun σ8 => K (some q5) σ8.1)))
theorem mdJ9_copyOf_3 : yJ9_copyOf_3.cls ≠ "java/lang/invoke/MethodHandle" ∧ yJ9_copyOf_3.cls ≠ "java/lang/invoke/VarHandle" ∧ (parseMethodDescriptor yJ9_copyOf_3.desc).map (fun d => d.parameters.length) = some 2 := by decide +kernel
set_option maxHeartbeats 4000000 in
set_option maxRecDepth 100000 in
theorem R_J9_copyOf_3 (l : Launch) (hl : l.stackTraces = false) (G : xG) (hG : G.1.2 = x_cl) (x0 : Option Nat) (x1 : Int32) (σ : xS) (K : Option Nat → xH → Prop) (hp : P_J9_copyOf_3 G.2 x0 x1 σ K) : xM l yJ9_copyOf_3 cJ9_copyOf_3 3 (Option.some (Jvm.ClassFile.FieldType.array Jvm.ClassFile.FieldType.byte)) 1 60 G [va_rf x0, .int x1] σ (xlift emQ K) := by
  refine x_entry (by decide) (by simp [lg_sl, x_catq, x_cati, x_catr, x_catn]) ?_
  intro p e s m args below meth c X hr hin
  have X : xX p s m args meth c G cJ9_copyOf_3 3 RJ9 := X
  have hx := X.1
  have hb := X.2.1
  have hts := X.2.2.2.2.1
  have hown := X.2.2.2.1
  unfold P_J9_copyOf_3 at hp
  refine x_same (lo' := [(0, va_rf x0), (1, .int x1)]) (by simp [lv_args, x_catq, x_cati, x_catr, x_catn]) ?_
  refine x_up (pc' := 1) (fun _ _ _ _ _ L => lv_iload_n hx hb dJ9_copyOf_3_0 rfl (lv_at L 1 rfl)) ?_
  refine x_up (pc' := 2) (fun _ _ _ _ _ L => lv_aloadq_n hx hb dJ9_copyOf_3_1 rfl (lv_at L 0 rfl)) ?_
  obtain ⟨b1, rfl, hp1⟩ := hp
  refine x_alen X dJ9_copyOf_3_2 hp1 (fun v2 hp2 => ?_)
  refine x_pc (pc' := 3) rfl ?_
  refine x_ifn (C := x1 = v2) (pt := 14) (pc' := 6) (fun _ _ _ _ _ => lv_icmp_ne (tgt := 14) hx hb dJ9_copyOf_3_3 (by decide)) (fun c3 => ?_) (fun c3 => ?_)
  · have hp3 := hp2.1 c3
    refine x_up (pc' := 7) (fun _ _ _ _ _ L => lv_aload_n hx hb dJ9_copyOf_3_6 rfl (lv_at L 0 rfl)) ?_
    refine x_cloneB X q886 q887 q888 q889 q890 q891 ⟨Nat.le_of_ble_eq_true rfl, Nat.le_of_ble_eq_true rfl⟩ (Nat.le_of_ble_eq_true rfl) dJ9_copyOf_3_7 hp3 (fun q3 σ4 hp4 => ?_)
    refine x_pc (pc' := 10) rfl ?_
    refine x_castB X q892 hp4.1 dJ9_copyOf_3_10 ?_
    have hp5 := hp4.2
    refine x_pc (pc' := 13) rfl ?_
    exact x_aret X hr (Or.inr ⟨_, rfl⟩) dJ9_copyOf_3_13 (some q3) hp5
  · have hp6 := hp2.2 c3
    refine x_up (pc' := 15) (fun _ _ _ _ _ L => lv_iload_n hx hb dJ9_copyOf_3_14 rfl (lv_at L 1 rfl)) ?_
    refine x_nea .byte rfl (fun _ h => nomatch h) X q587 (fun N => (N, .inl fun _ => 0)) (fun _ => rfl) (fun _ _ => rfl) (by decide) dJ9_copyOf_3_15 hp6 (fun q5 σ6 hp7 => ?_)
    refine x_pc (pc' := 17) rfl ?_
    refine x_upL (pc' := 18) (lo' := [(2, .ref q5), (0, .ref b1), (1, .int x1)]) (fun _ _ _ _ _ L => lv_astore_n hx hb dJ9_copyOf_3_17 rfl L (by decide) rfl) ?_
    refine x_up (pc' := 19) (fun _ _ _ _ _ L => lv_aload_n hx hb dJ9_copyOf_3_18 rfl (lv_at L 1 rfl)) ?_
    refine x_up (pc' := 20) (fun _ _ _ _ _ L => lv_iconst (v := (0 : Int32)) hx hb dJ9_copyOf_3_19 (by decide)) ?_
    refine x_up (pc' := 21) (fun _ _ _ _ _ L => lv_aload_n hx hb dJ9_copyOf_3_20 rfl (lv_at L 0 rfl)) ?_
    refine x_up (pc' := 22) (fun _ _ _ _ _ L => lv_iconst (v := (0 : Int32)) hx hb dJ9_copyOf_3_21 (by decide)) ?_
    refine x_up (pc' := 23) (fun _ _ _ _ _ L => lv_aload_n hx hb dJ9_copyOf_3_22 rfl (lv_at L 1 rfl)) ?_
    refine x_alen X dJ9_copyOf_3_23 hp7 (fun v7 hp8 => ?_)
    refine x_pc (pc' := 24) rfl ?_
    refine x_up (pc' := 25) (fun _ _ _ _ _ L => lv_iload_n hx hb dJ9_copyOf_3_24 rfl (lv_at L 2 rfl)) ?_
    refine x_mmin X q419 q420 q110 q421 x_minB ⟨Nat.le_of_ble_eq_true rfl, Nat.le_of_ble_eq_true rfl⟩ (Nat.le_of_ble_eq_true rfl) dJ9_copyOf_3_25 ?_
    refine x_pc (pc' := 28) rfl ?_
    refine x_cpi (ty := .byte) (fun _ h => nomatch h) X q422 q424 q423 q112 (Nat.le_of_ble_eq_true rfl) ⟨Nat.le_of_ble_eq_true rfl, Nat.le_of_ble_eq_true rfl⟩ dJ9_copyOf_3_28 hp8 (fun σ8 hp9 => ?_)
    refine x_pc (pc' := 31) rfl ?_
    refine x_up (pc' := 32) (fun _ _ _ _ _ L => lv_aload_n hx hb dJ9_copyOf_3_31 rfl (lv_at L 0 rfl)) ?_
    exact x_aret X hr (Or.inr ⟨_, rfl⟩) dJ9_copyOf_3_32 (some q5) hp9
-- J12_ensureCapacityInternal
def P_J12_ensureCapacityInternal (κ : Nat → Nat) (a0 : Nat) (x1 : Int32) (σ : xS) (K : Unit → xH → Prop) : Prop :=
  xgq σ a0 8 0 fun v1 => xnn v1 fun b2 => xan σ b2 fun v3 => xgi σ a0 8 1 fun v4 => (((x1 - (v3 >>> (v4 &&& 31))) ≤ 0 → (K () σ.1)) ∧ (¬ (x1 - (v3 >>> (v4 &&& 31))) ≤ 0 → (xgq σ a0 8 0 fun v5 => xrc σ a0 8 ∧ xcall (fun τ L => P_J12_newCapacity κ a0 x1 τ L) σ fun v6 σ7 => xgi σ7 a0 8 1 fun v8 => xcall (fun τ L => P_J9_copyOf_3 κ v5 (v6 <<< (v8 &&& 31)) τ L) σ7 fun v9 σ10 => xpq κ σ10 a0 8 0 v9 fun σ11 => K () σ11.1)))
theorem mdJ12_ensureCapacityInternal : yJ12_ensureCapacityInternal.cls ≠ "java/lang/invoke/MethodHandle" ∧ yJ12_ensureCapacityInternal.cls ≠ "java/lang/invoke/VarHandle" ∧ (parseMethodDescriptor yJ12_ensureCapacityInternal.desc).map (fun d => d.parameters.length) = some 1 := by decide +kernel
set_option maxHeartbeats 4000000 in
set_option maxRecDepth 100000 in
theorem R_J12_ensureCapacityInternal (l : Launch) (hl : l.stackTraces = false) (G : xG) (hG : G.1.2 = x_cl) (a0 : Nat) (x1 : Int32) (σ : xS) (K : Unit → xH → Prop) (hp : P_J12_ensureCapacityInternal G.2 a0 x1 σ K) : xM l yJ12_ensureCapacityInternal cJ12_ensureCapacityInternal 3 (Option.none : Option Jvm.ClassFile.FieldType) 3 82 G [(.ref a0), .int x1] σ (xlift emV K) := by
  refine x_entry (by decide) (Nat.le_of_ble_eq_true rfl) ?_
  intro p e s m args below meth c X hr hin
  have X : xX p s m args meth c G cJ12_ensureCapacityInternal 3 RJ12 := X
  have hx := X.1
  have hb := X.2.1
  have hts := X.2.2.2.2.1
  have hown := X.2.2.2.1
  unfold P_J12_ensureCapacityInternal at hp
  refine x_same (lo' := [(0, .ref a0), (1, .int x1)]) rfl ?_
  refine x_up (pc' := 1) (fun _ _ _ _ _ L => lv_aload_n hx hb dJ12_ensureCapacityInternal_0 rfl (lv_at L 0 rfl)) ?_
  refine x_gq X (kJ13 hG) 0 (by decide) q573 (fun _ h => h) dJ12_ensureCapacityInternal_1 hp (fun v1 hp1 => ?_)
  refine x_pc (pc' := 4) rfl ?_
  obtain ⟨b2, rfl, hp2⟩ := hp1
  refine x_alen X dJ12_ensureCapacityInternal_4 hp2 (fun v3 hp3 => ?_)
  refine x_pc (pc' := 5) rfl ?_
  refine x_up (pc' := 6) (fun _ _ _ _ _ L => lv_aload_n hx hb dJ12_ensureCapacityInternal_5 rfl (lv_at L 0 rfl)) ?_
  refine x_gi X (kJ13 hG) 1 (by decide) q574 (fun _ h => h) dJ12_ensureCapacityInternal_6 hp3 (fun v4 hp4 => ?_)
  refine x_pc (pc' := 9) rfl ?_
  refine x_up (pc' := 10) (fun _ _ _ _ _ L => lv_ishr hx hb dJ12_ensureCapacityInternal_9) ?_
  refine x_upL (pc' := 11) (lo' := [(2, .int (v3 >>> (v4 &&& 31))), (0, .ref a0), (1, .int x1)]) (fun _ _ _ _ _ L => lv_istore_n hx hb dJ12_ensureCapacityInternal_10 rfl L (by decide) rfl) ?_
  refine x_up (pc' := 12) (fun _ _ _ _ _ L => lv_iload_n hx hb dJ12_ensureCapacityInternal_11 rfl (lv_at L 2 rfl)) ?_
  refine x_up (pc' := 13) (fun _ _ _ _ _ L => lv_iload_n hx hb dJ12_ensureCapacityInternal_12 rfl (lv_at L 0 rfl)) ?_
  refine x_up (pc' := 14) (fun _ _ _ _ _ L => lv_isub hx hb dJ12_ensureCapacityInternal_13) ?_
  refine x_if (C := (x1 - (v3 >>> (v4 &&& 31))) ≤ 0) (pt := 38) (pc' := 17) (fun _ _ _ _ _ => lv_if_le (tgt := 38) hx hb dJ12_ensureCapacityInternal_14 (by decide)) (fun c14 => ?_) (fun c14 => ?_)
  · have hp5 := hp4.1 c14
    exact x_vret X hr dJ12_ensureCapacityInternal_38 hp5
  · have hp6 := hp4.2 c14
    refine x_up (pc' := 18) (fun _ _ _ _ _ L => lv_aload_n hx hb dJ12_ensureCapacityInternal_17 rfl (lv_at L 1 rfl)) ?_
    refine x_up (pc' := 19) (fun _ _ _ _ _ L => lv_aload_n hx hb dJ12_ensureCapacityInternal_18 rfl (lv_at L 1 rfl)) ?_
    refine x_gq X (kJ13 hG) 0 (by decide) q573 (fun _ h => h) dJ12_ensureCapacityInternal_19 hp6 (fun v5 hp7 => ?_)
    refine x_pc (pc' := 22) rfl ?_
    refine x_up (pc' := 23) (fun _ _ _ _ _ L => lv_aload_n hx hb dJ12_ensureCapacityInternal_22 rfl (lv_at L 1 rfl)) ?_
    refine x_up (pc' := 24) (fun _ _ _ _ _ L => lv_iload_n hx hb dJ12_ensureCapacityInternal_23 rfl (lv_at L 2 rfl)) ?_
    refine x_callO (x := ⟨"java/lang/AbstractStringBuilder", "newCapacity", "(I)I"⟩) (owner := "java/lang/AbstractStringBuilder") (em := emI) (fun r st => .int r :: st) (fun _ _ => rfl) 1 X (kJ13 hG) (fun σ' KK h => R_J12_newCapacity l hl G hG a0 x1 σ' KK h) (hts _ q877) (hts _ q3679) (x_dco X q879 q880) (x_selP X (kJ13 hG) (by decide) (by simp [x_dw]) q879 q3679) q879 q115 q880 (by decide +kernel) ⟨Nat.le_of_ble_eq_true rfl, Nat.le_of_ble_eq_true rfl⟩ rfl rfl (by simp only [List.map_cons, List.map_nil, List.sum_cons, List.sum_nil, x_catq, x_cati, x_catr, x_catn] <;> decide) dJ12_ensureCapacityInternal_24 hp7.1 hp7.2 (fun v6 σ7 hp8 => ?_)
    refine x_pc (pc' := 27) rfl ?_
    refine x_up (pc' := 28) (fun _ _ _ _ _ L => lv_aload_n hx hb dJ12_ensureCapacityInternal_27 rfl (lv_at L 1 rfl)) ?_
    refine x_gi X (kJ13 hG) 1 (by decide) q574 (fun _ h => h) dJ12_ensureCapacityInternal_28 hp8 (fun v8 hp9 => ?_)
    refine x_pc (pc' := 31) rfl ?_
    refine x_up (pc' := 32) (fun _ _ _ _ _ L => lv_ishl hx hb dJ12_ensureCapacityInternal_31) ?_
    refine x_callS (em := emQ) (fun r st => va_rf r :: st) (fun _ _ => rfl) 2 X (fun σ' KK h => R_J9_copyOf_3 l hl G hG v5 (v6 <<< (v8 &&& 31)) σ' KK h) (lw_S q883 q884 q111 q885) mdJ9_copyOf_3 ⟨Nat.le_of_ble_eq_true rfl, Nat.le_of_ble_eq_true rfl⟩ rfl rfl (Nat.le_of_ble_eq_true rfl) dJ12_ensureCapacityInternal_32 hp9 (fun v9 σ10 hp10 => ?_)
    refine x_pc (pc' := 35) rfl ?_
    refine x_pq X (kJ13 hG) 0 (by decide) q573 (fun _ h => h) rfl v9 (x_nar _ (by decide)) (x_fit _ (by decide)) dJ12_ensureCapacityInternal_35 hp10 (fun σ11 hp11 => ?_)
    refine x_pc (pc' := 38) rfl ?_
    exact x_vret X hr dJ12_ensureCapacityInternal_38 hp11
-- J12_isLatin1
def P_J12_isLatin1 (κ : Nat → Nat) (a0 : Nat) (σ : xS) (K : Int32 → xH → Prop) : Prop :=
  (((1 : Int32) = 0 → (K (0 : Int32) σ.1)) ∧ (¬ (1 : Int32) = 0 → (xgi σ a0 8 1 fun v1 => ((v1 = 0 → (K (1 : Int32) σ.1)) ∧ (¬ v1 = 0 → (K (0 : Int32) σ.1))))))
theorem mdJ12_isLatin1 : yJ12_isLatin1.cls ≠ "java/lang/invoke/MethodHandle" ∧ yJ12_isLatin1.cls ≠ "java/lang/invoke/VarHandle" ∧ (parseMethodDescriptor yJ12_isLatin1.desc).map (fun d => d.parameters.length) = some 0 := by decide +kernel
set_option maxHeartbeats 4000000 in
set_option maxRecDepth 100000 in
theorem R_J12_isLatin1 (l : Launch) (hl : l.stackTraces = false) (G : xG) (hG : G.1.2 = x_cl) (a0 : Nat) (σ : xS) (K : Int32 → xH → Prop) (hp : P_J12_isLatin1 G.2 a0 σ K) : xM l yJ12_isLatin1 cJ12_isLatin1 1 (Option.some Jvm.ClassFile.FieldType.boolean) 0 0 G [(.ref a0)] σ (xlift emI K) := by
  refine x_entry (by decide) (Nat.le_of_ble_eq_true rfl) ?_
  intro p e s m args below meth c X hr hin
  have X : xX p s m args meth c G cJ12_isLatin1 1 RJ12 := X
  have hx := X.1
  have hb := X.2.1
  have hts := X.2.2.2.2.1
  have hown := X.2.2.2.1
  unfold P_J12_isLatin1 at hp
  refine x_same (lo' := [(0, .ref a0)]) rfl ?_
  refine x_gets (C := "java/lang/String") (n := "COMPACT_STRINGS") (d := "Z") (v := .int (1 : Int32)) X (by simp [x_sts]) q564 (fun _ h => h) dJ12_isLatin1_0 ?_
  refine x_pc (pc' := 3) rfl ?_
  refine x_if (C := (1 : Int32) = 0) (pt := 17) (pc' := 6) (fun _ _ _ _ _ => lv_if_eq (tgt := 17) hx hb dJ12_isLatin1_3 (by decide)) (fun c3 => ?_) (fun c3 => ?_)
  · have hp1 := hp.1 c3
    refine x_up (pc' := 18) (fun _ _ _ _ _ L => lv_iconst (v := (0 : Int32)) hx hb dJ12_isLatin1_17 (by decide)) ?_
    exact x_iret X hr rfl dJ12_isLatin1_18 hp1
  · have hp2 := hp.2 c3
    refine x_up (pc' := 7) (fun _ _ _ _ _ L => lv_aload_n hx hb dJ12_isLatin1_6 rfl (lv_at L 0 rfl)) ?_
    refine x_gi X (kJ13 hG) 1 (by decide) q574 (fun _ h => h) dJ12_isLatin1_7 hp2 (fun v1 hp3 => ?_)
    refine x_pc (pc' := 10) rfl ?_
    refine x_ifn (C := v1 = 0) (pt := 17) (pc' := 13) (fun _ _ _ _ _ => lv_if_ne (tgt := 17) hx hb dJ12_isLatin1_10 (by decide)) (fun c10 => ?_) (fun c10 => ?_)
    · have hp4 := hp3.1 c10
      refine x_up (pc' := 14) (fun _ _ _ _ _ L => lv_iconst (v := (1 : Int32)) hx hb dJ12_isLatin1_13 (by decide)) ?_
      refine x_up (pc' := 18) (fun _ _ _ _ _ L => lv_goto (tgt := 18) hx hb dJ12_isLatin1_14 (by decide)) ?_
      exact x_iret X hr rfl dJ12_isLatin1_18 hp4
    · have hp5 := hp3.2 c10
      refine x_up (pc' := 18) (fun _ _ _ _ _ L => lv_iconst (v := (0 : Int32)) hx hb dJ12_isLatin1_17 (by decide)) ?_
      exact x_iret X hr rfl dJ12_isLatin1_18 hp5
-- J15_putChar
def P_J15_putChar (κ : Nat → Nat) (x0 : Option Nat) (x1 : Int32) (x2 : Int32) (σ : xS) (K : Unit → xH → Prop) : Prop :=
  (((1 : Int32) = 0 → (((x1 < 0 → (False)) ∧ (¬ x1 < 0 → (xcall (fun τ L => P_J15_length κ x0 τ L) σ fun v1 σ2 => ((x1 < v1 → (xnn x0 fun b3 => xsi κ .byte σ2 b3 (x1 <<< ((1 : Int32) &&& 31)) ((x2 >>> ((0 : Int32) &&& 31)).toInt8.toInt32) fun σ4 => xsi κ .byte σ4 b3 ((x1 <<< ((1 : Int32) &&& 31)) + (1 : Int32)) ((x2 >>> ((8 : Int32) &&& 31)).toInt8.toInt32) fun σ5 => K () σ5.1)) ∧ (¬ x1 < v1 → (False)))))))) ∧ (¬ (1 : Int32) = 0 → (xnn x0 fun b6 => xsi κ .byte σ b6 (x1 <<< ((1 : Int32) &&& 31)) ((x2 >>> ((0 : Int32) &&& 31)).toInt8.toInt32) fun σ7 => xsi κ .byte σ7 b6 ((x1 <<< ((1 : Int32) &&& 31)) + (1 : Int32)) ((x2 >>> ((8 : Int32) &&& 31)).toInt8.toInt32) fun σ8 => K () σ8.1)))
theorem mdJ15_putChar : yJ15_putChar.cls ≠ "java/lang/invoke/MethodHandle" ∧ yJ15_putChar.cls ≠ "java/lang/invoke/VarHandle" ∧ (parseMethodDescriptor yJ15_putChar.desc).map (fun d => d.parameters.length) = some 3 := by decide +kernel
set_option maxHeartbeats 4000000 in
set_option maxRecDepth 100000 in
theorem R_J15_putChar (l : Launch) (hl : l.stackTraces = false) (G : xG) (hG : G.1.2 = x_cl) (x0 : Option Nat) (x1 : Int32) (x2 : Int32) (σ : xS) (K : Unit → xH → Prop) (hp : P_J15_putChar G.2 x0 x1 x2 σ K) : xM l yJ15_putChar cJ15_putChar 3 (Option.none : Option Jvm.ClassFile.FieldType) 1 20 G [va_rf x0, .int x1, .int x2] σ (xlift emV K) := by
  refine x_entry (by decide) (by simp [lg_sl, x_catq, x_cati, x_catr, x_catn]) ?_
  intro p e s m args below meth c X hr hin
  have X : xX p s m args meth c G cJ15_putChar 3 RJ15 := X
  have hx := X.1
  have hb := X.2.1
  have hts := X.2.2.2.2.1
  have hown := X.2.2.2.1
  unfold P_J15_putChar at hp
  refine x_same (lo' := [(0, va_rf x0), (1, .int x1), (2, .int x2)]) (by simp [lv_args, x_catq, x_cati, x_catr, x_catn]) ?_
  refine x_gets (C := "java/lang/StringUTF16") (n := "$assertionsDisabled") (d := "Z") (v := .int (1 : Int32)) X (by simp [x_sts]) q918 (fun _ h => h) dJ15_putChar_0 ?_
  refine x_pc (pc' := 3) rfl ?_
  refine x_ifn (C := (1 : Int32) = 0) (pt := 28) (pc' := 6) (fun _ _ _ _ _ => lv_if_ne (tgt := 28) hx hb dJ15_putChar_3 (by decide)) (fun c3 => ?_) (fun c3 => ?_)
  · have hp1 := hp.1 c3
    refine x_up (pc' := 7) (fun _ _ _ _ _ L => lv_iload_n hx hb dJ15_putChar_6 rfl (lv_at L 1 rfl)) ?_
    refine x_if (C := x1 < 0) (pt := 18) (pc' := 10) (fun _ _ _ _ _ => lv_if_lt (tgt := 18) hx hb dJ15_putChar_7 (by decide)) (fun c7 => ?_) (fun c7 => ?_)
    · have hp2 := hp1.1 c7
      exact hp2.elim
    · have hp3 := hp1.2 c7
      refine x_up (pc' := 11) (fun _ _ _ _ _ L => lv_iload_n hx hb dJ15_putChar_10 rfl (lv_at L 1 rfl)) ?_
      refine x_up (pc' := 12) (fun _ _ _ _ _ L => lv_aloadq_n hx hb dJ15_putChar_11 rfl (lv_at L 0 rfl)) ?_
      refine x_callS (em := emI) (fun r st => .int r :: st) (fun _ _ => rfl) 1 X (fun σ' KK h => R_J15_length l hl G hG x0 σ' KK h) (lw_S q904 q905 q118 q906) mdJ15_length ⟨Nat.le_of_ble_eq_true rfl, Nat.le_of_ble_eq_true rfl⟩ rfl rfl (Nat.le_of_ble_eq_true rfl) dJ15_putChar_12 hp3 (fun v1 σ2 hp4 => ?_)
      refine x_pc (pc' := 15) rfl ?_
      refine x_if (C := x1 < v1) (pt := 28) (pc' := 18) (fun _ _ _ _ _ => lv_icmp_lt (tgt := 28) hx hb dJ15_putChar_15 (by decide)) (fun c15 => ?_) (fun c15 => ?_)
      · have hp5 := hp4.1 c15
        refine x_up (pc' := 29) (fun _ _ _ _ _ L => lv_iload_n hx hb dJ15_putChar_28 rfl (lv_at L 1 rfl)) ?_
        refine x_up (pc' := 30) (fun _ _ _ _ _ L => lv_iconst (v := (1 : Int32)) hx hb dJ15_putChar_29 (by decide)) ?_
        refine x_up (pc' := 31) (fun _ _ _ _ _ L => lv_ishl hx hb dJ15_putChar_30) ?_
        refine x_st (pc' := 32) ([(1, .int (x1 <<< ((1 : Int32) &&& 31))), (0, va_rf x0), (2, .int x2)]) rfl (by simp [x_catq, x_cati, x_catr, x_catn]) (fun _ _ _ _ _ L => lv_istore_n hx hb dJ15_putChar_31 rfl L (by decide) rfl) ?_
        refine x_up (pc' := 33) (fun _ _ _ _ _ L => lv_aloadq_n hx hb dJ15_putChar_32 rfl (lv_at L 1 rfl)) ?_
        refine x_up (pc' := 34) (fun _ _ _ _ _ L => lv_iload_n hx hb dJ15_putChar_33 rfl (lv_at L 0 rfl)) ?_
        refine x_st (pc' := 37) ([(1, .int ((x1 <<< ((1 : Int32) &&& 31)) + (1 : Int32))), (0, va_rf x0), (2, .int x2)]) rfl (by simp [x_catq, x_cati, x_catr, x_catn]) (fun _ _ _ _ _ L => lv_iinc hx hb dJ15_putChar_34 L (k := 0) rfl rfl (by decide) rfl) ?_
        refine x_up (pc' := 38) (fun _ _ _ _ _ L => lv_iload_n hx hb dJ15_putChar_37 rfl (lv_at L 2 rfl)) ?_
        refine x_gets (C := "java/lang/StringUTF16") (n := "HI_BYTE_SHIFT") (d := "I") (v := .int (0 : Int32)) X (by simp [x_sts]) q920 (fun _ h => h) dJ15_putChar_38 ?_
        refine x_pc (pc' := 41) rfl ?_
        refine x_up (pc' := 42) (fun _ _ _ _ _ L => lv_ishr hx hb dJ15_putChar_41) ?_
        refine x_up (pc' := 43) (fun _ _ _ _ _ L => lv_i2b hx hb dJ15_putChar_42 rfl) ?_
        obtain ⟨b3, rfl, hp6⟩ := hp5
        refine x_bast X dJ15_putChar_43 hp6 (fun σ4 hp7 => ?_)
        refine x_pc (pc' := 44) rfl ?_
        refine x_up (pc' := 45) (fun _ _ _ _ _ L => lv_aload_n hx hb dJ15_putChar_44 rfl (lv_at L 1 rfl)) ?_
        refine x_up (pc' := 46) (fun _ _ _ _ _ L => lv_iload_n hx hb dJ15_putChar_45 rfl (lv_at L 0 rfl)) ?_
        refine x_up (pc' := 47) (fun _ _ _ _ _ L => lv_iload_n hx hb dJ15_putChar_46 rfl (lv_at L 2 rfl)) ?_
        refine x_gets (C := "java/lang/StringUTF16") (n := "LO_BYTE_SHIFT") (d := "I") (v := .int (8 : Int32)) X (by simp [x_sts]) q922 (fun _ h => h) dJ15_putChar_47 ?_
        refine x_pc (pc' := 50) rfl ?_
        refine x_up (pc' := 51) (fun _ _ _ _ _ L => lv_ishr hx hb dJ15_putChar_50) ?_
        refine x_up (pc' := 52) (fun _ _ _ _ _ L => lv_i2b hx hb dJ15_putChar_51 rfl) ?_
        refine x_bast X dJ15_putChar_52 hp7 (fun σ5 hp8 => ?_)
        refine x_pc (pc' := 53) rfl ?_
        exact x_vret X hr dJ15_putChar_53 hp8
      · have hp9 := hp4.2 c15
        exact hp9.elim
  · have hp10 := hp.2 c3
    refine x_up (pc' := 29) (fun _ _ _ _ _ L => lv_iload_n hx hb dJ15_putChar_28 rfl (lv_at L 1 rfl)) ?_
    refine x_up (pc' := 30) (fun _ _ _ _ _ L => lv_iconst (v := (1 : Int32)) hx hb dJ15_putChar_29 (by decide)) ?_
    refine x_up (pc' := 31) (fun _ _ _ _ _ L => lv_ishl hx hb dJ15_putChar_30) ?_
    refine x_st (pc' := 32) ([(1, .int (x1 <<< ((1 : Int32) &&& 31))), (0, va_rf x0), (2, .int x2)]) rfl (by simp [x_catq, x_cati, x_catr, x_catn]) (fun _ _ _ _ _ L => lv_istore_n hx hb dJ15_putChar_31 rfl L (by decide) rfl) ?_
    refine x_up (pc' := 33) (fun _ _ _ _ _ L => lv_aloadq_n hx hb dJ15_putChar_32 rfl (lv_at L 1 rfl)) ?_
    refine x_up (pc' := 34) (fun _ _ _ _ _ L => lv_iload_n hx hb dJ15_putChar_33 rfl (lv_at L 0 rfl)) ?_
    refine x_st (pc' := 37) ([(1, .int ((x1 <<< ((1 : Int32) &&& 31)) + (1 : Int32))), (0, va_rf x0), (2, .int x2)]) rfl (by simp [x_catq, x_cati, x_catr, x_catn]) (fun _ _ _ _ _ L => lv_iinc hx hb dJ15_putChar_34 L (k := 0) rfl rfl (by decide) rfl) ?_
    refine x_up (pc' := 38) (fun _ _ _ _ _ L => lv_iload_n hx hb dJ15_putChar_37 rfl (lv_at L 2 rfl)) ?_
    refine x_gets (C := "java/lang/StringUTF16") (n := "HI_BYTE_SHIFT") (d := "I") (v := .int (0 : Int32)) X (by simp [x_sts]) q920 (fun _ h => h) dJ15_putChar_38 ?_
    refine x_pc (pc' := 41) rfl ?_
    refine x_up (pc' := 42) (fun _ _ _ _ _ L => lv_ishr hx hb dJ15_putChar_41) ?_
    refine x_up (pc' := 43) (fun _ _ _ _ _ L => lv_i2b hx hb dJ15_putChar_42 rfl) ?_
    obtain ⟨b6, rfl, hp11⟩ := hp10
    refine x_bast X dJ15_putChar_43 hp11 (fun σ7 hp12 => ?_)
    refine x_pc (pc' := 44) rfl ?_
    refine x_up (pc' := 45) (fun _ _ _ _ _ L => lv_aload_n hx hb dJ15_putChar_44 rfl (lv_at L 1 rfl)) ?_
    refine x_up (pc' := 46) (fun _ _ _ _ _ L => lv_iload_n hx hb dJ15_putChar_45 rfl (lv_at L 0 rfl)) ?_
    refine x_up (pc' := 47) (fun _ _ _ _ _ L => lv_iload_n hx hb dJ15_putChar_46 rfl (lv_at L 2 rfl)) ?_
    refine x_gets (C := "java/lang/StringUTF16") (n := "LO_BYTE_SHIFT") (d := "I") (v := .int (8 : Int32)) X (by simp [x_sts]) q922 (fun _ h => h) dJ15_putChar_47 ?_
    refine x_pc (pc' := 50) rfl ?_
    refine x_up (pc' := 51) (fun _ _ _ _ _ L => lv_ishr hx hb dJ15_putChar_50) ?_
    refine x_up (pc' := 52) (fun _ _ _ _ _ L => lv_i2b hx hb dJ15_putChar_51 rfl) ?_
    refine x_bast X dJ15_putChar_52 hp12 (fun σ8 hp13 => ?_)
    refine x_pc (pc' := 53) rfl ?_
    exact x_vret X hr dJ15_putChar_53 hp13
-- J15_putCharSB
def P_J15_putCharSB (κ : Nat → Nat) (x0 : Option Nat) (x1 : Int32) (x2 : Int32) (σ : xS) (K : Unit → xH → Prop) : Prop :=
  xcall (fun τ L => P_J15_checkIndex κ x1 x0 τ L) σ fun _ σ1 => xcall (fun τ L => P_J15_putChar κ x0 x1 x2 τ L) σ1 fun _ σ2 => K () σ2.1
theorem mdJ15_putCharSB : yJ15_putCharSB.cls ≠ "java/lang/invoke/MethodHandle" ∧ yJ15_putCharSB.cls ≠ "java/lang/invoke/VarHandle" ∧ (parseMethodDescriptor yJ15_putCharSB.desc).map (fun d => d.parameters.length) = some 3 := by decide +kernel
set_option maxHeartbeats 4000000 in
set_option maxRecDepth 100000 in
theorem R_J15_putCharSB (l : Launch) (hl : l.stackTraces = false) (G : xG) (hG : G.1.2 = x_cl) (x0 : Option Nat) (x1 : Int32) (x2 : Int32) (σ : xS) (K : Unit → xH → Prop) (hp : P_J15_putCharSB G.2 x0 x1 x2 σ K) : xM l yJ15_putCharSB cJ15_putCharSB 3 (Option.none : Option Jvm.ClassFile.FieldType) 3 64 G [va_rf x0, .int x1, .int x2] σ (xlift emV K) := by
  refine x_entry (by decide) (by simp [lg_sl, x_catq, x_cati, x_catr, x_catn]) ?_
  intro p e s m args below meth c X hr hin
  have X : xX p s m args meth c G cJ15_putCharSB 3 RJ15 := X
  have hx := X.1
  have hb := X.2.1
  have hts := X.2.2.2.2.1
  have hown := X.2.2.2.1
  unfold P_J15_putCharSB at hp
  refine x_same (lo' := [(0, va_rf x0), (1, .int x1), (2, .int x2)]) (by simp [lv_args, x_catq, x_cati, x_catr, x_catn]) ?_
  refine x_up (pc' := 1) (fun _ _ _ _ _ L => lv_iload_n hx hb dJ15_putCharSB_0 rfl (lv_at L 1 rfl)) ?_
  refine x_up (pc' := 2) (fun _ _ _ _ _ L => lv_aloadq_n hx hb dJ15_putCharSB_1 rfl (lv_at L 0 rfl)) ?_
  refine x_callS (em := emV) (fun r st => st) (fun _ _ => rfl) 2 X (fun σ' KK h => R_J15_checkIndex l hl G hG x1 x0 σ' KK h) (lw_S q2881 q2882 q118 q2883) mdJ15_checkIndex ⟨Nat.le_of_ble_eq_true rfl, Nat.le_of_ble_eq_true rfl⟩ rfl rfl (Nat.le_of_ble_eq_true rfl) dJ15_putCharSB_2 hp (fun _ σ1 hp1 => ?_)
  refine x_pc (pc' := 5) rfl ?_
  refine x_up (pc' := 6) (fun _ _ _ _ _ L => lv_aloadq_n hx hb dJ15_putCharSB_5 rfl (lv_at L 0 rfl)) ?_
  refine x_up (pc' := 7) (fun _ _ _ _ _ L => lv_iload_n hx hb dJ15_putCharSB_6 rfl (lv_at L 1 rfl)) ?_
  refine x_up (pc' := 8) (fun _ _ _ _ _ L => lv_iload_n hx hb dJ15_putCharSB_7 rfl (lv_at L 2 rfl)) ?_
  refine x_callS (em := emV) (fun r st => st) (fun _ _ => rfl) 3 X (fun σ' KK h => R_J15_putChar l hl G hG x0 x1 x2 σ' KK h) (lw_S q915 q916 q118 q917) mdJ15_putChar ⟨Nat.le_of_ble_eq_true rfl, Nat.le_of_ble_eq_true rfl⟩ rfl rfl (Nat.le_of_ble_eq_true rfl) dJ15_putCharSB_8 hp1 (fun _ σ2 hp2 => ?_)
  refine x_pc (pc' := 11) rfl ?_
  exact x_vret X hr dJ15_putCharSB_11 hp2
-- J24_checkFromIndexSize
def P_J24_checkFromIndexSize (κ : Nat → Nat) (x0 : Int32) (x1 : Int32) (x2 : Int32) (x3 : Option Nat) (σ : xS) (K : Int32 → xH → Prop) : Prop :=
  ((((x2 ||| x0) ||| x1) < 0 → (False)) ∧ (¬ ((x2 ||| x0) ||| x1) < 0 → (((x1 ≤ (x2 - x0) → (K x0 σ.1)) ∧ (¬ x1 ≤ (x2 - x0) → (False))))))
theorem mdJ24_checkFromIndexSize : yJ24_checkFromIndexSize.cls ≠ "java/lang/invoke/MethodHandle" ∧ yJ24_checkFromIndexSize.cls ≠ "java/lang/invoke/VarHandle" ∧ (parseMethodDescriptor yJ24_checkFromIndexSize.desc).map (fun d => d.parameters.length) = some 4 := by decide +kernel
set_option maxHeartbeats 4000000 in
set_option maxRecDepth 100000 in
theorem R_J24_checkFromIndexSize (l : Launch) (hl : l.stackTraces = false) (G : xG) (hG : G.1.2 = x_cl) (x0 : Int32) (x1 : Int32) (x2 : Int32) (x3 : Option Nat) (σ : xS) (K : Int32 → xH → Prop) (hp : P_J24_checkFromIndexSize G.2 x0 x1 x2 x3 σ K) : xM l yJ24_checkFromIndexSize cJ24_checkFromIndexSize 4 (Option.some Jvm.ClassFile.FieldType.int) 0 0 G [.int x0, .int x1, .int x2, va_rf x3] σ (xlift emI K) := by
  refine x_entry (by decide) (by simp [lg_sl, x_catq, x_cati, x_catr, x_catn]) ?_
  intro p e s m args below meth c X hr hin
  have X : xX p s m args meth c G cJ24_checkFromIndexSize 4 RJ24 := X
  have hx := X.1
  have hb := X.2.1
  have hts := X.2.2.2.2.1
  have hown := X.2.2.2.1
  unfold P_J24_checkFromIndexSize at hp
  refine x_same (lo' := [(0, .int x0), (1, .int x1), (2, .int x2), (3, va_rf x3)]) (by simp [lv_args, x_catq, x_cati, x_catr, x_catn]) ?_
  refine x_up (pc' := 1) (fun _ _ _ _ _ L => lv_iload_n hx hb dJ24_checkFromIndexSize_0 rfl (lv_at L 2 rfl)) ?_
  refine x_up (pc' := 2) (fun _ _ _ _ _ L => lv_iload_n hx hb dJ24_checkFromIndexSize_1 rfl (lv_at L 0 rfl)) ?_
  refine x_up (pc' := 3) (fun _ _ _ _ _ L => lv_ior hx hb dJ24_checkFromIndexSize_2) ?_
  refine x_up (pc' := 4) (fun _ _ _ _ _ L => lv_iload_n hx hb dJ24_checkFromIndexSize_3 rfl (lv_at L 1 rfl)) ?_
  refine x_up (pc' := 5) (fun _ _ _ _ _ L => lv_ior hx hb dJ24_checkFromIndexSize_4) ?_
  refine x_if (C := ((x2 ||| x0) ||| x1) < 0) (pt := 15) (pc' := 8) (fun _ _ _ _ _ => lv_if_lt (tgt := 15) hx hb dJ24_checkFromIndexSize_5 (by decide)) (fun c5 => ?_) (fun c5 => ?_)
  · have hp1 := hp.1 c5
    refine x_up (pc' := 16) (fun _ _ _ _ _ L => lv_aloadq_n hx hb dJ24_checkFromIndexSize_15 rfl (lv_at L 3 rfl)) ?_
    refine x_up (pc' := 17) (fun _ _ _ _ _ L => lv_iload_n hx hb dJ24_checkFromIndexSize_16 rfl (lv_at L 0 rfl)) ?_
    refine x_up (pc' := 18) (fun _ _ _ _ _ L => lv_iload_n hx hb dJ24_checkFromIndexSize_17 rfl (lv_at L 1 rfl)) ?_
    refine x_up (pc' := 19) (fun _ _ _ _ _ L => lv_iload_n hx hb dJ24_checkFromIndexSize_18 rfl (lv_at L 2 rfl)) ?_
    exact hp1.elim
  · have hp2 := hp.2 c5
    refine x_up (pc' := 9) (fun _ _ _ _ _ L => lv_iload_n hx hb dJ24_checkFromIndexSize_8 rfl (lv_at L 1 rfl)) ?_
    refine x_up (pc' := 10) (fun _ _ _ _ _ L => lv_iload_n hx hb dJ24_checkFromIndexSize_9 rfl (lv_at L 2 rfl)) ?_
    refine x_up (pc' := 11) (fun _ _ _ _ _ L => lv_iload_n hx hb dJ24_checkFromIndexSize_10 rfl (lv_at L 0 rfl)) ?_
    refine x_up (pc' := 12) (fun _ _ _ _ _ L => lv_isub hx hb dJ24_checkFromIndexSize_11) ?_
    refine x_if (C := x1 ≤ (x2 - x0)) (pt := 23) (pc' := 15) (fun _ _ _ _ _ => lv_icmp_le (tgt := 23) hx hb dJ24_checkFromIndexSize_12 (by decide)) (fun c12 => ?_) (fun c12 => ?_)
    · have hp3 := hp2.1 c12
      refine x_up (pc' := 24) (fun _ _ _ _ _ L => lv_iload_n hx hb dJ24_checkFromIndexSize_23 rfl (lv_at L 0 rfl)) ?_
      exact x_iret X hr rfl dJ24_checkFromIndexSize_24 hp3
    · have hp4 := hp2.2 c12
      refine x_up (pc' := 16) (fun _ _ _ _ _ L => lv_aloadq_n hx hb dJ24_checkFromIndexSize_15 rfl (lv_at L 3 rfl)) ?_
      refine x_up (pc' := 17) (fun _ _ _ _ _ L => lv_iload_n hx hb dJ24_checkFromIndexSize_16 rfl (lv_at L 0 rfl)) ?_
      refine x_up (pc' := 18) (fun _ _ _ _ _ L => lv_iload_n hx hb dJ24_checkFromIndexSize_17 rfl (lv_at L 1 rfl)) ?_
      refine x_up (pc' := 19) (fun _ _ _ _ _ L => lv_iload_n hx hb dJ24_checkFromIndexSize_18 rfl (lv_at L 2 rfl)) ?_
      exact hp4.elim
-- J14_checkBoundsOffCount
def P_J14_checkBoundsOffCount (κ : Nat → Nat) (x0 : Int32) (x1 : Int32) (x2 : Int32) (σ : xS) (K : Int32 → xH → Prop) : Prop :=
  xcall (fun τ L => P_J24_checkFromIndexSize κ x0 x1 x2 (x_op κ 5) τ L) σ fun v1 σ2 => K v1 σ2.1
theorem mdJ14_checkBoundsOffCount : yJ14_checkBoundsOffCount.cls ≠ "java/lang/invoke/MethodHandle" ∧ yJ14_checkBoundsOffCount.cls ≠ "java/lang/invoke/VarHandle" ∧ (parseMethodDescriptor yJ14_checkBoundsOffCount.desc).map (fun d => d.parameters.length) = some 3 := by decide +kernel
set_option maxHeartbeats 4000000 in
set_option maxRecDepth 100000 in
theorem R_J14_checkBoundsOffCount (l : Launch) (hl : l.stackTraces = false) (G : xG) (hG : G.1.2 = x_cl) (x0 : Int32) (x1 : Int32) (x2 : Int32) (σ : xS) (K : Int32 → xH → Prop) (hp : P_J14_checkBoundsOffCount G.2 x0 x1 x2 σ K) : xM l yJ14_checkBoundsOffCount cJ14_checkBoundsOffCount 3 (Option.some Jvm.ClassFile.FieldType.int) 1 23 G [.int x0, .int x1, .int x2] σ (xlift emI K) := by
  refine x_entry (by decide) (Nat.le_of_ble_eq_true rfl) ?_
  intro p e s m args below meth c X hr hin
  have X : xX p s m args meth c G cJ14_checkBoundsOffCount 3 RJ14 := X
  have hx := X.1
  have hb := X.2.1
  have hts := X.2.2.2.2.1
  have hown := X.2.2.2.1
  unfold P_J14_checkBoundsOffCount at hp
  refine x_same (lo' := [(0, .int x0), (1, .int x1), (2, .int x2)]) rfl ?_
  refine x_up (pc' := 1) (fun _ _ _ _ _ L => lv_iload_n hx hb dJ14_checkBoundsOffCount_0 rfl (lv_at L 0 rfl)) ?_
  refine x_up (pc' := 2) (fun _ _ _ _ _ L => lv_iload_n hx hb dJ14_checkBoundsOffCount_1 rfl (lv_at L 1 rfl)) ?_
  refine x_up (pc' := 3) (fun _ _ _ _ _ L => lv_iload_n hx hb dJ14_checkBoundsOffCount_2 rfl (lv_at L 2 rfl)) ?_
  refine x_gets (C := "jdk/internal/util/Preconditions") (n := "SIOOBE_FORMATTER") (d := "Ljava/util/function/BiFunction;") (v := va_rf (x_op G.2 5)) X (by simp [x_sts]) q910 (fun _ h => h) dJ14_checkBoundsOffCount_3 ?_
  refine x_pc (pc' := 6) rfl ?_
  refine x_callS (em := emI) (fun r st => .int r :: st) (fun _ _ => rfl) 4 X (fun σ' KK h => R_J24_checkFromIndexSize l hl G hG x0 x1 x2 (x_op G.2 5) σ' KK h) (lw_S q957 q958 q129 q959) mdJ24_checkFromIndexSize ⟨Nat.le_of_ble_eq_true rfl, Nat.le_of_ble_eq_true rfl⟩ rfl rfl (Nat.le_of_ble_eq_true rfl) dJ14_checkBoundsOffCount_6 hp (fun v1 σ2 hp1 => ?_)
  refine x_pc (pc' := 9) rfl ?_
  exact x_iret X hr rfl dJ14_checkBoundsOffCount_9 hp1
-- J15_checkBoundsOffCount
def P_J15_checkBoundsOffCount (κ : Nat → Nat) (x0 : Int32) (x1 : Int32) (x2 : Option Nat) (σ : xS) (K : Unit → xH → Prop) : Prop :=
  xcall (fun τ L => P_J15_length κ x2 τ L) σ fun v1 σ2 => xcall (fun τ L => P_J14_checkBoundsOffCount κ x0 x1 v1 τ L) σ2 fun v3 σ4 => K () σ4.1
theorem mdJ15_checkBoundsOffCount : yJ15_checkBoundsOffCount.cls ≠ "java/lang/invoke/MethodHandle" ∧ yJ15_checkBoundsOffCount.cls ≠ "java/lang/invoke/VarHandle" ∧ (parseMethodDescriptor yJ15_checkBoundsOffCount.desc).map (fun d => d.parameters.length) = some 3 := by decide +kernel
set_option maxHeartbeats 4000000 in
set_option maxRecDepth 100000 in
theorem R_J15_checkBoundsOffCount (l : Launch) (hl : l.stackTraces = false) (G : xG) (hG : G.1.2 = x_cl) (x0 : Int32) (x1 : Int32) (x2 : Option Nat) (σ : xS) (K : Unit → xH → Prop) (hp : P_J15_checkBoundsOffCount G.2 x0 x1 x2 σ K) : xM l yJ15_checkBoundsOffCount cJ15_checkBoundsOffCount 3 (Option.none : Option Jvm.ClassFile.FieldType) 2 45 G [.int x0, .int x1, va_rf x2] σ (xlift emV K) := by
  refine x_entry (by decide) (by simp [lg_sl, x_catq, x_cati, x_catr, x_catn]) ?_
  intro p e s m args below meth c X hr hin
  have X : xX p s m args meth c G cJ15_checkBoundsOffCount 3 RJ15 := X
  have hx := X.1
  have hb := X.2.1
  have hts := X.2.2.2.2.1
  have hown := X.2.2.2.1
  unfold P_J15_checkBoundsOffCount at hp
  refine x_same (lo' := [(0, .int x0), (1, .int x1), (2, va_rf x2)]) (by simp [lv_args, x_catq, x_cati, x_catr, x_catn]) ?_
  refine x_up (pc' := 1) (fun _ _ _ _ _ L => lv_iload_n hx hb dJ15_checkBoundsOffCount_0 rfl (lv_at L 0 rfl)) ?_
  refine x_up (pc' := 2) (fun _ _ _ _ _ L => lv_iload_n hx hb dJ15_checkBoundsOffCount_1 rfl (lv_at L 1 rfl)) ?_
  refine x_up (pc' := 3) (fun _ _ _ _ _ L => lv_aloadq_n hx hb dJ15_checkBoundsOffCount_2 rfl (lv_at L 2 rfl)) ?_
  refine x_callS (em := emI) (fun r st => .int r :: st) (fun _ _ => rfl) 1 X (fun σ' KK h => R_J15_length l hl G hG x2 σ' KK h) (lw_S q904 q905 q118 q906) mdJ15_length ⟨Nat.le_of_ble_eq_true rfl, Nat.le_of_ble_eq_true rfl⟩ rfl rfl (Nat.le_of_ble_eq_true rfl) dJ15_checkBoundsOffCount_3 hp (fun v1 σ2 hp1 => ?_)
  refine x_pc (pc' := 6) rfl ?_
  refine x_callS (em := emI) (fun r st => .int r :: st) (fun _ _ => rfl) 3 X (fun σ' KK h => R_J14_checkBoundsOffCount l hl G hG x0 x1 v1 σ' KK h) (lw_S q954 q955 q117 q956) mdJ14_checkBoundsOffCount ⟨Nat.le_of_ble_eq_true rfl, Nat.le_of_ble_eq_true rfl⟩ rfl rfl (Nat.le_of_ble_eq_true rfl) dJ15_checkBoundsOffCount_6 hp1 (fun v3 σ4 hp2 => ?_)
  refine x_pc (pc' := 9) rfl ?_
  refine x_up (pc' := 10) (fun _ _ _ _ _ L => lv_pop hx hb dJ15_checkBoundsOffCount_9 rfl) ?_
  exact x_vret X hr dJ15_checkBoundsOffCount_10 hp2
-- J15_inflate
def B_J15_inflate_10 (κ : Nat → Nat) (K : Unit → xH → Prop) (f0 : Option Nat) (f2 : Option Nat) (f4 : Int32) : ((Int32 × Int32 × Int32) → xS → Prop) → (Int32 × Int32 × Int32) → xS → Prop := fun self11003 w11001 σ11002 =>
  ((f4 ≤ w11001.2.2 → (K () σ11002.1)) ∧ (¬ f4 ≤ w11001.2.2 → (xnn f0 fun b11004 => xai .byte σ11002 b11004 w11001.1 fun v11005 => xcall (fun τ L => P_J15_putChar κ f2 w11001.2.1 (v11005 &&& (255 : Int32)) τ L) σ11002 fun _ σ11006 => self11003 ((w11001.1 + (1 : Int32)), (w11001.2.1 + (1 : Int32)), (w11001.2.2 + (1 : Int32))) σ11006)))
def P_J15_inflate (κ : Nat → Nat) (x0 : Option Nat) (x1 : Int32) (x2 : Option Nat) (x3 : Int32) (x4 : Int32) (σ : xS) (K : Unit → xH → Prop) : Prop :=
  xcall (fun τ L => P_J15_checkBoundsOffCount κ x3 x4 x2 τ L) σ fun _ σ1 => xwhile (B_J15_inflate_10 κ K x0 x2 x4) (x1, x3, (0 : Int32)) σ1
theorem mdJ15_inflate : yJ15_inflate.cls ≠ "java/lang/invoke/MethodHandle" ∧ yJ15_inflate.cls ≠ "java/lang/invoke/VarHandle" ∧ (parseMethodDescriptor yJ15_inflate.desc).map (fun d => d.parameters.length) = some 5 := by decide +kernel
set_option maxHeartbeats 4000000 in
set_option maxRecDepth 100000 in
theorem R_J15_inflate (l : Launch) (hl : l.stackTraces = false) (G : xG) (hG : G.1.2 = x_cl) (x0 : Option Nat) (x1 : Int32) (x2 : Option Nat) (x3 : Int32) (x4 : Int32) (σ : xS) (K : Unit → xH → Prop) (hp : P_J15_inflate G.2 x0 x1 x2 x3 x4 σ K) : xM l yJ15_inflate cJ15_inflate 6 (Option.none : Option Jvm.ClassFile.FieldType) 3 67 G [va_rf x0, .int x1, va_rf x2, .int x3, .int x4] σ (xlift emV K) := by
  refine x_entry (by decide) (by simp [lg_sl, x_catq, x_cati, x_catr, x_catn]) ?_
  intro p e s m args below meth c X hr hin
  have X : xX p s m args meth c G cJ15_inflate 6 RJ15 := X
  have hx := X.1
  have hb := X.2.1
  have hts := X.2.2.2.2.1
  have hown := X.2.2.2.1
  unfold P_J15_inflate at hp
  refine x_same (lo' := [(0, va_rf x0), (1, .int x1), (2, va_rf x2), (3, .int x3), (4, .int x4)]) (by simp [lv_args, x_catq, x_cati, x_catr, x_catn]) ?_
  refine x_up (pc' := 1) (fun _ _ _ _ _ L => lv_iload_n hx hb dJ15_inflate_0 rfl (lv_at L 3 rfl)) ?_
  refine x_up (pc' := 3) (fun _ _ _ _ _ L => lv_iload hx hb dJ15_inflate_1 (lv_at L 4 rfl)) ?_
  refine x_up (pc' := 4) (fun _ _ _ _ _ L => lv_aloadq_n hx hb dJ15_inflate_3 rfl (lv_at L 2 rfl)) ?_
  refine x_callS (em := emV) (fun r st => st) (fun _ _ => rfl) 3 X (fun σ' KK h => R_J15_checkBoundsOffCount l hl G hG x3 x4 x2 σ' KK h) (lw_S q951 q952 q118 q953) mdJ15_checkBoundsOffCount ⟨Nat.le_of_ble_eq_true rfl, Nat.le_of_ble_eq_true rfl⟩ rfl rfl (Nat.le_of_ble_eq_true rfl) dJ15_inflate_4 hp (fun _ σ1 hp1 => ?_)
  refine x_pc (pc' := 7) rfl ?_
  refine x_up (pc' := 8) (fun _ _ _ _ _ L => lv_iconst (v := (0 : Int32)) hx hb dJ15_inflate_7 (by decide)) ?_
  refine x_upL (pc' := 10) (lo' := [(5, .int (0 : Int32)), (0, va_rf x0), (1, .int x1), (2, va_rf x2), (3, .int x3), (4, .int x4)]) (fun _ _ _ _ _ L => lv_istore hx hb dJ15_inflate_8 L (by decide) rfl) ?_
  refine x_lo (lo' := [(1, .int x1), (3, .int x3), (5, .int (0 : Int32)), (0, va_rf x0), (2, va_rf x2), (4, .int x4)]) [2, 4, 0, 1, 3, 5] rfl ?_
  refine x_while (v0 := (x1, x3, (0 : Int32))) (fun w2 => [(1, .int w2.1), (3, .int w2.2.1), (5, .int w2.2.2), (0, va_rf x0), (2, va_rf x2), (4, .int x4)]) hp1 (fun self3 hself4 => ?_)
  rintro ⟨y6, y7, y8⟩ σ5 hp2
  unfold B_J15_inflate_10 at hp2
  refine x_same (lo' := [(1, .int y6), (3, .int y7), (5, .int y8), (0, va_rf x0), (2, va_rf x2), (4, .int x4)]) rfl ?_
  refine x_up (pc' := 12) (fun _ _ _ _ _ L => lv_iload hx hb dJ15_inflate_10 (lv_at L 2 rfl)) ?_
  refine x_up (pc' := 14) (fun _ _ _ _ _ L => lv_iload hx hb dJ15_inflate_12 (lv_at L 5 rfl)) ?_
  refine x_if (C := x4 ≤ y8) (pt := 41) (pc' := 17) (fun _ _ _ _ _ => lv_icmp_ge (tgt := 41) hx hb dJ15_inflate_14 (by decide)) (fun c14 => ?_) (fun c14 => ?_)
  · have hp3 := hp2.1 c14
    exact x_vret X hr dJ15_inflate_41 hp3
  · have hp4 := hp2.2 c14
    refine x_up (pc' := 18) (fun _ _ _ _ _ L => lv_aloadq_n hx hb dJ15_inflate_17 rfl (lv_at L 4 rfl)) ?_
    refine x_up (pc' := 19) (fun _ _ _ _ _ L => lv_iload_n hx hb dJ15_inflate_18 rfl (lv_at L 1 rfl)) ?_
    refine x_st (pc' := 22) ([(3, .int (y7 + (1 : Int32))), (1, .int y6), (5, .int y8), (0, va_rf x0), (2, va_rf x2), (4, .int x4)]) rfl (by simp [x_catq, x_cati, x_catr, x_catn]) (fun _ _ _ _ _ L => lv_iinc hx hb dJ15_inflate_19 L (k := 1) rfl rfl (by decide) rfl) ?_
    refine x_up (pc' := 23) (fun _ _ _ _ _ L => lv_aloadq_n hx hb dJ15_inflate_22 rfl (lv_at L 3 rfl)) ?_
    refine x_up (pc' := 24) (fun _ _ _ _ _ L => lv_iload_n hx hb dJ15_inflate_23 rfl (lv_at L 1 rfl)) ?_
    refine x_st (pc' := 27) ([(1, .int (y6 + (1 : Int32))), (3, .int (y7 + (1 : Int32))), (5, .int y8), (0, va_rf x0), (2, va_rf x2), (4, .int x4)]) rfl (by simp [x_catq, x_cati, x_catr, x_catn]) (fun _ _ _ _ _ L => lv_iinc hx hb dJ15_inflate_24 L (k := 1) rfl rfl (by decide) rfl) ?_
    obtain ⟨b9, rfl, hp5⟩ := hp4
    refine x_bald X dJ15_inflate_27 hp5 (fun v10 hp6 => ?_)
    refine x_pc (pc' := 28) rfl ?_
    refine x_up (pc' := 31) (fun _ _ _ _ _ L => lv_sipush (v := (255 : Int32)) hx hb dJ15_inflate_28 (by decide)) ?_
    refine x_up (pc' := 32) (fun _ _ _ _ _ L => lv_iand hx hb dJ15_inflate_31) ?_
    refine x_callS (em := emV) (fun r st => st) (fun _ _ => rfl) 3 X (fun σ' KK h => R_J15_putChar l hl G hG x2 y7 (v10 &&& (255 : Int32)) σ' KK h) (lw_S q915 q916 q118 q917) mdJ15_putChar ⟨Nat.le_of_ble_eq_true rfl, Nat.le_of_ble_eq_true rfl⟩ rfl rfl (Nat.le_of_ble_eq_true rfl) dJ15_inflate_32 hp6 (fun _ σ11 hp7 => ?_)
    refine x_pc (pc' := 35) rfl ?_
    refine x_upL (pc' := 38) (lo' := [(5, .int (y8 + (1 : Int32))), (1, .int (y6 + (1 : Int32))), (3, .int (y7 + (1 : Int32))), (0, .ref b9), (2, va_rf x2), (4, .int x4)]) (fun _ _ _ _ _ L => lv_iinc (v := y8 + (1 : Int32)) hx hb dJ15_inflate_35 L (k := 2) rfl rfl (by decide) rfl) ?_
    refine x_up (pc' := 10) (fun _ _ _ _ _ L => lv_goto (tgt := 10) hx hb dJ15_inflate_38 (by decide)) ?_
    refine x_lo (lo' := [(1, .int (y6 + (1 : Int32))), (3, .int (y7 + (1 : Int32))), (5, .int (y8 + (1 : Int32))), (0, .ref b9), (2, va_rf x2), (4, .int x4)]) [1, 2, 0, 3, 4, 5] rfl ?_
    exact hself4 ((y6 + (1 : Int32)), (y7 + (1 : Int32)), (y8 + (1 : Int32))) σ11 hp7
-- J17_inflate
def P_J17_inflate (κ : Nat → Nat) (x0 : Option Nat) (x1 : Int32) (x2 : Option Nat) (x3 : Int32) (x4 : Int32) (σ : xS) (K : Unit → xH → Prop) : Prop :=
  xcall (fun τ L => P_J15_inflate κ x0 x1 x2 x3 x4 τ L) σ fun _ σ1 => K () σ1.1
theorem mdJ17_inflate : yJ17_inflate.cls ≠ "java/lang/invoke/MethodHandle" ∧ yJ17_inflate.cls ≠ "java/lang/invoke/VarHandle" ∧ (parseMethodDescriptor yJ17_inflate.desc).map (fun d => d.parameters.length) = some 5 := by decide +kernel
set_option maxHeartbeats 4000000 in
set_option maxRecDepth 100000 in
theorem R_J17_inflate (l : Launch) (hl : l.stackTraces = false) (G : xG) (hG : G.1.2 = x_cl) (x0 : Option Nat) (x1 : Int32) (x2 : Option Nat) (x3 : Int32) (x4 : Int32) (σ : xS) (K : Unit → xH → Prop) (hp : P_J17_inflate G.2 x0 x1 x2 x3 x4 σ K) : xM l yJ17_inflate cJ17_inflate 5 (Option.none : Option Jvm.ClassFile.FieldType) 4 92 G [va_rf x0, .int x1, va_rf x2, .int x3, .int x4] σ (xlift emV K) := by
  refine x_entry (by decide) (by simp [lg_sl, x_catq, x_cati, x_catr, x_catn]) ?_
  intro p e s m args below meth c X hr hin
  have X : xX p s m args meth c G cJ17_inflate 5 RJ17 := X
  have hx := X.1
  have hb := X.2.1
  have hts := X.2.2.2.2.1
  have hown := X.2.2.2.1
  unfold P_J17_inflate at hp
  refine x_same (lo' := [(0, va_rf x0), (1, .int x1), (2, va_rf x2), (3, .int x3), (4, .int x4)]) (by simp [lv_args, x_catq, x_cati, x_catr, x_catn]) ?_
  refine x_up (pc' := 1) (fun _ _ _ _ _ L => lv_aloadq_n hx hb dJ17_inflate_0 rfl (lv_at L 0 rfl)) ?_
  refine x_up (pc' := 2) (fun _ _ _ _ _ L => lv_iload_n hx hb dJ17_inflate_1 rfl (lv_at L 1 rfl)) ?_
  refine x_up (pc' := 3) (fun _ _ _ _ _ L => lv_aloadq_n hx hb dJ17_inflate_2 rfl (lv_at L 2 rfl)) ?_
  refine x_up (pc' := 4) (fun _ _ _ _ _ L => lv_iload_n hx hb dJ17_inflate_3 rfl (lv_at L 3 rfl)) ?_
  refine x_up (pc' := 6) (fun _ _ _ _ _ L => lv_iload hx hb dJ17_inflate_4 (lv_at L 4 rfl)) ?_
  refine x_callS (em := emV) (fun r st => st) (fun _ _ => rfl) 5 X (fun σ' KK h => R_J15_inflate l hl G hG x0 x1 x2 x3 x4 σ' KK h) (lw_S q948 q949 q118 q950) mdJ15_inflate ⟨Nat.le_of_ble_eq_true rfl, Nat.le_of_ble_eq_true rfl⟩ rfl rfl (Nat.le_of_ble_eq_true rfl) dJ17_inflate_6 hp (fun _ σ1 hp1 => ?_)
  refine x_pc (pc' := 9) rfl ?_
  exact x_vret X hr dJ17_inflate_9 hp1
-- J12_inflate
def P_J12_inflate (κ : Nat → Nat) (a0 : Nat) (σ : xS) (K : Unit → xH → Prop) : Prop :=
  xrc σ a0 8 ∧ xcall (fun τ L => P_J12_isLatin1 κ a0 τ L) σ fun v1 σ2 => ((v1 = 0 → (K () σ2.1)) ∧ (¬ v1 = 0 → (xgq σ2 a0 8 0 fun v3 => xnn v3 fun b4 => xan σ2 b4 fun v5 => xcall (fun τ L => P_J15_newBytesFor κ v5 τ L) σ2 fun v6 σ7 => xgq σ7 a0 8 0 fun v8 => xgi σ7 a0 8 3 fun v9 => xcall (fun τ L => P_J17_inflate κ v8 (0 : Int32) v6 (0 : Int32) v9 τ L) σ7 fun _ σ10 => xpq κ σ10 a0 8 0 v6 fun σ11 => narrow .byte (.int (1 : Int32)) = .int (1 : Int32) ∧ fits .byte (.int (1 : Int32)) = true ∧ xpi κ σ11 a0 8 1 (1 : Int32) fun σ12 => K () σ12.1)))
theorem mdJ12_inflate : yJ12_inflate.cls ≠ "java/lang/invoke/MethodHandle" ∧ yJ12_inflate.cls ≠ "java/lang/invoke/VarHandle" ∧ (parseMethodDescriptor yJ12_inflate.desc).map (fun d => d.parameters.length) = some 0 := by decide +kernel
set_option maxHeartbeats 4000000 in
set_option maxRecDepth 100000 in
theorem R_J12_inflate (l : Launch) (hl : l.stackTraces = false) (G : xG) (hG : G.1.2 = x_cl) (a0 : Nat) (σ : xS) (K : Unit → xH → Prop) (hp : P_J12_inflate G.2 a0 σ K) : xM l yJ12_inflate cJ12_inflate 2 (Option.none : Option Jvm.ClassFile.FieldType) 5 116 G [(.ref a0)] σ (xlift emV K) := by
  refine x_entry (by decide) (Nat.le_of_ble_eq_true rfl) ?_
  intro p e s m args below meth c X hr hin
  have X : xX p s m args meth c G cJ12_inflate 2 RJ12 := X
  have hx := X.1
  have hb := X.2.1
  have hts := X.2.2.2.2.1
  have hown := X.2.2.2.1
  unfold P_J12_inflate at hp
  refine x_same (lo' := [(0, .ref a0)]) rfl ?_
  refine x_up (pc' := 1) (fun _ _ _ _ _ L => lv_aload_n hx hb dJ12_inflate_0 rfl (lv_at L 0 rfl)) ?_
  refine x_callO (x := ⟨"java/lang/AbstractStringBuilder", "isLatin1", "()Z"⟩) (owner := "java/lang/AbstractStringBuilder") (em := emI) (fun r st => .int r :: st) (fun _ _ => rfl) 0 X (kJ13 hG) (fun σ' KK h => R_J12_isLatin1 l hl G hG a0 σ' KK h) (hts _ q893) (hts _ q895) (x_dco X q894 q897) (hts _ q896) q894 q115 q897 (by decide +kernel) ⟨Nat.le_of_ble_eq_true rfl, Nat.le_of_ble_eq_true rfl⟩ rfl rfl (Nat.le_of_ble_eq_true rfl) dJ12_inflate_1 hp.1 hp.2 (fun v1 σ2 hp1 => ?_)
  refine x_pc (pc' := 4) rfl ?_
  refine x_ifn (C := v1 = 0) (pt := 8) (pc' := 7) (fun _ _ _ _ _ => lv_if_ne (tgt := 8) hx hb dJ12_inflate_4 (by decide)) (fun c4 => ?_) (fun c4 => ?_)
  · have hp2 := hp1.1 c4
    exact x_vret X hr dJ12_inflate_7 hp2
  · have hp3 := hp1.2 c4
    refine x_up (pc' := 9) (fun _ _ _ _ _ L => lv_aload_n hx hb dJ12_inflate_8 rfl (lv_at L 0 rfl)) ?_
    refine x_gq X (kJ13 hG) 0 (by decide) q573 (fun _ h => h) dJ12_inflate_9 hp3 (fun v3 hp4 => ?_)
    refine x_pc (pc' := 12) rfl ?_
    obtain ⟨b4, rfl, hp5⟩ := hp4
    refine x_alen X dJ12_inflate_12 hp5 (fun v5 hp6 => ?_)
    refine x_pc (pc' := 13) rfl ?_
    refine x_callS (em := emQ) (fun r st => va_rf r :: st) (fun _ _ => rfl) 1 X (fun σ' KK h => R_J15_newBytesFor l hl G hG v5 σ' KK h) (lw_S q566 q567 q118 q568) mdJ15_newBytesFor ⟨Nat.le_of_ble_eq_true rfl, Nat.le_of_ble_eq_true rfl⟩ rfl rfl (Nat.le_of_ble_eq_true rfl) dJ12_inflate_13 hp6 (fun v6 σ7 hp7 => ?_)
    refine x_pc (pc' := 16) rfl ?_
    refine x_upL (pc' := 17) (lo' := [(1, va_rf v6), (0, .ref a0)]) (fun _ _ _ _ _ L => lv_astoreq_n hx hb dJ12_inflate_16 rfl L (by decide) rfl) ?_
    refine x_up (pc' := 18) (fun _ _ _ _ _ L => lv_aload_n hx hb dJ12_inflate_17 rfl (lv_at L 1 rfl)) ?_
    refine x_gq X (kJ13 hG) 0 (by decide) q573 (fun _ h => h) dJ12_inflate_18 hp7 (fun v8 hp8 => ?_)
    refine x_pc (pc' := 21) rfl ?_
    refine x_up (pc' := 22) (fun _ _ _ _ _ L => lv_iconst (v := (0 : Int32)) hx hb dJ12_inflate_21 (by decide)) ?_
    refine x_up (pc' := 23) (fun _ _ _ _ _ L => lv_aloadq_n hx hb dJ12_inflate_22 rfl (lv_at L 0 rfl)) ?_
    refine x_up (pc' := 24) (fun _ _ _ _ _ L => lv_iconst (v := (0 : Int32)) hx hb dJ12_inflate_23 (by decide)) ?_
    refine x_up (pc' := 25) (fun _ _ _ _ _ L => lv_aload_n hx hb dJ12_inflate_24 rfl (lv_at L 1 rfl)) ?_
    refine x_gi X (kJ13 hG) 3 (by decide) q577 (fun _ h => h) dJ12_inflate_25 hp8 (fun v9 hp9 => ?_)
    refine x_pc (pc' := 28) rfl ?_
    refine x_callS (em := emV) (fun r st => st) (fun _ _ => rfl) 5 X (fun σ' KK h => R_J17_inflate l hl G hG v8 (0 : Int32) v6 (0 : Int32) v9 σ' KK h) (lw_S q945 q946 q122 q947) mdJ17_inflate ⟨Nat.le_of_ble_eq_true rfl, Nat.le_of_ble_eq_true rfl⟩ rfl rfl (Nat.le_of_ble_eq_true rfl) dJ12_inflate_28 hp9 (fun _ σ10 hp10 => ?_)
    refine x_pc (pc' := 31) rfl ?_
    refine x_up (pc' := 32) (fun _ _ _ _ _ L => lv_aload_n hx hb dJ12_inflate_31 rfl (lv_at L 1 rfl)) ?_
    refine x_up (pc' := 33) (fun _ _ _ _ _ L => lv_aloadq_n hx hb dJ12_inflate_32 rfl (lv_at L 0 rfl)) ?_
    refine x_pq X (kJ13 hG) 0 (by decide) q573 (fun _ h => h) rfl v6 (x_nar _ (by decide)) (x_fit _ (by decide)) dJ12_inflate_33 hp10 (fun σ11 hp11 => ?_)
    refine x_pc (pc' := 36) rfl ?_
    refine x_up (pc' := 37) (fun _ _ _ _ _ L => lv_aload_n hx hb dJ12_inflate_36 rfl (lv_at L 1 rfl)) ?_
    refine x_up (pc' := 38) (fun _ _ _ _ _ L => lv_iconst (v := (1 : Int32)) hx hb dJ12_inflate_37 (by decide)) ?_
    obtain ⟨hn38, hf38, hp12⟩ := hp11
    refine x_pi X (kJ13 hG) 1 (by decide) q574 (fun _ h => h) rfl hn38 hf38 dJ12_inflate_38 hp12 (fun σ12 hp13 => ?_)
    refine x_pc (pc' := 41) rfl ?_
    exact x_vret X hr dJ12_inflate_41 hp13
-- J17_canEncode
def P_J17_canEncode (κ : Nat → Nat) (x0 : Int32) (σ : xS) (K : Int32 → xH → Prop) : Prop :=
  (((255 : Int32) < x0 → (K (0 : Int32) σ.1)) ∧ (¬ (255 : Int32) < x0 → (K (1 : Int32) σ.1)))
theorem mdJ17_canEncode : yJ17_canEncode.cls ≠ "java/lang/invoke/MethodHandle" ∧ yJ17_canEncode.cls ≠ "java/lang/invoke/VarHandle" ∧ (parseMethodDescriptor yJ17_canEncode.desc).map (fun d => d.parameters.length) = some 1 := by decide +kernel
set_option maxHeartbeats 4000000 in
set_option maxRecDepth 100000 in
theorem R_J17_canEncode (l : Launch) (hl : l.stackTraces = false) (G : xG) (hG : G.1.2 = x_cl) (x0 : Int32) (σ : xS) (K : Int32 → xH → Prop) (hp : P_J17_canEncode G.2 x0 σ K) : xM l yJ17_canEncode cJ17_canEncode 1 (Option.some Jvm.ClassFile.FieldType.boolean) 0 0 G [.int x0] σ (xlift emI K) := by
  refine x_entry (by decide) (Nat.le_of_ble_eq_true rfl) ?_
  intro p e s m args below meth c X hr hin
  have X : xX p s m args meth c G cJ17_canEncode 1 RJ17 := X
  have hx := X.1
  have hb := X.2.1
  have hts := X.2.2.2.2.1
  have hown := X.2.2.2.1
  unfold P_J17_canEncode at hp
  refine x_same (lo' := [(0, .int x0)]) rfl ?_
  refine x_up (pc' := 1) (fun _ _ _ _ _ L => lv_iload_n hx hb dJ17_canEncode_0 rfl (lv_at L 0 rfl)) ?_
  refine x_up (pc' := 4) (fun _ _ _ _ _ L => lv_sipush (v := (255 : Int32)) hx hb dJ17_canEncode_1 (by decide)) ?_
  refine x_if (C := (255 : Int32) < x0) (pt := 11) (pc' := 7) (fun _ _ _ _ _ => lv_icmp_gt (tgt := 11) hx hb dJ17_canEncode_4 (by decide)) (fun c4 => ?_) (fun c4 => ?_)
  · have hp1 := hp.1 c4
    refine x_up (pc' := 12) (fun _ _ _ _ _ L => lv_iconst (v := (0 : Int32)) hx hb dJ17_canEncode_11 (by decide)) ?_
    exact x_iret X hr rfl dJ17_canEncode_12 hp1
  · have hp2 := hp.2 c4
    refine x_up (pc' := 8) (fun _ _ _ _ _ L => lv_iconst (v := (1 : Int32)) hx hb dJ17_canEncode_7 (by decide)) ?_
    refine x_up (pc' := 12) (fun _ _ _ _ _ L => lv_goto (tgt := 12) hx hb dJ17_canEncode_8 (by decide)) ?_
    exact x_iret X hr rfl dJ17_canEncode_12 hp2
-- J12_append_3
def P_J12_append_3 (κ : Nat → Nat) (a0 : Nat) (x1 : Int32) (σ : xS) (K : Option Nat → xH → Prop) : Prop :=
  xgi σ a0 8 3 fun v1 => xrc σ a0 8 ∧ xcall (fun τ L => P_J12_ensureCapacityInternal κ a0 (v1 + (1 : Int32)) τ L) σ fun _ σ2 => xrc σ2 a0 8 ∧ xcall (fun τ L => P_J12_isLatin1 κ a0 τ L) σ2 fun v3 σ4 => ((v3 = 0 → (xrc σ4 a0 8 ∧ xcall (fun τ L => P_J12_isLatin1 κ a0 τ L) σ4 fun v5 σ6 => ((v5 = 0 → (xgq σ6 a0 8 0 fun v7 => xgi σ6 a0 8 3 fun v8 => xpi κ σ6 a0 8 3 (v8 + (1 : Int32)) fun σ9 => xcall (fun τ L => P_J15_putCharSB κ v7 v8 x1 τ L) σ9 fun _ σ10 => K (some a0) σ10.1)) ∧ (¬ v5 = 0 → (xrc σ6 a0 8 ∧ xcall (fun τ L => P_J12_inflate κ a0 τ L) σ6 fun _ σ11 => xgq σ11 a0 8 0 fun v12 => xgi σ11 a0 8 3 fun v13 => xpi κ σ11 a0 8 3 (v13 + (1 : Int32)) fun σ14 => xcall (fun τ L => P_J15_putCharSB κ v12 v13 x1 τ L) σ14 fun _ σ15 => K (some a0) σ15.1))))) ∧ (¬ v3 = 0 → (xcall (fun τ L => P_J17_canEncode κ x1 τ L) σ4 fun v16 σ17 => ((v16 = 0 → (xrc σ17 a0 8 ∧ xcall (fun τ L => P_J12_isLatin1 κ a0 τ L) σ17 fun v18 σ19 => ((v18 = 0 → (xgq σ19 a0 8 0 fun v20 => xgi σ19 a0 8 3 fun v21 => xpi κ σ19 a0 8 3 (v21 + (1 : Int32)) fun σ22 => xcall (fun τ L => P_J15_putCharSB κ v20 v21 x1 τ L) σ22 fun _ σ23 => K (some a0) σ23.1)) ∧ (¬ v18 = 0 → (xrc σ19 a0 8 ∧ xcall (fun τ L => P_J12_inflate κ a0 τ L) σ19 fun _ σ24 => xgq σ24 a0 8 0 fun v25 => xgi σ24 a0 8 3 fun v26 => xpi κ σ24 a0 8 3 (v26 + (1 : Int32)) fun σ27 => xcall (fun τ L => P_J15_putCharSB κ v25 v26 x1 τ L) σ27 fun _ σ28 => K (some a0) σ28.1))))) ∧ (¬ v16 = 0 → (xgq σ17 a0 8 0 fun v29 => xgi σ17 a0 8 3 fun v30 => xpi κ σ17 a0 8 3 (v30 + (1 : Int32)) fun σ31 => xnn v29 fun b32 => xsi κ .byte σ31 b32 v30 x1.toInt8.toInt32 fun σ33 => K (some a0) σ33.1))))))
theorem mdJ12_append_3 : yJ12_append_3.cls ≠ "java/lang/invoke/MethodHandle" ∧ yJ12_append_3.cls ≠ "java/lang/invoke/VarHandle" ∧ (parseMethodDescriptor yJ12_append_3.desc).map (fun d => d.parameters.length) = some 1 := by decide +kernel
set_option maxHeartbeats 4000000 in
set_option maxRecDepth 100000 in
theorem R_J12_append_3 (l : Launch) (hl : l.stackTraces = false) (G : xG) (hG : G.1.2 = x_cl) (a0 : Nat) (x1 : Int32) (σ : xS) (K : Option Nat → xH → Prop) (hp : P_J12_append_3 G.2 a0 x1 σ K) : xM l yJ12_append_3 cJ12_append_3 2 (Option.some (Jvm.ClassFile.FieldType.object "java/lang/AbstractStringBuilder")) 6 137 G [(.ref a0), .int x1] σ (xlift emQ K) := by
  refine x_entry (by decide) (Nat.le_of_ble_eq_true rfl) ?_
  intro p e s m args below meth c X hr hin
  have X : xX p s m args meth c G cJ12_append_3 2 RJ12 := X
  have hx := X.1
  have hb := X.2.1
  have hts := X.2.2.2.2.1
  have hown := X.2.2.2.1
  unfold P_J12_append_3 at hp
  refine x_same (lo' := [(0, .ref a0), (1, .int x1)]) rfl ?_
  refine x_up (pc' := 1) (fun _ _ _ _ _ L => lv_aload_n hx hb dJ12_append_3_0 rfl (lv_at L 0 rfl)) ?_
  refine x_up (pc' := 2) (fun _ _ _ _ _ L => lv_aload_n hx hb dJ12_append_3_1 rfl (lv_at L 0 rfl)) ?_
  refine x_gi X (kJ13 hG) 3 (by decide) q577 (fun _ h => h) dJ12_append_3_2 hp (fun v1 hp1 => ?_)
  refine x_pc (pc' := 5) rfl ?_
  refine x_up (pc' := 6) (fun _ _ _ _ _ L => lv_iconst (v := (1 : Int32)) hx hb dJ12_append_3_5 (by decide)) ?_
  refine x_up (pc' := 7) (fun _ _ _ _ _ L => lv_iadd hx hb dJ12_append_3_6) ?_
  refine x_callO (x := ⟨"java/lang/AbstractStringBuilder", "ensureCapacityInternal", "(I)V"⟩) (owner := "java/lang/AbstractStringBuilder") (em := emV) (fun r st => st) (fun _ _ => rfl) 1 X (kJ13 hG) (fun σ' KK h => R_J12_ensureCapacityInternal l hl G hG a0 (v1 + (1 : Int32)) σ' KK h) (hts _ q873) (hts _ q3678) (x_dco X q875 q876) (x_selP X (kJ13 hG) (by decide) (by simp [x_dw]) q875 q3678) q875 q115 q876 (by decide +kernel) ⟨Nat.le_of_ble_eq_true rfl, Nat.le_of_ble_eq_true rfl⟩ rfl rfl (Nat.le_of_ble_eq_true rfl) dJ12_append_3_7 hp1.1 hp1.2 (fun _ σ2 hp2 => ?_)
  refine x_pc (pc' := 10) rfl ?_
  refine x_up (pc' := 11) (fun _ _ _ _ _ L => lv_aload_n hx hb dJ12_append_3_10 rfl (lv_at L 0 rfl)) ?_
  refine x_callO (x := ⟨"java/lang/AbstractStringBuilder", "isLatin1", "()Z"⟩) (owner := "java/lang/AbstractStringBuilder") (em := emI) (fun r st => .int r :: st) (fun _ _ => rfl) 0 X (kJ13 hG) (fun σ' KK h => R_J12_isLatin1 l hl G hG a0 σ' KK h) (hts _ q893) (hts _ q895) (x_dco X q894 q897) (hts _ q896) q894 q115 q897 (by decide +kernel) ⟨Nat.le_of_ble_eq_true rfl, Nat.le_of_ble_eq_true rfl⟩ rfl rfl (Nat.le_of_ble_eq_true rfl) dJ12_append_3_11 hp2.1 hp2.2 (fun v3 σ4 hp3 => ?_)
  refine x_pc (pc' := 14) rfl ?_
  refine x_if (C := v3 = 0) (pt := 45) (pc' := 17) (fun _ _ _ _ _ => lv_if_eq (tgt := 45) hx hb dJ12_append_3_14 (by decide)) (fun c14 => ?_) (fun c14 => ?_)
  · have hp4 := hp3.1 c14
    refine x_up (pc' := 46) (fun _ _ _ _ _ L => lv_aload_n hx hb dJ12_append_3_45 rfl (lv_at L 0 rfl)) ?_
    refine x_callO (x := ⟨"java/lang/AbstractStringBuilder", "isLatin1", "()Z"⟩) (owner := "java/lang/AbstractStringBuilder") (em := emI) (fun r st => .int r :: st) (fun _ _ => rfl) 0 X (kJ13 hG) (fun σ' KK h => R_J12_isLatin1 l hl G hG a0 σ' KK h) (hts _ q893) (hts _ q895) (x_dco X q894 q897) (hts _ q896) q894 q115 q897 (by decide +kernel) ⟨Nat.le_of_ble_eq_true rfl, Nat.le_of_ble_eq_true rfl⟩ rfl rfl (Nat.le_of_ble_eq_true rfl) dJ12_append_3_46 hp4.1 hp4.2 (fun v5 σ6 hp5 => ?_)
    refine x_pc (pc' := 49) rfl ?_
    refine x_if (C := v5 = 0) (pt := 56) (pc' := 52) (fun _ _ _ _ _ => lv_if_eq (tgt := 56) hx hb dJ12_append_3_49 (by decide)) (fun c49 => ?_) (fun c49 => ?_)
    · have hp6 := hp5.1 c49
      refine x_up (pc' := 57) (fun _ _ _ _ _ L => lv_aload_n hx hb dJ12_append_3_56 rfl (lv_at L 0 rfl)) ?_
      refine x_gq X (kJ13 hG) 0 (by decide) q573 (fun _ h => h) dJ12_append_3_57 hp6 (fun v7 hp7 => ?_)
      refine x_pc (pc' := 60) rfl ?_
      refine x_up (pc' := 61) (fun _ _ _ _ _ L => lv_aload_n hx hb dJ12_append_3_60 rfl (lv_at L 0 rfl)) ?_
      refine x_up (pc' := 62) (fun _ _ _ _ _ L => lv_dup hx hb dJ12_append_3_61 rfl) ?_
      refine x_gi X (kJ13 hG) 3 (by decide) q577 (fun _ h => h) dJ12_append_3_62 hp7 (fun v8 hp8 => ?_)
      refine x_pc (pc' := 65) rfl ?_
      refine x_up (pc' := 66) (fun _ _ _ _ _ L => lv_dup_x1 hx hb dJ12_append_3_65 rfl rfl) ?_
      refine x_up (pc' := 67) (fun _ _ _ _ _ L => lv_iconst (v := (1 : Int32)) hx hb dJ12_append_3_66 (by decide)) ?_
      refine x_up (pc' := 68) (fun _ _ _ _ _ L => lv_iadd hx hb dJ12_append_3_67) ?_
      refine x_pi X (kJ13 hG) 3 (by decide) q577 (fun _ h => h) rfl rfl rfl dJ12_append_3_68 hp8 (fun σ9 hp9 => ?_)
      refine x_pc (pc' := 71) rfl ?_
      refine x_up (pc' := 72) (fun _ _ _ _ _ L => lv_iload_n hx hb dJ12_append_3_71 rfl (lv_at L 1 rfl)) ?_
      refine x_callS (em := emV) (fun r st => st) (fun _ _ => rfl) 3 X (fun σ' KK h => R_J15_putCharSB l hl G hG v7 v8 x1 σ' KK h) (lw_S q2878 q2879 q118 q2880) mdJ15_putCharSB ⟨Nat.le_of_ble_eq_true rfl, Nat.le_of_ble_eq_true rfl⟩ rfl rfl (Nat.le_of_ble_eq_true rfl) dJ12_append_3_72 hp9 (fun _ σ10 hp10 => ?_)
      refine x_pc (pc' := 75) rfl ?_
      refine x_up (pc' := 76) (fun _ _ _ _ _ L => lv_aload_n hx hb dJ12_append_3_75 rfl (lv_at L 0 rfl)) ?_
      exact x_aret X hr (Or.inl ⟨_, rfl⟩) dJ12_append_3_76 (some a0) hp10
    · have hp11 := hp5.2 c49
      refine x_up (pc' := 53) (fun _ _ _ _ _ L => lv_aload_n hx hb dJ12_append_3_52 rfl (lv_at L 0 rfl)) ?_
      refine x_callO (x := ⟨"java/lang/AbstractStringBuilder", "inflate", "()V"⟩) (owner := "java/lang/AbstractStringBuilder") (em := emV) (fun r st => st) (fun _ _ => rfl) 0 X (kJ13 hG) (fun σ' KK h => R_J12_inflate l hl G hG a0 σ' KK h) (hts _ q941) (hts _ q3682) (x_dco X q943 q944) (x_selP X (kJ13 hG) (by decide) (by simp [x_dw]) q943 q3682) q943 q115 q944 (by decide +kernel) ⟨Nat.le_of_ble_eq_true rfl, Nat.le_of_ble_eq_true rfl⟩ rfl rfl (Nat.le_of_ble_eq_true rfl) dJ12_append_3_53 hp11.1 hp11.2 (fun _ σ11 hp12 => ?_)
      refine x_pc (pc' := 56) rfl ?_
      refine x_up (pc' := 57) (fun _ _ _ _ _ L => lv_aload_n hx hb dJ12_append_3_56 rfl (lv_at L 0 rfl)) ?_
      refine x_gq X (kJ13 hG) 0 (by decide) q573 (fun _ h => h) dJ12_append_3_57 hp12 (fun v12 hp13 => ?_)
      refine x_pc (pc' := 60) rfl ?_
      refine x_up (pc' := 61) (fun _ _ _ _ _ L => lv_aload_n hx hb dJ12_append_3_60 rfl (lv_at L 0 rfl)) ?_
      refine x_up (pc' := 62) (fun _ _ _ _ _ L => lv_dup hx hb dJ12_append_3_61 rfl) ?_
      refine x_gi X (kJ13 hG) 3 (by decide) q577 (fun _ h => h) dJ12_append_3_62 hp13 (fun v13 hp14 => ?_)
      refine x_pc (pc' := 65) rfl ?_
      refine x_up (pc' := 66) (fun _ _ _ _ _ L => lv_dup_x1 hx hb dJ12_append_3_65 rfl rfl) ?_
      refine x_up (pc' := 67) (fun _ _ _ _ _ L => lv_iconst (v := (1 : Int32)) hx hb dJ12_append_3_66 (by decide)) ?_
      refine x_up (pc' := 68) (fun _ _ _ _ _ L => lv_iadd hx hb dJ12_append_3_67) ?_
      refine x_pi X (kJ13 hG) 3 (by decide) q577 (fun _ h => h) rfl rfl rfl dJ12_append_3_68 hp14 (fun σ14 hp15 => ?_)
      refine x_pc (pc' := 71) rfl ?_
      refine x_up (pc' := 72) (fun _ _ _ _ _ L => lv_iload_n hx hb dJ12_append_3_71 rfl (lv_at L 1 rfl)) ?_
      refine x_callS (em := emV) (fun r st => st) (fun _ _ => rfl) 3 X (fun σ' KK h => R_J15_putCharSB l hl G hG v12 v13 x1 σ' KK h) (lw_S q2878 q2879 q118 q2880) mdJ15_putCharSB ⟨Nat.le_of_ble_eq_true rfl, Nat.le_of_ble_eq_true rfl⟩ rfl rfl (Nat.le_of_ble_eq_true rfl) dJ12_append_3_72 hp15 (fun _ σ15 hp16 => ?_)
      refine x_pc (pc' := 75) rfl ?_
      refine x_up (pc' := 76) (fun _ _ _ _ _ L => lv_aload_n hx hb dJ12_append_3_75 rfl (lv_at L 0 rfl)) ?_
      exact x_aret X hr (Or.inl ⟨_, rfl⟩) dJ12_append_3_76 (some a0) hp16
  · have hp17 := hp3.2 c14
    refine x_up (pc' := 18) (fun _ _ _ _ _ L => lv_iload_n hx hb dJ12_append_3_17 rfl (lv_at L 1 rfl)) ?_
    refine x_callS (em := emI) (fun r st => .int r :: st) (fun _ _ => rfl) 1 X (fun σ' KK h => R_J17_canEncode l hl G hG x1 σ' KK h) (lw_S q2875 q2876 q122 q2877) mdJ17_canEncode ⟨Nat.le_of_ble_eq_true rfl, Nat.le_of_ble_eq_true rfl⟩ rfl rfl (Nat.le_of_ble_eq_true rfl) dJ12_append_3_18 hp17 (fun v16 σ17 hp18 => ?_)
    refine x_pc (pc' := 21) rfl ?_
    refine x_if (C := v16 = 0) (pt := 45) (pc' := 24) (fun _ _ _ _ _ => lv_if_eq (tgt := 45) hx hb dJ12_append_3_21 (by decide)) (fun c21 => ?_) (fun c21 => ?_)
    · have hp19 := hp18.1 c21
      refine x_up (pc' := 46) (fun _ _ _ _ _ L => lv_aload_n hx hb dJ12_append_3_45 rfl (lv_at L 0 rfl)) ?_
      refine x_callO (x := ⟨"java/lang/AbstractStringBuilder", "isLatin1", "()Z"⟩) (owner := "java/lang/AbstractStringBuilder") (em := emI) (fun r st => .int r :: st) (fun _ _ => rfl) 0 X (kJ13 hG) (fun σ' KK h => R_J12_isLatin1 l hl G hG a0 σ' KK h) (hts _ q893) (hts _ q895) (x_dco X q894 q897) (hts _ q896) q894 q115 q897 (by decide +kernel) ⟨Nat.le_of_ble_eq_true rfl, Nat.le_of_ble_eq_true rfl⟩ rfl rfl (Nat.le_of_ble_eq_true rfl) dJ12_append_3_46 hp19.1 hp19.2 (fun v18 σ19 hp20 => ?_)
      refine x_pc (pc' := 49) rfl ?_
      refine x_if (C := v18 = 0) (pt := 56) (pc' := 52) (fun _ _ _ _ _ => lv_if_eq (tgt := 56) hx hb dJ12_append_3_49 (by decide)) (fun c49 => ?_) (fun c49 => ?_)
      · have hp21 := hp20.1 c49
        refine x_up (pc' := 57) (fun _ _ _ _ _ L => lv_aload_n hx hb dJ12_append_3_56 rfl (lv_at L 0 rfl)) ?_
        refine x_gq X (kJ13 hG) 0 (by decide) q573 (fun _ h => h) dJ12_append_3_57 hp21 (fun v20 hp22 => ?_)
        refine x_pc (pc' := 60) rfl ?_
        refine x_up (pc' := 61) (fun _ _ _ _ _ L => lv_aload_n hx hb dJ12_append_3_60 rfl (lv_at L 0 rfl)) ?_
        refine x_up (pc' := 62) (fun _ _ _ _ _ L => lv_dup hx hb dJ12_append_3_61 rfl) ?_
        refine x_gi X (kJ13 hG) 3 (by decide) q577 (fun _ h => h) dJ12_append_3_62 hp22 (fun v21 hp23 => ?_)
        refine x_pc (pc' := 65) rfl ?_
        refine x_up (pc' := 66) (fun _ _ _ _ _ L => lv_dup_x1 hx hb dJ12_append_3_65 rfl rfl) ?_
        refine x_up (pc' := 67) (fun _ _ _ _ _ L => lv_iconst (v := (1 : Int32)) hx hb dJ12_append_3_66 (by decide)) ?_
        refine x_up (pc' := 68) (fun _ _ _ _ _ L => lv_iadd hx hb dJ12_append_3_67) ?_
        refine x_pi X (kJ13 hG) 3 (by decide) q577 (fun _ h => h) rfl rfl rfl dJ12_append_3_68 hp23 (fun σ22 hp24 => ?_)
        refine x_pc (pc' := 71) rfl ?_
        refine x_up (pc' := 72) (fun _ _ _ _ _ L => lv_iload_n hx hb dJ12_append_3_71 rfl (lv_at L 1 rfl)) ?_
        refine x_callS (em := emV) (fun r st => st) (fun _ _ => rfl) 3 X (fun σ' KK h => R_J15_putCharSB l hl G hG v20 v21 x1 σ' KK h) (lw_S q2878 q2879 q118 q2880) mdJ15_putCharSB ⟨Nat.le_of_ble_eq_true rfl, Nat.le_of_ble_eq_true rfl⟩ rfl rfl (Nat.le_of_ble_eq_true rfl) dJ12_append_3_72 hp24 (fun _ σ23 hp25 => ?_)
        refine x_pc (pc' := 75) rfl ?_
        refine x_up (pc' := 76) (fun _ _ _ _ _ L => lv_aload_n hx hb dJ12_append_3_75 rfl (lv_at L 0 rfl)) ?_
        exact x_aret X hr (Or.inl ⟨_, rfl⟩) dJ12_append_3_76 (some a0) hp25
      · have hp26 := hp20.2 c49
        refine x_up (pc' := 53) (fun _ _ _ _ _ L => lv_aload_n hx hb dJ12_append_3_52 rfl (lv_at L 0 rfl)) ?_
        refine x_callO (x := ⟨"java/lang/AbstractStringBuilder", "inflate", "()V"⟩) (owner := "java/lang/AbstractStringBuilder") (em := emV) (fun r st => st) (fun _ _ => rfl) 0 X (kJ13 hG) (fun σ' KK h => R_J12_inflate l hl G hG a0 σ' KK h) (hts _ q941) (hts _ q3682) (x_dco X q943 q944) (x_selP X (kJ13 hG) (by decide) (by simp [x_dw]) q943 q3682) q943 q115 q944 (by decide +kernel) ⟨Nat.le_of_ble_eq_true rfl, Nat.le_of_ble_eq_true rfl⟩ rfl rfl (Nat.le_of_ble_eq_true rfl) dJ12_append_3_53 hp26.1 hp26.2 (fun _ σ24 hp27 => ?_)
        refine x_pc (pc' := 56) rfl ?_
        refine x_up (pc' := 57) (fun _ _ _ _ _ L => lv_aload_n hx hb dJ12_append_3_56 rfl (lv_at L 0 rfl)) ?_
        refine x_gq X (kJ13 hG) 0 (by decide) q573 (fun _ h => h) dJ12_append_3_57 hp27 (fun v25 hp28 => ?_)
        refine x_pc (pc' := 60) rfl ?_
        refine x_up (pc' := 61) (fun _ _ _ _ _ L => lv_aload_n hx hb dJ12_append_3_60 rfl (lv_at L 0 rfl)) ?_
        refine x_up (pc' := 62) (fun _ _ _ _ _ L => lv_dup hx hb dJ12_append_3_61 rfl) ?_
        refine x_gi X (kJ13 hG) 3 (by decide) q577 (fun _ h => h) dJ12_append_3_62 hp28 (fun v26 hp29 => ?_)
        refine x_pc (pc' := 65) rfl ?_
        refine x_up (pc' := 66) (fun _ _ _ _ _ L => lv_dup_x1 hx hb dJ12_append_3_65 rfl rfl) ?_
        refine x_up (pc' := 67) (fun _ _ _ _ _ L => lv_iconst (v := (1 : Int32)) hx hb dJ12_append_3_66 (by decide)) ?_
        refine x_up (pc' := 68) (fun _ _ _ _ _ L => lv_iadd hx hb dJ12_append_3_67) ?_
        refine x_pi X (kJ13 hG) 3 (by decide) q577 (fun _ h => h) rfl rfl rfl dJ12_append_3_68 hp29 (fun σ27 hp30 => ?_)
        refine x_pc (pc' := 71) rfl ?_
        refine x_up (pc' := 72) (fun _ _ _ _ _ L => lv_iload_n hx hb dJ12_append_3_71 rfl (lv_at L 1 rfl)) ?_
        refine x_callS (em := emV) (fun r st => st) (fun _ _ => rfl) 3 X (fun σ' KK h => R_J15_putCharSB l hl G hG v25 v26 x1 σ' KK h) (lw_S q2878 q2879 q118 q2880) mdJ15_putCharSB ⟨Nat.le_of_ble_eq_true rfl, Nat.le_of_ble_eq_true rfl⟩ rfl rfl (Nat.le_of_ble_eq_true rfl) dJ12_append_3_72 hp30 (fun _ σ28 hp31 => ?_)
        refine x_pc (pc' := 75) rfl ?_
        refine x_up (pc' := 76) (fun _ _ _ _ _ L => lv_aload_n hx hb dJ12_append_3_75 rfl (lv_at L 0 rfl)) ?_
        exact x_aret X hr (Or.inl ⟨_, rfl⟩) dJ12_append_3_76 (some a0) hp31
    · have hp32 := hp18.2 c21
      refine x_up (pc' := 25) (fun _ _ _ _ _ L => lv_aload_n hx hb dJ12_append_3_24 rfl (lv_at L 0 rfl)) ?_
      refine x_gq X (kJ13 hG) 0 (by decide) q573 (fun _ h => h) dJ12_append_3_25 hp32 (fun v29 hp33 => ?_)
      refine x_pc (pc' := 28) rfl ?_
      refine x_up (pc' := 29) (fun _ _ _ _ _ L => lv_aload_n hx hb dJ12_append_3_28 rfl (lv_at L 0 rfl)) ?_
      refine x_up (pc' := 30) (fun _ _ _ _ _ L => lv_dup hx hb dJ12_append_3_29 rfl) ?_
      refine x_gi X (kJ13 hG) 3 (by decide) q577 (fun _ h => h) dJ12_append_3_30 hp33 (fun v30 hp34 => ?_)
      refine x_pc (pc' := 33) rfl ?_
      refine x_up (pc' := 34) (fun _ _ _ _ _ L => lv_dup_x1 hx hb dJ12_append_3_33 rfl rfl) ?_
      refine x_up (pc' := 35) (fun _ _ _ _ _ L => lv_iconst (v := (1 : Int32)) hx hb dJ12_append_3_34 (by decide)) ?_
      refine x_up (pc' := 36) (fun _ _ _ _ _ L => lv_iadd hx hb dJ12_append_3_35) ?_
      refine x_pi X (kJ13 hG) 3 (by decide) q577 (fun _ h => h) rfl rfl rfl dJ12_append_3_36 hp34 (fun σ31 hp35 => ?_)
      refine x_pc (pc' := 39) rfl ?_
      refine x_up (pc' := 40) (fun _ _ _ _ _ L => lv_iload_n hx hb dJ12_append_3_39 rfl (lv_at L 1 rfl)) ?_
      refine x_up (pc' := 41) (fun _ _ _ _ _ L => lv_i2b hx hb dJ12_append_3_40 rfl) ?_
      obtain ⟨b32, rfl, hp36⟩ := hp35
      refine x_bast X dJ12_append_3_41 hp36 (fun σ33 hp37 => ?_)
      refine x_pc (pc' := 42) rfl ?_
      refine x_up (pc' := 75) (fun _ _ _ _ _ L => lv_goto (tgt := 75) hx hb dJ12_append_3_42 (by decide)) ?_
      refine x_up (pc' := 76) (fun _ _ _ _ _ L => lv_aload_n hx hb dJ12_append_3_75 rfl (lv_at L 0 rfl)) ?_
      exact x_aret X hr (Or.inl ⟨_, rfl⟩) dJ12_append_3_76 (some a0) hp37
-- J13_append_3
def P_J13_append_3 (κ : Nat → Nat) (a0 : Nat) (x1 : Int32) (σ : xS) (K : Option Nat → xH → Prop) : Prop :=
  xrc σ a0 8 ∧ xcall (fun τ L => P_J12_append_3 κ a0 x1 τ L) σ fun v1 σ2 => K (some a0) σ2.1
theorem mdJ13_append_3 : yJ13_append_3.cls ≠ "java/lang/invoke/MethodHandle" ∧ yJ13_append_3.cls ≠ "java/lang/invoke/VarHandle" ∧ (parseMethodDescriptor yJ13_append_3.desc).map (fun d => d.parameters.length) = some 1 := by decide +kernel
set_option maxHeartbeats 4000000 in
set_option maxRecDepth 100000 in
theorem R_J13_append_3 (l : Launch) (hl : l.stackTraces = false) (G : xG) (hG : G.1.2 = x_cl) (a0 : Nat) (x1 : Int32) (σ : xS) (K : Option Nat → xH → Prop) (hp : P_J13_append_3 G.2 a0 x1 σ K) : xM l yJ13_append_3 cJ13_append_3 2 (Option.some (Jvm.ClassFile.FieldType.object "java/lang/StringBuilder")) 7 158 G [(.ref a0), .int x1] σ (xlift emQ K) := by
  refine x_entry (by decide) (Nat.le_of_ble_eq_true rfl) ?_
  intro p e s m args below meth c X hr hin
  have X : xX p s m args meth c G cJ13_append_3 2 RJ13 := X
  have hx := X.1
  have hb := X.2.1
  have hts := X.2.2.2.2.1
  have hown := X.2.2.2.1
  unfold P_J13_append_3 at hp
  refine x_same (lo' := [(0, .ref a0), (1, .int x1)]) rfl ?_
  refine x_up (pc' := 1) (fun _ _ _ _ _ L => lv_aload_n hx hb dJ13_append_3_0 rfl (lv_at L 0 rfl)) ?_
  refine x_up (pc' := 2) (fun _ _ _ _ _ L => lv_iload_n hx hb dJ13_append_3_1 rfl (lv_at L 1 rfl)) ?_
  refine x_callSU (em := emQ) (fun r st => va_rf r :: st) (fun _ _ => rfl) 1 X (kJ13 hG) (fun σ' KK h => R_J12_append_3 l hl G hG a0 x1 σ' KK h) q2872 q3703 q586 q2873 q115 q2874 (by decide +kernel) ⟨Nat.le_of_ble_eq_true rfl, Nat.le_of_ble_eq_true rfl⟩ rfl rfl (Nat.le_of_ble_eq_true rfl) dJ13_append_3_2 hp.1 hp.2 (fun v1 σ2 hp1 => ?_)
  refine x_pc (pc' := 5) rfl ?_
  refine x_up (pc' := 6) (fun _ _ _ _ _ L => lv_pop hx hb dJ13_append_3_5 (x_catq _)) ?_
  refine x_up (pc' := 7) (fun _ _ _ _ _ L => lv_aload_n hx hb dJ13_append_3_6 rfl (lv_at L 0 rfl)) ?_
  exact x_aret X hr (Or.inl ⟨_, rfl⟩) dJ13_append_3_7 (some a0) hp1
-- X1_feed
def P_X1_feed (κ : Nat → Nat) (a0 : Nat) (x1 : Int32) (σ : xS) (K : Int32 → xH → Prop) (KX : Nat → xH → Prop) : Prop :=
  xgq σ a0 0 3 fun v1 => xnn v1 fun b2 => xrc σ b2 8 ∧ xcall (fun τ L => P_J13_length κ b2 τ L) σ fun v3 σ4 => (((60 : Int32) ≤ v3 → (xcallX (fun τ L LX => P_X1_requireState κ (0 : Int32) τ L LX) σ4 (fun _ σ5 => xgq σ5 a0 0 3 fun v8 => xnn v8 fun b9 => xrc σ5 b9 8 ∧ xcall (fun τ L => P_J13_append_3 κ b9 x1 τ L) σ5 fun v10 σ11 => xgq σ11 a0 0 3 fun v12 => xnn v12 fun b13 => xrc σ11 b13 8 ∧ xcall (fun τ L => P_J13_length κ b13 τ L) σ11 fun v14 σ15 => K v14 σ15.1) (fun q6 σ7 => κ 0 ≤ q6 ∧ ((xrc σ7 q6 32 ∧ (KX q6 σ7.1)))))) ∧ (¬ (60 : Int32) ≤ v3 → (xcallX (fun τ L LX => P_X1_requireState κ (1 : Int32) τ L LX) σ4 (fun _ σ16 => xgq σ16 a0 0 3 fun v19 => xnn v19 fun b20 => xrc σ16 b20 8 ∧ xcall (fun τ L => P_J13_append_3 κ b20 x1 τ L) σ16 fun v21 σ22 => xgq σ22 a0 0 3 fun v23 => xnn v23 fun b24 => xrc σ22 b24 8 ∧ xcall (fun τ L => P_J13_length κ b24 τ L) σ22 fun v25 σ26 => K v25 σ26.1) (fun q17 σ18 => κ 0 ≤ q17 ∧ ((xrc σ18 q17 32 ∧ (KX q17 σ18.1)))))))
theorem mdX1_feed : yX1_feed.cls ≠ "java/lang/invoke/MethodHandle" ∧ yX1_feed.cls ≠ "java/lang/invoke/VarHandle" ∧ (parseMethodDescriptor yX1_feed.desc).map (fun d => d.parameters.length) = some 1 := by decide +kernel
set_option maxHeartbeats 4000000 in
set_option maxRecDepth 100000 in
theorem R_X1_feed (l : Launch) (hl : l.stackTraces = false) (G : xG) (hG : G.1.2 = x_cl) (a0 : Nat) (x1 : Int32) (σ : xS) (K : Int32 → xH → Prop) (KX : Nat → xH → Prop) (hp : P_X1_feed G.2 a0 x1 σ K KX) : xMX l yX1_feed cX1_feed 2 (Option.some Jvm.ClassFile.FieldType.int) 8 179 G [(.ref a0), .int x1] σ (xlift emI K) KX := by
  refine x_entryX (by decide) (Nat.le_of_ble_eq_true rfl) ?_
  intro p e s m args below meth c X hr hin hno
  have X : xX p s m args meth c G cX1_feed 2 RX1 := X
  have hx := X.1
  have hb := X.2.1
  have hts := X.2.2.2.2.1
  have hown := X.2.2.2.1
  have hout : ∀ pc, ∀ x ∈ c.exceptionTable.toList, covers x pc = false := fun _ x hx => (hno x hx).elim
  unfold P_X1_feed at hp
  refine x_same (lo' := [(0, .ref a0), (1, .int x1)]) rfl ?_
  refine x_up (pc' := 1) (fun _ _ _ _ _ L => lv_aload_n hx hb dX1_feed_0 rfl (lv_at L 0 rfl)) ?_
  refine x_gq X (kX1 hG) 3 (by decide) q592 (fun _ h => h) dX1_feed_1 hp (fun v1 hp1 => ?_)
  refine x_pc (pc' := 4) rfl ?_
  obtain ⟨b2, rfl, hp2⟩ := hp1
  refine x_callV (em := emI) (fun r st => .int r :: st) (fun _ _ => rfl) 0 X (kJ13 hG) (fun σ' KK h => R_J13_length l hl G hG b2 σ' KK h) (lw_V q2859 q1014 q3702 q116 q1015) ⟨rfl, mdJ13_length⟩ ⟨Nat.le_of_ble_eq_true rfl, Nat.le_of_ble_eq_true rfl⟩ rfl rfl (Nat.le_of_ble_eq_true rfl) dX1_feed_4 hp2.1 hp2.2 (fun v3 σ4 hp3 => ?_)
  refine x_pc (pc' := 7) rfl ?_
  refine x_up (pc' := 9) (fun _ _ _ _ _ L => lv_bipush (v := (60 : Int32)) hx hb dX1_feed_7 (by decide)) ?_
  refine x_if (C := (60 : Int32) ≤ v3) (pt := 16) (pc' := 12) (fun _ _ _ _ _ => lv_icmp_ge (tgt := 16) hx hb dX1_feed_9 (by decide)) (fun c9 => ?_) (fun c9 => ?_)
  · have hp4 := hp3.1 c9
    refine x_up (pc' := 17) (fun _ _ _ _ _ L => lv_iconst (v := (0 : Int32)) hx hb dX1_feed_16 (by decide)) ?_
    refine x_callSX (em := emV) (fun r st => st) (fun _ _ => rfl) 1 X (fun σ' KK KX h => R_X1_requireState l hl G hG (0 : Int32) σ' KK KX h) (lw_S q2860 q2861 q99 q2862) mdX1_requireState ⟨Nat.le_of_ble_eq_true rfl, Nat.le_of_ble_eq_true rfl⟩ rfl rfl (Nat.le_of_ble_eq_true rfl) dX1_feed_17 hp4 (fun _ σ5 hpA17 => ?_) (fun q6 σ7 hpB17 => ?_)
    · have hp5 := hpA17
      refine x_pc (pc' := 20) rfl ?_
      refine x_up (pc' := 21) (fun _ _ _ _ _ L => lv_aload_n hx hb dX1_feed_20 rfl (lv_at L 0 rfl)) ?_
      refine x_gq X (kX1 hG) 3 (by decide) q592 (fun _ h => h) dX1_feed_21 hp5 (fun v8 hp6 => ?_)
      refine x_pc (pc' := 24) rfl ?_
      refine x_up (pc' := 25) (fun _ _ _ _ _ L => lv_iload_n hx hb dX1_feed_24 rfl (lv_at L 1 rfl)) ?_
      obtain ⟨b9, rfl, hp7⟩ := hp6
      refine x_callV (em := emQ) (fun r st => va_rf r :: st) (fun _ _ => rfl) 1 X (kJ13 hG) (fun σ' KK h => R_J13_append_3 l hl G hG b9 x1 σ' KK h) (lw_V q2868 q2869 q2870 q116 q2871) ⟨rfl, mdJ13_append_3⟩ ⟨Nat.le_of_ble_eq_true rfl, Nat.le_of_ble_eq_true rfl⟩ rfl rfl (Nat.le_of_ble_eq_true rfl) dX1_feed_25 hp7.1 hp7.2 (fun v10 σ11 hp8 => ?_)
      refine x_pc (pc' := 28) rfl ?_
      refine x_up (pc' := 29) (fun _ _ _ _ _ L => lv_pop hx hb dX1_feed_28 (x_catq _)) ?_
      refine x_up (pc' := 30) (fun _ _ _ _ _ L => lv_aload_n hx hb dX1_feed_29 rfl (lv_at L 0 rfl)) ?_
      refine x_gq X (kX1 hG) 3 (by decide) q592 (fun _ h => h) dX1_feed_30 hp8 (fun v12 hp9 => ?_)
      refine x_pc (pc' := 33) rfl ?_
      obtain ⟨b13, rfl, hp10⟩ := hp9
      refine x_callV (em := emI) (fun r st => .int r :: st) (fun _ _ => rfl) 0 X (kJ13 hG) (fun σ' KK h => R_J13_length l hl G hG b13 σ' KK h) (lw_V q2859 q1014 q3702 q116 q1015) ⟨rfl, mdJ13_length⟩ ⟨Nat.le_of_ble_eq_true rfl, Nat.le_of_ble_eq_true rfl⟩ rfl rfl (Nat.le_of_ble_eq_true rfl) dX1_feed_33 hp10.1 hp10.2 (fun v14 σ15 hp11 => ?_)
      refine x_pc (pc' := 36) rfl ?_
      refine x_vx ?_; exact x_iret X hr rfl dX1_feed_36 hp11
    · have hp12 := hpB17
      obtain ⟨hq17, hp13⟩ := hp12
      obtain ⟨hr17, hp14⟩ := hp13
      exact x_out X (kJ43 hG) (hout 17) hr17 hq17 hp14
  · have hp15 := hp3.2 c9
    refine x_up (pc' := 13) (fun _ _ _ _ _ L => lv_iconst (v := (1 : Int32)) hx hb dX1_feed_12 (by decide)) ?_
    refine x_up (pc' := 17) (fun _ _ _ _ _ L => lv_goto (tgt := 17) hx hb dX1_feed_13 (by decide)) ?_
    refine x_callSX (em := emV) (fun r st => st) (fun _ _ => rfl) 1 X (fun σ' KK KX h => R_X1_requireState l hl G hG (1 : Int32) σ' KK KX h) (lw_S q2860 q2861 q99 q2862) mdX1_requireState ⟨Nat.le_of_ble_eq_true rfl, Nat.le_of_ble_eq_true rfl⟩ rfl rfl (Nat.le_of_ble_eq_true rfl) dX1_feed_17 hp15 (fun _ σ16 hpA17 => ?_) (fun q17 σ18 hpB17 => ?_)
    · have hp16 := hpA17
      refine x_pc (pc' := 20) rfl ?_
      refine x_up (pc' := 21) (fun _ _ _ _ _ L => lv_aload_n hx hb dX1_feed_20 rfl (lv_at L 0 rfl)) ?_
      refine x_gq X (kX1 hG) 3 (by decide) q592 (fun _ h => h) dX1_feed_21 hp16 (fun v19 hp17 => ?_)
      refine x_pc (pc' := 24) rfl ?_
      refine x_up (pc' := 25) (fun _ _ _ _ _ L => lv_iload_n hx hb dX1_feed_24 rfl (lv_at L 1 rfl)) ?_
      obtain ⟨b20, rfl, hp18⟩ := hp17
      refine x_callV (em := emQ) (fun r st => va_rf r :: st) (fun _ _ => rfl) 1 X (kJ13 hG) (fun σ' KK h => R_J13_append_3 l hl G hG b20 x1 σ' KK h) (lw_V q2868 q2869 q2870 q116 q2871) ⟨rfl, mdJ13_append_3⟩ ⟨Nat.le_of_ble_eq_true rfl, Nat.le_of_ble_eq_true rfl⟩ rfl rfl (Nat.le_of_ble_eq_true rfl) dX1_feed_25 hp18.1 hp18.2 (fun v21 σ22 hp19 => ?_)
      refine x_pc (pc' := 28) rfl ?_
      refine x_up (pc' := 29) (fun _ _ _ _ _ L => lv_pop hx hb dX1_feed_28 (x_catq _)) ?_
      refine x_up (pc' := 30) (fun _ _ _ _ _ L => lv_aload_n hx hb dX1_feed_29 rfl (lv_at L 0 rfl)) ?_
      refine x_gq X (kX1 hG) 3 (by decide) q592 (fun _ h => h) dX1_feed_30 hp19 (fun v23 hp20 => ?_)
      refine x_pc (pc' := 33) rfl ?_
      obtain ⟨b24, rfl, hp21⟩ := hp20
      refine x_callV (em := emI) (fun r st => .int r :: st) (fun _ _ => rfl) 0 X (kJ13 hG) (fun σ' KK h => R_J13_length l hl G hG b24 σ' KK h) (lw_V q2859 q1014 q3702 q116 q1015) ⟨rfl, mdJ13_length⟩ ⟨Nat.le_of_ble_eq_true rfl, Nat.le_of_ble_eq_true rfl⟩ rfl rfl (Nat.le_of_ble_eq_true rfl) dX1_feed_33 hp21.1 hp21.2 (fun v25 σ26 hp22 => ?_)
      refine x_pc (pc' := 36) rfl ?_
      refine x_vx ?_; exact x_iret X hr rfl dX1_feed_36 hp22
    · have hp23 := hpB17
      obtain ⟨hq17, hp24⟩ := hp23
      obtain ⟨hr17, hp25⟩ := hp24
      exact x_out X (kJ43 hG) (hout 17) hr17 hq17 hp25
-- J12_getValue
def P_J12_getValue (κ : Nat → Nat) (a0 : Nat) (σ : xS) (K : Option Nat → xH → Prop) : Prop :=
  xgq σ a0 8 0 fun v1 => K v1 σ.1
theorem mdJ12_getValue : yJ12_getValue.cls ≠ "java/lang/invoke/MethodHandle" ∧ yJ12_getValue.cls ≠ "java/lang/invoke/VarHandle" ∧ (parseMethodDescriptor yJ12_getValue.desc).map (fun d => d.parameters.length) = some 0 := by decide +kernel
set_option maxHeartbeats 4000000 in
set_option maxRecDepth 100000 in
theorem R_J12_getValue (l : Launch) (hl : l.stackTraces = false) (G : xG) (hG : G.1.2 = x_cl) (a0 : Nat) (σ : xS) (K : Option Nat → xH → Prop) (hp : P_J12_getValue G.2 a0 σ K) : xM l yJ12_getValue cJ12_getValue 1 (Option.some (Jvm.ClassFile.FieldType.array Jvm.ClassFile.FieldType.byte)) 0 0 G [(.ref a0)] σ (xlift emQ K) := by
  refine x_entry (by decide) (Nat.le_of_ble_eq_true rfl) ?_
  intro p e s m args below meth c X hr hin
  have X : xX p s m args meth c G cJ12_getValue 1 RJ12 := X
  have hx := X.1
  have hb := X.2.1
  have hts := X.2.2.2.2.1
  have hown := X.2.2.2.1
  unfold P_J12_getValue at hp
  refine x_same (lo' := [(0, .ref a0)]) rfl ?_
  refine x_up (pc' := 1) (fun _ _ _ _ _ L => lv_aload_n hx hb dJ12_getValue_0 rfl (lv_at L 0 rfl)) ?_
  refine x_gq X (kJ13 hG) 0 (by decide) q573 (fun _ h => h) dJ12_getValue_1 hp (fun v1 hp1 => ?_)
  refine x_pc (pc' := 4) rfl ?_
  exact x_aret X hr (Or.inr ⟨_, rfl⟩) dJ12_getValue_4 v1 hp1
-- J9_checkLength
def P_J9_checkLength (κ : Nat → Nat) (x0 : Int32) (x1 : Int32) (σ : xS) (K : Unit → xH → Prop) : Prop :=
  ((x0 ≤ x1 → (K () σ.1)) ∧ (¬ x0 ≤ x1 → (False)))
theorem mdJ9_checkLength : yJ9_checkLength.cls ≠ "java/lang/invoke/MethodHandle" ∧ yJ9_checkLength.cls ≠ "java/lang/invoke/VarHandle" ∧ (parseMethodDescriptor yJ9_checkLength.desc).map (fun d => d.parameters.length) = some 2 := by decide +kernel
set_option maxHeartbeats 4000000 in
set_option maxRecDepth 100000 in
theorem R_J9_checkLength (l : Launch) (hl : l.stackTraces = false) (G : xG) (hG : G.1.2 = x_cl) (x0 : Int32) (x1 : Int32) (σ : xS) (K : Unit → xH → Prop) (hp : P_J9_checkLength G.2 x0 x1 σ K) : xM l yJ9_checkLength cJ9_checkLength 2 (Option.none : Option Jvm.ClassFile.FieldType) 0 0 G [.int x0, .int x1] σ (xlift emV K) := by
  refine x_entry (by decide) (Nat.le_of_ble_eq_true rfl) ?_
  intro p e s m args below meth c X hr hin
  have X : xX p s m args meth c G cJ9_checkLength 2 RJ9 := X
  have hx := X.1
  have hb := X.2.1
  have hts := X.2.2.2.2.1
  have hown := X.2.2.2.1
  unfold P_J9_checkLength at hp
  refine x_same (lo' := [(0, .int x0), (1, .int x1)]) rfl ?_
  refine x_up (pc' := 1) (fun _ _ _ _ _ L => lv_iload_n hx hb dJ9_checkLength_0 rfl (lv_at L 1 rfl)) ?_
  refine x_up (pc' := 2) (fun _ _ _ _ _ L => lv_iload_n hx hb dJ9_checkLength_1 rfl (lv_at L 0 rfl)) ?_
  refine x_if (C := x0 ≤ x1) (pt := 37) (pc' := 5) (fun _ _ _ _ _ => lv_icmp_ge (tgt := 37) hx hb dJ9_checkLength_2 (by decide)) (fun c2 => ?_) (fun c2 => ?_)
  · have hp1 := hp.1 c2
    exact x_vret X hr dJ9_checkLength_37 hp1
  · have hp2 := hp.2 c2
    exact hp2.elim
-- J9_copyOfRangeByte
def P_J9_copyOfRangeByte (κ : Nat → Nat) (x0 : Option Nat) (x1 : Int32) (x2 : Int32) (σ : xS) (K : Option Nat → xH → Prop) : Prop :=
  xcall (fun τ L => P_J9_checkLength κ x1 x2 τ L) σ fun _ σ1 => xnea κ σ1 .byte (x2 - x1) (fun N => (N, .inl fun _ => 0)) fun q2 σ3 => xnn x0 fun b4 => xan σ3 b4 fun v5 => xcpi κ .byte σ3 b4 x1 q2 (0 : Int32) (if (x2 - x1) < (v5 - x1) then (x2 - x1) else (v5 - x1)) fun σ6 => K (some q2) σ6.1
theorem mdJ9_copyOfRangeByte : yJ9_copyOfRangeByte.cls ≠ "java/lang/invoke/MethodHandle" ∧ yJ9_copyOfRangeByte.cls ≠ "java/lang/invoke/VarHandle" ∧ (parseMethodDescriptor yJ9_copyOfRangeByte.desc).map (fun d => d.parameters.length) = some 3 := by decide +kernel
set_option maxHeartbeats 4000000 in
set_option maxRecDepth 100000 in
theorem R_J9_copyOfRangeByte (l : Launch) (hl : l.stackTraces = false) (G : xG) (hG : G.1.2 = x_cl) (x0 : Option Nat) (x1 : Int32) (x2 : Int32) (σ : xS) (K : Option Nat → xH → Prop) (hp : P_J9_copyOfRangeByte G.2 x0 x1 x2 σ K) : xM l yJ9_copyOfRangeByte cJ9_copyOfRangeByte 5 (Option.some (Jvm.ClassFile.FieldType.array Jvm.ClassFile.FieldType.byte)) 1 60 G [va_rf x0, .int x1, .int x2] σ (xlift emQ K) := by
  refine x_entry (by decide) (by simp [lg_sl, x_catq, x_cati, x_catr, x_catn]) ?_
  intro p e s m args below meth c X hr hin
  have X : xX p s m args meth c G cJ9_copyOfRangeByte 5 RJ9 := X
  have hx := X.1
  have hb := X.2.1
  have hts := X.2.2.2.2.1
  have hown := X.2.2.2.1
  unfold P_J9_copyOfRangeByte at hp
  refine x_same (lo' := [(0, va_rf x0), (1, .int x1), (2, .int x2)]) (by simp [lv_args, x_catq, x_cati, x_catr, x_catn]) ?_
  refine x_up (pc' := 1) (fun _ _ _ _ _ L => lv_iload_n hx hb dJ9_copyOfRangeByte_0 rfl (lv_at L 1 rfl)) ?_
  refine x_up (pc' := 2) (fun _ _ _ _ _ L => lv_iload_n hx hb dJ9_copyOfRangeByte_1 rfl (lv_at L 2 rfl)) ?_
  refine x_callS (em := emV) (fun r st => st) (fun _ _ => rfl) 2 X (fun σ' KK h => R_J9_checkLength l hl G hG x1 x2 σ' KK h) (lw_S q1025 q1026 q111 q1027) mdJ9_checkLength ⟨Nat.le_of_ble_eq_true rfl, Nat.le_of_ble_eq_true rfl⟩ rfl rfl (Nat.le_of_ble_eq_true rfl) dJ9_copyOfRangeByte_2 hp (fun _ σ1 hp1 => ?_)
  refine x_pc (pc' := 5) rfl ?_
  refine x_up (pc' := 6) (fun _ _ _ _ _ L => lv_iload_n hx hb dJ9_copyOfRangeByte_5 rfl (lv_at L 2 rfl)) ?_
  refine x_up (pc' := 7) (fun _ _ _ _ _ L => lv_iload_n hx hb dJ9_copyOfRangeByte_6 rfl (lv_at L 1 rfl)) ?_
  refine x_up (pc' := 8) (fun _ _ _ _ _ L => lv_isub hx hb dJ9_copyOfRangeByte_7) ?_
  refine x_upL (pc' := 9) (lo' := [(3, .int (x2 - x1)), (0, va_rf x0), (1, .int x1), (2, .int x2)]) (fun _ _ _ _ _ L => lv_istore_n hx hb dJ9_copyOfRangeByte_8 rfl L (by decide) rfl) ?_
  refine x_up (pc' := 10) (fun _ _ _ _ _ L => lv_iload_n hx hb dJ9_copyOfRangeByte_9 rfl (lv_at L 0 rfl)) ?_
  refine x_nea .byte rfl (fun _ h => nomatch h) X q587 (fun N => (N, .inl fun _ => 0)) (fun _ => rfl) (fun _ _ => rfl) (by decide) dJ9_copyOfRangeByte_10 hp1 (fun q2 σ3 hp2 => ?_)
  refine x_pc (pc' := 12) rfl ?_
  refine x_upL (pc' := 14) (lo' := [(4, .ref q2), (3, .int (x2 - x1)), (0, va_rf x0), (1, .int x1), (2, .int x2)]) (fun _ _ _ _ _ L => lv_astore hx hb dJ9_copyOfRangeByte_12 L (by decide) rfl) ?_
  refine x_up (pc' := 15) (fun _ _ _ _ _ L => lv_aloadq_n hx hb dJ9_copyOfRangeByte_14 rfl (lv_at L 2 rfl)) ?_
  refine x_up (pc' := 16) (fun _ _ _ _ _ L => lv_iload_n hx hb dJ9_copyOfRangeByte_15 rfl (lv_at L 3 rfl)) ?_
  refine x_up (pc' := 18) (fun _ _ _ _ _ L => lv_aload hx hb dJ9_copyOfRangeByte_16 (lv_at L 0 rfl)) ?_
  refine x_up (pc' := 19) (fun _ _ _ _ _ L => lv_iconst (v := (0 : Int32)) hx hb dJ9_copyOfRangeByte_18 (by decide)) ?_
  refine x_up (pc' := 20) (fun _ _ _ _ _ L => lv_aloadq_n hx hb dJ9_copyOfRangeByte_19 rfl (lv_at L 2 rfl)) ?_
  obtain ⟨b4, rfl, hp3⟩ := hp2
  refine x_alen X dJ9_copyOfRangeByte_20 hp3 (fun v5 hp4 => ?_)
  refine x_pc (pc' := 21) rfl ?_
  refine x_up (pc' := 22) (fun _ _ _ _ _ L => lv_iload_n hx hb dJ9_copyOfRangeByte_21 rfl (lv_at L 3 rfl)) ?_
  refine x_up (pc' := 23) (fun _ _ _ _ _ L => lv_isub hx hb dJ9_copyOfRangeByte_22) ?_
  refine x_up (pc' := 24) (fun _ _ _ _ _ L => lv_iload_n hx hb dJ9_copyOfRangeByte_23 rfl (lv_at L 1 rfl)) ?_
  refine x_mmin X q419 q420 q110 q421 x_minB ⟨Nat.le_of_ble_eq_true rfl, Nat.le_of_ble_eq_true rfl⟩ (Nat.le_of_ble_eq_true rfl) dJ9_copyOfRangeByte_24 ?_
  refine x_pc (pc' := 27) rfl ?_
  refine x_cpi (ty := .byte) (fun _ h => nomatch h) X q422 q424 q423 q112 (Nat.le_of_ble_eq_true rfl) ⟨Nat.le_of_ble_eq_true rfl, Nat.le_of_ble_eq_true rfl⟩ dJ9_copyOfRangeByte_27 hp4 (fun σ6 hp5 => ?_)
  refine x_pc (pc' := 30) rfl ?_
  refine x_up (pc' := 32) (fun _ _ _ _ _ L => lv_aload hx hb dJ9_copyOfRangeByte_30 (lv_at L 0 rfl)) ?_
  exact x_aret X hr (Or.inr ⟨_, rfl⟩) dJ9_copyOfRangeByte_32 (some q2) hp5
-- J9_copyOfRange
def P_J9_copyOfRange (κ : Nat → Nat) (x0 : Option Nat) (x1 : Int32) (x2 : Int32) (σ : xS) (K : Option Nat → xH → Prop) : Prop :=
  ((x1 = 0 → (xnn x0 fun b1 => xan σ b1 fun v2 => ((x2 = v2 → (xclb κ σ b1 fun q3 σ4 => xab κ σ4 q3 ∧ K (some q3) σ4.1)) ∧ (¬ x2 = v2 → (xcall (fun τ L => P_J9_copyOfRangeByte κ (some b1) x1 x2 τ L) σ fun v5 σ6 => K v5 σ6.1))))) ∧ (¬ x1 = 0 → (xcall (fun τ L => P_J9_copyOfRangeByte κ x0 x1 x2 τ L) σ fun v7 σ8 => K v7 σ8.1)))
theorem mdJ9_copyOfRange : yJ9_copyOfRange.cls ≠ "java/lang/invoke/MethodHandle" ∧ yJ9_copyOfRange.cls ≠ "java/lang/invoke/VarHandle" ∧ (parseMethodDescriptor yJ9_copyOfRange.desc).map (fun d => d.parameters.length) = some 3 := by decide +kernel
set_option maxHeartbeats 4000000 in
set_option maxRecDepth 100000 in
theorem R_J9_copyOfRange (l : Launch) (hl : l.stackTraces = false) (G : xG) (hG : G.1.2 = x_cl) (x0 : Option Nat) (x1 : Int32) (x2 : Int32) (σ : xS) (K : Option Nat → xH → Prop) (hp : P_J9_copyOfRange G.2 x0 x1 x2 σ K) : xM l yJ9_copyOfRange cJ9_copyOfRange 3 (Option.some (Jvm.ClassFile.FieldType.array Jvm.ClassFile.FieldType.byte)) 2 84 G [va_rf x0, .int x1, .int x2] σ (xlift emQ K) := by
  refine x_entry (by decide) (by simp [lg_sl, x_catq, x_cati, x_catr, x_catn]) ?_
  intro p e s m args below meth c X hr hin
  have X : xX p s m args meth c G cJ9_copyOfRange 3 RJ9 := X
  have hx := X.1
  have hb := X.2.1
  have hts := X.2.2.2.2.1
  have hown := X.2.2.2.1
  unfold P_J9_copyOfRange at hp
  refine x_same (lo' := [(0, va_rf x0), (1, .int x1), (2, .int x2)]) (by simp [lv_args, x_catq, x_cati, x_catr, x_catn]) ?_
  refine x_up (pc' := 1) (fun _ _ _ _ _ L => lv_iload_n hx hb dJ9_copyOfRange_0 rfl (lv_at L 1 rfl)) ?_
  refine x_ifn (C := x1 = 0) (pt := 10) (pc' := 4) (fun _ _ _ _ _ => lv_if_ne (tgt := 10) hx hb dJ9_copyOfRange_1 (by decide)) (fun c1 => ?_) (fun c1 => ?_)
  · have hp1 := hp.1 c1
    refine x_up (pc' := 5) (fun _ _ _ _ _ L => lv_iload_n hx hb dJ9_copyOfRange_4 rfl (lv_at L 2 rfl)) ?_
    refine x_up (pc' := 6) (fun _ _ _ _ _ L => lv_aloadq_n hx hb dJ9_copyOfRange_5 rfl (lv_at L 0 rfl)) ?_
    obtain ⟨b1, rfl, hp2⟩ := hp1
    refine x_alen X dJ9_copyOfRange_6 hp2 (fun v2 hp3 => ?_)
    refine x_pc (pc' := 7) rfl ?_
    refine x_if (C := x2 = v2) (pt := 17) (pc' := 10) (fun _ _ _ _ _ => lv_icmp_eq (tgt := 17) hx hb dJ9_copyOfRange_7 (by decide)) (fun c7 => ?_) (fun c7 => ?_)
    · have hp4 := hp3.1 c7
      refine x_up (pc' := 18) (fun _ _ _ _ _ L => lv_aload_n hx hb dJ9_copyOfRange_17 rfl (lv_at L 0 rfl)) ?_
      refine x_cloneB X q886 q887 q888 q889 q890 q891 ⟨Nat.le_of_ble_eq_true rfl, Nat.le_of_ble_eq_true rfl⟩ (Nat.le_of_ble_eq_true rfl) dJ9_copyOfRange_18 hp4 (fun q3 σ4 hp5 => ?_)
      refine x_pc (pc' := 21) rfl ?_
      refine x_castB X q892 hp5.1 dJ9_copyOfRange_21 ?_
      have hp6 := hp5.2
      refine x_pc (pc' := 24) rfl ?_
      exact x_aret X hr (Or.inr ⟨_, rfl⟩) dJ9_copyOfRange_24 (some q3) hp6
    · have hp7 := hp3.2 c7
      refine x_up (pc' := 11) (fun _ _ _ _ _ L => lv_aload_n hx hb dJ9_copyOfRange_10 rfl (lv_at L 0 rfl)) ?_
      refine x_up (pc' := 12) (fun _ _ _ _ _ L => lv_iload_n hx hb dJ9_copyOfRange_11 rfl (lv_at L 1 rfl)) ?_
      refine x_up (pc' := 13) (fun _ _ _ _ _ L => lv_iload_n hx hb dJ9_copyOfRange_12 rfl (lv_at L 2 rfl)) ?_
      refine x_callS (em := emQ) (fun r st => va_rf r :: st) (fun _ _ => rfl) 3 X (fun σ' KK h => R_J9_copyOfRangeByte l hl G hG (some b1) x1 x2 σ' KK h) (lw_S q1022 q1023 q111 q1024) mdJ9_copyOfRangeByte ⟨Nat.le_of_ble_eq_true rfl, Nat.le_of_ble_eq_true rfl⟩ rfl rfl (Nat.le_of_ble_eq_true rfl) dJ9_copyOfRange_13 hp7 (fun v5 σ6 hp8 => ?_)
      refine x_pc (pc' := 16) rfl ?_
      exact x_aret X hr (Or.inr ⟨_, rfl⟩) dJ9_copyOfRange_16 v5 hp8
  · have hp9 := hp.2 c1
    refine x_up (pc' := 11) (fun _ _ _ _ _ L => lv_aloadq_n hx hb dJ9_copyOfRange_10 rfl (lv_at L 0 rfl)) ?_
    refine x_up (pc' := 12) (fun _ _ _ _ _ L => lv_iload_n hx hb dJ9_copyOfRange_11 rfl (lv_at L 1 rfl)) ?_
    refine x_up (pc' := 13) (fun _ _ _ _ _ L => lv_iload_n hx hb dJ9_copyOfRange_12 rfl (lv_at L 2 rfl)) ?_
    refine x_callS (em := emQ) (fun r st => va_rf r :: st) (fun _ _ => rfl) 3 X (fun σ' KK h => R_J9_copyOfRangeByte l hl G hG x0 x1 x2 σ' KK h) (lw_S q1022 q1023 q111 q1024) mdJ9_copyOfRangeByte ⟨Nat.le_of_ble_eq_true rfl, Nat.le_of_ble_eq_true rfl⟩ rfl rfl (Nat.le_of_ble_eq_true rfl) dJ9_copyOfRange_13 hp9 (fun v7 σ8 hp10 => ?_)
    refine x_pc (pc' := 16) rfl ?_
    exact x_aret X hr (Or.inr ⟨_, rfl⟩) dJ9_copyOfRange_16 v7 hp10
-- J15_compress_2
def B_J15_compress_2_10 (κ : Nat → Nat) (K : Int32 → xH → Prop) (f0 : Option Nat) (f2 : Option Nat) (f4 : Int32) : ((Int32 × Int32 × Int32) → xS → Prop) → (Int32 × Int32 × Int32) → xS → Prop := fun self11003 w11001 σ11002 =>
  ((f4 ≤ w11001.2.2 → (K f4 σ11002.1)) ∧ (¬ f4 ≤ w11001.2.2 → (xcall (fun τ L => P_J15_getChar κ f0 w11001.1 τ L) σ11002 fun v11004 σ11005 => ((v11004 ≤ (255 : Int32) → (xnn f2 fun b11006 => xsi κ .byte σ11005 b11006 w11001.2.1 v11004.toInt8.toInt32 fun σ11007 => self11003 ((w11001.1 + (1 : Int32)), (w11001.2.1 + (1 : Int32)), (w11001.2.2 + (1 : Int32))) σ11007)) ∧ (¬ v11004 ≤ (255 : Int32) → (K w11001.2.2 σ11005.1))))))
def P_J15_compress_2 (κ : Nat → Nat) (x0 : Option Nat) (x1 : Int32) (x2 : Option Nat) (x3 : Int32) (x4 : Int32) (σ : xS) (K : Int32 → xH → Prop) : Prop :=
  xcall (fun τ L => P_J15_checkBoundsOffCount κ x1 x4 x0 τ L) σ fun _ σ1 => xwhile (B_J15_compress_2_10 κ K x0 x2 x4) (x1, x3, (0 : Int32)) σ1
theorem mdJ15_compress_2 : yJ15_compress_2.cls ≠ "java/lang/invoke/MethodHandle" ∧ yJ15_compress_2.cls ≠ "java/lang/invoke/VarHandle" ∧ (parseMethodDescriptor yJ15_compress_2.desc).map (fun d => d.parameters.length) = some 5 := by decide +kernel
set_option maxHeartbeats 4000000 in
set_option maxRecDepth 100000 in
theorem R_J15_compress_2 (l : Launch) (hl : l.stackTraces = false) (G : xG) (hG : G.1.2 = x_cl) (x0 : Option Nat) (x1 : Int32) (x2 : Option Nat) (x3 : Int32) (x4 : Int32) (σ : xS) (K : Int32 → xH → Prop) (hp : P_J15_compress_2 G.2 x0 x1 x2 x3 x4 σ K) : xM l yJ15_compress_2 cJ15_compress_2 7 (Option.some Jvm.ClassFile.FieldType.int) 3 67 G [va_rf x0, .int x1, va_rf x2, .int x3, .int x4] σ (xlift emI K) := by
  refine x_entry (by decide) (by simp [lg_sl, x_catq, x_cati, x_catr, x_catn]) ?_
  intro p e s m args below meth c X hr hin
  have X : xX p s m args meth c G cJ15_compress_2 7 RJ15 := X
  have hx := X.1
  have hb := X.2.1
  have hts := X.2.2.2.2.1
  have hown := X.2.2.2.1
  unfold P_J15_compress_2 at hp
  refine x_same (lo' := [(0, va_rf x0), (1, .int x1), (2, va_rf x2), (3, .int x3), (4, .int x4)]) (by simp [lv_args, x_catq, x_cati, x_catr, x_catn]) ?_
  refine x_up (pc' := 1) (fun _ _ _ _ _ L => lv_iload_n hx hb dJ15_compress_2_0 rfl (lv_at L 1 rfl)) ?_
  refine x_up (pc' := 3) (fun _ _ _ _ _ L => lv_iload hx hb dJ15_compress_2_1 (lv_at L 4 rfl)) ?_
  refine x_up (pc' := 4) (fun _ _ _ _ _ L => lv_aloadq_n hx hb dJ15_compress_2_3 rfl (lv_at L 0 rfl)) ?_
  refine x_callS (em := emV) (fun r st => st) (fun _ _ => rfl) 3 X (fun σ' KK h => R_J15_checkBoundsOffCount l hl G hG x1 x4 x0 σ' KK h) (lw_S q951 q952 q118 q953) mdJ15_checkBoundsOffCount ⟨Nat.le_of_ble_eq_true rfl, Nat.le_of_ble_eq_true rfl⟩ rfl rfl (Nat.le_of_ble_eq_true rfl) dJ15_compress_2_4 hp (fun _ σ1 hp1 => ?_)
  refine x_pc (pc' := 7) rfl ?_
  refine x_up (pc' := 8) (fun _ _ _ _ _ L => lv_iconst (v := (0 : Int32)) hx hb dJ15_compress_2_7 (by decide)) ?_
  refine x_upL (pc' := 10) (lo' := [(5, .int (0 : Int32)), (0, va_rf x0), (1, .int x1), (2, va_rf x2), (3, .int x3), (4, .int x4)]) (fun _ _ _ _ _ L => lv_istore hx hb dJ15_compress_2_8 L (by decide) rfl) ?_
  refine x_lo (lo' := [(1, .int x1), (3, .int x3), (5, .int (0 : Int32)), (0, va_rf x0), (2, va_rf x2), (4, .int x4)]) [2, 4, 0, 1, 3, 5] rfl ?_
  refine x_while (v0 := (x1, x3, (0 : Int32))) (fun w2 => [(1, .int w2.1), (3, .int w2.2.1), (5, .int w2.2.2), (0, va_rf x0), (2, va_rf x2), (4, .int x4)]) hp1 (fun self3 hself4 => ?_)
  rintro ⟨y6, y7, y8⟩ σ5 hp2
  unfold B_J15_compress_2_10 at hp2
  refine x_same (lo' := [(1, .int y6), (3, .int y7), (5, .int y8), (0, va_rf x0), (2, va_rf x2), (4, .int x4)]) rfl ?_
  refine x_up (pc' := 12) (fun _ _ _ _ _ L => lv_iload hx hb dJ15_compress_2_10 (lv_at L 2 rfl)) ?_
  refine x_up (pc' := 14) (fun _ _ _ _ _ L => lv_iload hx hb dJ15_compress_2_12 (lv_at L 5 rfl)) ?_
  refine x_if (C := x4 ≤ y8) (pt := 53) (pc' := 17) (fun _ _ _ _ _ => lv_icmp_ge (tgt := 53) hx hb dJ15_compress_2_14 (by decide)) (fun c14 => ?_) (fun c14 => ?_)
  · have hp3 := hp2.1 c14
    refine x_up (pc' := 55) (fun _ _ _ _ _ L => lv_iload hx hb dJ15_compress_2_53 (lv_at L 5 rfl)) ?_
    exact x_iret X hr rfl dJ15_compress_2_55 hp3
  · have hp4 := hp2.2 c14
    refine x_up (pc' := 18) (fun _ _ _ _ _ L => lv_aloadq_n hx hb dJ15_compress_2_17 rfl (lv_at L 3 rfl)) ?_
    refine x_up (pc' := 19) (fun _ _ _ _ _ L => lv_iload_n hx hb dJ15_compress_2_18 rfl (lv_at L 0 rfl)) ?_
    refine x_callS (em := emI) (fun r st => .int r :: st) (fun _ _ => rfl) 2 X (fun σ' KK h => R_J15_getChar l hl G hG x0 y6 σ' KK h) (lw_S q1074 q1075 q118 q1076) mdJ15_getChar ⟨Nat.le_of_ble_eq_true rfl, Nat.le_of_ble_eq_true rfl⟩ rfl rfl (Nat.le_of_ble_eq_true rfl) dJ15_compress_2_19 hp4 (fun v9 σ10 hp5 => ?_)
    refine x_pc (pc' := 22) rfl ?_
    refine x_upL (pc' := 24) (lo' := [(6, .int v9), (1, .int y6), (3, .int y7), (5, .int y8), (0, va_rf x0), (2, va_rf x2), (4, .int x4)]) (fun _ _ _ _ _ L => lv_istore hx hb dJ15_compress_2_22 L (by decide) rfl) ?_
    refine x_up (pc' := 26) (fun _ _ _ _ _ L => lv_iload hx hb dJ15_compress_2_24 (lv_at L 0 rfl)) ?_
    refine x_up (pc' := 29) (fun _ _ _ _ _ L => lv_sipush (v := (255 : Int32)) hx hb dJ15_compress_2_26 (by decide)) ?_
    refine x_if (C := v9 ≤ (255 : Int32)) (pt := 35) (pc' := 32) (fun _ _ _ _ _ => lv_icmp_le (tgt := 35) hx hb dJ15_compress_2_29 (by decide)) (fun c29 => ?_) (fun c29 => ?_)
    · have hp6 := hp5.1 c29
      refine x_up (pc' := 36) (fun _ _ _ _ _ L => lv_aloadq_n hx hb dJ15_compress_2_35 rfl (lv_at L 5 rfl)) ?_
      refine x_up (pc' := 37) (fun _ _ _ _ _ L => lv_iload_n hx hb dJ15_compress_2_36 rfl (lv_at L 2 rfl)) ?_
      refine x_up (pc' := 39) (fun _ _ _ _ _ L => lv_iload hx hb dJ15_compress_2_37 (lv_at L 0 rfl)) ?_
      refine x_up (pc' := 40) (fun _ _ _ _ _ L => lv_i2b hx hb dJ15_compress_2_39 rfl) ?_
      obtain ⟨b11, rfl, hp7⟩ := hp6
      refine x_bast X dJ15_compress_2_40 hp7 (fun σ12 hp8 => ?_)
      refine x_pc (pc' := 41) rfl ?_
      refine x_st (pc' := 44) ([(1, .int (y6 + (1 : Int32))), (6, .int v9), (3, .int y7), (5, .int y8), (0, va_rf x0), (2, .ref b11), (4, .int x4)]) rfl (by simp [x_catq, x_cati, x_catr, x_catn]) (fun _ _ _ _ _ L => lv_iinc hx hb dJ15_compress_2_41 L (k := 1) rfl rfl (by decide) rfl) ?_
      refine x_upL (pc' := 47) (lo' := [(3, .int (y7 + (1 : Int32))), (1, .int (y6 + (1 : Int32))), (6, .int v9), (5, .int y8), (0, va_rf x0), (2, .ref b11), (4, .int x4)]) (fun _ _ _ _ _ L => lv_iinc (v := y7 + (1 : Int32)) hx hb dJ15_compress_2_44 L (k := 2) rfl rfl (by decide) rfl) ?_
      refine x_upL (pc' := 50) (lo' := [(5, .int (y8 + (1 : Int32))), (3, .int (y7 + (1 : Int32))), (1, .int (y6 + (1 : Int32))), (6, .int v9), (0, va_rf x0), (2, .ref b11), (4, .int x4)]) (fun _ _ _ _ _ L => lv_iinc (v := y8 + (1 : Int32)) hx hb dJ15_compress_2_47 L (k := 3) rfl rfl (by decide) rfl) ?_
      refine x_up (pc' := 10) (fun _ _ _ _ _ L => lv_goto (tgt := 10) hx hb dJ15_compress_2_50 (by decide)) ?_
      refine x_lo (lo' := [(1, .int (y6 + (1 : Int32))), (3, .int (y7 + (1 : Int32))), (5, .int (y8 + (1 : Int32))), (0, va_rf x0), (2, .ref b11), (4, .int x4)]) [2, 1, 0, 4, 5, 6] rfl ?_
      exact hself4 ((y6 + (1 : Int32)), (y7 + (1 : Int32)), (y8 + (1 : Int32))) σ12 hp8
    · have hp9 := hp5.2 c29
      refine x_up (pc' := 34) (fun _ _ _ _ _ L => lv_iload hx hb dJ15_compress_2_32 (lv_at L 3 rfl)) ?_
      exact x_iret X hr rfl dJ15_compress_2_34 hp9
-- J15_compress
def P_J15_compress (κ : Nat → Nat) (x0 : Option Nat) (x1 : Int32) (x2 : Int32) (σ : xS) (K : Option Nat → xH → Prop) : Prop :=
  xnea κ σ .byte x2 (fun N => (N, .inl fun _ => 0)) fun q1 σ2 => xcall (fun τ L => P_J15_compress_2 κ x0 x1 (some q1) (0 : Int32) x2 τ L) σ2 fun v3 σ4 => ((v3 = x2 → (K (some q1) σ4.1)) ∧ (¬ v3 = x2 → (xcall (fun τ L => P_J15_newBytesLength κ (x1 + x2) τ L) σ4 fun v5 σ6 => xcall (fun τ L => P_J9_copyOfRange κ x0 (x1 <<< ((1 : Int32) &&& 31)) v5 τ L) σ6 fun v7 σ8 => xcall (fun τ L => P_J15_getChar κ v7 v3 τ L) σ8 fun v9 σ10 => (((255 : Int32) < v9 → (K v7 σ10.1)) ∧ (¬ (255 : Int32) < v9 → (xcall (fun τ L => P_J15_compress_2 κ v7 (0 : Int32) (some q1) (0 : Int32) x2 τ L) σ10 fun v11 σ12 => ((v11 = x2 → (K (some q1) σ12.1)) ∧ (¬ v11 = x2 → (K v7 σ12.1)))))))))
theorem mdJ15_compress : yJ15_compress.cls ≠ "java/lang/invoke/MethodHandle" ∧ yJ15_compress.cls ≠ "java/lang/invoke/VarHandle" ∧ (parseMethodDescriptor yJ15_compress.desc).map (fun d => d.parameters.length) = some 3 := by decide +kernel
set_option maxHeartbeats 4000000 in
set_option maxRecDepth 100000 in
theorem R_J15_compress (l : Launch) (hl : l.stackTraces = false) (G : xG) (hG : G.1.2 = x_cl) (x0 : Option Nat) (x1 : Int32) (x2 : Int32) (σ : xS) (K : Option Nat → xH → Prop) (hp : P_J15_compress G.2 x0 x1 x2 σ K) : xM l yJ15_compress cJ15_compress 6 (Option.some (Jvm.ClassFile.FieldType.array Jvm.ClassFile.FieldType.byte)) 4 106 G [va_rf x0, .int x1, .int x2] σ (xlift emQ K) := by
  refine x_entry (by decide) (by simp [lg_sl, x_catq, x_cati, x_catr, x_catn]) ?_
  intro p e s m args below meth c X hr hin
  have X : xX p s m args meth c G cJ15_compress 6 RJ15 := X
  have hx := X.1
  have hb := X.2.1
  have hts := X.2.2.2.2.1
  have hown := X.2.2.2.1
  unfold P_J15_compress at hp
  refine x_same (lo' := [(0, va_rf x0), (1, .int x1), (2, .int x2)]) (by simp [lv_args, x_catq, x_cati, x_catr, x_catn]) ?_
  refine x_up (pc' := 1) (fun _ _ _ _ _ L => lv_iload_n hx hb dJ15_compress_0 rfl (lv_at L 2 rfl)) ?_
  refine x_nea .byte rfl (fun _ h => nomatch h) X q587 (fun N => (N, .inl fun _ => 0)) (fun _ => rfl) (fun _ _ => rfl) (by decide) dJ15_compress_1 hp (fun q1 σ2 hp1 => ?_)
  refine x_pc (pc' := 3) rfl ?_
  refine x_upL (pc' := 4) (lo' := [(3, .ref q1), (0, va_rf x0), (1, .int x1), (2, .int x2)]) (fun _ _ _ _ _ L => lv_astore_n hx hb dJ15_compress_3 rfl L (by decide) rfl) ?_
  refine x_up (pc' := 5) (fun _ _ _ _ _ L => lv_aloadq_n hx hb dJ15_compress_4 rfl (lv_at L 1 rfl)) ?_
  refine x_up (pc' := 6) (fun _ _ _ _ _ L => lv_iload_n hx hb dJ15_compress_5 rfl (lv_at L 2 rfl)) ?_
  refine x_up (pc' := 7) (fun _ _ _ _ _ L => lv_aload_n hx hb dJ15_compress_6 rfl (lv_at L 0 rfl)) ?_
  refine x_up (pc' := 8) (fun _ _ _ _ _ L => lv_iconst (v := (0 : Int32)) hx hb dJ15_compress_7 (by decide)) ?_
  refine x_up (pc' := 9) (fun _ _ _ _ _ L => lv_iload_n hx hb dJ15_compress_8 rfl (lv_at L 3 rfl)) ?_
  refine x_callS (em := emI) (fun r st => .int r :: st) (fun _ _ => rfl) 5 X (fun σ' KK h => R_J15_compress_2 l hl G hG x0 x1 (some q1) (0 : Int32) x2 σ' KK h) (lw_S q1071 q1072 q118 q1073) mdJ15_compress_2 ⟨Nat.le_of_ble_eq_true rfl, Nat.le_of_ble_eq_true rfl⟩ rfl rfl (Nat.le_of_ble_eq_true rfl) dJ15_compress_9 hp1 (fun v3 σ4 hp2 => ?_)
  refine x_pc (pc' := 12) rfl ?_
  refine x_upL (pc' := 14) (lo' := [(4, .int v3), (3, .ref q1), (0, va_rf x0), (1, .int x1), (2, .int x2)]) (fun _ _ _ _ _ L => lv_istore hx hb dJ15_compress_12 L (by decide) rfl) ?_
  refine x_up (pc' := 16) (fun _ _ _ _ _ L => lv_iload hx hb dJ15_compress_14 (lv_at L 0 rfl)) ?_
  refine x_up (pc' := 17) (fun _ _ _ _ _ L => lv_iload_n hx hb dJ15_compress_16 rfl (lv_at L 4 rfl)) ?_
  refine x_if (C := v3 = x2) (pt := 64) (pc' := 20) (fun _ _ _ _ _ => lv_icmp_eq (tgt := 64) hx hb dJ15_compress_17 (by decide)) (fun c17 => ?_) (fun c17 => ?_)
  · have hp3 := hp2.1 c17
    refine x_up (pc' := 65) (fun _ _ _ _ _ L => lv_aload_n hx hb dJ15_compress_64 rfl (lv_at L 1 rfl)) ?_
    exact x_aret X hr (Or.inr ⟨_, rfl⟩) dJ15_compress_65 (some q1) hp3
  · have hp4 := hp2.2 c17
    refine x_up (pc' := 21) (fun _ _ _ _ _ L => lv_aloadq_n hx hb dJ15_compress_20 rfl (lv_at L 2 rfl)) ?_
    refine x_up (pc' := 22) (fun _ _ _ _ _ L => lv_iload_n hx hb dJ15_compress_21 rfl (lv_at L 3 rfl)) ?_
    refine x_up (pc' := 23) (fun _ _ _ _ _ L => lv_iconst (v := (1 : Int32)) hx hb dJ15_compress_22 (by decide)) ?_
    refine x_up (pc' := 24) (fun _ _ _ _ _ L => lv_ishl hx hb dJ15_compress_23) ?_
    refine x_up (pc' := 25) (fun _ _ _ _ _ L => lv_iload_n hx hb dJ15_compress_24 rfl (lv_at L 3 rfl)) ?_
    refine x_up (pc' := 26) (fun _ _ _ _ _ L => lv_iload_n hx hb dJ15_compress_25 rfl (lv_at L 4 rfl)) ?_
    refine x_up (pc' := 27) (fun _ _ _ _ _ L => lv_iadd hx hb dJ15_compress_26) ?_
    refine x_callS (em := emI) (fun r st => .int r :: st) (fun _ _ => rfl) 1 X (fun σ' KK h => R_J15_newBytesLength l hl G hG (x1 + x2) σ' KK h) (lw_S q569 q570 q118 q571) mdJ15_newBytesLength ⟨Nat.le_of_ble_eq_true rfl, Nat.le_of_ble_eq_true rfl⟩ rfl rfl (by simp only [List.map_cons, List.map_nil, List.sum_cons, List.sum_nil, x_catq, x_cati, x_catr, x_catn] <;> decide) dJ15_compress_27 hp4 (fun v5 σ6 hp5 => ?_)
    refine x_pc (pc' := 30) rfl ?_
    refine x_callS (em := emQ) (fun r st => va_rf r :: st) (fun _ _ => rfl) 3 X (fun σ' KK h => R_J9_copyOfRange l hl G hG x0 (x1 <<< ((1 : Int32) &&& 31)) v5 σ' KK h) (lw_S q1077 q1020 q111 q1021) mdJ9_copyOfRange ⟨Nat.le_of_ble_eq_true rfl, Nat.le_of_ble_eq_true rfl⟩ rfl rfl (Nat.le_of_ble_eq_true rfl) dJ15_compress_30 hp5 (fun v7 σ8 hp6 => ?_)
    refine x_pc (pc' := 33) rfl ?_
    refine x_upL (pc' := 35) (lo' := [(5, va_rf v7), (4, .int v3), (3, .ref q1), (0, va_rf x0), (1, .int x1), (2, .int x2)]) (fun _ _ _ _ _ L => lv_astoreq hx hb dJ15_compress_33 L (by decide) rfl) ?_
    refine x_up (pc' := 37) (fun _ _ _ _ _ L => lv_aloadq hx hb dJ15_compress_35 (lv_at L 0 rfl)) ?_
    refine x_up (pc' := 39) (fun _ _ _ _ _ L => lv_iload hx hb dJ15_compress_37 (lv_at L 1 rfl)) ?_
    refine x_callS (em := emI) (fun r st => .int r :: st) (fun _ _ => rfl) 2 X (fun σ' KK h => R_J15_getChar l hl G hG v7 v3 σ' KK h) (lw_S q1074 q1075 q118 q1076) mdJ15_getChar ⟨Nat.le_of_ble_eq_true rfl, Nat.le_of_ble_eq_true rfl⟩ rfl rfl (Nat.le_of_ble_eq_true rfl) dJ15_compress_39 hp6 (fun v9 σ10 hp7 => ?_)
    refine x_pc (pc' := 42) rfl ?_
    refine x_up (pc' := 45) (fun _ _ _ _ _ L => lv_sipush (v := (255 : Int32)) hx hb dJ15_compress_42 (by decide)) ?_
    refine x_if (C := (255 : Int32) < v9) (pt := 61) (pc' := 48) (fun _ _ _ _ _ => lv_icmp_gt (tgt := 61) hx hb dJ15_compress_45 (by decide)) (fun c45 => ?_) (fun c45 => ?_)
    · have hp8 := hp7.1 c45
      refine x_up (pc' := 63) (fun _ _ _ _ _ L => lv_aloadq hx hb dJ15_compress_61 (lv_at L 0 rfl)) ?_
      exact x_aret X hr (Or.inr ⟨_, rfl⟩) dJ15_compress_63 v7 hp8
    · have hp9 := hp7.2 c45
      refine x_up (pc' := 50) (fun _ _ _ _ _ L => lv_aloadq hx hb dJ15_compress_48 (lv_at L 0 rfl)) ?_
      refine x_up (pc' := 51) (fun _ _ _ _ _ L => lv_iconst (v := (0 : Int32)) hx hb dJ15_compress_50 (by decide)) ?_
      refine x_up (pc' := 52) (fun _ _ _ _ _ L => lv_aload_n hx hb dJ15_compress_51 rfl (lv_at L 2 rfl)) ?_
      refine x_up (pc' := 53) (fun _ _ _ _ _ L => lv_iconst (v := (0 : Int32)) hx hb dJ15_compress_52 (by decide)) ?_
      refine x_up (pc' := 54) (fun _ _ _ _ _ L => lv_iload_n hx hb dJ15_compress_53 rfl (lv_at L 5 rfl)) ?_
      refine x_callS (em := emI) (fun r st => .int r :: st) (fun _ _ => rfl) 5 X (fun σ' KK h => R_J15_compress_2 l hl G hG v7 (0 : Int32) (some q1) (0 : Int32) x2 σ' KK h) (lw_S q1071 q1072 q118 q1073) mdJ15_compress_2 ⟨Nat.le_of_ble_eq_true rfl, Nat.le_of_ble_eq_true rfl⟩ rfl rfl (Nat.le_of_ble_eq_true rfl) dJ15_compress_54 hp9 (fun v11 σ12 hp10 => ?_)
      refine x_pc (pc' := 57) rfl ?_
      refine x_up (pc' := 58) (fun _ _ _ _ _ L => lv_iload_n hx hb dJ15_compress_57 rfl (lv_at L 5 rfl)) ?_
      refine x_if (C := v11 = x2) (pt := 64) (pc' := 61) (fun _ _ _ _ _ => lv_icmp_eq (tgt := 64) hx hb dJ15_compress_58 (by decide)) (fun c58 => ?_) (fun c58 => ?_)
      · have hp11 := hp10.1 c58
        refine x_up (pc' := 65) (fun _ _ _ _ _ L => lv_aload_n hx hb dJ15_compress_64 rfl (lv_at L 2 rfl)) ?_
        exact x_aret X hr (Or.inr ⟨_, rfl⟩) dJ15_compress_65 (some q1) hp11
      · have hp12 := hp10.2 c58
        refine x_up (pc' := 63) (fun _ _ _ _ _ L => lv_aloadq hx hb dJ15_compress_61 (lv_at L 0 rfl)) ?_
        exact x_aret X hr (Or.inr ⟨_, rfl⟩) dJ15_compress_63 v7 hp12
-- J15_coderFromArrayLen
def P_J15_coderFromArrayLen (κ : Nat → Nat) (x0 : Option Nat) (x1 : Int32) (σ : xS) (K : Int32 → xH → Prop) : Prop :=
  xnn x0 fun b1 => xan σ b1 fun v2 => (narrow .byte (.int ((((x1 - v2).toUInt32 >>> ((31 : Int32).toUInt32 &&& Int32.toUInt32 31)).toInt32).toInt8.toInt32)) = .int ((((x1 - v2).toUInt32 >>> ((31 : Int32).toUInt32 &&& Int32.toUInt32 31)).toInt32).toInt8.toInt32) ∧ K ((((x1 - v2).toUInt32 >>> ((31 : Int32).toUInt32 &&& Int32.toUInt32 31)).toInt32).toInt8.toInt32) σ.1)
theorem mdJ15_coderFromArrayLen : yJ15_coderFromArrayLen.cls ≠ "java/lang/invoke/MethodHandle" ∧ yJ15_coderFromArrayLen.cls ≠ "java/lang/invoke/VarHandle" ∧ (parseMethodDescriptor yJ15_coderFromArrayLen.desc).map (fun d => d.parameters.length) = some 2 := by decide +kernel
set_option maxHeartbeats 4000000 in
set_option maxRecDepth 100000 in
theorem R_J15_coderFromArrayLen (l : Launch) (hl : l.stackTraces = false) (G : xG) (hG : G.1.2 = x_cl) (x0 : Option Nat) (x1 : Int32) (σ : xS) (K : Int32 → xH → Prop) (hp : P_J15_coderFromArrayLen G.2 x0 x1 σ K) : xM l yJ15_coderFromArrayLen cJ15_coderFromArrayLen 2 (Option.some Jvm.ClassFile.FieldType.byte) 0 0 G [va_rf x0, .int x1] σ (xlift emI K) := by
  refine x_entry (by decide) (by simp [lg_sl, x_catq, x_cati, x_catr, x_catn]) ?_
  intro p e s m args below meth c X hr hin
  have X : xX p s m args meth c G cJ15_coderFromArrayLen 2 RJ15 := X
  have hx := X.1
  have hb := X.2.1
  have hts := X.2.2.2.2.1
  have hown := X.2.2.2.1
  unfold P_J15_coderFromArrayLen at hp
  refine x_same (lo' := [(0, va_rf x0), (1, .int x1)]) (by simp [lv_args, x_catq, x_cati, x_catr, x_catn]) ?_
  refine x_up (pc' := 1) (fun _ _ _ _ _ L => lv_iload_n hx hb dJ15_coderFromArrayLen_0 rfl (lv_at L 1 rfl)) ?_
  refine x_up (pc' := 2) (fun _ _ _ _ _ L => lv_aloadq_n hx hb dJ15_coderFromArrayLen_1 rfl (lv_at L 0 rfl)) ?_
  obtain ⟨b1, rfl, hp1⟩ := hp
  refine x_alen X dJ15_coderFromArrayLen_2 hp1 (fun v2 hp2 => ?_)
  refine x_pc (pc' := 3) rfl ?_
  refine x_up (pc' := 4) (fun _ _ _ _ _ L => lv_isub hx hb dJ15_coderFromArrayLen_3) ?_
  refine x_up (pc' := 6) (fun _ _ _ _ _ L => lv_bipush (v := (31 : Int32)) hx hb dJ15_coderFromArrayLen_4 (by decide)) ?_
  refine x_up (pc' := 7) (fun _ _ _ _ _ L => lv_iushr hx hb dJ15_coderFromArrayLen_6 rfl) ?_
  refine x_up (pc' := 8) (fun _ _ _ _ _ L => lv_i2b hx hb dJ15_coderFromArrayLen_7 rfl) ?_
  exact x_iret X hr hp2.1 dJ15_coderFromArrayLen_8 hp2.2
-- J14_init_2
def P_J14_init_2 (κ : Nat → Nat) (a0 : Nat) (x1 : Option Nat) (x2 : Option Nat) (σ : xS) (K : Unit → xH → Prop) : Prop :=
  xnn x1 fun b1 => xrc σ b1 8 ∧ xcall (fun τ L => P_J12_getValue κ b1 τ L) σ fun v2 σ3 => xrc σ3 b1 8 ∧ xcall (fun τ L => P_J13_length κ b1 τ L) σ3 fun v4 σ5 => xrc σ5 b1 8 ∧ xcall (fun τ L => P_J12_isLatin1 κ b1 τ L) σ5 fun v6 σ7 => ((v6 = 0 → ((((1 : Int32) = 0 → (narrow .byte (.int (1 : Int32)) = .int (1 : Int32) ∧ fits .byte (.int (1 : Int32)) = true ∧ xpi κ σ7 a0 9 1 (1 : Int32) fun σ8 => xcall (fun τ L => P_J9_copyOfRange κ v2 (0 : Int32) (v4 <<< ((1 : Int32) &&& 31)) τ L) σ8 fun v9 σ10 => xpq κ σ10 a0 9 0 v9 fun σ11 => K () σ11.1)) ∧ (¬ (1 : Int32) = 0 → (xgi σ7 b1 8 2 fun v12 => ((v12 = 0 → (narrow .byte (.int (1 : Int32)) = .int (1 : Int32) ∧ fits .byte (.int (1 : Int32)) = true ∧ xpi κ σ7 a0 9 1 (1 : Int32) fun σ13 => xcall (fun τ L => P_J9_copyOfRange κ v2 (0 : Int32) (v4 <<< ((1 : Int32) &&& 31)) τ L) σ13 fun v14 σ15 => xpq κ σ15 a0 9 0 v14 fun σ16 => K () σ16.1)) ∧ (¬ v12 = 0 → (xcall (fun τ L => P_J15_compress κ v2 (0 : Int32) v4 τ L) σ7 fun v17 σ18 => xpq κ σ18 a0 9 0 v17 fun σ19 => xgq σ19 a0 9 0 fun v20 => xcall (fun τ L => P_J15_coderFromArrayLen κ v20 v4 τ L) σ19 fun v21 σ22 => narrow .byte (.int v21) = .int v21 ∧ fits .byte (.int v21) = true ∧ xpi κ σ22 a0 9 1 v21 fun σ23 => K () σ23.1)))))))) ∧ (¬ v6 = 0 → (narrow .byte (.int (0 : Int32)) = .int (0 : Int32) ∧ fits .byte (.int (0 : Int32)) = true ∧ xpi κ σ7 a0 9 1 (0 : Int32) fun σ24 => xcall (fun τ L => P_J9_copyOfRange κ v2 (0 : Int32) v4 τ L) σ24 fun v25 σ26 => xpq κ σ26 a0 9 0 v25 fun σ27 => K () σ27.1)))
theorem mdJ14_init_2 : yJ14_init_2.cls ≠ "java/lang/invoke/MethodHandle" ∧ yJ14_init_2.cls ≠ "java/lang/invoke/VarHandle" ∧ (parseMethodDescriptor yJ14_init_2.desc).map (fun d => d.parameters.length) = some 2 := by decide +kernel
set_option maxHeartbeats 4000000 in
set_option maxRecDepth 100000 in
theorem R_J14_init_2 (l : Launch) (hl : l.stackTraces = false) (G : xG) (hG : G.1.2 = x_cl) (a0 : Nat) (x1 : Option Nat) (x2 : Option Nat) (σ : xS) (K : Unit → xH → Prop) (hp : P_J14_init_2 G.2 a0 x1 x2 σ K) : xM l yJ14_init_2 cJ14_init_2 5 (Option.none : Option Jvm.ClassFile.FieldType) 5 131 G [(.ref a0), va_rf x1, va_rf x2] σ (xlift emV K) := by
  refine x_entry (by decide) (by simp [lg_sl, x_catq, x_cati, x_catr, x_catn]) ?_
  intro p e s m args below meth c X hr hin
  have X : xX p s m args meth c G cJ14_init_2 5 RJ14 := X
  have hx := X.1
  have hb := X.2.1
  have hts := X.2.2.2.2.1
  have hown := X.2.2.2.1
  unfold P_J14_init_2 at hp
  refine x_same (lo' := [(0, .ref a0), (1, va_rf x1), (2, va_rf x2)]) (by simp [lv_args, x_catq, x_cati, x_catr, x_catn]) ?_
  refine x_up (pc' := 1) (fun _ _ _ _ _ L => lv_aload_n hx hb dJ14_init_2_0 rfl (lv_at L 0 rfl)) ?_
  refine x_objInit X q1004 q170 q171 dJ14_init_2_1 (Nat.le_of_ble_eq_true rfl) ⟨Nat.le_of_ble_eq_true rfl, Nat.le_of_ble_eq_true rfl⟩ ?_
  refine x_pc (pc' := 4) rfl ?_
  refine x_up (pc' := 5) (fun _ _ _ _ _ L => lv_aloadq_n hx hb dJ14_init_2_4 rfl (lv_at L 1 rfl)) ?_
  obtain ⟨b1, rfl, hp1⟩ := hp
  refine x_callO (x := ⟨"java/lang/AbstractStringBuilder", "getValue", "()[B"⟩) (owner := "java/lang/AbstractStringBuilder") (em := emQ) (fun r st => va_rf r :: st) (fun _ _ => rfl) 0 X (kJ13 hG) (fun σ' KK h => R_J12_getValue l hl G hG b1 σ' KK h) (hts _ q1005) (hts _ q1007) (x_dco X q1006 q1009) (hts _ q1008) q1006 q115 q1009 (by decide +kernel) ⟨Nat.le_of_ble_eq_true rfl, Nat.le_of_ble_eq_true rfl⟩ rfl rfl (Nat.le_of_ble_eq_true rfl) dJ14_init_2_5 hp1.1 hp1.2 (fun v2 σ3 hp2 => ?_)
  refine x_pc (pc' := 8) rfl ?_
  refine x_st (pc' := 9) ([(3, va_rf v2), (0, .ref a0), (1, .ref b1), (2, va_rf x2)]) rfl (by simp [x_catq, x_cati, x_catr, x_catn]) (fun _ _ _ _ _ L => lv_astoreq_n hx hb dJ14_init_2_8 rfl L (by decide) rfl) ?_
  refine x_up (pc' := 10) (fun _ _ _ _ _ L => lv_aload_n hx hb dJ14_init_2_9 rfl (lv_at L 2 rfl)) ?_
  refine x_callO (x := ⟨"java/lang/AbstractStringBuilder", "length", "()I"⟩) (owner := "java/lang/AbstractStringBuilder") (em := emI) (fun r st => .int r :: st) (fun _ _ => rfl) 0 X (kJ13 hG) (fun σ' KK h => R_J13_length l hl G hG b1 σ' KK h) (hts _ q1010) (hts _ q1012) (x_dco X q1011 q1017) (hts _ q1013) q1014 q116 q1015 (by decide +kernel) ⟨Nat.le_of_ble_eq_true rfl, Nat.le_of_ble_eq_true rfl⟩ rfl rfl (Nat.le_of_ble_eq_true rfl) dJ14_init_2_10 hp2.1 hp2.2 (fun v4 σ5 hp3 => ?_)
  refine x_pc (pc' := 13) rfl ?_
  refine x_st (pc' := 15) ([(4, .int v4), (3, va_rf v2), (0, .ref a0), (1, .ref b1), (2, va_rf x2)]) rfl (by simp [x_catq, x_cati, x_catr, x_catn]) (fun _ _ _ _ _ L => lv_istore hx hb dJ14_init_2_13 L (by decide) rfl) ?_
  refine x_up (pc' := 16) (fun _ _ _ _ _ L => lv_aload_n hx hb dJ14_init_2_15 rfl (lv_at L 3 rfl)) ?_
  refine x_callO (x := ⟨"java/lang/AbstractStringBuilder", "isLatin1", "()Z"⟩) (owner := "java/lang/AbstractStringBuilder") (em := emI) (fun r st => .int r :: st) (fun _ _ => rfl) 0 X (kJ13 hG) (fun σ' KK h => R_J12_isLatin1 l hl G hG b1 σ' KK h) (hts _ q1018) (hts _ q895) (x_dco X q894 q897) (hts _ q896) q894 q115 q897 (by decide +kernel) ⟨Nat.le_of_ble_eq_true rfl, Nat.le_of_ble_eq_true rfl⟩ rfl rfl (Nat.le_of_ble_eq_true rfl) dJ14_init_2_16 hp3.1 hp3.2 (fun v6 σ7 hp4 => ?_)
  refine x_pc (pc' := 19) rfl ?_
  refine x_if (C := v6 = 0) (pt := 41) (pc' := 22) (fun _ _ _ _ _ => lv_if_eq (tgt := 41) hx hb dJ14_init_2_19 (by decide)) (fun c19 => ?_) (fun c19 => ?_)
  · have hp5 := hp4.1 c19
    refine x_gets (C := "java/lang/String") (n := "COMPACT_STRINGS") (d := "Z") (v := .int (1 : Int32)) X (by simp [x_sts]) q682 (fun _ h => h) dJ14_init_2_41 ?_
    refine x_pc (pc' := 44) rfl ?_
    refine x_if (C := (1 : Int32) = 0) (pt := 79) (pc' := 47) (fun _ _ _ _ _ => lv_if_eq (tgt := 79) hx hb dJ14_init_2_44 (by decide)) (fun c44 => ?_) (fun c44 => ?_)
    · have hp6 := hp5.1 c44
      refine x_up (pc' := 80) (fun _ _ _ _ _ L => lv_aload_n hx hb dJ14_init_2_79 rfl (lv_at L 2 rfl)) ?_
      refine x_up (pc' := 81) (fun _ _ _ _ _ L => lv_iconst (v := (1 : Int32)) hx hb dJ14_init_2_80 (by decide)) ?_
      obtain ⟨hn81, hf81, hp7⟩ := hp6
      refine x_piF X (kJ14 hG) 1 (by decide) q1082 (fun _ h => h) rfl hin rfl hn81 hf81 dJ14_init_2_81 hp7 (fun σ8 hp8 => ?_)
      refine x_pc (pc' := 84) rfl ?_
      refine x_up (pc' := 85) (fun _ _ _ _ _ L => lv_aload_n hx hb dJ14_init_2_84 rfl (lv_at L 2 rfl)) ?_
      refine x_up (pc' := 86) (fun _ _ _ _ _ L => lv_aloadq_n hx hb dJ14_init_2_85 rfl (lv_at L 1 rfl)) ?_
      refine x_up (pc' := 87) (fun _ _ _ _ _ L => lv_iconst (v := (0 : Int32)) hx hb dJ14_init_2_86 (by decide)) ?_
      refine x_up (pc' := 89) (fun _ _ _ _ _ L => lv_iload hx hb dJ14_init_2_87 (lv_at L 0 rfl)) ?_
      refine x_up (pc' := 90) (fun _ _ _ _ _ L => lv_iconst (v := (1 : Int32)) hx hb dJ14_init_2_89 (by decide)) ?_
      refine x_up (pc' := 91) (fun _ _ _ _ _ L => lv_ishl hx hb dJ14_init_2_90) ?_
      refine x_callS (em := emQ) (fun r st => va_rf r :: st) (fun _ _ => rfl) 3 X (fun σ' KK h => R_J9_copyOfRange l hl G hG v2 (0 : Int32) (v4 <<< ((1 : Int32) &&& 31)) σ' KK h) (lw_S q1019 q1020 q111 q1021) mdJ9_copyOfRange ⟨Nat.le_of_ble_eq_true rfl, Nat.le_of_ble_eq_true rfl⟩ rfl rfl (Nat.le_of_ble_eq_true rfl) dJ14_init_2_91 hp8 (fun v9 σ10 hp9 => ?_)
      refine x_pc (pc' := 94) rfl ?_
      refine x_pqF X (kJ14 hG) 0 (by decide) q1081 (fun _ h => h) rfl hin rfl v9 (x_nar _ (by decide)) (x_fit _ (by decide)) dJ14_init_2_94 hp9 (fun σ11 hp10 => ?_)
      refine x_pc (pc' := 97) rfl ?_
      exact x_vret X hr dJ14_init_2_97 hp10
    · have hp11 := hp5.2 c44
      refine x_up (pc' := 48) (fun _ _ _ _ _ L => lv_aload_n hx hb dJ14_init_2_47 rfl (lv_at L 3 rfl)) ?_
      refine x_gi X (kJ13 hG) 2 (by decide) q576 (fun _ h => h) dJ14_init_2_48 hp11 (fun v12 hp12 => ?_)
      refine x_pc (pc' := 51) rfl ?_
      refine x_if (C := v12 = 0) (pt := 79) (pc' := 54) (fun _ _ _ _ _ => lv_if_eq (tgt := 79) hx hb dJ14_init_2_51 (by decide)) (fun c51 => ?_) (fun c51 => ?_)
      · have hp13 := hp12.1 c51
        refine x_up (pc' := 80) (fun _ _ _ _ _ L => lv_aload_n hx hb dJ14_init_2_79 rfl (lv_at L 2 rfl)) ?_
        refine x_up (pc' := 81) (fun _ _ _ _ _ L => lv_iconst (v := (1 : Int32)) hx hb dJ14_init_2_80 (by decide)) ?_
        obtain ⟨hn81, hf81, hp14⟩ := hp13
        refine x_piF X (kJ14 hG) 1 (by decide) q1082 (fun _ h => h) rfl hin rfl hn81 hf81 dJ14_init_2_81 hp14 (fun σ13 hp15 => ?_)
        refine x_pc (pc' := 84) rfl ?_
        refine x_up (pc' := 85) (fun _ _ _ _ _ L => lv_aload_n hx hb dJ14_init_2_84 rfl (lv_at L 2 rfl)) ?_
        refine x_up (pc' := 86) (fun _ _ _ _ _ L => lv_aloadq_n hx hb dJ14_init_2_85 rfl (lv_at L 1 rfl)) ?_
        refine x_up (pc' := 87) (fun _ _ _ _ _ L => lv_iconst (v := (0 : Int32)) hx hb dJ14_init_2_86 (by decide)) ?_
        refine x_up (pc' := 89) (fun _ _ _ _ _ L => lv_iload hx hb dJ14_init_2_87 (lv_at L 0 rfl)) ?_
        refine x_up (pc' := 90) (fun _ _ _ _ _ L => lv_iconst (v := (1 : Int32)) hx hb dJ14_init_2_89 (by decide)) ?_
        refine x_up (pc' := 91) (fun _ _ _ _ _ L => lv_ishl hx hb dJ14_init_2_90) ?_
        refine x_callS (em := emQ) (fun r st => va_rf r :: st) (fun _ _ => rfl) 3 X (fun σ' KK h => R_J9_copyOfRange l hl G hG v2 (0 : Int32) (v4 <<< ((1 : Int32) &&& 31)) σ' KK h) (lw_S q1019 q1020 q111 q1021) mdJ9_copyOfRange ⟨Nat.le_of_ble_eq_true rfl, Nat.le_of_ble_eq_true rfl⟩ rfl rfl (Nat.le_of_ble_eq_true rfl) dJ14_init_2_91 hp15 (fun v14 σ15 hp16 => ?_)
        refine x_pc (pc' := 94) rfl ?_
        refine x_pqF X (kJ14 hG) 0 (by decide) q1081 (fun _ h => h) rfl hin rfl v14 (x_nar _ (by decide)) (x_fit _ (by decide)) dJ14_init_2_94 hp16 (fun σ16 hp17 => ?_)
        refine x_pc (pc' := 97) rfl ?_
        exact x_vret X hr dJ14_init_2_97 hp17
      · have hp18 := hp12.2 c51
        refine x_up (pc' := 55) (fun _ _ _ _ _ L => lv_aload_n hx hb dJ14_init_2_54 rfl (lv_at L 2 rfl)) ?_
        refine x_up (pc' := 56) (fun _ _ _ _ _ L => lv_aloadq_n hx hb dJ14_init_2_55 rfl (lv_at L 1 rfl)) ?_
        refine x_up (pc' := 57) (fun _ _ _ _ _ L => lv_iconst (v := (0 : Int32)) hx hb dJ14_init_2_56 (by decide)) ?_
        refine x_up (pc' := 59) (fun _ _ _ _ _ L => lv_iload hx hb dJ14_init_2_57 (lv_at L 0 rfl)) ?_
        refine x_callS (em := emQ) (fun r st => va_rf r :: st) (fun _ _ => rfl) 3 X (fun σ' KK h => R_J15_compress l hl G hG v2 (0 : Int32) v4 σ' KK h) (lw_S q1068 q1069 q118 q1070) mdJ15_compress ⟨Nat.le_of_ble_eq_true rfl, Nat.le_of_ble_eq_true rfl⟩ rfl rfl (Nat.le_of_ble_eq_true rfl) dJ14_init_2_59 hp18 (fun v17 σ18 hp19 => ?_)
        refine x_pc (pc' := 62) rfl ?_
        refine x_pqF X (kJ14 hG) 0 (by decide) q1081 (fun _ h => h) rfl hin rfl v17 (x_nar _ (by decide)) (x_fit _ (by decide)) dJ14_init_2_62 hp19 (fun σ19 hp20 => ?_)
        refine x_pc (pc' := 65) rfl ?_
        refine x_up (pc' := 66) (fun _ _ _ _ _ L => lv_aload_n hx hb dJ14_init_2_65 rfl (lv_at L 2 rfl)) ?_
        refine x_up (pc' := 67) (fun _ _ _ _ _ L => lv_aload_n hx hb dJ14_init_2_66 rfl (lv_at L 2 rfl)) ?_
        refine x_gq X (kJ14 hG) 0 (by decide) q1081 (fun _ h => h) dJ14_init_2_67 hp20 (fun v20 hp21 => ?_)
        refine x_pc (pc' := 70) rfl ?_
        refine x_up (pc' := 72) (fun _ _ _ _ _ L => lv_iload hx hb dJ14_init_2_70 (lv_at L 0 rfl)) ?_
        refine x_callS (em := emI) (fun r st => .int r :: st) (fun _ _ => rfl) 2 X (fun σ' KK h => R_J15_coderFromArrayLen l hl G hG v20 v4 σ' KK h) (lw_S q1078 q1079 q118 q1080) mdJ15_coderFromArrayLen ⟨Nat.le_of_ble_eq_true rfl, Nat.le_of_ble_eq_true rfl⟩ rfl rfl (Nat.le_of_ble_eq_true rfl) dJ14_init_2_72 hp21 (fun v21 σ22 hp22 => ?_)
        refine x_pc (pc' := 75) rfl ?_
        obtain ⟨hn75, hf75, hp23⟩ := hp22
        refine x_piF X (kJ14 hG) 1 (by decide) q1082 (fun _ h => h) rfl hin rfl hn75 hf75 dJ14_init_2_75 hp23 (fun σ23 hp24 => ?_)
        refine x_pc (pc' := 78) rfl ?_
        exact x_vret X hr dJ14_init_2_78 hp24
  · have hp25 := hp4.2 c19
    refine x_up (pc' := 23) (fun _ _ _ _ _ L => lv_aload_n hx hb dJ14_init_2_22 rfl (lv_at L 2 rfl)) ?_
    refine x_up (pc' := 24) (fun _ _ _ _ _ L => lv_iconst (v := (0 : Int32)) hx hb dJ14_init_2_23 (by decide)) ?_
    obtain ⟨hn24, hf24, hp26⟩ := hp25
    refine x_piF X (kJ14 hG) 1 (by decide) q1082 (fun _ h => h) rfl hin rfl hn24 hf24 dJ14_init_2_24 hp26 (fun σ24 hp27 => ?_)
    refine x_pc (pc' := 27) rfl ?_
    refine x_up (pc' := 28) (fun _ _ _ _ _ L => lv_aload_n hx hb dJ14_init_2_27 rfl (lv_at L 2 rfl)) ?_
    refine x_up (pc' := 29) (fun _ _ _ _ _ L => lv_aloadq_n hx hb dJ14_init_2_28 rfl (lv_at L 1 rfl)) ?_
    refine x_up (pc' := 30) (fun _ _ _ _ _ L => lv_iconst (v := (0 : Int32)) hx hb dJ14_init_2_29 (by decide)) ?_
    refine x_up (pc' := 32) (fun _ _ _ _ _ L => lv_iload hx hb dJ14_init_2_30 (lv_at L 0 rfl)) ?_
    refine x_callS (em := emQ) (fun r st => va_rf r :: st) (fun _ _ => rfl) 3 X (fun σ' KK h => R_J9_copyOfRange l hl G hG v2 (0 : Int32) v4 σ' KK h) (lw_S q1019 q1020 q111 q1021) mdJ9_copyOfRange ⟨Nat.le_of_ble_eq_true rfl, Nat.le_of_ble_eq_true rfl⟩ rfl rfl (Nat.le_of_ble_eq_true rfl) dJ14_init_2_32 hp27 (fun v25 σ26 hp28 => ?_)
    refine x_pc (pc' := 35) rfl ?_
    refine x_pqF X (kJ14 hG) 0 (by decide) q1081 (fun _ h => h) rfl hin rfl v25 (x_nar _ (by decide)) (x_fit _ (by decide)) dJ14_init_2_35 hp28 (fun σ27 hp29 => ?_)
    refine x_pc (pc' := 38) rfl ?_
    refine x_up (pc' := 97) (fun _ _ _ _ _ L => lv_goto (tgt := 97) hx hb dJ14_init_2_38 (by decide)) ?_
    exact x_vret X hr dJ14_init_2_97 hp29
-- J14_init
def P_J14_init (κ : Nat → Nat) (a0 : Nat) (x1 : Option Nat) (σ : xS) (K : Unit → xH → Prop) : Prop :=
  xcall (fun τ L => P_J14_init_2 κ a0 x1 none τ L) σ fun _ σ1 => K () σ1.1
theorem mdJ14_init : yJ14_init.cls ≠ "java/lang/invoke/MethodHandle" ∧ yJ14_init.cls ≠ "java/lang/invoke/VarHandle" ∧ (parseMethodDescriptor yJ14_init.desc).map (fun d => d.parameters.length) = some 1 := by decide +kernel
set_option maxHeartbeats 4000000 in
set_option maxRecDepth 100000 in
theorem R_J14_init (l : Launch) (hl : l.stackTraces = false) (G : xG) (hG : G.1.2 = x_cl) (a0 : Nat) (x1 : Option Nat) (σ : xS) (K : Unit → xH → Prop) (hp : P_J14_init G.2 a0 x1 σ K) : xM l yJ14_init cJ14_init 2 (Option.none : Option Jvm.ClassFile.FieldType) 6 155 G [(.ref a0), va_rf x1] σ (xlift emV K) := by
  refine x_entry (by decide) (by simp [lg_sl, x_catq, x_cati, x_catr, x_catn]) ?_
  intro p e s m args below meth c X hr hin
  have X : xX p s m args meth c G cJ14_init 2 RJ14 := X
  have hx := X.1
  have hb := X.2.1
  have hts := X.2.2.2.2.1
  have hown := X.2.2.2.1
  unfold P_J14_init at hp
  refine x_same (lo' := [(0, .ref a0), (1, va_rf x1)]) (by simp [lv_args, x_catq, x_cati, x_catr, x_catn]) ?_
  refine x_up (pc' := 1) (fun _ _ _ _ _ L => lv_aload_n hx hb dJ14_init_0 rfl (lv_at L 0 rfl)) ?_
  refine x_up (pc' := 2) (fun _ _ _ _ _ L => lv_aloadq_n hx hb dJ14_init_1 rfl (lv_at L 1 rfl)) ?_
  refine x_up (pc' := 3) (fun _ _ _ _ _ L => lv_null hx hb dJ14_init_2) ?_
  refine x_callI 2 X (fun σ' KK h => R_J14_init_2 l hl G hG a0 x1 none σ' KK h) (lw_meth q1003) q117 q1001 q1002 rfl mdJ14_init_2 ⟨Nat.le_of_ble_eq_true rfl, Nat.le_of_ble_eq_true rfl⟩ rfl rfl (Nat.le_of_ble_eq_true rfl) dJ14_init_3 hp (fun σ1 hp1 => ?_)
  refine x_pc (pc' := 6) rfl ?_
  exact x_vret X hr dJ14_init_6 hp1
-- J13_toString
def P_J13_toString (κ : Nat → Nat) (a0 : Nat) (σ : xS) (K : Option Nat → xH → Prop) : Prop :=
  xnew κ σ 9 4 [va_rf none, .int 0, .int 0, .int 0] fun q1 σ2 => xcall (fun τ L => P_J14_init κ q1 (some a0) τ L) σ2 fun _ σ3 => K (some q1) σ3.1
theorem mdJ13_toString : yJ13_toString.cls ≠ "java/lang/invoke/MethodHandle" ∧ yJ13_toString.cls ≠ "java/lang/invoke/VarHandle" ∧ (parseMethodDescriptor yJ13_toString.desc).map (fun d => d.parameters.length) = some 0 := by decide +kernel
set_option maxHeartbeats 4000000 in
set_option maxRecDepth 100000 in
theorem R_J13_toString (l : Launch) (hl : l.stackTraces = false) (G : xG) (hG : G.1.2 = x_cl) (a0 : Nat) (σ : xS) (K : Option Nat → xH → Prop) (hp : P_J13_toString G.2 a0 σ K) : xM l yJ13_toString cJ13_toString 1 (Option.some (Jvm.ClassFile.FieldType.object "java/lang/String")) 7 176 G [(.ref a0)] σ (xlift emQ K) := by
  refine x_entry (by decide) (Nat.le_of_ble_eq_true rfl) ?_
  intro p e s m args below meth c X hr hin
  have X : xX p s m args meth c G cJ13_toString 1 RJ13 := X
  have hx := X.1
  have hb := X.2.1
  have hts := X.2.2.2.2.1
  have hown := X.2.2.2.1
  unfold P_J13_toString at hp
  refine x_same (lo' := [(0, .ref a0)]) rfl ?_
  refine x_new X (kJ14 hG) q996 q997 q117 (fs := [va_rf none, .int 0, .int 0, .int 0]) x_dflt_J14 dJ13_toString_0 hp (fun q1 σ2 hp1 => ?_)
  refine x_pc (pc' := 3) rfl ?_
  refine x_up (pc' := 4) (fun _ _ _ _ _ L => lv_dup hx hb dJ13_toString_3 rfl) ?_
  refine x_up (pc' := 5) (fun _ _ _ _ _ L => lv_aload_n hx hb dJ13_toString_4 rfl (lv_at L 0 rfl)) ?_
  refine x_callI 1 X (fun σ' KK h => R_J14_init l hl G hG q1 (some a0) σ' KK h) (lw_meth q1000) q117 q998 q999 rfl mdJ14_init ⟨Nat.le_of_ble_eq_true rfl, Nat.le_of_ble_eq_true rfl⟩ rfl rfl (Nat.le_of_ble_eq_true rfl) dJ13_toString_5 hp1 (fun σ3 hp2 => ?_)
  refine x_pc (pc' := 8) rfl ?_
  exact x_aret X hr (Or.inl ⟨_, rfl⟩) dJ13_toString_8 (some q1) hp2
-- X13_init
def P_X13_init (κ : Nat → Nat) (a0 : Nat) (x1 : Option Nat) (σ : xS) (K : Unit → xH → Prop) : Prop :=
  xpq κ σ a0 36 0 x1 fun σ1 => K () σ1.1
theorem mdX13_init : yX13_init.cls ≠ "java/lang/invoke/MethodHandle" ∧ yX13_init.cls ≠ "java/lang/invoke/VarHandle" ∧ (parseMethodDescriptor yX13_init.desc).map (fun d => d.parameters.length) = some 1 := by decide +kernel
set_option maxHeartbeats 4000000 in
set_option maxRecDepth 100000 in
theorem R_X13_init (l : Launch) (hl : l.stackTraces = false) (G : xG) (hG : G.1.2 = x_cl) (a0 : Nat) (x1 : Option Nat) (σ : xS) (K : Unit → xH → Prop) (hp : P_X13_init G.2 a0 x1 σ K) : xM l yX13_init cX13_init 2 (Option.none : Option Jvm.ClassFile.FieldType) 1 20 G [(.ref a0), va_rf x1] σ (xlift emV K) := by
  refine x_entry (by decide) (by simp [lg_sl, x_catq, x_cati, x_catr, x_catn]) ?_
  intro p e s m args below meth c X hr hin
  have X : xX p s m args meth c G cX13_init 2 RX13 := X
  have hx := X.1
  have hb := X.2.1
  have hts := X.2.2.2.2.1
  have hown := X.2.2.2.1
  unfold P_X13_init at hp
  refine x_same (lo' := [(0, .ref a0), (1, va_rf x1)]) (by simp [lv_args, x_catq, x_cati, x_catr, x_catn]) ?_
  refine x_up (pc' := 1) (fun _ _ _ _ _ L => lv_aload_n hx hb dX13_init_0 rfl (lv_at L 0 rfl)) ?_
  refine x_objInit X q2906 q170 q171 dX13_init_1 (Nat.le_of_ble_eq_true rfl) ⟨Nat.le_of_ble_eq_true rfl, Nat.le_of_ble_eq_true rfl⟩ ?_
  refine x_pc (pc' := 4) rfl ?_
  refine x_up (pc' := 5) (fun _ _ _ _ _ L => lv_aload_n hx hb dX13_init_4 rfl (lv_at L 0 rfl)) ?_
  refine x_up (pc' := 6) (fun _ _ _ _ _ L => lv_aloadq_n hx hb dX13_init_5 rfl (lv_at L 1 rfl)) ?_
  refine x_pqF X (kX13 hG) 0 (by decide) q2907 (fun _ h => h) rfl hin rfl x1 (x_nar _ (by decide)) (x_fit _ (by decide)) dX13_init_6 hp (fun σ1 hp1 => ?_)
  refine x_pc (pc' := 9) rfl ?_
  exact x_vret X hr dX13_init_9 hp1
-- J9_rangeCheck
def P_J9_rangeCheck (κ : Nat → Nat) (x0 : Int32) (x1 : Int32) (x2 : Int32) (σ : xS) (K : Unit → xH → Prop) : Prop :=
  ((x1 ≤ x2 → (((0 ≤ x1 → (((x2 ≤ x0 → (K () σ.1)) ∧ (¬ x2 ≤ x0 → (False))))) ∧ (¬ 0 ≤ x1 → (False))))) ∧ (¬ x1 ≤ x2 → (False)))
theorem mdJ9_rangeCheck : yJ9_rangeCheck.cls ≠ "java/lang/invoke/MethodHandle" ∧ yJ9_rangeCheck.cls ≠ "java/lang/invoke/VarHandle" ∧ (parseMethodDescriptor yJ9_rangeCheck.desc).map (fun d => d.parameters.length) = some 3 := by decide +kernel
set_option maxHeartbeats 4000000 in
set_option maxRecDepth 100000 in
theorem R_J9_rangeCheck (l : Launch) (hl : l.stackTraces = false) (G : xG) (hG : G.1.2 = x_cl) (x0 : Int32) (x1 : Int32) (x2 : Int32) (σ : xS) (K : Unit → xH → Prop) (hp : P_J9_rangeCheck G.2 x0 x1 x2 σ K) : xM l yJ9_rangeCheck cJ9_rangeCheck 3 (Option.none : Option Jvm.ClassFile.FieldType) 0 0 G [.int x0, .int x1, .int x2] σ (xlift emV K) := by
  refine x_entry (by decide) (Nat.le_of_ble_eq_true rfl) ?_
  intro p e s m args below meth c X hr hin
  have X : xX p s m args meth c G cJ9_rangeCheck 3 RJ9 := X
  have hx := X.1
  have hb := X.2.1
  have hts := X.2.2.2.2.1
  have hown := X.2.2.2.1
  unfold P_J9_rangeCheck at hp
  refine x_same (lo' := [(0, .int x0), (1, .int x1), (2, .int x2)]) rfl ?_
  refine x_up (pc' := 1) (fun _ _ _ _ _ L => lv_iload_n hx hb dJ9_rangeCheck_0 rfl (lv_at L 1 rfl)) ?_
  refine x_up (pc' := 2) (fun _ _ _ _ _ L => lv_iload_n hx hb dJ9_rangeCheck_1 rfl (lv_at L 2 rfl)) ?_
  refine x_if (C := x1 ≤ x2) (pt := 46) (pc' := 5) (fun _ _ _ _ _ => lv_icmp_le (tgt := 46) hx hb dJ9_rangeCheck_2 (by decide)) (fun c2 => ?_) (fun c2 => ?_)
  · have hp1 := hp.1 c2
    refine x_up (pc' := 47) (fun _ _ _ _ _ L => lv_iload_n hx hb dJ9_rangeCheck_46 rfl (lv_at L 1 rfl)) ?_
    refine x_if (C := 0 ≤ x1) (pt := 59) (pc' := 50) (fun _ _ _ _ _ => lv_if_ge (tgt := 59) hx hb dJ9_rangeCheck_47 (by decide)) (fun c47 => ?_) (fun c47 => ?_)
    · have hp2 := hp1.1 c47
      refine x_up (pc' := 60) (fun _ _ _ _ _ L => lv_iload_n hx hb dJ9_rangeCheck_59 rfl (lv_at L 2 rfl)) ?_
      refine x_up (pc' := 61) (fun _ _ _ _ _ L => lv_iload_n hx hb dJ9_rangeCheck_60 rfl (lv_at L 0 rfl)) ?_
      refine x_if (C := x2 ≤ x0) (pt := 73) (pc' := 64) (fun _ _ _ _ _ => lv_icmp_le (tgt := 73) hx hb dJ9_rangeCheck_61 (by decide)) (fun c61 => ?_) (fun c61 => ?_)
      · have hp3 := hp2.1 c61
        exact x_vret X hr dJ9_rangeCheck_73 hp3
      · have hp4 := hp2.2 c61
        exact hp4.elim
    · have hp5 := hp1.2 c47
      exact hp5.elim
  · have hp6 := hp.2 c2
    exact hp6.elim
-- J9_fill
def B_J9_fill_10 (κ : Nat → Nat) (K : Unit → xH → Prop) (f0 : Nat) (f2 : Int32) (f3 : Int32) : (Int32 → xS → Prop) → Int32 → xS → Prop := fun self11003 w11001 σ11002 =>
  ((f2 ≤ w11001 → (K () σ11002.1)) ∧ (¬ f2 ≤ w11001 → (xsi κ .byte σ11002 f0 w11001 f3 fun σ11004 => self11003 (w11001 + (1 : Int32)) σ11004)))
def P_J9_fill (κ : Nat → Nat) (x0 : Option Nat) (x1 : Int32) (x2 : Int32) (x3 : Int32) (σ : xS) (K : Unit → xH → Prop) : Prop :=
  xnn x0 fun b1 => xan σ b1 fun v2 => xcall (fun τ L => P_J9_rangeCheck κ v2 x1 x2 τ L) σ fun _ σ3 => xwhile (B_J9_fill_10 κ K b1 x2 x3) x1 σ3
theorem mdJ9_fill : yJ9_fill.cls ≠ "java/lang/invoke/MethodHandle" ∧ yJ9_fill.cls ≠ "java/lang/invoke/VarHandle" ∧ (parseMethodDescriptor yJ9_fill.desc).map (fun d => d.parameters.length) = some 4 := by decide +kernel
set_option maxHeartbeats 4000000 in
set_option maxRecDepth 100000 in
theorem R_J9_fill (l : Launch) (hl : l.stackTraces = false) (G : xG) (hG : G.1.2 = x_cl) (x0 : Option Nat) (x1 : Int32) (x2 : Int32) (x3 : Int32) (σ : xS) (K : Unit → xH → Prop) (hp : P_J9_fill G.2 x0 x1 x2 x3 σ K) : xM l yJ9_fill cJ9_fill 5 (Option.none : Option Jvm.ClassFile.FieldType) 1 22 G [va_rf x0, .int x1, .int x2, .int x3] σ (xlift emV K) := by
  refine x_entry (by decide) (by simp [lg_sl, x_catq, x_cati, x_catr, x_catn]) ?_
  intro p e s m args below meth c X hr hin
  have X : xX p s m args meth c G cJ9_fill 5 RJ9 := X
  have hx := X.1
  have hb := X.2.1
  have hts := X.2.2.2.2.1
  have hown := X.2.2.2.1
  unfold P_J9_fill at hp
  refine x_same (lo' := [(0, va_rf x0), (1, .int x1), (2, .int x2), (3, .int x3)]) (by simp [lv_args, x_catq, x_cati, x_catr, x_catn]) ?_
  refine x_up (pc' := 1) (fun _ _ _ _ _ L => lv_aloadq_n hx hb dJ9_fill_0 rfl (lv_at L 0 rfl)) ?_
  obtain ⟨b1, rfl, hp1⟩ := hp
  refine x_alen X dJ9_fill_1 hp1 (fun v2 hp2 => ?_)
  refine x_pc (pc' := 2) rfl ?_
  refine x_up (pc' := 3) (fun _ _ _ _ _ L => lv_iload_n hx hb dJ9_fill_2 rfl (lv_at L 1 rfl)) ?_
  refine x_up (pc' := 4) (fun _ _ _ _ _ L => lv_iload_n hx hb dJ9_fill_3 rfl (lv_at L 2 rfl)) ?_
  refine x_callS (em := emV) (fun r st => st) (fun _ _ => rfl) 3 X (fun σ' KK h => R_J9_rangeCheck l hl G hG v2 x1 x2 σ' KK h) (lw_S q2946 q2947 q111 q2948) mdJ9_rangeCheck ⟨Nat.le_of_ble_eq_true rfl, Nat.le_of_ble_eq_true rfl⟩ rfl rfl (Nat.le_of_ble_eq_true rfl) dJ9_fill_4 hp2 (fun _ σ3 hp3 => ?_)
  refine x_pc (pc' := 7) rfl ?_
  refine x_up (pc' := 8) (fun _ _ _ _ _ L => lv_iload_n hx hb dJ9_fill_7 rfl (lv_at L 1 rfl)) ?_
  refine x_upL (pc' := 10) (lo' := [(4, .int x1), (0, .ref b1), (1, .int x1), (2, .int x2), (3, .int x3)]) (fun _ _ _ _ _ L => lv_istore hx hb dJ9_fill_8 L (by decide) rfl) ?_
  refine x_lo (lo' := [(4, .int x1), (0, .ref b1), (2, .int x2), (3, .int x3)]) [0, 1, 3, 4] rfl ?_
  refine x_while (v0 := x1) (fun w4 => [(4, .int w4), (0, .ref b1), (2, .int x2), (3, .int x3)]) hp3 (fun self5 hself6 => ?_)
  rintro y8 σ7 hp4
  unfold B_J9_fill_10 at hp4
  refine x_same (lo' := [(4, .int y8), (0, .ref b1), (2, .int x2), (3, .int x3)]) rfl ?_
  refine x_up (pc' := 12) (fun _ _ _ _ _ L => lv_iload hx hb dJ9_fill_10 (lv_at L 0 rfl)) ?_
  refine x_up (pc' := 13) (fun _ _ _ _ _ L => lv_iload_n hx hb dJ9_fill_12 rfl (lv_at L 2 rfl)) ?_
  refine x_if (C := x2 ≤ y8) (pt := 27) (pc' := 16) (fun _ _ _ _ _ => lv_icmp_ge (tgt := 27) hx hb dJ9_fill_13 (by decide)) (fun c13 => ?_) (fun c13 => ?_)
  · have hp5 := hp4.1 c13
    exact x_vret X hr dJ9_fill_27 hp5
  · have hp6 := hp4.2 c13
    refine x_up (pc' := 17) (fun _ _ _ _ _ L => lv_aload_n hx hb dJ9_fill_16 rfl (lv_at L 1 rfl)) ?_
    refine x_up (pc' := 19) (fun _ _ _ _ _ L => lv_iload hx hb dJ9_fill_17 (lv_at L 0 rfl)) ?_
    refine x_up (pc' := 20) (fun _ _ _ _ _ L => lv_iload_n hx hb dJ9_fill_19 rfl (lv_at L 3 rfl)) ?_
    refine x_bast X dJ9_fill_20 hp6 (fun σ9 hp7 => ?_)
    refine x_pc (pc' := 21) rfl ?_
    refine x_upL (pc' := 24) (lo' := [(4, .int (y8 + (1 : Int32))), (0, .ref b1), (2, .int x2), (3, .int x3)]) (fun _ _ _ _ _ L => lv_iinc (v := y8 + (1 : Int32)) hx hb dJ9_fill_21 L (k := 0) rfl rfl (by decide) rfl) ?_
    refine x_up (pc' := 10) (fun _ _ _ _ _ L => lv_goto (tgt := 10) hx hb dJ9_fill_24 (by decide)) ?_
    refine x_lo (lo' := [(4, .int (y8 + (1 : Int32))), (0, .ref b1), (2, .int x2), (3, .int x3)]) [0, 1, 2, 3] rfl ?_
    exact hself6 (y8 + (1 : Int32)) σ9 hp7
-- J15_fillNull
def P_J15_fillNull (κ : Nat → Nat) (x0 : Option Nat) (x1 : Int32) (x2 : Int32) (σ : xS) (K : Unit → xH → Prop) : Prop :=
  xcall (fun τ L => P_J9_fill κ x0 (x1 <<< ((1 : Int32) &&& 31)) (x2 <<< ((1 : Int32) &&& 31)) (0 : Int32) τ L) σ fun _ σ1 => K () σ1.1
theorem mdJ15_fillNull : yJ15_fillNull.cls ≠ "java/lang/invoke/MethodHandle" ∧ yJ15_fillNull.cls ≠ "java/lang/invoke/VarHandle" ∧ (parseMethodDescriptor yJ15_fillNull.desc).map (fun d => d.parameters.length) = some 3 := by decide +kernel
set_option maxHeartbeats 4000000 in
set_option maxRecDepth 100000 in
theorem R_J15_fillNull (l : Launch) (hl : l.stackTraces = false) (G : xG) (hG : G.1.2 = x_cl) (x0 : Option Nat) (x1 : Int32) (x2 : Int32) (σ : xS) (K : Unit → xH → Prop) (hp : P_J15_fillNull G.2 x0 x1 x2 σ K) : xM l yJ15_fillNull cJ15_fillNull 3 (Option.none : Option Jvm.ClassFile.FieldType) 2 46 G [va_rf x0, .int x1, .int x2] σ (xlift emV K) := by
  refine x_entry (by decide) (by simp [lg_sl, x_catq, x_cati, x_catr, x_catn]) ?_
  intro p e s m args below meth c X hr hin
  have X : xX p s m args meth c G cJ15_fillNull 3 RJ15 := X
  have hx := X.1
  have hb := X.2.1
  have hts := X.2.2.2.2.1
  have hown := X.2.2.2.1
  unfold P_J15_fillNull at hp
  refine x_same (lo' := [(0, va_rf x0), (1, .int x1), (2, .int x2)]) (by simp [lv_args, x_catq, x_cati, x_catr, x_catn]) ?_
  refine x_up (pc' := 1) (fun _ _ _ _ _ L => lv_aloadq_n hx hb dJ15_fillNull_0 rfl (lv_at L 0 rfl)) ?_
  refine x_up (pc' := 2) (fun _ _ _ _ _ L => lv_iload_n hx hb dJ15_fillNull_1 rfl (lv_at L 1 rfl)) ?_
  refine x_up (pc' := 3) (fun _ _ _ _ _ L => lv_iconst (v := (1 : Int32)) hx hb dJ15_fillNull_2 (by decide)) ?_
  refine x_up (pc' := 4) (fun _ _ _ _ _ L => lv_ishl hx hb dJ15_fillNull_3) ?_
  refine x_up (pc' := 5) (fun _ _ _ _ _ L => lv_iload_n hx hb dJ15_fillNull_4 rfl (lv_at L 2 rfl)) ?_
  refine x_up (pc' := 6) (fun _ _ _ _ _ L => lv_iconst (v := (1 : Int32)) hx hb dJ15_fillNull_5 (by decide)) ?_
  refine x_up (pc' := 7) (fun _ _ _ _ _ L => lv_ishl hx hb dJ15_fillNull_6) ?_
  refine x_up (pc' := 8) (fun _ _ _ _ _ L => lv_iconst (v := (0 : Int32)) hx hb dJ15_fillNull_7 (by decide)) ?_
  refine x_callS (em := emV) (fun r st => st) (fun _ _ => rfl) 4 X (fun σ' KK h => R_J9_fill l hl G hG x0 (x1 <<< ((1 : Int32) &&& 31)) (x2 <<< ((1 : Int32) &&& 31)) (0 : Int32) σ' KK h) (lw_S q2965 q2944 q111 q2945) mdJ9_fill ⟨Nat.le_of_ble_eq_true rfl, Nat.le_of_ble_eq_true rfl⟩ rfl rfl (Nat.le_of_ble_eq_true rfl) dJ15_fillNull_8 hp (fun _ σ1 hp1 => ?_)
  refine x_pc (pc' := 11) rfl ?_
  exact x_vret X hr dJ15_fillNull_11 hp1
-- J17_fillNull
def P_J17_fillNull (κ : Nat → Nat) (x0 : Option Nat) (x1 : Int32) (x2 : Int32) (σ : xS) (K : Unit → xH → Prop) : Prop :=
  xcall (fun τ L => P_J9_fill κ x0 x1 x2 (0 : Int32) τ L) σ fun _ σ1 => K () σ1.1
theorem mdJ17_fillNull : yJ17_fillNull.cls ≠ "java/lang/invoke/MethodHandle" ∧ yJ17_fillNull.cls ≠ "java/lang/invoke/VarHandle" ∧ (parseMethodDescriptor yJ17_fillNull.desc).map (fun d => d.parameters.length) = some 3 := by decide +kernel
set_option maxHeartbeats 4000000 in
set_option maxRecDepth 100000 in
theorem R_J17_fillNull (l : Launch) (hl : l.stackTraces = false) (G : xG) (hG : G.1.2 = x_cl) (x0 : Option Nat) (x1 : Int32) (x2 : Int32) (σ : xS) (K : Unit → xH → Prop) (hp : P_J17_fillNull G.2 x0 x1 x2 σ K) : xM l yJ17_fillNull cJ17_fillNull 3 (Option.none : Option Jvm.ClassFile.FieldType) 2 46 G [va_rf x0, .int x1, .int x2] σ (xlift emV K) := by
  refine x_entry (by decide) (by simp [lg_sl, x_catq, x_cati, x_catr, x_catn]) ?_
  intro p e s m args below meth c X hr hin
  have X : xX p s m args meth c G cJ17_fillNull 3 RJ17 := X
  have hx := X.1
  have hb := X.2.1
  have hts := X.2.2.2.2.1
  have hown := X.2.2.2.1
  unfold P_J17_fillNull at hp
  refine x_same (lo' := [(0, va_rf x0), (1, .int x1), (2, .int x2)]) (by simp [lv_args, x_catq, x_cati, x_catr, x_catn]) ?_
  refine x_up (pc' := 1) (fun _ _ _ _ _ L => lv_aloadq_n hx hb dJ17_fillNull_0 rfl (lv_at L 0 rfl)) ?_
  refine x_up (pc' := 2) (fun _ _ _ _ _ L => lv_iload_n hx hb dJ17_fillNull_1 rfl (lv_at L 1 rfl)) ?_
  refine x_up (pc' := 3) (fun _ _ _ _ _ L => lv_iload_n hx hb dJ17_fillNull_2 rfl (lv_at L 2 rfl)) ?_
  refine x_up (pc' := 4) (fun _ _ _ _ _ L => lv_iconst (v := (0 : Int32)) hx hb dJ17_fillNull_3 (by decide)) ?_
  refine x_callS (em := emV) (fun r st => st) (fun _ _ => rfl) 4 X (fun σ' KK h => R_J9_fill l hl G hG x0 x1 x2 (0 : Int32) σ' KK h) (lw_S q2943 q2944 q111 q2945) mdJ9_fill ⟨Nat.le_of_ble_eq_true rfl, Nat.le_of_ble_eq_true rfl⟩ rfl rfl (Nat.le_of_ble_eq_true rfl) dJ17_fillNull_4 hp (fun _ σ1 hp1 => ?_)
  refine x_pc (pc' := 7) rfl ?_
  exact x_vret X hr dJ17_fillNull_7 hp1
-- J12_setLength
def P_J12_setLength (κ : Nat → Nat) (a0 : Nat) (x1 : Int32) (σ : xS) (K : Unit → xH → Prop) : Prop :=
  ((0 ≤ x1 → (xrc σ a0 8 ∧ xcall (fun τ L => P_J12_ensureCapacityInternal κ a0 x1 τ L) σ fun _ σ1 => xgi σ1 a0 8 3 fun v2 => ((x1 ≤ v2 → (xgi σ1 a0 8 3 fun v3 => ((v3 ≤ x1 → (xpi κ σ1 a0 8 3 x1 fun σ4 => K () σ4.1)) ∧ (¬ v3 ≤ x1 → (xpi κ σ1 a0 8 2 (1 : Int32) fun σ5 => xpi κ σ5 a0 8 3 x1 fun σ6 => K () σ6.1))))) ∧ (¬ x1 ≤ v2 → (xrc σ1 a0 8 ∧ xcall (fun τ L => P_J12_isLatin1 κ a0 τ L) σ1 fun v7 σ8 => ((v7 = 0 → (xgq σ8 a0 8 0 fun v9 => xgi σ8 a0 8 3 fun v10 => xcall (fun τ L => P_J15_fillNull κ v9 v10 x1 τ L) σ8 fun _ σ11 => xpi κ σ11 a0 8 3 x1 fun σ12 => K () σ12.1)) ∧ (¬ v7 = 0 → (xgq σ8 a0 8 0 fun v13 => xgi σ8 a0 8 3 fun v14 => xcall (fun τ L => P_J17_fillNull κ v13 v14 x1 τ L) σ8 fun _ σ15 => xpi κ σ15 a0 8 3 x1 fun σ16 => K () σ16.1)))))))) ∧ (¬ 0 ≤ x1 → (False)))
theorem mdJ12_setLength : yJ12_setLength.cls ≠ "java/lang/invoke/MethodHandle" ∧ yJ12_setLength.cls ≠ "java/lang/invoke/VarHandle" ∧ (parseMethodDescriptor yJ12_setLength.desc).map (fun d => d.parameters.length) = some 1 := by decide +kernel
set_option maxHeartbeats 4000000 in
set_option maxRecDepth 100000 in
theorem R_J12_setLength (l : Launch) (hl : l.stackTraces = false) (G : xG) (hG : G.1.2 = x_cl) (a0 : Nat) (x1 : Int32) (σ : xS) (K : Unit → xH → Prop) (hp : P_J12_setLength G.2 a0 x1 σ K) : xM l yJ12_setLength cJ12_setLength 2 (Option.none : Option Jvm.ClassFile.FieldType) 4 104 G [(.ref a0), .int x1] σ (xlift emV K) := by
  refine x_entry (by decide) (Nat.le_of_ble_eq_true rfl) ?_
  intro p e s m args below meth c X hr hin
  have X : xX p s m args meth c G cJ12_setLength 2 RJ12 := X
  have hx := X.1
  have hb := X.2.1
  have hts := X.2.2.2.2.1
  have hown := X.2.2.2.1
  unfold P_J12_setLength at hp
  refine x_same (lo' := [(0, .ref a0), (1, .int x1)]) rfl ?_
  refine x_up (pc' := 1) (fun _ _ _ _ _ L => lv_iload_n hx hb dJ12_setLength_0 rfl (lv_at L 1 rfl)) ?_
  refine x_if (C := 0 ≤ x1) (pt := 13) (pc' := 4) (fun _ _ _ _ _ => lv_if_ge (tgt := 13) hx hb dJ12_setLength_1 (by decide)) (fun c1 => ?_) (fun c1 => ?_)
  · have hp1 := hp.1 c1
    refine x_up (pc' := 14) (fun _ _ _ _ _ L => lv_aload_n hx hb dJ12_setLength_13 rfl (lv_at L 0 rfl)) ?_
    refine x_up (pc' := 15) (fun _ _ _ _ _ L => lv_iload_n hx hb dJ12_setLength_14 rfl (lv_at L 1 rfl)) ?_
    refine x_callO (x := ⟨"java/lang/AbstractStringBuilder", "ensureCapacityInternal", "(I)V"⟩) (owner := "java/lang/AbstractStringBuilder") (em := emV) (fun r st => st) (fun _ _ => rfl) 1 X (kJ13 hG) (fun σ' KK h => R_J12_ensureCapacityInternal l hl G hG a0 x1 σ' KK h) (hts _ q873) (hts _ q3678) (x_dco X q875 q876) (x_selP X (kJ13 hG) (by decide) (by simp [x_dw]) q875 q3678) q875 q115 q876 (by decide +kernel) ⟨Nat.le_of_ble_eq_true rfl, Nat.le_of_ble_eq_true rfl⟩ rfl rfl (Nat.le_of_ble_eq_true rfl) dJ12_setLength_15 hp1.1 hp1.2 (fun _ σ1 hp2 => ?_)
    refine x_pc (pc' := 18) rfl ?_
    refine x_up (pc' := 19) (fun _ _ _ _ _ L => lv_aload_n hx hb dJ12_setLength_18 rfl (lv_at L 0 rfl)) ?_
    refine x_gi X (kJ13 hG) 3 (by decide) q577 (fun _ h => h) dJ12_setLength_19 hp2 (fun v2 hp3 => ?_)
    refine x_pc (pc' := 22) rfl ?_
    refine x_up (pc' := 23) (fun _ _ _ _ _ L => lv_iload_n hx hb dJ12_setLength_22 rfl (lv_at L 1 rfl)) ?_
    refine x_if (C := x1 ≤ v2) (pt := 63) (pc' := 26) (fun _ _ _ _ _ => lv_icmp_ge (tgt := 63) hx hb dJ12_setLength_23 (by decide)) (fun c23 => ?_) (fun c23 => ?_)
    · have hp4 := hp3.1 c23
      refine x_up (pc' := 64) (fun _ _ _ _ _ L => lv_aload_n hx hb dJ12_setLength_63 rfl (lv_at L 0 rfl)) ?_
      refine x_gi X (kJ13 hG) 3 (by decide) q577 (fun _ h => h) dJ12_setLength_64 hp4 (fun v3 hp5 => ?_)
      refine x_pc (pc' := 67) rfl ?_
      refine x_up (pc' := 68) (fun _ _ _ _ _ L => lv_iload_n hx hb dJ12_setLength_67 rfl (lv_at L 1 rfl)) ?_
      refine x_if (C := v3 ≤ x1) (pt := 76) (pc' := 71) (fun _ _ _ _ _ => lv_icmp_le (tgt := 76) hx hb dJ12_setLength_68 (by decide)) (fun c68 => ?_) (fun c68 => ?_)
      · have hp6 := hp5.1 c68
        refine x_up (pc' := 77) (fun _ _ _ _ _ L => lv_aload_n hx hb dJ12_setLength_76 rfl (lv_at L 0 rfl)) ?_
        refine x_up (pc' := 78) (fun _ _ _ _ _ L => lv_iload_n hx hb dJ12_setLength_77 rfl (lv_at L 1 rfl)) ?_
        refine x_pi X (kJ13 hG) 3 (by decide) q577 (fun _ h => h) rfl rfl rfl dJ12_setLength_78 hp6 (fun σ4 hp7 => ?_)
        refine x_pc (pc' := 81) rfl ?_
        exact x_vret X hr dJ12_setLength_81 hp7
      · have hp8 := hp5.2 c68
        refine x_up (pc' := 72) (fun _ _ _ _ _ L => lv_aload_n hx hb dJ12_setLength_71 rfl (lv_at L 0 rfl)) ?_
        refine x_up (pc' := 73) (fun _ _ _ _ _ L => lv_iconst (v := (1 : Int32)) hx hb dJ12_setLength_72 (by decide)) ?_
        refine x_pi X (kJ13 hG) 2 (by decide) q575 (fun _ h => h) rfl rfl rfl dJ12_setLength_73 hp8 (fun σ5 hp9 => ?_)
        refine x_pc (pc' := 76) rfl ?_
        refine x_up (pc' := 77) (fun _ _ _ _ _ L => lv_aload_n hx hb dJ12_setLength_76 rfl (lv_at L 0 rfl)) ?_
        refine x_up (pc' := 78) (fun _ _ _ _ _ L => lv_iload_n hx hb dJ12_setLength_77 rfl (lv_at L 1 rfl)) ?_
        refine x_pi X (kJ13 hG) 3 (by decide) q577 (fun _ h => h) rfl rfl rfl dJ12_setLength_78 hp9 (fun σ6 hp10 => ?_)
        refine x_pc (pc' := 81) rfl ?_
        exact x_vret X hr dJ12_setLength_81 hp10
    · have hp11 := hp3.2 c23
      refine x_up (pc' := 27) (fun _ _ _ _ _ L => lv_aload_n hx hb dJ12_setLength_26 rfl (lv_at L 0 rfl)) ?_
      refine x_callO (x := ⟨"java/lang/AbstractStringBuilder", "isLatin1", "()Z"⟩) (owner := "java/lang/AbstractStringBuilder") (em := emI) (fun r st => .int r :: st) (fun _ _ => rfl) 0 X (kJ13 hG) (fun σ' KK h => R_J12_isLatin1 l hl G hG a0 σ' KK h) (hts _ q893) (hts _ q895) (x_dco X q894 q897) (hts _ q896) q894 q115 q897 (by decide +kernel) ⟨Nat.le_of_ble_eq_true rfl, Nat.le_of_ble_eq_true rfl⟩ rfl rfl (Nat.le_of_ble_eq_true rfl) dJ12_setLength_27 hp11.1 hp11.2 (fun v7 σ8 hp12 => ?_)
      refine x_pc (pc' := 30) rfl ?_
      refine x_if (C := v7 = 0) (pt := 48) (pc' := 33) (fun _ _ _ _ _ => lv_if_eq (tgt := 48) hx hb dJ12_setLength_30 (by decide)) (fun c30 => ?_) (fun c30 => ?_)
      · have hp13 := hp12.1 c30
        refine x_up (pc' := 49) (fun _ _ _ _ _ L => lv_aload_n hx hb dJ12_setLength_48 rfl (lv_at L 0 rfl)) ?_
        refine x_gq X (kJ13 hG) 0 (by decide) q573 (fun _ h => h) dJ12_setLength_49 hp13 (fun v9 hp14 => ?_)
        refine x_pc (pc' := 52) rfl ?_
        refine x_up (pc' := 53) (fun _ _ _ _ _ L => lv_aload_n hx hb dJ12_setLength_52 rfl (lv_at L 0 rfl)) ?_
        refine x_gi X (kJ13 hG) 3 (by decide) q577 (fun _ h => h) dJ12_setLength_53 hp14 (fun v10 hp15 => ?_)
        refine x_pc (pc' := 56) rfl ?_
        refine x_up (pc' := 57) (fun _ _ _ _ _ L => lv_iload_n hx hb dJ12_setLength_56 rfl (lv_at L 1 rfl)) ?_
        refine x_callS (em := emV) (fun r st => st) (fun _ _ => rfl) 3 X (fun σ' KK h => R_J15_fillNull l hl G hG v9 v10 x1 σ' KK h) (lw_S q2962 q2963 q118 q2964) mdJ15_fillNull ⟨Nat.le_of_ble_eq_true rfl, Nat.le_of_ble_eq_true rfl⟩ rfl rfl (Nat.le_of_ble_eq_true rfl) dJ12_setLength_57 hp15 (fun _ σ11 hp16 => ?_)
        refine x_pc (pc' := 60) rfl ?_
        refine x_up (pc' := 76) (fun _ _ _ _ _ L => lv_goto (tgt := 76) hx hb dJ12_setLength_60 (by decide)) ?_
        refine x_up (pc' := 77) (fun _ _ _ _ _ L => lv_aload_n hx hb dJ12_setLength_76 rfl (lv_at L 0 rfl)) ?_
        refine x_up (pc' := 78) (fun _ _ _ _ _ L => lv_iload_n hx hb dJ12_setLength_77 rfl (lv_at L 1 rfl)) ?_
        refine x_pi X (kJ13 hG) 3 (by decide) q577 (fun _ h => h) rfl rfl rfl dJ12_setLength_78 hp16 (fun σ12 hp17 => ?_)
        refine x_pc (pc' := 81) rfl ?_
        exact x_vret X hr dJ12_setLength_81 hp17
      · have hp18 := hp12.2 c30
        refine x_up (pc' := 34) (fun _ _ _ _ _ L => lv_aload_n hx hb dJ12_setLength_33 rfl (lv_at L 0 rfl)) ?_
        refine x_gq X (kJ13 hG) 0 (by decide) q573 (fun _ h => h) dJ12_setLength_34 hp18 (fun v13 hp19 => ?_)
        refine x_pc (pc' := 37) rfl ?_
        refine x_up (pc' := 38) (fun _ _ _ _ _ L => lv_aload_n hx hb dJ12_setLength_37 rfl (lv_at L 0 rfl)) ?_
        refine x_gi X (kJ13 hG) 3 (by decide) q577 (fun _ h => h) dJ12_setLength_38 hp19 (fun v14 hp20 => ?_)
        refine x_pc (pc' := 41) rfl ?_
        refine x_up (pc' := 42) (fun _ _ _ _ _ L => lv_iload_n hx hb dJ12_setLength_41 rfl (lv_at L 1 rfl)) ?_
        refine x_callS (em := emV) (fun r st => st) (fun _ _ => rfl) 3 X (fun σ' KK h => R_J17_fillNull l hl G hG v13 v14 x1 σ' KK h) (lw_S q2940 q2941 q122 q2942) mdJ17_fillNull ⟨Nat.le_of_ble_eq_true rfl, Nat.le_of_ble_eq_true rfl⟩ rfl rfl (Nat.le_of_ble_eq_true rfl) dJ12_setLength_42 hp20 (fun _ σ15 hp21 => ?_)
        refine x_pc (pc' := 45) rfl ?_
        refine x_up (pc' := 76) (fun _ _ _ _ _ L => lv_goto (tgt := 76) hx hb dJ12_setLength_45 (by decide)) ?_
        refine x_up (pc' := 77) (fun _ _ _ _ _ L => lv_aload_n hx hb dJ12_setLength_76 rfl (lv_at L 0 rfl)) ?_
        refine x_up (pc' := 78) (fun _ _ _ _ _ L => lv_iload_n hx hb dJ12_setLength_77 rfl (lv_at L 1 rfl)) ?_
        refine x_pi X (kJ13 hG) 3 (by decide) q577 (fun _ h => h) rfl rfl rfl dJ12_setLength_78 hp21 (fun σ16 hp22 => ?_)
        refine x_pc (pc' := 81) rfl ?_
        exact x_vret X hr dJ12_setLength_81 hp22
  · have hp23 := hp.2 c1
    exact hp23.elim
-- J13_setLength
def P_J13_setLength (κ : Nat → Nat) (a0 : Nat) (x1 : Int32) (σ : xS) (K : Unit → xH → Prop) : Prop :=
  xrc σ a0 8 ∧ xcall (fun τ L => P_J12_setLength κ a0 x1 τ L) σ fun _ σ1 => K () σ1.1
theorem mdJ13_setLength : yJ13_setLength.cls ≠ "java/lang/invoke/MethodHandle" ∧ yJ13_setLength.cls ≠ "java/lang/invoke/VarHandle" ∧ (parseMethodDescriptor yJ13_setLength.desc).map (fun d => d.parameters.length) = some 1 := by decide +kernel
set_option maxHeartbeats 4000000 in
set_option maxRecDepth 100000 in
theorem R_J13_setLength (l : Launch) (hl : l.stackTraces = false) (G : xG) (hG : G.1.2 = x_cl) (a0 : Nat) (x1 : Int32) (σ : xS) (K : Unit → xH → Prop) (hp : P_J13_setLength G.2 a0 x1 σ K) : xM l yJ13_setLength cJ13_setLength 2 (Option.none : Option Jvm.ClassFile.FieldType) 5 125 G [(.ref a0), .int x1] σ (xlift emV K) := by
  refine x_entry (by decide) (Nat.le_of_ble_eq_true rfl) ?_
  intro p e s m args below meth c X hr hin
  have X : xX p s m args meth c G cJ13_setLength 2 RJ13 := X
  have hx := X.1
  have hb := X.2.1
  have hts := X.2.2.2.2.1
  have hown := X.2.2.2.1
  unfold P_J13_setLength at hp
  refine x_same (lo' := [(0, .ref a0), (1, .int x1)]) rfl ?_
  refine x_up (pc' := 1) (fun _ _ _ _ _ L => lv_aload_n hx hb dJ13_setLength_0 rfl (lv_at L 0 rfl)) ?_
  refine x_up (pc' := 2) (fun _ _ _ _ _ L => lv_iload_n hx hb dJ13_setLength_1 rfl (lv_at L 1 rfl)) ?_
  refine x_callSU (em := emV) (fun r st => st) (fun _ _ => rfl) 1 X (kJ13 hG) (fun σ' KK h => R_J12_setLength l hl G hG a0 x1 σ' KK h) q2918 q3704 q586 q2919 q115 q2920 (by decide +kernel) ⟨Nat.le_of_ble_eq_true rfl, Nat.le_of_ble_eq_true rfl⟩ rfl rfl (Nat.le_of_ble_eq_true rfl) dJ13_setLength_2 hp.1 hp.2 (fun _ σ1 hp1 => ?_)
  refine x_pc (pc' := 5) rfl ?_
  exact x_vret X hr dJ13_setLength_5 hp1
-- X13_isNext
def P_X13_isNext (κ : Nat → Nat) (a0 : Nat) (x1 : Int32) (x2 : Int32) (σ : xS) (K : Int32 → xH → Prop) : Prop :=
  xgi σ a0 36 1 fun v1 => xgq σ a0 36 0 fun v2 => xnn v2 fun b3 => xrc σ b3 9 ∧ xcall (fun τ L => P_J14_length κ b3 τ L) σ fun v4 σ5 => ((v4 ≤ v1 → (K (0 : Int32) σ5.1)) ∧ (¬ v4 ≤ v1 → (xgq σ5 a0 36 0 fun v6 => xgi σ5 a0 36 1 fun v7 => xnn v6 fun b8 => xrc σ5 b8 9 ∧ xcall (fun τ L => P_J14_charAt κ b8 v7 τ L) σ5 fun v9 σ10 => ((v9 < x1 → (K (0 : Int32) σ10.1)) ∧ (¬ v9 < x1 → (xgq σ10 a0 36 0 fun v11 => xgi σ10 a0 36 1 fun v12 => xnn v11 fun b13 => xrc σ10 b13 9 ∧ xcall (fun τ L => P_J14_charAt κ b13 v12 τ L) σ10 fun v14 σ15 => ((x2 < v14 → (K (0 : Int32) σ15.1)) ∧ (¬ x2 < v14 → (K (1 : Int32) σ15.1)))))))))
theorem mdX13_isNext : yX13_isNext.cls ≠ "java/lang/invoke/MethodHandle" ∧ yX13_isNext.cls ≠ "java/lang/invoke/VarHandle" ∧ (parseMethodDescriptor yX13_isNext.desc).map (fun d => d.parameters.length) = some 2 := by decide +kernel
set_option maxHeartbeats 4000000 in
set_option maxRecDepth 100000 in
theorem R_X13_isNext (l : Launch) (hl : l.stackTraces = false) (G : xG) (hG : G.1.2 = x_cl) (a0 : Nat) (x1 : Int32) (x2 : Int32) (σ : xS) (K : Int32 → xH → Prop) (hp : P_X13_isNext G.2 a0 x1 x2 σ K) : xM l yX13_isNext cX13_isNext 3 (Option.some Jvm.ClassFile.FieldType.boolean) 5 106 G [(.ref a0), .int x1, .int x2] σ (xlift emI K) := by
  refine x_entry (by decide) (Nat.le_of_ble_eq_true rfl) ?_
  intro p e s m args below meth c X hr hin
  have X : xX p s m args meth c G cX13_isNext 3 RX13 := X
  have hx := X.1
  have hb := X.2.1
  have hts := X.2.2.2.2.1
  have hown := X.2.2.2.1
  unfold P_X13_isNext at hp
  refine x_same (lo' := [(0, .ref a0), (1, .int x1), (2, .int x2)]) rfl ?_
  refine x_up (pc' := 1) (fun _ _ _ _ _ L => lv_aload_n hx hb dX13_isNext_0 rfl (lv_at L 0 rfl)) ?_
  refine x_gi X (kX13 hG) 1 (by decide) q2908 (fun _ h => h) dX13_isNext_1 hp (fun v1 hp1 => ?_)
  refine x_pc (pc' := 4) rfl ?_
  refine x_up (pc' := 5) (fun _ _ _ _ _ L => lv_aload_n hx hb dX13_isNext_4 rfl (lv_at L 0 rfl)) ?_
  refine x_gq X (kX13 hG) 0 (by decide) q2907 (fun _ h => h) dX13_isNext_5 hp1 (fun v2 hp2 => ?_)
  refine x_pc (pc' := 8) rfl ?_
  obtain ⟨b3, rfl, hp3⟩ := hp2
  refine x_callV (em := emI) (fun r st => .int r :: st) (fun _ _ => rfl) 0 X (kJ14 hG) (fun σ' KK h => R_J14_length l hl G hG b3 σ' KK h) (lw_V q2984 q925 q926 q117 q927) ⟨rfl, mdJ14_length⟩ ⟨Nat.le_of_ble_eq_true rfl, Nat.le_of_ble_eq_true rfl⟩ rfl rfl (Nat.le_of_ble_eq_true rfl) dX13_isNext_8 hp3.1 hp3.2 (fun v4 σ5 hp4 => ?_)
  refine x_pc (pc' := 11) rfl ?_
  refine x_if (C := v4 ≤ v1) (pt := 48) (pc' := 14) (fun _ _ _ _ _ => lv_icmp_ge (tgt := 48) hx hb dX13_isNext_11 (by decide)) (fun c11 => ?_) (fun c11 => ?_)
  · have hp5 := hp4.1 c11
    refine x_up (pc' := 49) (fun _ _ _ _ _ L => lv_iconst (v := (0 : Int32)) hx hb dX13_isNext_48 (by decide)) ?_
    exact x_iret X hr rfl dX13_isNext_49 hp5
  · have hp6 := hp4.2 c11
    refine x_up (pc' := 15) (fun _ _ _ _ _ L => lv_iload_n hx hb dX13_isNext_14 rfl (lv_at L 1 rfl)) ?_
    refine x_up (pc' := 16) (fun _ _ _ _ _ L => lv_aload_n hx hb dX13_isNext_15 rfl (lv_at L 0 rfl)) ?_
    refine x_gq X (kX13 hG) 0 (by decide) q2907 (fun _ h => h) dX13_isNext_16 hp6 (fun v6 hp7 => ?_)
    refine x_pc (pc' := 19) rfl ?_
    refine x_up (pc' := 20) (fun _ _ _ _ _ L => lv_aload_n hx hb dX13_isNext_19 rfl (lv_at L 0 rfl)) ?_
    refine x_gi X (kX13 hG) 1 (by decide) q2908 (fun _ h => h) dX13_isNext_20 hp7 (fun v7 hp8 => ?_)
    refine x_pc (pc' := 23) rfl ?_
    obtain ⟨b8, rfl, hp9⟩ := hp8
    refine x_callV (em := emI) (fun r st => .int r :: st) (fun _ _ => rfl) 1 X (kJ14 hG) (fun σ' KK h => R_J14_charAt l hl G hG b8 v7 σ' KK h) (lw_V q2985 q2986 q2987 q117 q2988) ⟨rfl, mdJ14_charAt⟩ ⟨Nat.le_of_ble_eq_true rfl, Nat.le_of_ble_eq_true rfl⟩ rfl rfl (Nat.le_of_ble_eq_true rfl) dX13_isNext_23 hp9.1 hp9.2 (fun v9 σ10 hp10 => ?_)
    refine x_pc (pc' := 26) rfl ?_
    refine x_if (C := v9 < x1) (pt := 48) (pc' := 29) (fun _ _ _ _ _ => lv_icmp_gt (tgt := 48) hx hb dX13_isNext_26 (by decide)) (fun c26 => ?_) (fun c26 => ?_)
    · have hp11 := hp10.1 c26
      refine x_up (pc' := 49) (fun _ _ _ _ _ L => lv_iconst (v := (0 : Int32)) hx hb dX13_isNext_48 (by decide)) ?_
      exact x_iret X hr rfl dX13_isNext_49 hp11
    · have hp12 := hp10.2 c26
      refine x_up (pc' := 30) (fun _ _ _ _ _ L => lv_aload_n hx hb dX13_isNext_29 rfl (lv_at L 0 rfl)) ?_
      refine x_gq X (kX13 hG) 0 (by decide) q2907 (fun _ h => h) dX13_isNext_30 hp12 (fun v11 hp13 => ?_)
      refine x_pc (pc' := 33) rfl ?_
      refine x_up (pc' := 34) (fun _ _ _ _ _ L => lv_aload_n hx hb dX13_isNext_33 rfl (lv_at L 0 rfl)) ?_
      refine x_gi X (kX13 hG) 1 (by decide) q2908 (fun _ h => h) dX13_isNext_34 hp13 (fun v12 hp14 => ?_)
      refine x_pc (pc' := 37) rfl ?_
      obtain ⟨b13, rfl, hp15⟩ := hp14
      refine x_callV (em := emI) (fun r st => .int r :: st) (fun _ _ => rfl) 1 X (kJ14 hG) (fun σ' KK h => R_J14_charAt l hl G hG b13 v12 σ' KK h) (lw_V q2985 q2986 q2987 q117 q2988) ⟨rfl, mdJ14_charAt⟩ ⟨Nat.le_of_ble_eq_true rfl, Nat.le_of_ble_eq_true rfl⟩ rfl rfl (Nat.le_of_ble_eq_true rfl) dX13_isNext_37 hp15.1 hp15.2 (fun v14 σ15 hp16 => ?_)
      refine x_pc (pc' := 40) rfl ?_
      refine x_up (pc' := 41) (fun _ _ _ _ _ L => lv_iload_n hx hb dX13_isNext_40 rfl (lv_at L 2 rfl)) ?_
      refine x_if (C := x2 < v14) (pt := 48) (pc' := 44) (fun _ _ _ _ _ => lv_icmp_gt (tgt := 48) hx hb dX13_isNext_41 (by decide)) (fun c41 => ?_) (fun c41 => ?_)
      · have hp17 := hp16.1 c41
        refine x_up (pc' := 49) (fun _ _ _ _ _ L => lv_iconst (v := (0 : Int32)) hx hb dX13_isNext_48 (by decide)) ?_
        exact x_iret X hr rfl dX13_isNext_49 hp17
      · have hp18 := hp16.2 c41
        refine x_up (pc' := 45) (fun _ _ _ _ _ L => lv_iconst (v := (1 : Int32)) hx hb dX13_isNext_44 (by decide)) ?_
        refine x_up (pc' := 49) (fun _ _ _ _ _ L => lv_goto (tgt := 49) hx hb dX13_isNext_45 (by decide)) ?_
        exact x_iret X hr rfl dX13_isNext_49 hp18
-- X13_passes
def P_X13_passes (κ : Nat → Nat) (a0 : Nat) (x1 : Int32) (σ : xS) (K : Int32 → xH → Prop) : Prop :=
  xrc σ a0 36 ∧ xcall (fun τ L => P_X13_isNext κ a0 x1 x1 τ L) σ fun v1 σ2 => xgi σ2 a0 36 1 fun v3 => ((v1 = 0 → (xpi κ σ2 a0 36 1 (v3 + (0 : Int32)) fun σ4 => (narrow .boolean (.int v1) = .int v1 ∧ K v1 σ4.1))) ∧ (¬ v1 = 0 → (xpi κ σ2 a0 36 1 (v3 + (1 : Int32)) fun σ5 => (narrow .boolean (.int v1) = .int v1 ∧ K v1 σ5.1))))
theorem mdX13_passes : yX13_passes.cls ≠ "java/lang/invoke/MethodHandle" ∧ yX13_passes.cls ≠ "java/lang/invoke/VarHandle" ∧ (parseMethodDescriptor yX13_passes.desc).map (fun d => d.parameters.length) = some 1 := by decide +kernel
set_option maxHeartbeats 4000000 in
set_option maxRecDepth 100000 in
theorem R_X13_passes (l : Launch) (hl : l.stackTraces = false) (G : xG) (hG : G.1.2 = x_cl) (a0 : Nat) (x1 : Int32) (σ : xS) (K : Int32 → xH → Prop) (hp : P_X13_passes G.2 a0 x1 σ K) : xM l yX13_passes cX13_passes 3 (Option.some Jvm.ClassFile.FieldType.boolean) 6 128 G [(.ref a0), .int x1] σ (xlift emI K) := by
  refine x_entry (by decide) (Nat.le_of_ble_eq_true rfl) ?_
  intro p e s m args below meth c X hr hin
  have X : xX p s m args meth c G cX13_passes 3 RX13 := X
  have hx := X.1
  have hb := X.2.1
  have hts := X.2.2.2.2.1
  have hown := X.2.2.2.1
  unfold P_X13_passes at hp
  refine x_same (lo' := [(0, .ref a0), (1, .int x1)]) rfl ?_
  refine x_up (pc' := 1) (fun _ _ _ _ _ L => lv_aload_n hx hb dX13_passes_0 rfl (lv_at L 0 rfl)) ?_
  refine x_up (pc' := 2) (fun _ _ _ _ _ L => lv_iload_n hx hb dX13_passes_1 rfl (lv_at L 1 rfl)) ?_
  refine x_up (pc' := 3) (fun _ _ _ _ _ L => lv_iload_n hx hb dX13_passes_2 rfl (lv_at L 1 rfl)) ?_
  refine x_callV (em := emI) (fun r st => .int r :: st) (fun _ _ => rfl) 2 X (kX13 hG) (fun σ' KK h => R_X13_isNext l hl G hG a0 x1 x1 σ' KK h) (lw_V q2980 q2982 qs43 q160 q2983) ⟨rfl, mdX13_isNext⟩ ⟨Nat.le_of_ble_eq_true rfl, Nat.le_of_ble_eq_true rfl⟩ rfl rfl (Nat.le_of_ble_eq_true rfl) dX13_passes_3 hp.1 hp.2 (fun v1 σ2 hp1 => ?_)
  refine x_pc (pc' := 6) rfl ?_
  refine x_upL (pc' := 7) (lo' := [(2, .int v1), (0, .ref a0), (1, .int x1)]) (fun _ _ _ _ _ L => lv_istore_n hx hb dX13_passes_6 rfl L (by decide) rfl) ?_
  refine x_up (pc' := 8) (fun _ _ _ _ _ L => lv_aload_n hx hb dX13_passes_7 rfl (lv_at L 1 rfl)) ?_
  refine x_up (pc' := 9) (fun _ _ _ _ _ L => lv_dup hx hb dX13_passes_8 rfl) ?_
  refine x_gi X (kX13 hG) 1 (by decide) q2908 (fun _ h => h) dX13_passes_9 hp1 (fun v3 hp2 => ?_)
  refine x_pc (pc' := 12) rfl ?_
  refine x_up (pc' := 13) (fun _ _ _ _ _ L => lv_iload_n hx hb dX13_passes_12 rfl (lv_at L 0 rfl)) ?_
  refine x_if (C := v1 = 0) (pt := 20) (pc' := 16) (fun _ _ _ _ _ => lv_if_eq (tgt := 20) hx hb dX13_passes_13 (by decide)) (fun c13 => ?_) (fun c13 => ?_)
  · have hp3 := hp2.1 c13
    refine x_up (pc' := 21) (fun _ _ _ _ _ L => lv_iconst (v := (0 : Int32)) hx hb dX13_passes_20 (by decide)) ?_
    refine x_up (pc' := 22) (fun _ _ _ _ _ L => lv_iadd hx hb dX13_passes_21) ?_
    refine x_pi X (kX13 hG) 1 (by decide) q2908 (fun _ h => h) rfl rfl rfl dX13_passes_22 hp3 (fun σ4 hp4 => ?_)
    refine x_pc (pc' := 25) rfl ?_
    refine x_up (pc' := 26) (fun _ _ _ _ _ L => lv_iload_n hx hb dX13_passes_25 rfl (lv_at L 0 rfl)) ?_
    exact x_iret X hr hp4.1 dX13_passes_26 hp4.2
  · have hp5 := hp2.2 c13
    refine x_up (pc' := 17) (fun _ _ _ _ _ L => lv_iconst (v := (1 : Int32)) hx hb dX13_passes_16 (by decide)) ?_
    refine x_up (pc' := 21) (fun _ _ _ _ _ L => lv_goto (tgt := 21) hx hb dX13_passes_17 (by decide)) ?_
    refine x_up (pc' := 22) (fun _ _ _ _ _ L => lv_iadd hx hb dX13_passes_21) ?_
    refine x_pi X (kX13 hG) 1 (by decide) q2908 (fun _ h => h) rfl rfl rfl dX13_passes_22 hp5 (fun σ5 hp6 => ?_)
    refine x_pc (pc' := 25) rfl ?_
    refine x_up (pc' := 26) (fun _ _ _ _ _ L => lv_iload_n hx hb dX13_passes_25 rfl (lv_at L 0 rfl)) ?_
    exact x_iret X hr hp6.1 dX13_passes_26 hp6.2
-- X14_init
def P_X14_init (κ : Nat → Nat) (a0 : Nat) (x1 : Int32) (σ : xS) (K : Unit → xH → Prop) : Prop :=
  xsup κ σ a0 38 [va_rf none, va_rf none, .int 0, .int 0] fun σ1 => xpi κ σ1 a0 38 6 x1 fun σ2 => K () σ2.1
theorem mdX14_init : yX14_init.cls ≠ "java/lang/invoke/MethodHandle" ∧ yX14_init.cls ≠ "java/lang/invoke/VarHandle" ∧ (parseMethodDescriptor yX14_init.desc).map (fun d => d.parameters.length) = some 1 := by decide +kernel
set_option maxHeartbeats 4000000 in
set_option maxRecDepth 100000 in
theorem R_X14_init (l : Launch) (hl : l.stackTraces = false) (G : xG) (hG : G.1.2 = x_cl) (a0 : Nat) (x1 : Int32) (σ : xS) (K : Unit → xH → Prop) (hp : P_X14_init G.2 a0 x1 σ K) : xM l yX14_init cX14_init 2 (Option.none : Option Jvm.ClassFile.FieldType) 5 100 G [(.ref a0), .int x1] σ (xlift emV K) := by
  refine x_entry (by decide) (Nat.le_of_ble_eq_true rfl) ?_
  intro p e s m args below meth c X hr hin
  have X : xX p s m args meth c G cX14_init 2 RX14 := X
  have hx := X.1
  have hb := X.2.1
  have hts := X.2.2.2.2.1
  have hown := X.2.2.2.1
  unfold P_X14_init at hp
  refine x_same (lo' := [(0, .ref a0), (1, .int x1)]) rfl ?_
  refine x_up (pc' := 1) (fun _ _ _ _ _ L => lv_aload_n hx hb dX14_init_0 rfl (lv_at L 0 rfl)) ?_
  refine x_superX14 X hl (kX14 hG) dX14_init_1 ⟨Nat.le_of_ble_eq_true rfl, Nat.le_of_ble_eq_true rfl⟩ (Nat.le_of_ble_eq_true rfl) hp (fun σ1 hp1 => ?_)
  refine x_pc (pc' := 4) rfl ?_
  refine x_up (pc' := 5) (fun _ _ _ _ _ L => lv_aload_n hx hb dX14_init_4 rfl (lv_at L 0 rfl)) ?_
  refine x_up (pc' := 6) (fun _ _ _ _ _ L => lv_iload_n hx hb dX14_init_5 rfl (lv_at L 1 rfl)) ?_
  refine x_piF X (kX14 hG) 6 (by decide) q3055 (fun _ h => h) rfl hin rfl rfl rfl dX14_init_6 hp1 (fun σ2 hp2 => ?_)
  refine x_pc (pc' := 9) rfl ?_
  exact x_vret X hr dX14_init_9 hp2
-- X13_expect
def P_X13_expect (κ : Nat → Nat) (a0 : Nat) (x1 : Int32) (σ : xS) (K : Unit → xH → Prop) (KX : Nat → xH → Prop) : Prop :=
  ((x1 = 0 → (xnew κ σ 1038 7 [] fun q1 σ2 => xgi σ2 a0 36 1 fun v3 => xcall (fun τ L => P_X14_init κ q1 v3 τ L) σ2 fun _ σ4 => κ 0 ≤ q1 ∧ xrc σ4 q1 38 ∧ KX q1 σ4.1)) ∧ (¬ x1 = 0 → (K () σ.1)))
theorem mdX13_expect : yX13_expect.cls ≠ "java/lang/invoke/MethodHandle" ∧ yX13_expect.cls ≠ "java/lang/invoke/VarHandle" ∧ (parseMethodDescriptor yX13_expect.desc).map (fun d => d.parameters.length) = some 1 := by decide +kernel
set_option maxHeartbeats 4000000 in
set_option maxRecDepth 100000 in
theorem R_X13_expect (l : Launch) (hl : l.stackTraces = false) (G : xG) (hG : G.1.2 = x_cl) (a0 : Nat) (x1 : Int32) (σ : xS) (K : Unit → xH → Prop) (KX : Nat → xH → Prop) (hp : P_X13_expect G.2 a0 x1 σ K KX) : xMX l yX13_expect cX13_expect 2 (Option.none : Option Jvm.ClassFile.FieldType) 6 121 G [(.ref a0), .int x1] σ (xlift emV K) KX := by
  refine x_entryX (by decide) (Nat.le_of_ble_eq_true rfl) ?_
  intro p e s m args below meth c X hr hin hno
  have X : xX p s m args meth c G cX13_expect 2 RX13 := X
  have hx := X.1
  have hb := X.2.1
  have hts := X.2.2.2.2.1
  have hown := X.2.2.2.1
  have hout : ∀ pc, ∀ x ∈ c.exceptionTable.toList, covers x pc = false := fun _ x hx => (hno x hx).elim
  unfold P_X13_expect at hp
  refine x_same (lo' := [(0, .ref a0), (1, .int x1)]) rfl ?_
  refine x_up (pc' := 1) (fun _ _ _ _ _ L => lv_iload_n hx hb dX13_expect_0 rfl (lv_at L 1 rfl)) ?_
  refine x_ifn (C := x1 = 0) (pt := 16) (pc' := 4) (fun _ _ _ _ _ => lv_if_ne (tgt := 16) hx hb dX13_expect_1 (by decide)) (fun c1 => ?_) (fun c1 => ?_)
  · have hp1 := hp.1 c1
    refine x_newE X (kX14 hG) q3042 q3043 q162 dX13_expect_4 hp1 (fun q1 σ2 hp2 => ?_)
    refine x_pc (pc' := 7) rfl ?_
    refine x_up (pc' := 8) (fun _ _ _ _ _ L => lv_dup hx hb dX13_expect_7 rfl) ?_
    refine x_up (pc' := 9) (fun _ _ _ _ _ L => lv_aload_n hx hb dX13_expect_8 rfl (lv_at L 0 rfl)) ?_
    refine x_gi X (kX13 hG) 1 (by decide) q2908 (fun _ h => h) dX13_expect_9 hp2 (fun v3 hp3 => ?_)
    refine x_pc (pc' := 12) rfl ?_
    refine x_callI 1 X (fun σ' KK h => R_X14_init l hl G hG q1 v3 σ' KK h) (lw_meth q3053) q162 q3051 q3052 rfl mdX14_init ⟨Nat.le_of_ble_eq_true rfl, Nat.le_of_ble_eq_true rfl⟩ rfl rfl (Nat.le_of_ble_eq_true rfl) dX13_expect_12 hp3 (fun σ4 hp4 => ?_)
    refine x_pc (pc' := 15) rfl ?_
    obtain ⟨hq15, hr15, hp5⟩ := hp4
    refine x_athrow X dX13_expect_15 ?_
    exact x_out X (kX14 hG) (hout 15) hr15 hq15 hp5
  · have hp6 := hp.2 c1
    refine x_vx ?_; exact x_vret X hr dX13_expect_16 hp6
-- J24_checkFromToIndex
def P_J24_checkFromToIndex (κ : Nat → Nat) (x0 : Int32) (x1 : Int32) (x2 : Int32) (x3 : Option Nat) (σ : xS) (K : Int32 → xH → Prop) : Prop :=
  ((x0 < 0 → (False)) ∧ (¬ x0 < 0 → (((x1 < x0 → (False)) ∧ (¬ x1 < x0 → (((x1 ≤ x2 → (K x0 σ.1)) ∧ (¬ x1 ≤ x2 → (False)))))))))
theorem mdJ24_checkFromToIndex : yJ24_checkFromToIndex.cls ≠ "java/lang/invoke/MethodHandle" ∧ yJ24_checkFromToIndex.cls ≠ "java/lang/invoke/VarHandle" ∧ (parseMethodDescriptor yJ24_checkFromToIndex.desc).map (fun d => d.parameters.length) = some 4 := by decide +kernel
set_option maxHeartbeats 4000000 in
set_option maxRecDepth 100000 in
theorem R_J24_checkFromToIndex (l : Launch) (hl : l.stackTraces = false) (G : xG) (hG : G.1.2 = x_cl) (x0 : Int32) (x1 : Int32) (x2 : Int32) (x3 : Option Nat) (σ : xS) (K : Int32 → xH → Prop) (hp : P_J24_checkFromToIndex G.2 x0 x1 x2 x3 σ K) : xM l yJ24_checkFromToIndex cJ24_checkFromToIndex 4 (Option.some Jvm.ClassFile.FieldType.int) 0 0 G [.int x0, .int x1, .int x2, va_rf x3] σ (xlift emI K) := by
  refine x_entry (by decide) (by simp [lg_sl, x_catq, x_cati, x_catr, x_catn]) ?_
  intro p e s m args below meth c X hr hin
  have X : xX p s m args meth c G cJ24_checkFromToIndex 4 RJ24 := X
  have hx := X.1
  have hb := X.2.1
  have hts := X.2.2.2.2.1
  have hown := X.2.2.2.1
  unfold P_J24_checkFromToIndex at hp
  refine x_same (lo' := [(0, .int x0), (1, .int x1), (2, .int x2), (3, va_rf x3)]) (by simp [lv_args, x_catq, x_cati, x_catr, x_catn]) ?_
  refine x_up (pc' := 1) (fun _ _ _ _ _ L => lv_iload_n hx hb dJ24_checkFromToIndex_0 rfl (lv_at L 0 rfl)) ?_
  refine x_if (C := x0 < 0) (pt := 14) (pc' := 4) (fun _ _ _ _ _ => lv_if_lt (tgt := 14) hx hb dJ24_checkFromToIndex_1 (by decide)) (fun c1 => ?_) (fun c1 => ?_)
  · have hp1 := hp.1 c1
    refine x_up (pc' := 15) (fun _ _ _ _ _ L => lv_aloadq_n hx hb dJ24_checkFromToIndex_14 rfl (lv_at L 3 rfl)) ?_
    refine x_up (pc' := 16) (fun _ _ _ _ _ L => lv_iload_n hx hb dJ24_checkFromToIndex_15 rfl (lv_at L 0 rfl)) ?_
    refine x_up (pc' := 17) (fun _ _ _ _ _ L => lv_iload_n hx hb dJ24_checkFromToIndex_16 rfl (lv_at L 1 rfl)) ?_
    refine x_up (pc' := 18) (fun _ _ _ _ _ L => lv_iload_n hx hb dJ24_checkFromToIndex_17 rfl (lv_at L 2 rfl)) ?_
    exact hp1.elim
  · have hp2 := hp.2 c1
    refine x_up (pc' := 5) (fun _ _ _ _ _ L => lv_iload_n hx hb dJ24_checkFromToIndex_4 rfl (lv_at L 0 rfl)) ?_
    refine x_up (pc' := 6) (fun _ _ _ _ _ L => lv_iload_n hx hb dJ24_checkFromToIndex_5 rfl (lv_at L 1 rfl)) ?_
    refine x_if (C := x1 < x0) (pt := 14) (pc' := 9) (fun _ _ _ _ _ => lv_icmp_gt (tgt := 14) hx hb dJ24_checkFromToIndex_6 (by decide)) (fun c6 => ?_) (fun c6 => ?_)
    · have hp3 := hp2.1 c6
      refine x_up (pc' := 15) (fun _ _ _ _ _ L => lv_aloadq_n hx hb dJ24_checkFromToIndex_14 rfl (lv_at L 3 rfl)) ?_
      refine x_up (pc' := 16) (fun _ _ _ _ _ L => lv_iload_n hx hb dJ24_checkFromToIndex_15 rfl (lv_at L 0 rfl)) ?_
      refine x_up (pc' := 17) (fun _ _ _ _ _ L => lv_iload_n hx hb dJ24_checkFromToIndex_16 rfl (lv_at L 1 rfl)) ?_
      refine x_up (pc' := 18) (fun _ _ _ _ _ L => lv_iload_n hx hb dJ24_checkFromToIndex_17 rfl (lv_at L 2 rfl)) ?_
      exact hp3.elim
    · have hp4 := hp2.2 c6
      refine x_up (pc' := 10) (fun _ _ _ _ _ L => lv_iload_n hx hb dJ24_checkFromToIndex_9 rfl (lv_at L 1 rfl)) ?_
      refine x_up (pc' := 11) (fun _ _ _ _ _ L => lv_iload_n hx hb dJ24_checkFromToIndex_10 rfl (lv_at L 2 rfl)) ?_
      refine x_if (C := x1 ≤ x2) (pt := 22) (pc' := 14) (fun _ _ _ _ _ => lv_icmp_le (tgt := 22) hx hb dJ24_checkFromToIndex_11 (by decide)) (fun c11 => ?_) (fun c11 => ?_)
      · have hp5 := hp4.1 c11
        refine x_up (pc' := 23) (fun _ _ _ _ _ L => lv_iload_n hx hb dJ24_checkFromToIndex_22 rfl (lv_at L 0 rfl)) ?_
        exact x_iret X hr rfl dJ24_checkFromToIndex_23 hp5
      · have hp6 := hp4.2 c11
        refine x_up (pc' := 15) (fun _ _ _ _ _ L => lv_aloadq_n hx hb dJ24_checkFromToIndex_14 rfl (lv_at L 3 rfl)) ?_
        refine x_up (pc' := 16) (fun _ _ _ _ _ L => lv_iload_n hx hb dJ24_checkFromToIndex_15 rfl (lv_at L 0 rfl)) ?_
        refine x_up (pc' := 17) (fun _ _ _ _ _ L => lv_iload_n hx hb dJ24_checkFromToIndex_16 rfl (lv_at L 1 rfl)) ?_
        refine x_up (pc' := 18) (fun _ _ _ _ _ L => lv_iload_n hx hb dJ24_checkFromToIndex_17 rfl (lv_at L 2 rfl)) ?_
        exact hp6.elim
-- J14_checkBoundsBeginEnd
def P_J14_checkBoundsBeginEnd (κ : Nat → Nat) (x0 : Int32) (x1 : Int32) (x2 : Int32) (σ : xS) (K : Unit → xH → Prop) : Prop :=
  xcall (fun τ L => P_J24_checkFromToIndex κ x0 x1 x2 (x_op κ 5) τ L) σ fun v1 σ2 => K () σ2.1
theorem mdJ14_checkBoundsBeginEnd : yJ14_checkBoundsBeginEnd.cls ≠ "java/lang/invoke/MethodHandle" ∧ yJ14_checkBoundsBeginEnd.cls ≠ "java/lang/invoke/VarHandle" ∧ (parseMethodDescriptor yJ14_checkBoundsBeginEnd.desc).map (fun d => d.parameters.length) = some 3 := by decide +kernel
set_option maxHeartbeats 4000000 in
set_option maxRecDepth 100000 in
theorem R_J14_checkBoundsBeginEnd (l : Launch) (hl : l.stackTraces = false) (G : xG) (hG : G.1.2 = x_cl) (x0 : Int32) (x1 : Int32) (x2 : Int32) (σ : xS) (K : Unit → xH → Prop) (hp : P_J14_checkBoundsBeginEnd G.2 x0 x1 x2 σ K) : xM l yJ14_checkBoundsBeginEnd cJ14_checkBoundsBeginEnd 3 (Option.none : Option Jvm.ClassFile.FieldType) 1 23 G [.int x0, .int x1, .int x2] σ (xlift emV K) := by
  refine x_entry (by decide) (Nat.le_of_ble_eq_true rfl) ?_
  intro p e s m args below meth c X hr hin
  have X : xX p s m args meth c G cJ14_checkBoundsBeginEnd 3 RJ14 := X
  have hx := X.1
  have hb := X.2.1
  have hts := X.2.2.2.2.1
  have hown := X.2.2.2.1
  unfold P_J14_checkBoundsBeginEnd at hp
  refine x_same (lo' := [(0, .int x0), (1, .int x1), (2, .int x2)]) rfl ?_
  refine x_up (pc' := 1) (fun _ _ _ _ _ L => lv_iload_n hx hb dJ14_checkBoundsBeginEnd_0 rfl (lv_at L 0 rfl)) ?_
  refine x_up (pc' := 2) (fun _ _ _ _ _ L => lv_iload_n hx hb dJ14_checkBoundsBeginEnd_1 rfl (lv_at L 1 rfl)) ?_
  refine x_up (pc' := 3) (fun _ _ _ _ _ L => lv_iload_n hx hb dJ14_checkBoundsBeginEnd_2 rfl (lv_at L 2 rfl)) ?_
  refine x_gets (C := "jdk/internal/util/Preconditions") (n := "SIOOBE_FORMATTER") (d := "Ljava/util/function/BiFunction;") (v := va_rf (x_op G.2 5)) X (by simp [x_sts]) q910 (fun _ h => h) dJ14_checkBoundsBeginEnd_3 ?_
  refine x_pc (pc' := 6) rfl ?_
  refine x_callS (em := emI) (fun r st => .int r :: st) (fun _ _ => rfl) 4 X (fun σ' KK h => R_J24_checkFromToIndex l hl G hG x0 x1 x2 (x_op G.2 5) σ' KK h) (lw_S q912 q913 q129 q914) mdJ24_checkFromToIndex ⟨Nat.le_of_ble_eq_true rfl, Nat.le_of_ble_eq_true rfl⟩ rfl rfl (Nat.le_of_ble_eq_true rfl) dJ14_checkBoundsBeginEnd_6 hp (fun v1 σ2 hp1 => ?_)
  refine x_pc (pc' := 9) rfl ?_
  refine x_up (pc' := 10) (fun _ _ _ _ _ L => lv_pop hx hb dJ14_checkBoundsBeginEnd_9 rfl) ?_
  exact x_vret X hr dJ14_checkBoundsBeginEnd_10 hp1
-- J14_init_3
def P_J14_init_3 (κ : Nat → Nat) (a0 : Nat) (x1 : Option Nat) (x2 : Int32) (σ : xS) (K : Unit → xH → Prop) : Prop :=
  xpq κ σ a0 9 0 x1 fun σ1 => narrow .byte (.int x2) = .int x2 ∧ fits .byte (.int x2) = true ∧ xpi κ σ1 a0 9 1 x2 fun σ2 => K () σ2.1
theorem mdJ14_init_3 : yJ14_init_3.cls ≠ "java/lang/invoke/MethodHandle" ∧ yJ14_init_3.cls ≠ "java/lang/invoke/VarHandle" ∧ (parseMethodDescriptor yJ14_init_3.desc).map (fun d => d.parameters.length) = some 2 := by decide +kernel
set_option maxHeartbeats 4000000 in
set_option maxRecDepth 100000 in
theorem R_J14_init_3 (l : Launch) (hl : l.stackTraces = false) (G : xG) (hG : G.1.2 = x_cl) (a0 : Nat) (x1 : Option Nat) (x2 : Int32) (σ : xS) (K : Unit → xH → Prop) (hp : P_J14_init_3 G.2 a0 x1 x2 σ K) : xM l yJ14_init_3 cJ14_init_3 3 (Option.none : Option Jvm.ClassFile.FieldType) 1 20 G [(.ref a0), va_rf x1, .int x2] σ (xlift emV K) := by
  refine x_entry (by decide) (by simp [lg_sl, x_catq, x_cati, x_catr, x_catn]) ?_
  intro p e s m args below meth c X hr hin
  have X : xX p s m args meth c G cJ14_init_3 3 RJ14 := X
  have hx := X.1
  have hb := X.2.1
  have hts := X.2.2.2.2.1
  have hown := X.2.2.2.1
  unfold P_J14_init_3 at hp
  refine x_same (lo' := [(0, .ref a0), (1, va_rf x1), (2, .int x2)]) (by simp [lv_args, x_catq, x_cati, x_catr, x_catn]) ?_
  refine x_up (pc' := 1) (fun _ _ _ _ _ L => lv_aload_n hx hb dJ14_init_3_0 rfl (lv_at L 0 rfl)) ?_
  refine x_objInit X q1004 q170 q171 dJ14_init_3_1 (Nat.le_of_ble_eq_true rfl) ⟨Nat.le_of_ble_eq_true rfl, Nat.le_of_ble_eq_true rfl⟩ ?_
  refine x_pc (pc' := 4) rfl ?_
  refine x_up (pc' := 5) (fun _ _ _ _ _ L => lv_aload_n hx hb dJ14_init_3_4 rfl (lv_at L 0 rfl)) ?_
  refine x_up (pc' := 6) (fun _ _ _ _ _ L => lv_aloadq_n hx hb dJ14_init_3_5 rfl (lv_at L 1 rfl)) ?_
  refine x_pqF X (kJ14 hG) 0 (by decide) q1081 (fun _ h => h) rfl hin rfl x1 (x_nar _ (by decide)) (x_fit _ (by decide)) dJ14_init_3_6 hp (fun σ1 hp1 => ?_)
  refine x_pc (pc' := 9) rfl ?_
  refine x_up (pc' := 10) (fun _ _ _ _ _ L => lv_aload_n hx hb dJ14_init_3_9 rfl (lv_at L 0 rfl)) ?_
  refine x_up (pc' := 11) (fun _ _ _ _ _ L => lv_iload_n hx hb dJ14_init_3_10 rfl (lv_at L 2 rfl)) ?_
  obtain ⟨hn11, hf11, hp2⟩ := hp1
  refine x_piF X (kJ14 hG) 1 (by decide) q1082 (fun _ h => h) rfl hin rfl hn11 hf11 dJ14_init_3_11 hp2 (fun σ2 hp3 => ?_)
  refine x_pc (pc' := 14) rfl ?_
  exact x_vret X hr dJ14_init_3_14 hp3
-- J15_newString
def P_J15_newString (κ : Nat → Nat) (x0 : Option Nat) (x1 : Int32) (x2 : Int32) (σ : xS) (K : Option Nat → xH → Prop) : Prop :=
  ((x2 = 0 → (K (some (κ 10)) σ.1)) ∧ (¬ x2 = 0 → ((((1 : Int32) = 0 → (xnew κ σ 9 4 [va_rf none, .int 0, .int 0, .int 0] fun q1 σ2 => xcall (fun τ L => P_J9_copyOfRange κ x0 (x1 <<< ((1 : Int32) &&& 31)) ((x1 + x2) <<< ((1 : Int32) &&& 31)) τ L) σ2 fun v3 σ4 => xcall (fun τ L => P_J14_init_3 κ q1 v3 (1 : Int32) τ L) σ4 fun _ σ5 => K (some q1) σ5.1)) ∧ (¬ (1 : Int32) = 0 → (xcall (fun τ L => P_J15_compress κ x0 x1 x2 τ L) σ fun v6 σ7 => xcall (fun τ L => P_J15_coderFromArrayLen κ v6 x2 τ L) σ7 fun v8 σ9 => xnew κ σ9 9 4 [va_rf none, .int 0, .int 0, .int 0] fun q10 σ11 => xcall (fun τ L => P_J14_init_3 κ q10 v6 v8 τ L) σ11 fun _ σ12 => K (some q10) σ12.1))))))
theorem mdJ15_newString : yJ15_newString.cls ≠ "java/lang/invoke/MethodHandle" ∧ yJ15_newString.cls ≠ "java/lang/invoke/VarHandle" ∧ (parseMethodDescriptor yJ15_newString.desc).map (fun d => d.parameters.length) = some 3 := by decide +kernel
set_option maxHeartbeats 4000000 in
set_option maxRecDepth 100000 in
theorem R_J15_newString (l : Launch) (hl : l.stackTraces = false) (G : xG) (hG : G.1.2 = x_cl) (x0 : Option Nat) (x1 : Int32) (x2 : Int32) (σ : xS) (K : Option Nat → xH → Prop) (hp : P_J15_newString G.2 x0 x1 x2 σ K) : xM l yJ15_newString cJ15_newString 5 (Option.some (Jvm.ClassFile.FieldType.object "java/lang/String")) 5 131 G [va_rf x0, .int x1, .int x2] σ (xlift emQ K) := by
  refine x_entry (by decide) (by simp [lg_sl, x_catq, x_cati, x_catr, x_catn]) ?_
  intro p e s m args below meth c X hr hin
  have X : xX p s m args meth c G cJ15_newString 5 RJ15 := X
  have hx := X.1
  have hb := X.2.1
  have hts := X.2.2.2.2.1
  have hown := X.2.2.2.1
  unfold P_J15_newString at hp
  refine x_same (lo' := [(0, va_rf x0), (1, .int x1), (2, .int x2)]) (by simp [lv_args, x_catq, x_cati, x_catr, x_catn]) ?_
  refine x_up (pc' := 1) (fun _ _ _ _ _ L => lv_iload_n hx hb dJ15_newString_0 rfl (lv_at L 2 rfl)) ?_
  refine x_ifn (C := x2 = 0) (pt := 8) (pc' := 4) (fun _ _ _ _ _ => lv_if_ne (tgt := 8) hx hb dJ15_newString_1 (by decide)) (fun c1 => ?_) (fun c1 => ?_)
  · have hp1 := hp.1 c1
    refine x_ldcwS (tx := "") (q := G.2 10) X (by simp [x_ss, RJ15]) dJ15_newString_4 ?_
    refine x_pc (pc' := 7) rfl ?_
    exact x_aret X hr (Or.inl ⟨_, rfl⟩) dJ15_newString_7 (some (G.2 10)) hp1
  · have hp2 := hp.2 c1
    refine x_gets (C := "java/lang/String") (n := "COMPACT_STRINGS") (d := "Z") (v := .int (1 : Int32)) X (by simp [x_sts]) q3026 (fun _ h => h) dJ15_newString_8 ?_
    refine x_pc (pc' := 11) rfl ?_
    refine x_if (C := (1 : Int32) = 0) (pt := 39) (pc' := 14) (fun _ _ _ _ _ => lv_if_eq (tgt := 39) hx hb dJ15_newString_11 (by decide)) (fun c11 => ?_) (fun c11 => ?_)
    · have hp3 := hp2.1 c11
      refine x_up (pc' := 40) (fun _ _ _ _ _ L => lv_iload_n hx hb dJ15_newString_39 rfl (lv_at L 1 rfl)) ?_
      refine x_up (pc' := 41) (fun _ _ _ _ _ L => lv_iload_n hx hb dJ15_newString_40 rfl (lv_at L 2 rfl)) ?_
      refine x_up (pc' := 42) (fun _ _ _ _ _ L => lv_iadd hx hb dJ15_newString_41) ?_
      refine x_upL (pc' := 43) (lo' := [(3, .int (x1 + x2)), (0, va_rf x0), (1, .int x1), (2, .int x2)]) (fun _ _ _ _ _ L => lv_istore_n hx hb dJ15_newString_42 rfl L (by decide) rfl) ?_
      refine x_new X (kJ14 hG) q3029 q997 q117 (fs := [va_rf none, .int 0, .int 0, .int 0]) x_dflt_J14 dJ15_newString_43 hp3 (fun q1 σ2 hp4 => ?_)
      refine x_pc (pc' := 46) rfl ?_
      refine x_up (pc' := 47) (fun _ _ _ _ _ L => lv_dup hx hb dJ15_newString_46 rfl) ?_
      refine x_up (pc' := 48) (fun _ _ _ _ _ L => lv_aloadq_n hx hb dJ15_newString_47 rfl (lv_at L 1 rfl)) ?_
      refine x_up (pc' := 49) (fun _ _ _ _ _ L => lv_iload_n hx hb dJ15_newString_48 rfl (lv_at L 2 rfl)) ?_
      refine x_up (pc' := 50) (fun _ _ _ _ _ L => lv_iconst (v := (1 : Int32)) hx hb dJ15_newString_49 (by decide)) ?_
      refine x_up (pc' := 51) (fun _ _ _ _ _ L => lv_ishl hx hb dJ15_newString_50) ?_
      refine x_up (pc' := 52) (fun _ _ _ _ _ L => lv_iload_n hx hb dJ15_newString_51 rfl (lv_at L 0 rfl)) ?_
      refine x_up (pc' := 53) (fun _ _ _ _ _ L => lv_iconst (v := (1 : Int32)) hx hb dJ15_newString_52 (by decide)) ?_
      refine x_up (pc' := 54) (fun _ _ _ _ _ L => lv_ishl hx hb dJ15_newString_53) ?_
      refine x_callS (em := emQ) (fun r st => va_rf r :: st) (fun _ _ => rfl) 3 X (fun σ' KK h => R_J9_copyOfRange l hl G hG x0 (x1 <<< ((1 : Int32) &&& 31)) ((x1 + x2) <<< ((1 : Int32) &&& 31)) σ' KK h) (lw_S q1077 q1020 q111 q1021) mdJ9_copyOfRange ⟨Nat.le_of_ble_eq_true rfl, Nat.le_of_ble_eq_true rfl⟩ rfl rfl (Nat.le_of_ble_eq_true rfl) dJ15_newString_54 hp4 (fun v3 σ4 hp5 => ?_)
      refine x_pc (pc' := 57) rfl ?_
      refine x_up (pc' := 58) (fun _ _ _ _ _ L => lv_iconst (v := (1 : Int32)) hx hb dJ15_newString_57 (by decide)) ?_
      refine x_callI 2 X (fun σ' KK h => R_J14_init_3 l hl G hG q1 v3 (1 : Int32) σ' KK h) (lw_meth q3021) q117 q3030 q3020 rfl mdJ14_init_3 ⟨Nat.le_of_ble_eq_true rfl, Nat.le_of_ble_eq_true rfl⟩ rfl rfl (Nat.le_of_ble_eq_true rfl) dJ15_newString_58 hp5 (fun σ5 hp6 => ?_)
      refine x_pc (pc' := 61) rfl ?_
      exact x_aret X hr (Or.inl ⟨_, rfl⟩) dJ15_newString_61 (some q1) hp6
    · have hp7 := hp2.2 c11
      refine x_up (pc' := 15) (fun _ _ _ _ _ L => lv_aloadq_n hx hb dJ15_newString_14 rfl (lv_at L 0 rfl)) ?_
      refine x_up (pc' := 16) (fun _ _ _ _ _ L => lv_iload_n hx hb dJ15_newString_15 rfl (lv_at L 1 rfl)) ?_
      refine x_up (pc' := 17) (fun _ _ _ _ _ L => lv_iload_n hx hb dJ15_newString_16 rfl (lv_at L 2 rfl)) ?_
      refine x_callS (em := emQ) (fun r st => va_rf r :: st) (fun _ _ => rfl) 3 X (fun σ' KK h => R_J15_compress l hl G hG x0 x1 x2 σ' KK h) (lw_S q3027 q1069 q118 q1070) mdJ15_compress ⟨Nat.le_of_ble_eq_true rfl, Nat.le_of_ble_eq_true rfl⟩ rfl rfl (Nat.le_of_ble_eq_true rfl) dJ15_newString_17 hp7 (fun v6 σ7 hp8 => ?_)
      refine x_pc (pc' := 20) rfl ?_
      refine x_upL (pc' := 21) (lo' := [(3, va_rf v6), (0, va_rf x0), (1, .int x1), (2, .int x2)]) (fun _ _ _ _ _ L => lv_astoreq_n hx hb dJ15_newString_20 rfl L (by decide) rfl) ?_
      refine x_up (pc' := 22) (fun _ _ _ _ _ L => lv_aloadq_n hx hb dJ15_newString_21 rfl (lv_at L 0 rfl)) ?_
      refine x_up (pc' := 23) (fun _ _ _ _ _ L => lv_iload_n hx hb dJ15_newString_22 rfl (lv_at L 3 rfl)) ?_
      refine x_callS (em := emI) (fun r st => .int r :: st) (fun _ _ => rfl) 2 X (fun σ' KK h => R_J15_coderFromArrayLen l hl G hG v6 x2 σ' KK h) (lw_S q3028 q1079 q118 q1080) mdJ15_coderFromArrayLen ⟨Nat.le_of_ble_eq_true rfl, Nat.le_of_ble_eq_true rfl⟩ rfl rfl (Nat.le_of_ble_eq_true rfl) dJ15_newString_23 hp8 (fun v8 σ9 hp9 => ?_)
      refine x_pc (pc' := 26) rfl ?_
      refine x_st (pc' := 28) ([(4, .int v8), (3, va_rf v6), (0, va_rf x0), (1, .int x1), (2, .int x2)]) rfl (by simp [x_catq, x_cati, x_catr, x_catn]) (fun _ _ _ _ _ L => lv_istore hx hb dJ15_newString_26 L (by decide) rfl) ?_
      refine x_new X (kJ14 hG) q3029 q997 q117 (fs := [va_rf none, .int 0, .int 0, .int 0]) x_dflt_J14 dJ15_newString_28 hp9 (fun q10 σ11 hp10 => ?_)
      refine x_pc (pc' := 31) rfl ?_
      refine x_up (pc' := 32) (fun _ _ _ _ _ L => lv_dup hx hb dJ15_newString_31 rfl) ?_
      refine x_up (pc' := 33) (fun _ _ _ _ _ L => lv_aloadq_n hx hb dJ15_newString_32 rfl (lv_at L 1 rfl)) ?_
      refine x_up (pc' := 35) (fun _ _ _ _ _ L => lv_iload hx hb dJ15_newString_33 (lv_at L 0 rfl)) ?_
      refine x_callI 2 X (fun σ' KK h => R_J14_init_3 l hl G hG q10 v6 v8 σ' KK h) (lw_meth q3021) q117 q3030 q3020 rfl mdJ14_init_3 ⟨Nat.le_of_ble_eq_true rfl, Nat.le_of_ble_eq_true rfl⟩ rfl rfl (Nat.le_of_ble_eq_true rfl) dJ15_newString_35 hp10 (fun σ12 hp11 => ?_)
      refine x_pc (pc' := 38) rfl ?_
      exact x_aret X hr (Or.inl ⟨_, rfl⟩) dJ15_newString_38 (some q10) hp11
-- J17_newString
def P_J17_newString (κ : Nat → Nat) (x0 : Option Nat) (x1 : Int32) (x2 : Int32) (σ : xS) (K : Option Nat → xH → Prop) : Prop :=
  ((x2 = 0 → (K (some (κ 10)) σ.1)) ∧ (¬ x2 = 0 → (xnew κ σ 9 4 [va_rf none, .int 0, .int 0, .int 0] fun q1 σ2 => xcall (fun τ L => P_J9_copyOfRange κ x0 x1 (x1 + x2) τ L) σ2 fun v3 σ4 => xcall (fun τ L => P_J14_init_3 κ q1 v3 (0 : Int32) τ L) σ4 fun _ σ5 => K (some q1) σ5.1)))
theorem mdJ17_newString : yJ17_newString.cls ≠ "java/lang/invoke/MethodHandle" ∧ yJ17_newString.cls ≠ "java/lang/invoke/VarHandle" ∧ (parseMethodDescriptor yJ17_newString.desc).map (fun d => d.parameters.length) = some 3 := by decide +kernel
set_option maxHeartbeats 4000000 in
set_option maxRecDepth 100000 in
theorem R_J17_newString (l : Launch) (hl : l.stackTraces = false) (G : xG) (hG : G.1.2 = x_cl) (x0 : Option Nat) (x1 : Int32) (x2 : Int32) (σ : xS) (K : Option Nat → xH → Prop) (hp : P_J17_newString G.2 x0 x1 x2 σ K) : xM l yJ17_newString cJ17_newString 3 (Option.some (Jvm.ClassFile.FieldType.object "java/lang/String")) 3 106 G [va_rf x0, .int x1, .int x2] σ (xlift emQ K) := by
  refine x_entry (by decide) (by simp [lg_sl, x_catq, x_cati, x_catr, x_catn]) ?_
  intro p e s m args below meth c X hr hin
  have X : xX p s m args meth c G cJ17_newString 3 RJ17 := X
  have hx := X.1
  have hb := X.2.1
  have hts := X.2.2.2.2.1
  have hown := X.2.2.2.1
  unfold P_J17_newString at hp
  refine x_same (lo' := [(0, va_rf x0), (1, .int x1), (2, .int x2)]) (by simp [lv_args, x_catq, x_cati, x_catr, x_catn]) ?_
  refine x_up (pc' := 1) (fun _ _ _ _ _ L => lv_iload_n hx hb dJ17_newString_0 rfl (lv_at L 2 rfl)) ?_
  refine x_ifn (C := x2 = 0) (pt := 7) (pc' := 4) (fun _ _ _ _ _ => lv_if_ne (tgt := 7) hx hb dJ17_newString_1 (by decide)) (fun c1 => ?_) (fun c1 => ?_)
  · have hp1 := hp.1 c1
    refine x_ldcS (tx := "") (q := G.2 10) X (by simp [x_ss, RJ17]) dJ17_newString_4 ?_
    refine x_pc (pc' := 6) rfl ?_
    exact x_aret X hr (Or.inl ⟨_, rfl⟩) dJ17_newString_6 (some (G.2 10)) hp1
  · have hp2 := hp.2 c1
    refine x_new X (kJ14 hG) q3017 q997 q117 (fs := [va_rf none, .int 0, .int 0, .int 0]) x_dflt_J14 dJ17_newString_7 hp2 (fun q1 σ2 hp3 => ?_)
    refine x_pc (pc' := 10) rfl ?_
    refine x_up (pc' := 11) (fun _ _ _ _ _ L => lv_dup hx hb dJ17_newString_10 rfl) ?_
    refine x_up (pc' := 12) (fun _ _ _ _ _ L => lv_aloadq_n hx hb dJ17_newString_11 rfl (lv_at L 0 rfl)) ?_
    refine x_up (pc' := 13) (fun _ _ _ _ _ L => lv_iload_n hx hb dJ17_newString_12 rfl (lv_at L 1 rfl)) ?_
    refine x_up (pc' := 14) (fun _ _ _ _ _ L => lv_iload_n hx hb dJ17_newString_13 rfl (lv_at L 1 rfl)) ?_
    refine x_up (pc' := 15) (fun _ _ _ _ _ L => lv_iload_n hx hb dJ17_newString_14 rfl (lv_at L 2 rfl)) ?_
    refine x_up (pc' := 16) (fun _ _ _ _ _ L => lv_iadd hx hb dJ17_newString_15) ?_
    refine x_callS (em := emQ) (fun r st => va_rf r :: st) (fun _ _ => rfl) 3 X (fun σ' KK h => R_J9_copyOfRange l hl G hG x0 x1 (x1 + x2) σ' KK h) (lw_S q3018 q1020 q111 q1021) mdJ9_copyOfRange ⟨Nat.le_of_ble_eq_true rfl, Nat.le_of_ble_eq_true rfl⟩ rfl rfl (Nat.le_of_ble_eq_true rfl) dJ17_newString_16 hp3 (fun v3 σ4 hp4 => ?_)
    refine x_pc (pc' := 19) rfl ?_
    refine x_up (pc' := 20) (fun _ _ _ _ _ L => lv_iconst (v := (0 : Int32)) hx hb dJ17_newString_19 (by decide)) ?_
    refine x_callI 2 X (fun σ' KK h => R_J14_init_3 l hl G hG q1 v3 (0 : Int32) σ' KK h) (lw_meth q3021) q117 q3019 q3020 rfl mdJ14_init_3 ⟨Nat.le_of_ble_eq_true rfl, Nat.le_of_ble_eq_true rfl⟩ rfl rfl (Nat.le_of_ble_eq_true rfl) dJ17_newString_20 hp4 (fun σ5 hp5 => ?_)
    refine x_pc (pc' := 23) rfl ?_
    exact x_aret X hr (Or.inl ⟨_, rfl⟩) dJ17_newString_23 (some q1) hp5
-- J14_substring_2
def P_J14_substring_2 (κ : Nat → Nat) (a0 : Nat) (x1 : Int32) (x2 : Int32) (σ : xS) (K : Option Nat → xH → Prop) : Prop :=
  xrc σ a0 9 ∧ xcall (fun τ L => P_J14_length κ a0 τ L) σ fun v1 σ2 => xcall (fun τ L => P_J14_checkBoundsBeginEnd κ x1 x2 v1 τ L) σ2 fun _ σ3 => ((x1 = 0 → (((x2 = v1 → (K (some a0) σ3.1)) ∧ (¬ x2 = v1 → (xrc σ3 a0 9 ∧ xcall (fun τ L => P_J14_isLatin1 κ a0 τ L) σ3 fun v4 σ5 => ((v4 = 0 → (xgq σ5 a0 9 0 fun v6 => xcall (fun τ L => P_J15_newString κ v6 x1 (x2 - x1) τ L) σ5 fun v7 σ8 => K v7 σ8.1)) ∧ (¬ v4 = 0 → (xgq σ5 a0 9 0 fun v9 => xcall (fun τ L => P_J17_newString κ v9 x1 (x2 - x1) τ L) σ5 fun v10 σ11 => K v10 σ11.1)))))))) ∧ (¬ x1 = 0 → (xrc σ3 a0 9 ∧ xcall (fun τ L => P_J14_isLatin1 κ a0 τ L) σ3 fun v12 σ13 => ((v12 = 0 → (xgq σ13 a0 9 0 fun v14 => xcall (fun τ L => P_J15_newString κ v14 x1 (x2 - x1) τ L) σ13 fun v15 σ16 => K v15 σ16.1)) ∧ (¬ v12 = 0 → (xgq σ13 a0 9 0 fun v17 => xcall (fun τ L => P_J17_newString κ v17 x1 (x2 - x1) τ L) σ13 fun v18 σ19 => K v18 σ19.1))))))
theorem mdJ14_substring_2 : yJ14_substring_2.cls ≠ "java/lang/invoke/MethodHandle" ∧ yJ14_substring_2.cls ≠ "java/lang/invoke/VarHandle" ∧ (parseMethodDescriptor yJ14_substring_2.desc).map (fun d => d.parameters.length) = some 2 := by decide +kernel
set_option maxHeartbeats 4000000 in
set_option maxRecDepth 100000 in
theorem R_J14_substring_2 (l : Launch) (hl : l.stackTraces = false) (G : xG) (hG : G.1.2 = x_cl) (a0 : Nat) (x1 : Int32) (x2 : Int32) (σ : xS) (K : Option Nat → xH → Prop) (hp : P_J14_substring_2 G.2 a0 x1 x2 σ K) : xM l yJ14_substring_2 cJ14_substring_2 5 (Option.some (Jvm.ClassFile.FieldType.object "java/lang/String")) 6 155 G [(.ref a0), .int x1, .int x2] σ (xlift emQ K) := by
  refine x_entry (by decide) (Nat.le_of_ble_eq_true rfl) ?_
  intro p e s m args below meth c X hr hin
  have X : xX p s m args meth c G cJ14_substring_2 5 RJ14 := X
  have hx := X.1
  have hb := X.2.1
  have hts := X.2.2.2.2.1
  have hown := X.2.2.2.1
  unfold P_J14_substring_2 at hp
  refine x_same (lo' := [(0, .ref a0), (1, .int x1), (2, .int x2)]) rfl ?_
  refine x_up (pc' := 1) (fun _ _ _ _ _ L => lv_aload_n hx hb dJ14_substring_2_0 rfl (lv_at L 0 rfl)) ?_
  refine x_callV (em := emI) (fun r st => .int r :: st) (fun _ _ => rfl) 0 X (kJ14 hG) (fun σ' KK h => R_J14_length l hl G hG a0 σ' KK h) (lw_V q3007 q925 q926 q117 q927) ⟨rfl, mdJ14_length⟩ ⟨Nat.le_of_ble_eq_true rfl, Nat.le_of_ble_eq_true rfl⟩ rfl rfl (Nat.le_of_ble_eq_true rfl) dJ14_substring_2_1 hp.1 hp.2 (fun v1 σ2 hp1 => ?_)
  refine x_pc (pc' := 4) rfl ?_
  refine x_upL (pc' := 5) (lo' := [(3, .int v1), (0, .ref a0), (1, .int x1), (2, .int x2)]) (fun _ _ _ _ _ L => lv_istore_n hx hb dJ14_substring_2_4 rfl L (by decide) rfl) ?_
  refine x_up (pc' := 6) (fun _ _ _ _ _ L => lv_iload_n hx hb dJ14_substring_2_5 rfl (lv_at L 2 rfl)) ?_
  refine x_up (pc' := 7) (fun _ _ _ _ _ L => lv_iload_n hx hb dJ14_substring_2_6 rfl (lv_at L 3 rfl)) ?_
  refine x_up (pc' := 8) (fun _ _ _ _ _ L => lv_iload_n hx hb dJ14_substring_2_7 rfl (lv_at L 0 rfl)) ?_
  refine x_callS (em := emV) (fun r st => st) (fun _ _ => rfl) 3 X (fun σ' KK h => R_J14_checkBoundsBeginEnd l hl G hG x1 x2 v1 σ' KK h) (lw_S q3012 q908 q117 q909) mdJ14_checkBoundsBeginEnd ⟨Nat.le_of_ble_eq_true rfl, Nat.le_of_ble_eq_true rfl⟩ rfl rfl (Nat.le_of_ble_eq_true rfl) dJ14_substring_2_8 hp1 (fun _ σ3 hp2 => ?_)
  refine x_pc (pc' := 11) rfl ?_
  refine x_up (pc' := 12) (fun _ _ _ _ _ L => lv_iload_n hx hb dJ14_substring_2_11 rfl (lv_at L 2 rfl)) ?_
  refine x_ifn (C := x1 = 0) (pt := 22) (pc' := 15) (fun _ _ _ _ _ => lv_if_ne (tgt := 22) hx hb dJ14_substring_2_12 (by decide)) (fun c12 => ?_) (fun c12 => ?_)
  · have hp3 := hp2.1 c12
    refine x_up (pc' := 16) (fun _ _ _ _ _ L => lv_iload_n hx hb dJ14_substring_2_15 rfl (lv_at L 3 rfl)) ?_
    refine x_up (pc' := 17) (fun _ _ _ _ _ L => lv_iload_n hx hb dJ14_substring_2_16 rfl (lv_at L 0 rfl)) ?_
    refine x_ifn (C := x2 = v1) (pt := 22) (pc' := 20) (fun _ _ _ _ _ => lv_icmp_ne (tgt := 22) hx hb dJ14_substring_2_17 (by decide)) (fun c17 => ?_) (fun c17 => ?_)
    · have hp4 := hp3.1 c17
      refine x_up (pc' := 21) (fun _ _ _ _ _ L => lv_aload_n hx hb dJ14_substring_2_20 rfl (lv_at L 1 rfl)) ?_
      exact x_aret X hr (Or.inl ⟨_, rfl⟩) dJ14_substring_2_21 (some a0) hp4
    · have hp5 := hp3.2 c17
      refine x_up (pc' := 23) (fun _ _ _ _ _ L => lv_iload_n hx hb dJ14_substring_2_22 rfl (lv_at L 3 rfl)) ?_
      refine x_up (pc' := 24) (fun _ _ _ _ _ L => lv_iload_n hx hb dJ14_substring_2_23 rfl (lv_at L 2 rfl)) ?_
      refine x_up (pc' := 25) (fun _ _ _ _ _ L => lv_isub hx hb dJ14_substring_2_24) ?_
      refine x_upL (pc' := 27) (lo' := [(4, .int (x2 - x1)), (3, .int v1), (0, .ref a0), (1, .int x1), (2, .int x2)]) (fun _ _ _ _ _ L => lv_istore hx hb dJ14_substring_2_25 L (by decide) rfl) ?_
      refine x_up (pc' := 28) (fun _ _ _ _ _ L => lv_aload_n hx hb dJ14_substring_2_27 rfl (lv_at L 2 rfl)) ?_
      refine x_callV (em := emI) (fun r st => .int r :: st) (fun _ _ => rfl) 0 X (kJ14 hG) (fun σ' KK h => R_J14_isLatin1 l hl G hG a0 σ' KK h) (lw_V q2159 q2160 q2161 q117 q2162) ⟨rfl, mdJ14_isLatin1⟩ ⟨Nat.le_of_ble_eq_true rfl, Nat.le_of_ble_eq_true rfl⟩ rfl rfl (Nat.le_of_ble_eq_true rfl) dJ14_substring_2_28 hp5.1 hp5.2 (fun v4 σ5 hp6 => ?_)
      refine x_pc (pc' := 31) rfl ?_
      refine x_if (C := v4 = 0) (pt := 47) (pc' := 34) (fun _ _ _ _ _ => lv_if_eq (tgt := 47) hx hb dJ14_substring_2_31 (by decide)) (fun c31 => ?_) (fun c31 => ?_)
      · have hp7 := hp6.1 c31
        refine x_up (pc' := 48) (fun _ _ _ _ _ L => lv_aload_n hx hb dJ14_substring_2_47 rfl (lv_at L 2 rfl)) ?_
        refine x_gq X (kJ14 hG) 0 (by decide) q1081 (fun _ h => h) dJ14_substring_2_48 hp7 (fun v6 hp8 => ?_)
        refine x_pc (pc' := 51) rfl ?_
        refine x_up (pc' := 52) (fun _ _ _ _ _ L => lv_iload_n hx hb dJ14_substring_2_51 rfl (lv_at L 3 rfl)) ?_
        refine x_up (pc' := 54) (fun _ _ _ _ _ L => lv_iload hx hb dJ14_substring_2_52 (lv_at L 0 rfl)) ?_
        refine x_callS (em := emQ) (fun r st => va_rf r :: st) (fun _ _ => rfl) 3 X (fun σ' KK h => R_J15_newString l hl G hG v6 x1 (x2 - x1) σ' KK h) (lw_S q3022 q3023 q118 q3024) mdJ15_newString ⟨Nat.le_of_ble_eq_true rfl, Nat.le_of_ble_eq_true rfl⟩ rfl rfl (Nat.le_of_ble_eq_true rfl) dJ14_substring_2_54 hp8 (fun v7 σ8 hp9 => ?_)
        refine x_pc (pc' := 57) rfl ?_
        exact x_aret X hr (Or.inl ⟨_, rfl⟩) dJ14_substring_2_57 v7 hp9
      · have hp10 := hp6.2 c31
        refine x_up (pc' := 35) (fun _ _ _ _ _ L => lv_aload_n hx hb dJ14_substring_2_34 rfl (lv_at L 2 rfl)) ?_
        refine x_gq X (kJ14 hG) 0 (by decide) q1081 (fun _ h => h) dJ14_substring_2_35 hp10 (fun v9 hp11 => ?_)
        refine x_pc (pc' := 38) rfl ?_
        refine x_up (pc' := 39) (fun _ _ _ _ _ L => lv_iload_n hx hb dJ14_substring_2_38 rfl (lv_at L 3 rfl)) ?_
        refine x_up (pc' := 41) (fun _ _ _ _ _ L => lv_iload hx hb dJ14_substring_2_39 (lv_at L 0 rfl)) ?_
        refine x_callS (em := emQ) (fun r st => va_rf r :: st) (fun _ _ => rfl) 3 X (fun σ' KK h => R_J17_newString l hl G hG v9 x1 (x2 - x1) σ' KK h) (lw_S q3013 q3014 q122 q3015) mdJ17_newString ⟨Nat.le_of_ble_eq_true rfl, Nat.le_of_ble_eq_true rfl⟩ rfl rfl (Nat.le_of_ble_eq_true rfl) dJ14_substring_2_41 hp11 (fun v10 σ11 hp12 => ?_)
        refine x_pc (pc' := 44) rfl ?_
        refine x_up (pc' := 57) (fun _ _ _ _ _ L => lv_goto (tgt := 57) hx hb dJ14_substring_2_44 (by decide)) ?_
        exact x_aret X hr (Or.inl ⟨_, rfl⟩) dJ14_substring_2_57 v10 hp12
  · have hp13 := hp2.2 c12
    refine x_up (pc' := 23) (fun _ _ _ _ _ L => lv_iload_n hx hb dJ14_substring_2_22 rfl (lv_at L 3 rfl)) ?_
    refine x_up (pc' := 24) (fun _ _ _ _ _ L => lv_iload_n hx hb dJ14_substring_2_23 rfl (lv_at L 2 rfl)) ?_
    refine x_up (pc' := 25) (fun _ _ _ _ _ L => lv_isub hx hb dJ14_substring_2_24) ?_
    refine x_upL (pc' := 27) (lo' := [(4, .int (x2 - x1)), (3, .int v1), (0, .ref a0), (1, .int x1), (2, .int x2)]) (fun _ _ _ _ _ L => lv_istore hx hb dJ14_substring_2_25 L (by decide) rfl) ?_
    refine x_up (pc' := 28) (fun _ _ _ _ _ L => lv_aload_n hx hb dJ14_substring_2_27 rfl (lv_at L 2 rfl)) ?_
    refine x_callV (em := emI) (fun r st => .int r :: st) (fun _ _ => rfl) 0 X (kJ14 hG) (fun σ' KK h => R_J14_isLatin1 l hl G hG a0 σ' KK h) (lw_V q2159 q2160 q2161 q117 q2162) ⟨rfl, mdJ14_isLatin1⟩ ⟨Nat.le_of_ble_eq_true rfl, Nat.le_of_ble_eq_true rfl⟩ rfl rfl (Nat.le_of_ble_eq_true rfl) dJ14_substring_2_28 hp13.1 hp13.2 (fun v12 σ13 hp14 => ?_)
    refine x_pc (pc' := 31) rfl ?_
    refine x_if (C := v12 = 0) (pt := 47) (pc' := 34) (fun _ _ _ _ _ => lv_if_eq (tgt := 47) hx hb dJ14_substring_2_31 (by decide)) (fun c31 => ?_) (fun c31 => ?_)
    · have hp15 := hp14.1 c31
      refine x_up (pc' := 48) (fun _ _ _ _ _ L => lv_aload_n hx hb dJ14_substring_2_47 rfl (lv_at L 2 rfl)) ?_
      refine x_gq X (kJ14 hG) 0 (by decide) q1081 (fun _ h => h) dJ14_substring_2_48 hp15 (fun v14 hp16 => ?_)
      refine x_pc (pc' := 51) rfl ?_
      refine x_up (pc' := 52) (fun _ _ _ _ _ L => lv_iload_n hx hb dJ14_substring_2_51 rfl (lv_at L 3 rfl)) ?_
      refine x_up (pc' := 54) (fun _ _ _ _ _ L => lv_iload hx hb dJ14_substring_2_52 (lv_at L 0 rfl)) ?_
      refine x_callS (em := emQ) (fun r st => va_rf r :: st) (fun _ _ => rfl) 3 X (fun σ' KK h => R_J15_newString l hl G hG v14 x1 (x2 - x1) σ' KK h) (lw_S q3022 q3023 q118 q3024) mdJ15_newString ⟨Nat.le_of_ble_eq_true rfl, Nat.le_of_ble_eq_true rfl⟩ rfl rfl (Nat.le_of_ble_eq_true rfl) dJ14_substring_2_54 hp16 (fun v15 σ16 hp17 => ?_)
      refine x_pc (pc' := 57) rfl ?_
      exact x_aret X hr (Or.inl ⟨_, rfl⟩) dJ14_substring_2_57 v15 hp17
    · have hp18 := hp14.2 c31
      refine x_up (pc' := 35) (fun _ _ _ _ _ L => lv_aload_n hx hb dJ14_substring_2_34 rfl (lv_at L 2 rfl)) ?_
      refine x_gq X (kJ14 hG) 0 (by decide) q1081 (fun _ h => h) dJ14_substring_2_35 hp18 (fun v17 hp19 => ?_)
      refine x_pc (pc' := 38) rfl ?_
      refine x_up (pc' := 39) (fun _ _ _ _ _ L => lv_iload_n hx hb dJ14_substring_2_38 rfl (lv_at L 3 rfl)) ?_
      refine x_up (pc' := 41) (fun _ _ _ _ _ L => lv_iload hx hb dJ14_substring_2_39 (lv_at L 0 rfl)) ?_
      refine x_callS (em := emQ) (fun r st => va_rf r :: st) (fun _ _ => rfl) 3 X (fun σ' KK h => R_J17_newString l hl G hG v17 x1 (x2 - x1) σ' KK h) (lw_S q3013 q3014 q122 q3015) mdJ17_newString ⟨Nat.le_of_ble_eq_true rfl, Nat.le_of_ble_eq_true rfl⟩ rfl rfl (Nat.le_of_ble_eq_true rfl) dJ14_substring_2_41 hp19 (fun v18 σ19 hp20 => ?_)
      refine x_pc (pc' := 44) rfl ?_
      refine x_up (pc' := 57) (fun _ _ _ _ _ L => lv_goto (tgt := 57) hx hb dJ14_substring_2_44 (by decide)) ?_
      exact x_aret X hr (Or.inl ⟨_, rfl⟩) dJ14_substring_2_57 v18 hp20
-- J14_substring
def P_J14_substring (κ : Nat → Nat) (a0 : Nat) (x1 : Int32) (σ : xS) (K : Option Nat → xH → Prop) : Prop :=
  xrc σ a0 9 ∧ xcall (fun τ L => P_J14_length κ a0 τ L) σ fun v1 σ2 => xrc σ2 a0 9 ∧ xcall (fun τ L => P_J14_substring_2 κ a0 x1 v1 τ L) σ2 fun v3 σ4 => K v3 σ4.1
theorem mdJ14_substring : yJ14_substring.cls ≠ "java/lang/invoke/MethodHandle" ∧ yJ14_substring.cls ≠ "java/lang/invoke/VarHandle" ∧ (parseMethodDescriptor yJ14_substring.desc).map (fun d => d.parameters.length) = some 1 := by decide +kernel
set_option maxHeartbeats 4000000 in
set_option maxRecDepth 100000 in
theorem R_J14_substring (l : Launch) (hl : l.stackTraces = false) (G : xG) (hG : G.1.2 = x_cl) (a0 : Nat) (x1 : Int32) (σ : xS) (K : Option Nat → xH → Prop) (hp : P_J14_substring G.2 a0 x1 σ K) : xM l yJ14_substring cJ14_substring 2 (Option.some (Jvm.ClassFile.FieldType.object "java/lang/String")) 7 179 G [(.ref a0), .int x1] σ (xlift emQ K) := by
  refine x_entry (by decide) (Nat.le_of_ble_eq_true rfl) ?_
  intro p e s m args below meth c X hr hin
  have X : xX p s m args meth c G cJ14_substring 2 RJ14 := X
  have hx := X.1
  have hb := X.2.1
  have hts := X.2.2.2.2.1
  have hown := X.2.2.2.1
  unfold P_J14_substring at hp
  refine x_same (lo' := [(0, .ref a0), (1, .int x1)]) rfl ?_
  refine x_up (pc' := 1) (fun _ _ _ _ _ L => lv_aload_n hx hb dJ14_substring_0 rfl (lv_at L 0 rfl)) ?_
  refine x_up (pc' := 2) (fun _ _ _ _ _ L => lv_iload_n hx hb dJ14_substring_1 rfl (lv_at L 1 rfl)) ?_
  refine x_up (pc' := 3) (fun _ _ _ _ _ L => lv_aload_n hx hb dJ14_substring_2 rfl (lv_at L 0 rfl)) ?_
  refine x_callV (em := emI) (fun r st => .int r :: st) (fun _ _ => rfl) 0 X (kJ14 hG) (fun σ' KK h => R_J14_length l hl G hG a0 σ' KK h) (lw_V q3007 q925 q926 q117 q927) ⟨rfl, mdJ14_length⟩ ⟨Nat.le_of_ble_eq_true rfl, Nat.le_of_ble_eq_true rfl⟩ rfl rfl (Nat.le_of_ble_eq_true rfl) dJ14_substring_3 hp.1 hp.2 (fun v1 σ2 hp1 => ?_)
  refine x_pc (pc' := 6) rfl ?_
  refine x_callV (em := emQ) (fun r st => va_rf r :: st) (fun _ _ => rfl) 2 X (kJ14 hG) (fun σ' KK h => R_J14_substring_2 l hl G hG a0 x1 v1 σ' KK h) (lw_V q3008 q3009 q3010 q117 q3011) ⟨rfl, mdJ14_substring_2⟩ ⟨Nat.le_of_ble_eq_true rfl, Nat.le_of_ble_eq_true rfl⟩ rfl rfl (Nat.le_of_ble_eq_true rfl) dJ14_substring_6 hp1.1 hp1.2 (fun v3 σ4 hp2 => ?_)
  refine x_pc (pc' := 9) rfl ?_
  exact x_aret X hr (Or.inl ⟨_, rfl⟩) dJ14_substring_9 v3 hp2
-- J15_checkBoundsBeginEnd
def P_J15_checkBoundsBeginEnd (κ : Nat → Nat) (x0 : Int32) (x1 : Int32) (x2 : Option Nat) (σ : xS) (K : Unit → xH → Prop) : Prop :=
  xcall (fun τ L => P_J15_length κ x2 τ L) σ fun v1 σ2 => xcall (fun τ L => P_J14_checkBoundsBeginEnd κ x0 x1 v1 τ L) σ2 fun _ σ3 => K () σ3.1
theorem mdJ15_checkBoundsBeginEnd : yJ15_checkBoundsBeginEnd.cls ≠ "java/lang/invoke/MethodHandle" ∧ yJ15_checkBoundsBeginEnd.cls ≠ "java/lang/invoke/VarHandle" ∧ (parseMethodDescriptor yJ15_checkBoundsBeginEnd.desc).map (fun d => d.parameters.length) = some 3 := by decide +kernel
set_option maxHeartbeats 4000000 in
set_option maxRecDepth 100000 in
theorem R_J15_checkBoundsBeginEnd (l : Launch) (hl : l.stackTraces = false) (G : xG) (hG : G.1.2 = x_cl) (x0 : Int32) (x1 : Int32) (x2 : Option Nat) (σ : xS) (K : Unit → xH → Prop) (hp : P_J15_checkBoundsBeginEnd G.2 x0 x1 x2 σ K) : xM l yJ15_checkBoundsBeginEnd cJ15_checkBoundsBeginEnd 3 (Option.none : Option Jvm.ClassFile.FieldType) 2 45 G [.int x0, .int x1, va_rf x2] σ (xlift emV K) := by
  refine x_entry (by decide) (by simp [lg_sl, x_catq, x_cati, x_catr, x_catn]) ?_
  intro p e s m args below meth c X hr hin
  have X : xX p s m args meth c G cJ15_checkBoundsBeginEnd 3 RJ15 := X
  have hx := X.1
  have hb := X.2.1
  have hts := X.2.2.2.2.1
  have hown := X.2.2.2.1
  unfold P_J15_checkBoundsBeginEnd at hp
  refine x_same (lo' := [(0, .int x0), (1, .int x1), (2, va_rf x2)]) (by simp [lv_args, x_catq, x_cati, x_catr, x_catn]) ?_
  refine x_up (pc' := 1) (fun _ _ _ _ _ L => lv_iload_n hx hb dJ15_checkBoundsBeginEnd_0 rfl (lv_at L 0 rfl)) ?_
  refine x_up (pc' := 2) (fun _ _ _ _ _ L => lv_iload_n hx hb dJ15_checkBoundsBeginEnd_1 rfl (lv_at L 1 rfl)) ?_
  refine x_up (pc' := 3) (fun _ _ _ _ _ L => lv_aloadq_n hx hb dJ15_checkBoundsBeginEnd_2 rfl (lv_at L 2 rfl)) ?_
  refine x_callS (em := emI) (fun r st => .int r :: st) (fun _ _ => rfl) 1 X (fun σ' KK h => R_J15_length l hl G hG x2 σ' KK h) (lw_S q904 q905 q118 q906) mdJ15_length ⟨Nat.le_of_ble_eq_true rfl, Nat.le_of_ble_eq_true rfl⟩ rfl rfl (Nat.le_of_ble_eq_true rfl) dJ15_checkBoundsBeginEnd_3 hp (fun v1 σ2 hp1 => ?_)
  refine x_pc (pc' := 6) rfl ?_
  refine x_callS (em := emV) (fun r st => st) (fun _ _ => rfl) 3 X (fun σ' KK h => R_J14_checkBoundsBeginEnd l hl G hG x0 x1 v1 σ' KK h) (lw_S q907 q908 q117 q909) mdJ14_checkBoundsBeginEnd ⟨Nat.le_of_ble_eq_true rfl, Nat.le_of_ble_eq_true rfl⟩ rfl rfl (Nat.le_of_ble_eq_true rfl) dJ15_checkBoundsBeginEnd_6 hp1 (fun _ σ3 hp2 => ?_)
  refine x_pc (pc' := 9) rfl ?_
  exact x_vret X hr dJ15_checkBoundsBeginEnd_9 hp2
-- J15_putCharsAt
def P_J15_putCharsAt (κ : Nat → Nat) (x0 : Option Nat) (x1 : Int32) (x2 : Int32) (x3 : Int32) (x4 : Int32) (x5 : Int32) (σ : xS) (K : Int32 → xH → Prop) : Prop :=
  xcall (fun τ L => P_J15_checkBoundsBeginEnd κ x1 (x1 + (4 : Int32)) x0 τ L) σ fun _ σ1 => xcall (fun τ L => P_J15_putChar κ x0 x1 x2 τ L) σ1 fun _ σ2 => xcall (fun τ L => P_J15_putChar κ x0 (x1 + (1 : Int32)) x3 τ L) σ2 fun _ σ3 => xcall (fun τ L => P_J15_putChar κ x0 (x1 + (1 : Int32) + (1 : Int32)) x4 τ L) σ3 fun _ σ4 => xcall (fun τ L => P_J15_putChar κ x0 (x1 + (1 : Int32) + (1 : Int32) + (1 : Int32)) x5 τ L) σ4 fun _ σ5 => (((1 : Int32) = 0 → ((((x1 + (1 : Int32) + (1 : Int32) + (1 : Int32) + (1 : Int32)) = (x1 + (4 : Int32)) → (K (x1 + (4 : Int32)) σ5.1)) ∧ (¬ (x1 + (1 : Int32) + (1 : Int32) + (1 : Int32) + (1 : Int32)) = (x1 + (4 : Int32)) → (False))))) ∧ (¬ (1 : Int32) = 0 → (K (x1 + (4 : Int32)) σ5.1)))
theorem mdJ15_putCharsAt : yJ15_putCharsAt.cls ≠ "java/lang/invoke/MethodHandle" ∧ yJ15_putCharsAt.cls ≠ "java/lang/invoke/VarHandle" ∧ (parseMethodDescriptor yJ15_putCharsAt.desc).map (fun d => d.parameters.length) = some 6 := by decide +kernel
set_option maxHeartbeats 4000000 in
set_option maxRecDepth 100000 in
theorem R_J15_putCharsAt (l : Launch) (hl : l.stackTraces = false) (G : xG) (hG : G.1.2 = x_cl) (x0 : Option Nat) (x1 : Int32) (x2 : Int32) (x3 : Int32) (x4 : Int32) (x5 : Int32) (σ : xS) (K : Int32 → xH → Prop) (hp : P_J15_putCharsAt G.2 x0 x1 x2 x3 x4 x5 σ K) : xM l yJ15_putCharsAt cJ15_putCharsAt 7 (Option.some Jvm.ClassFile.FieldType.int) 3 67 G [va_rf x0, .int x1, .int x2, .int x3, .int x4, .int x5] σ (xlift emI K) := by
  refine x_entry (by decide) (by simp [lg_sl, x_catq, x_cati, x_catr, x_catn]) ?_
  intro p e s m args below meth c X hr hin
  have X : xX p s m args meth c G cJ15_putCharsAt 7 RJ15 := X
  have hx := X.1
  have hb := X.2.1
  have hts := X.2.2.2.2.1
  have hown := X.2.2.2.1
  unfold P_J15_putCharsAt at hp
  refine x_same (lo' := [(0, va_rf x0), (1, .int x1), (2, .int x2), (3, .int x3), (4, .int x4), (5, .int x5)]) (by simp [lv_args, x_catq, x_cati, x_catr, x_catn]) ?_
  refine x_up (pc' := 1) (fun _ _ _ _ _ L => lv_iload_n hx hb dJ15_putCharsAt_0 rfl (lv_at L 1 rfl)) ?_
  refine x_up (pc' := 2) (fun _ _ _ _ _ L => lv_iconst (v := (4 : Int32)) hx hb dJ15_putCharsAt_1 (by decide)) ?_
  refine x_up (pc' := 3) (fun _ _ _ _ _ L => lv_iadd hx hb dJ15_putCharsAt_2) ?_
  refine x_upL (pc' := 5) (lo' := [(6, .int (x1 + (4 : Int32))), (0, va_rf x0), (1, .int x1), (2, .int x2), (3, .int x3), (4, .int x4), (5, .int x5)]) (fun _ _ _ _ _ L => lv_istore hx hb dJ15_putCharsAt_3 L (by decide) rfl) ?_
  refine x_up (pc' := 6) (fun _ _ _ _ _ L => lv_iload_n hx hb dJ15_putCharsAt_5 rfl (lv_at L 2 rfl)) ?_
  refine x_up (pc' := 8) (fun _ _ _ _ _ L => lv_iload hx hb dJ15_putCharsAt_6 (lv_at L 0 rfl)) ?_
  refine x_up (pc' := 9) (fun _ _ _ _ _ L => lv_aloadq_n hx hb dJ15_putCharsAt_8 rfl (lv_at L 1 rfl)) ?_
  refine x_callS (em := emV) (fun r st => st) (fun _ _ => rfl) 3 X (fun σ' KK h => R_J15_checkBoundsBeginEnd l hl G hG x1 (x1 + (4 : Int32)) x0 σ' KK h) (lw_S q901 q902 q118 q903) mdJ15_checkBoundsBeginEnd ⟨Nat.le_of_ble_eq_true rfl, Nat.le_of_ble_eq_true rfl⟩ rfl rfl (Nat.le_of_ble_eq_true rfl) dJ15_putCharsAt_9 hp (fun _ σ1 hp1 => ?_)
  refine x_pc (pc' := 12) rfl ?_
  refine x_up (pc' := 13) (fun _ _ _ _ _ L => lv_aloadq_n hx hb dJ15_putCharsAt_12 rfl (lv_at L 1 rfl)) ?_
  refine x_up (pc' := 14) (fun _ _ _ _ _ L => lv_iload_n hx hb dJ15_putCharsAt_13 rfl (lv_at L 2 rfl)) ?_
  refine x_st (pc' := 17) ([(1, .int (x1 + (1 : Int32))), (6, .int (x1 + (4 : Int32))), (0, va_rf x0), (2, .int x2), (3, .int x3), (4, .int x4), (5, .int x5)]) rfl (by simp [x_catq, x_cati, x_catr, x_catn]) (fun _ _ _ _ _ L => lv_iinc hx hb dJ15_putCharsAt_14 L (k := 2) rfl rfl (by decide) rfl) ?_
  refine x_up (pc' := 18) (fun _ _ _ _ _ L => lv_iload_n hx hb dJ15_putCharsAt_17 rfl (lv_at L 3 rfl)) ?_
  refine x_callS (em := emV) (fun r st => st) (fun _ _ => rfl) 3 X (fun σ' KK h => R_J15_putChar l hl G hG x0 x1 x2 σ' KK h) (lw_S q915 q916 q118 q917) mdJ15_putChar ⟨Nat.le_of_ble_eq_true rfl, Nat.le_of_ble_eq_true rfl⟩ rfl rfl (Nat.le_of_ble_eq_true rfl) dJ15_putCharsAt_18 hp1 (fun _ σ2 hp2 => ?_)
  refine x_pc (pc' := 21) rfl ?_
  refine x_up (pc' := 22) (fun _ _ _ _ _ L => lv_aloadq_n hx hb dJ15_putCharsAt_21 rfl (lv_at L 2 rfl)) ?_
  refine x_up (pc' := 23) (fun _ _ _ _ _ L => lv_iload_n hx hb dJ15_putCharsAt_22 rfl (lv_at L 0 rfl)) ?_
  refine x_st (pc' := 26) ([(1, .int (x1 + (1 : Int32) + (1 : Int32))), (6, .int (x1 + (4 : Int32))), (0, va_rf x0), (2, .int x2), (3, .int x3), (4, .int x4), (5, .int x5)]) rfl (by simp [x_catq, x_cati, x_catr, x_catn]) (fun _ _ _ _ _ L => lv_iinc hx hb dJ15_putCharsAt_23 L (k := 0) rfl rfl (by decide) rfl) ?_
  refine x_up (pc' := 27) (fun _ _ _ _ _ L => lv_iload_n hx hb dJ15_putCharsAt_26 rfl (lv_at L 4 rfl)) ?_
  refine x_callS (em := emV) (fun r st => st) (fun _ _ => rfl) 3 X (fun σ' KK h => R_J15_putChar l hl G hG x0 (x1 + (1 : Int32)) x3 σ' KK h) (lw_S q915 q916 q118 q917) mdJ15_putChar ⟨Nat.le_of_ble_eq_true rfl, Nat.le_of_ble_eq_true rfl⟩ rfl rfl (Nat.le_of_ble_eq_true rfl) dJ15_putCharsAt_27 hp2 (fun _ σ3 hp3 => ?_)
  refine x_pc (pc' := 30) rfl ?_
  refine x_up (pc' := 31) (fun _ _ _ _ _ L => lv_aloadq_n hx hb dJ15_putCharsAt_30 rfl (lv_at L 2 rfl)) ?_
  refine x_up (pc' := 32) (fun _ _ _ _ _ L => lv_iload_n hx hb dJ15_putCharsAt_31 rfl (lv_at L 0 rfl)) ?_
  refine x_st (pc' := 35) ([(1, .int (x1 + (1 : Int32) + (1 : Int32) + (1 : Int32))), (6, .int (x1 + (4 : Int32))), (0, va_rf x0), (2, .int x2), (3, .int x3), (4, .int x4), (5, .int x5)]) rfl (by simp [x_catq, x_cati, x_catr, x_catn]) (fun _ _ _ _ _ L => lv_iinc hx hb dJ15_putCharsAt_32 L (k := 0) rfl rfl (by decide) rfl) ?_
  refine x_up (pc' := 37) (fun _ _ _ _ _ L => lv_iload hx hb dJ15_putCharsAt_35 (lv_at L 5 rfl)) ?_
  refine x_callS (em := emV) (fun r st => st) (fun _ _ => rfl) 3 X (fun σ' KK h => R_J15_putChar l hl G hG x0 (x1 + (1 : Int32) + (1 : Int32)) x4 σ' KK h) (lw_S q915 q916 q118 q917) mdJ15_putChar ⟨Nat.le_of_ble_eq_true rfl, Nat.le_of_ble_eq_true rfl⟩ rfl rfl (Nat.le_of_ble_eq_true rfl) dJ15_putCharsAt_37 hp3 (fun _ σ4 hp4 => ?_)
  refine x_pc (pc' := 40) rfl ?_
  refine x_up (pc' := 41) (fun _ _ _ _ _ L => lv_aloadq_n hx hb dJ15_putCharsAt_40 rfl (lv_at L 2 rfl)) ?_
  refine x_up (pc' := 42) (fun _ _ _ _ _ L => lv_iload_n hx hb dJ15_putCharsAt_41 rfl (lv_at L 0 rfl)) ?_
  refine x_st (pc' := 45) ([(1, .int (x1 + (1 : Int32) + (1 : Int32) + (1 : Int32) + (1 : Int32))), (6, .int (x1 + (4 : Int32))), (0, va_rf x0), (2, .int x2), (3, .int x3), (4, .int x4), (5, .int x5)]) rfl (by simp [x_catq, x_cati, x_catr, x_catn]) (fun _ _ _ _ _ L => lv_iinc hx hb dJ15_putCharsAt_42 L (k := 0) rfl rfl (by decide) rfl) ?_
  refine x_up (pc' := 47) (fun _ _ _ _ _ L => lv_iload hx hb dJ15_putCharsAt_45 (lv_at L 6 rfl)) ?_
  refine x_callS (em := emV) (fun r st => st) (fun _ _ => rfl) 3 X (fun σ' KK h => R_J15_putChar l hl G hG x0 (x1 + (1 : Int32) + (1 : Int32) + (1 : Int32)) x5 σ' KK h) (lw_S q915 q916 q118 q917) mdJ15_putChar ⟨Nat.le_of_ble_eq_true rfl, Nat.le_of_ble_eq_true rfl⟩ rfl rfl (Nat.le_of_ble_eq_true rfl) dJ15_putCharsAt_47 hp4 (fun _ σ5 hp5 => ?_)
  refine x_pc (pc' := 50) rfl ?_
  refine x_gets (C := "java/lang/StringUTF16") (n := "$assertionsDisabled") (d := "Z") (v := .int (1 : Int32)) X (by simp [x_sts]) q918 (fun _ h => h) dJ15_putCharsAt_50 ?_
  refine x_pc (pc' := 53) rfl ?_
  refine x_ifn (C := (1 : Int32) = 0) (pt := 70) (pc' := 56) (fun _ _ _ _ _ => lv_if_ne (tgt := 70) hx hb dJ15_putCharsAt_53 (by decide)) (fun c53 => ?_) (fun c53 => ?_)
  · have hp6 := hp5.1 c53
    refine x_up (pc' := 57) (fun _ _ _ _ _ L => lv_iload_n hx hb dJ15_putCharsAt_56 rfl (lv_at L 0 rfl)) ?_
    refine x_up (pc' := 59) (fun _ _ _ _ _ L => lv_iload hx hb dJ15_putCharsAt_57 (lv_at L 1 rfl)) ?_
    refine x_if (C := (x1 + (1 : Int32) + (1 : Int32) + (1 : Int32) + (1 : Int32)) = (x1 + (4 : Int32))) (pt := 70) (pc' := 62) (fun _ _ _ _ _ => lv_icmp_eq (tgt := 70) hx hb dJ15_putCharsAt_59 (by decide)) (fun c59 => ?_) (fun c59 => ?_)
    · have hp7 := hp6.1 c59
      refine x_up (pc' := 72) (fun _ _ _ _ _ L => lv_iload hx hb dJ15_putCharsAt_70 (lv_at L 1 rfl)) ?_
      exact x_iret X hr rfl dJ15_putCharsAt_72 hp7
    · have hp8 := hp6.2 c59
      exact hp8.elim
  · have hp9 := hp5.2 c53
    refine x_up (pc' := 72) (fun _ _ _ _ _ L => lv_iload hx hb dJ15_putCharsAt_70 (lv_at L 1 rfl)) ?_
    exact x_iret X hr rfl dJ15_putCharsAt_72 hp9
-- J12_appendNull
def P_J12_appendNull (κ : Nat → Nat) (a0 : Nat) (σ : xS) (K : Option Nat → xH → Prop) : Prop :=
  xgi σ a0 8 3 fun v1 => xrc σ a0 8 ∧ xcall (fun τ L => P_J12_ensureCapacityInternal κ a0 (v1 + (4 : Int32)) τ L) σ fun _ σ2 => xgi σ2 a0 8 3 fun v3 => xgq σ2 a0 8 0 fun v4 => xrc σ2 a0 8 ∧ xcall (fun τ L => P_J12_isLatin1 κ a0 τ L) σ2 fun v5 σ6 => ((v5 = 0 → (xcall (fun τ L => P_J15_putCharsAt κ v4 v3 (110 : Int32) (117 : Int32) (108 : Int32) (108 : Int32) τ L) σ6 fun v7 σ8 => xpi κ σ8 a0 8 3 v7 fun σ9 => K (some a0) σ9.1)) ∧ (¬ v5 = 0 → (xnn v4 fun b10 => xsi κ .byte σ6 b10 v3 (110 : Int32) fun σ11 => xsi κ .byte σ11 b10 (v3 + (1 : Int32)) (117 : Int32) fun σ12 => xsi κ .byte σ12 b10 (v3 + (1 : Int32) + (1 : Int32)) (108 : Int32) fun σ13 => xsi κ .byte σ13 b10 (v3 + (1 : Int32) + (1 : Int32) + (1 : Int32)) (108 : Int32) fun σ14 => xpi κ σ14 a0 8 3 (v3 + (1 : Int32) + (1 : Int32) + (1 : Int32) + (1 : Int32)) fun σ15 => K (some a0) σ15.1)))
theorem mdJ12_appendNull : yJ12_appendNull.cls ≠ "java/lang/invoke/MethodHandle" ∧ yJ12_appendNull.cls ≠ "java/lang/invoke/VarHandle" ∧ (parseMethodDescriptor yJ12_appendNull.desc).map (fun d => d.parameters.length) = some 0 := by decide +kernel
set_option maxHeartbeats 4000000 in
set_option maxRecDepth 100000 in
theorem R_J12_appendNull (l : Launch) (hl : l.stackTraces = false) (G : xG) (hG : G.1.2 = x_cl) (a0 : Nat) (σ : xS) (K : Option Nat → xH → Prop) (hp : P_J12_appendNull G.2 a0 σ K) : xM l yJ12_appendNull cJ12_appendNull 3 (Option.some (Jvm.ClassFile.FieldType.object "java/lang/AbstractStringBuilder")) 4 104 G [(.ref a0)] σ (xlift emQ K) := by
  refine x_entry (by decide) (Nat.le_of_ble_eq_true rfl) ?_
  intro p e s m args below meth c X hr hin
  have X : xX p s m args meth c G cJ12_appendNull 3 RJ12 := X
  have hx := X.1
  have hb := X.2.1
  have hts := X.2.2.2.2.1
  have hown := X.2.2.2.1
  unfold P_J12_appendNull at hp
  refine x_same (lo' := [(0, .ref a0)]) rfl ?_
  refine x_up (pc' := 1) (fun _ _ _ _ _ L => lv_aload_n hx hb dJ12_appendNull_0 rfl (lv_at L 0 rfl)) ?_
  refine x_up (pc' := 2) (fun _ _ _ _ _ L => lv_aload_n hx hb dJ12_appendNull_1 rfl (lv_at L 0 rfl)) ?_
  refine x_gi X (kJ13 hG) 3 (by decide) q577 (fun _ h => h) dJ12_appendNull_2 hp (fun v1 hp1 => ?_)
  refine x_pc (pc' := 5) rfl ?_
  refine x_up (pc' := 6) (fun _ _ _ _ _ L => lv_iconst (v := (4 : Int32)) hx hb dJ12_appendNull_5 (by decide)) ?_
  refine x_up (pc' := 7) (fun _ _ _ _ _ L => lv_iadd hx hb dJ12_appendNull_6) ?_
  refine x_callO (x := ⟨"java/lang/AbstractStringBuilder", "ensureCapacityInternal", "(I)V"⟩) (owner := "java/lang/AbstractStringBuilder") (em := emV) (fun r st => st) (fun _ _ => rfl) 1 X (kJ13 hG) (fun σ' KK h => R_J12_ensureCapacityInternal l hl G hG a0 (v1 + (4 : Int32)) σ' KK h) (hts _ q873) (hts _ q3678) (x_dco X q875 q876) (x_selP X (kJ13 hG) (by decide) (by simp [x_dw]) q875 q3678) q875 q115 q876 (by decide +kernel) ⟨Nat.le_of_ble_eq_true rfl, Nat.le_of_ble_eq_true rfl⟩ rfl rfl (Nat.le_of_ble_eq_true rfl) dJ12_appendNull_7 hp1.1 hp1.2 (fun _ σ2 hp2 => ?_)
  refine x_pc (pc' := 10) rfl ?_
  refine x_up (pc' := 11) (fun _ _ _ _ _ L => lv_aload_n hx hb dJ12_appendNull_10 rfl (lv_at L 0 rfl)) ?_
  refine x_gi X (kJ13 hG) 3 (by decide) q577 (fun _ h => h) dJ12_appendNull_11 hp2 (fun v3 hp3 => ?_)
  refine x_pc (pc' := 14) rfl ?_
  refine x_upL (pc' := 15) (lo' := [(1, .int v3), (0, .ref a0)]) (fun _ _ _ _ _ L => lv_istore_n hx hb dJ12_appendNull_14 rfl L (by decide) rfl) ?_
  refine x_up (pc' := 16) (fun _ _ _ _ _ L => lv_aload_n hx hb dJ12_appendNull_15 rfl (lv_at L 1 rfl)) ?_
  refine x_gq X (kJ13 hG) 0 (by decide) q573 (fun _ h => h) dJ12_appendNull_16 hp3 (fun v4 hp4 => ?_)
  refine x_pc (pc' := 19) rfl ?_
  refine x_upL (pc' := 20) (lo' := [(2, va_rf v4), (1, .int v3), (0, .ref a0)]) (fun _ _ _ _ _ L => lv_astoreq_n hx hb dJ12_appendNull_19 rfl L (by decide) rfl) ?_
  refine x_up (pc' := 21) (fun _ _ _ _ _ L => lv_aload_n hx hb dJ12_appendNull_20 rfl (lv_at L 2 rfl)) ?_
  refine x_callO (x := ⟨"java/lang/AbstractStringBuilder", "isLatin1", "()Z"⟩) (owner := "java/lang/AbstractStringBuilder") (em := emI) (fun r st => .int r :: st) (fun _ _ => rfl) 0 X (kJ13 hG) (fun σ' KK h => R_J12_isLatin1 l hl G hG a0 σ' KK h) (hts _ q893) (hts _ q895) (x_dco X q894 q897) (hts _ q896) q894 q115 q897 (by decide +kernel) ⟨Nat.le_of_ble_eq_true rfl, Nat.le_of_ble_eq_true rfl⟩ rfl rfl (Nat.le_of_ble_eq_true rfl) dJ12_appendNull_21 hp4.1 hp4.2 (fun v5 σ6 hp5 => ?_)
  refine x_pc (pc' := 24) rfl ?_
  refine x_if (C := v5 = 0) (pt := 62) (pc' := 27) (fun _ _ _ _ _ => lv_if_eq (tgt := 62) hx hb dJ12_appendNull_24 (by decide)) (fun c24 => ?_) (fun c24 => ?_)
  · have hp6 := hp5.1 c24
    refine x_up (pc' := 63) (fun _ _ _ _ _ L => lv_aloadq_n hx hb dJ12_appendNull_62 rfl (lv_at L 0 rfl)) ?_
    refine x_up (pc' := 64) (fun _ _ _ _ _ L => lv_iload_n hx hb dJ12_appendNull_63 rfl (lv_at L 1 rfl)) ?_
    refine x_up (pc' := 66) (fun _ _ _ _ _ L => lv_bipush (v := (110 : Int32)) hx hb dJ12_appendNull_64 (by decide)) ?_
    refine x_up (pc' := 68) (fun _ _ _ _ _ L => lv_bipush (v := (117 : Int32)) hx hb dJ12_appendNull_66 (by decide)) ?_
    refine x_up (pc' := 70) (fun _ _ _ _ _ L => lv_bipush (v := (108 : Int32)) hx hb dJ12_appendNull_68 (by decide)) ?_
    refine x_up (pc' := 72) (fun _ _ _ _ _ L => lv_bipush (v := (108 : Int32)) hx hb dJ12_appendNull_70 (by decide)) ?_
    refine x_callS (em := emI) (fun r st => .int r :: st) (fun _ _ => rfl) 6 X (fun σ' KK h => R_J15_putCharsAt l hl G hG v4 v3 (110 : Int32) (117 : Int32) (108 : Int32) (108 : Int32) σ' KK h) (lw_S q898 q899 q118 q900) mdJ15_putCharsAt ⟨Nat.le_of_ble_eq_true rfl, Nat.le_of_ble_eq_true rfl⟩ rfl rfl (Nat.le_of_ble_eq_true rfl) dJ12_appendNull_72 hp6 (fun v7 σ8 hp7 => ?_)
    refine x_pc (pc' := 75) rfl ?_
    refine x_upL (pc' := 76) (lo' := [(1, .int v7), (2, va_rf v4), (0, .ref a0)]) (fun _ _ _ _ _ L => lv_istore_n hx hb dJ12_appendNull_75 rfl L (by decide) rfl) ?_
    refine x_up (pc' := 77) (fun _ _ _ _ _ L => lv_aload_n hx hb dJ12_appendNull_76 rfl (lv_at L 2 rfl)) ?_
    refine x_up (pc' := 78) (fun _ _ _ _ _ L => lv_iload_n hx hb dJ12_appendNull_77 rfl (lv_at L 0 rfl)) ?_
    refine x_pi X (kJ13 hG) 3 (by decide) q577 (fun _ h => h) rfl rfl rfl dJ12_appendNull_78 hp7 (fun σ9 hp8 => ?_)
    refine x_pc (pc' := 81) rfl ?_
    refine x_up (pc' := 82) (fun _ _ _ _ _ L => lv_aload_n hx hb dJ12_appendNull_81 rfl (lv_at L 2 rfl)) ?_
    exact x_aret X hr (Or.inl ⟨_, rfl⟩) dJ12_appendNull_82 (some a0) hp8
  · have hp9 := hp5.2 c24
    refine x_up (pc' := 28) (fun _ _ _ _ _ L => lv_aloadq_n hx hb dJ12_appendNull_27 rfl (lv_at L 0 rfl)) ?_
    refine x_up (pc' := 29) (fun _ _ _ _ _ L => lv_iload_n hx hb dJ12_appendNull_28 rfl (lv_at L 1 rfl)) ?_
    refine x_upL (pc' := 32) (lo' := [(1, .int (v3 + (1 : Int32))), (2, va_rf v4), (0, .ref a0)]) (fun _ _ _ _ _ L => lv_iinc (v := v3 + (1 : Int32)) hx hb dJ12_appendNull_29 L (k := 1) rfl rfl (by decide) rfl) ?_
    refine x_up (pc' := 34) (fun _ _ _ _ _ L => lv_bipush (v := (110 : Int32)) hx hb dJ12_appendNull_32 (by decide)) ?_
    obtain ⟨b10, rfl, hp10⟩ := hp9
    refine x_bast X dJ12_appendNull_34 hp10 (fun σ11 hp11 => ?_)
    refine x_pc (pc' := 35) rfl ?_
    refine x_up (pc' := 36) (fun _ _ _ _ _ L => lv_aload_n hx hb dJ12_appendNull_35 rfl (lv_at L 1 rfl)) ?_
    refine x_up (pc' := 37) (fun _ _ _ _ _ L => lv_iload_n hx hb dJ12_appendNull_36 rfl (lv_at L 0 rfl)) ?_
    refine x_upL (pc' := 40) (lo' := [(1, .int (v3 + (1 : Int32) + (1 : Int32))), (2, .ref b10), (0, .ref a0)]) (fun _ _ _ _ _ L => lv_iinc (v := v3 + (1 : Int32) + (1 : Int32)) hx hb dJ12_appendNull_37 L (k := 0) rfl rfl (by decide) rfl) ?_
    refine x_up (pc' := 42) (fun _ _ _ _ _ L => lv_bipush (v := (117 : Int32)) hx hb dJ12_appendNull_40 (by decide)) ?_
    refine x_bast X dJ12_appendNull_42 hp11 (fun σ12 hp12 => ?_)
    refine x_pc (pc' := 43) rfl ?_
    refine x_up (pc' := 44) (fun _ _ _ _ _ L => lv_aload_n hx hb dJ12_appendNull_43 rfl (lv_at L 1 rfl)) ?_
    refine x_up (pc' := 45) (fun _ _ _ _ _ L => lv_iload_n hx hb dJ12_appendNull_44 rfl (lv_at L 0 rfl)) ?_
    refine x_upL (pc' := 48) (lo' := [(1, .int (v3 + (1 : Int32) + (1 : Int32) + (1 : Int32))), (2, .ref b10), (0, .ref a0)]) (fun _ _ _ _ _ L => lv_iinc (v := v3 + (1 : Int32) + (1 : Int32) + (1 : Int32)) hx hb dJ12_appendNull_45 L (k := 0) rfl rfl (by decide) rfl) ?_
    refine x_up (pc' := 50) (fun _ _ _ _ _ L => lv_bipush (v := (108 : Int32)) hx hb dJ12_appendNull_48 (by decide)) ?_
    refine x_bast X dJ12_appendNull_50 hp12 (fun σ13 hp13 => ?_)
    refine x_pc (pc' := 51) rfl ?_
    refine x_up (pc' := 52) (fun _ _ _ _ _ L => lv_aload_n hx hb dJ12_appendNull_51 rfl (lv_at L 1 rfl)) ?_
    refine x_up (pc' := 53) (fun _ _ _ _ _ L => lv_iload_n hx hb dJ12_appendNull_52 rfl (lv_at L 0 rfl)) ?_
    refine x_upL (pc' := 56) (lo' := [(1, .int (v3 + (1 : Int32) + (1 : Int32) + (1 : Int32) + (1 : Int32))), (2, .ref b10), (0, .ref a0)]) (fun _ _ _ _ _ L => lv_iinc (v := v3 + (1 : Int32) + (1 : Int32) + (1 : Int32) + (1 : Int32)) hx hb dJ12_appendNull_53 L (k := 0) rfl rfl (by decide) rfl) ?_
    refine x_up (pc' := 58) (fun _ _ _ _ _ L => lv_bipush (v := (108 : Int32)) hx hb dJ12_appendNull_56 (by decide)) ?_
    refine x_bast X dJ12_appendNull_58 hp13 (fun σ14 hp14 => ?_)
    refine x_pc (pc' := 59) rfl ?_
    refine x_up (pc' := 76) (fun _ _ _ _ _ L => lv_goto (tgt := 76) hx hb dJ12_appendNull_59 (by decide)) ?_
    refine x_up (pc' := 77) (fun _ _ _ _ _ L => lv_aload_n hx hb dJ12_appendNull_76 rfl (lv_at L 2 rfl)) ?_
    refine x_up (pc' := 78) (fun _ _ _ _ _ L => lv_iload_n hx hb dJ12_appendNull_77 rfl (lv_at L 0 rfl)) ?_
    refine x_pi X (kJ13 hG) 3 (by decide) q577 (fun _ h => h) rfl rfl rfl dJ12_appendNull_78 hp14 (fun σ15 hp15 => ?_)
    refine x_pc (pc' := 81) rfl ?_
    refine x_up (pc' := 82) (fun _ _ _ _ _ L => lv_aload_n hx hb dJ12_appendNull_81 rfl (lv_at L 2 rfl)) ?_
    exact x_aret X hr (Or.inl ⟨_, rfl⟩) dJ12_appendNull_82 (some a0) hp15
-- J12_inflateIfNeededFor
def P_J12_inflateIfNeededFor (κ : Nat → Nat) (a0 : Nat) (x1 : Option Nat) (σ : xS) (K : Unit → xH → Prop) : Prop :=
  (((1 : Int32) = 0 → (K () σ.1)) ∧ (¬ (1 : Int32) = 0 → (xgi σ a0 8 1 fun v1 => xnn x1 fun b2 => xrc σ b2 9 ∧ xcall (fun τ L => P_J14_coder κ b2 τ L) σ fun v3 σ4 => ((v1 = v3 → (K () σ4.1)) ∧ (¬ v1 = v3 → (xrc σ4 a0 8 ∧ xcall (fun τ L => P_J12_inflate κ a0 τ L) σ4 fun _ σ5 => K () σ5.1))))))
theorem mdJ12_inflateIfNeededFor : yJ12_inflateIfNeededFor.cls ≠ "java/lang/invoke/MethodHandle" ∧ yJ12_inflateIfNeededFor.cls ≠ "java/lang/invoke/VarHandle" ∧ (parseMethodDescriptor yJ12_inflateIfNeededFor.desc).map (fun d => d.parameters.length) = some 1 := by decide +kernel
set_option maxHeartbeats 4000000 in
set_option maxRecDepth 100000 in
theorem R_J12_inflateIfNeededFor (l : Launch) (hl : l.stackTraces = false) (G : xG) (hG : G.1.2 = x_cl) (a0 : Nat) (x1 : Option Nat) (σ : xS) (K : Unit → xH → Prop) (hp : P_J12_inflateIfNeededFor G.2 a0 x1 σ K) : xM l yJ12_inflateIfNeededFor cJ12_inflateIfNeededFor 2 (Option.none : Option Jvm.ClassFile.FieldType) 6 137 G [(.ref a0), va_rf x1] σ (xlift emV K) := by
  refine x_entry (by decide) (by simp [lg_sl, x_catq, x_cati, x_catr, x_catn]) ?_
  intro p e s m args below meth c X hr hin
  have X : xX p s m args meth c G cJ12_inflateIfNeededFor 2 RJ12 := X
  have hx := X.1
  have hb := X.2.1
  have hts := X.2.2.2.2.1
  have hown := X.2.2.2.1
  unfold P_J12_inflateIfNeededFor at hp
  refine x_same (lo' := [(0, .ref a0), (1, va_rf x1)]) (by simp [lv_args, x_catq, x_cati, x_catr, x_catn]) ?_
  refine x_gets (C := "java/lang/String") (n := "COMPACT_STRINGS") (d := "Z") (v := .int (1 : Int32)) X (by simp [x_sts]) q564 (fun _ h => h) dJ12_inflateIfNeededFor_0 ?_
  refine x_pc (pc' := 3) rfl ?_
  refine x_if (C := (1 : Int32) = 0) (pt := 21) (pc' := 6) (fun _ _ _ _ _ => lv_if_eq (tgt := 21) hx hb dJ12_inflateIfNeededFor_3 (by decide)) (fun c3 => ?_) (fun c3 => ?_)
  · have hp1 := hp.1 c3
    exact x_vret X hr dJ12_inflateIfNeededFor_21 hp1
  · have hp2 := hp.2 c3
    refine x_up (pc' := 7) (fun _ _ _ _ _ L => lv_aload_n hx hb dJ12_inflateIfNeededFor_6 rfl (lv_at L 0 rfl)) ?_
    refine x_gi X (kJ13 hG) 1 (by decide) q574 (fun _ h => h) dJ12_inflateIfNeededFor_7 hp2 (fun v1 hp3 => ?_)
    refine x_pc (pc' := 10) rfl ?_
    refine x_up (pc' := 11) (fun _ _ _ _ _ L => lv_aloadq_n hx hb dJ12_inflateIfNeededFor_10 rfl (lv_at L 1 rfl)) ?_
    obtain ⟨b2, rfl, hp4⟩ := hp3
    refine x_callV (em := emI) (fun r st => .int r :: st) (fun _ _ => rfl) 0 X (kJ14 hG) (fun σ' KK h => R_J14_coder l hl G hG b2 σ' KK h) (lw_V q940 q929 q930 q117 q931) ⟨rfl, mdJ14_coder⟩ ⟨Nat.le_of_ble_eq_true rfl, Nat.le_of_ble_eq_true rfl⟩ rfl rfl (Nat.le_of_ble_eq_true rfl) dJ12_inflateIfNeededFor_11 hp4.1 hp4.2 (fun v3 σ4 hp5 => ?_)
    refine x_pc (pc' := 14) rfl ?_
    refine x_if (C := v1 = v3) (pt := 21) (pc' := 17) (fun _ _ _ _ _ => lv_icmp_eq (tgt := 21) hx hb dJ12_inflateIfNeededFor_14 (by decide)) (fun c14 => ?_) (fun c14 => ?_)
    · have hp6 := hp5.1 c14
      exact x_vret X hr dJ12_inflateIfNeededFor_21 hp6
    · have hp7 := hp5.2 c14
      refine x_up (pc' := 18) (fun _ _ _ _ _ L => lv_aload_n hx hb dJ12_inflateIfNeededFor_17 rfl (lv_at L 0 rfl)) ?_
      refine x_callO (x := ⟨"java/lang/AbstractStringBuilder", "inflate", "()V"⟩) (owner := "java/lang/AbstractStringBuilder") (em := emV) (fun r st => st) (fun _ _ => rfl) 0 X (kJ13 hG) (fun σ' KK h => R_J12_inflate l hl G hG a0 σ' KK h) (hts _ q941) (hts _ q3682) (x_dco X q943 q944) (x_selP X (kJ13 hG) (by decide) (by simp [x_dw]) q943 q3682) q943 q115 q944 (by decide +kernel) ⟨Nat.le_of_ble_eq_true rfl, Nat.le_of_ble_eq_true rfl⟩ rfl rfl (Nat.le_of_ble_eq_true rfl) dJ12_inflateIfNeededFor_18 hp7.1 hp7.2 (fun _ σ5 hp8 => ?_)
      refine x_pc (pc' := 21) rfl ?_
      exact x_vret X hr dJ12_inflateIfNeededFor_21 hp8
-- J14_getBytes
def P_J14_getBytes (κ : Nat → Nat) (a0 : Nat) (x1 : Option Nat) (x2 : Int32) (x3 : Int32) (σ : xS) (K : Unit → xH → Prop) : Prop :=
  xrc σ a0 9 ∧ xcall (fun τ L => P_J14_coder κ a0 τ L) σ fun v1 σ2 => ((v1 = x3 → (xgq σ2 a0 9 0 fun v3 => xgq σ2 a0 9 0 fun v4 => xnn v4 fun b5 => xan σ2 b5 fun v6 => xnn x1 fun b7 => xnn v3 fun b8 => xcpi κ .byte σ2 b8 (0 : Int32) b7 (x2 <<< (x3 &&& 31)) v6 fun σ9 => K () σ9.1)) ∧ (¬ v1 = x3 → (xgq σ2 a0 9 0 fun v10 => xgq σ2 a0 9 0 fun v11 => xnn v11 fun b12 => xan σ2 b12 fun v13 => xcall (fun τ L => P_J17_inflate κ v10 (0 : Int32) x1 x2 v13 τ L) σ2 fun _ σ14 => K () σ14.1)))
theorem mdJ14_getBytes : yJ14_getBytes.cls ≠ "java/lang/invoke/MethodHandle" ∧ yJ14_getBytes.cls ≠ "java/lang/invoke/VarHandle" ∧ (parseMethodDescriptor yJ14_getBytes.desc).map (fun d => d.parameters.length) = some 3 := by decide +kernel
set_option maxHeartbeats 4000000 in
set_option maxRecDepth 100000 in
theorem R_J14_getBytes (l : Launch) (hl : l.stackTraces = false) (G : xG) (hG : G.1.2 = x_cl) (a0 : Nat) (x1 : Option Nat) (x2 : Int32) (x3 : Int32) (σ : xS) (K : Unit → xH → Prop) (hp : P_J14_getBytes G.2 a0 x1 x2 x3 σ K) : xM l yJ14_getBytes cJ14_getBytes 4 (Option.none : Option Jvm.ClassFile.FieldType) 5 116 G [(.ref a0), va_rf x1, .int x2, .int x3] σ (xlift emV K) := by
  refine x_entry (by decide) (by simp [lg_sl, x_catq, x_cati, x_catr, x_catn]) ?_
  intro p e s m args below meth c X hr hin
  have X : xX p s m args meth c G cJ14_getBytes 4 RJ14 := X
  have hx := X.1
  have hb := X.2.1
  have hts := X.2.2.2.2.1
  have hown := X.2.2.2.1
  unfold P_J14_getBytes at hp
  refine x_same (lo' := [(0, .ref a0), (1, va_rf x1), (2, .int x2), (3, .int x3)]) (by simp [lv_args, x_catq, x_cati, x_catr, x_catn]) ?_
  refine x_up (pc' := 1) (fun _ _ _ _ _ L => lv_aload_n hx hb dJ14_getBytes_0 rfl (lv_at L 0 rfl)) ?_
  refine x_callV (em := emI) (fun r st => .int r :: st) (fun _ _ => rfl) 0 X (kJ14 hG) (fun σ' KK h => R_J14_coder l hl G hG a0 σ' KK h) (lw_V q928 q929 q930 q117 q931) ⟨rfl, mdJ14_coder⟩ ⟨Nat.le_of_ble_eq_true rfl, Nat.le_of_ble_eq_true rfl⟩ rfl rfl (Nat.le_of_ble_eq_true rfl) dJ14_getBytes_1 hp.1 hp.2 (fun v1 σ2 hp1 => ?_)
  refine x_pc (pc' := 4) rfl ?_
  refine x_up (pc' := 5) (fun _ _ _ _ _ L => lv_iload_n hx hb dJ14_getBytes_4 rfl (lv_at L 3 rfl)) ?_
  refine x_ifn (C := v1 = x3) (pt := 28) (pc' := 8) (fun _ _ _ _ _ => lv_icmp_ne (tgt := 28) hx hb dJ14_getBytes_5 (by decide)) (fun c5 => ?_) (fun c5 => ?_)
  · have hp2 := hp1.1 c5
    refine x_up (pc' := 9) (fun _ _ _ _ _ L => lv_aload_n hx hb dJ14_getBytes_8 rfl (lv_at L 0 rfl)) ?_
    refine x_gq X (kJ14 hG) 0 (by decide) q1081 (fun _ h => h) dJ14_getBytes_9 hp2 (fun v3 hp3 => ?_)
    refine x_pc (pc' := 12) rfl ?_
    refine x_up (pc' := 13) (fun _ _ _ _ _ L => lv_iconst (v := (0 : Int32)) hx hb dJ14_getBytes_12 (by decide)) ?_
    refine x_up (pc' := 14) (fun _ _ _ _ _ L => lv_aloadq_n hx hb dJ14_getBytes_13 rfl (lv_at L 1 rfl)) ?_
    refine x_up (pc' := 15) (fun _ _ _ _ _ L => lv_iload_n hx hb dJ14_getBytes_14 rfl (lv_at L 2 rfl)) ?_
    refine x_up (pc' := 16) (fun _ _ _ _ _ L => lv_iload_n hx hb dJ14_getBytes_15 rfl (lv_at L 3 rfl)) ?_
    refine x_up (pc' := 17) (fun _ _ _ _ _ L => lv_ishl hx hb dJ14_getBytes_16) ?_
    refine x_up (pc' := 18) (fun _ _ _ _ _ L => lv_aload_n hx hb dJ14_getBytes_17 rfl (lv_at L 0 rfl)) ?_
    refine x_gq X (kJ14 hG) 0 (by decide) q1081 (fun _ h => h) dJ14_getBytes_18 hp3 (fun v4 hp4 => ?_)
    refine x_pc (pc' := 21) rfl ?_
    obtain ⟨b5, rfl, hp5⟩ := hp4
    refine x_alen X dJ14_getBytes_21 hp5 (fun v6 hp6 => ?_)
    refine x_pc (pc' := 22) rfl ?_
    obtain ⟨b7, rfl, hp7⟩ := hp6
    obtain ⟨b8, rfl, hp8⟩ := hp7
    refine x_cpi (ty := .byte) (fun _ h => nomatch h) X q964 q424 q423 q112 (Nat.le_of_ble_eq_true rfl) ⟨Nat.le_of_ble_eq_true rfl, Nat.le_of_ble_eq_true rfl⟩ dJ14_getBytes_22 hp8 (fun σ9 hp9 => ?_)
    refine x_pc (pc' := 25) rfl ?_
    refine x_up (pc' := 43) (fun _ _ _ _ _ L => lv_goto (tgt := 43) hx hb dJ14_getBytes_25 (by decide)) ?_
    exact x_vret X hr dJ14_getBytes_43 hp9
  · have hp10 := hp1.2 c5
    refine x_up (pc' := 29) (fun _ _ _ _ _ L => lv_aload_n hx hb dJ14_getBytes_28 rfl (lv_at L 0 rfl)) ?_
    refine x_gq X (kJ14 hG) 0 (by decide) q1081 (fun _ h => h) dJ14_getBytes_29 hp10 (fun v10 hp11 => ?_)
    refine x_pc (pc' := 32) rfl ?_
    refine x_up (pc' := 33) (fun _ _ _ _ _ L => lv_iconst (v := (0 : Int32)) hx hb dJ14_getBytes_32 (by decide)) ?_
    refine x_up (pc' := 34) (fun _ _ _ _ _ L => lv_aloadq_n hx hb dJ14_getBytes_33 rfl (lv_at L 1 rfl)) ?_
    refine x_up (pc' := 35) (fun _ _ _ _ _ L => lv_iload_n hx hb dJ14_getBytes_34 rfl (lv_at L 2 rfl)) ?_
    refine x_up (pc' := 36) (fun _ _ _ _ _ L => lv_aload_n hx hb dJ14_getBytes_35 rfl (lv_at L 0 rfl)) ?_
    refine x_gq X (kJ14 hG) 0 (by decide) q1081 (fun _ h => h) dJ14_getBytes_36 hp11 (fun v11 hp12 => ?_)
    refine x_pc (pc' := 39) rfl ?_
    obtain ⟨b12, rfl, hp13⟩ := hp12
    refine x_alen X dJ14_getBytes_39 hp13 (fun v13 hp14 => ?_)
    refine x_pc (pc' := 40) rfl ?_
    refine x_callS (em := emV) (fun r st => st) (fun _ _ => rfl) 5 X (fun σ' KK h => R_J17_inflate l hl G hG v10 (0 : Int32) x1 x2 v13 σ' KK h) (lw_S q965 q946 q122 q947) mdJ17_inflate ⟨Nat.le_of_ble_eq_true rfl, Nat.le_of_ble_eq_true rfl⟩ rfl rfl (Nat.le_of_ble_eq_true rfl) dJ14_getBytes_40 hp14 (fun _ σ14 hp15 => ?_)
    refine x_pc (pc' := 43) rfl ?_
    exact x_vret X hr dJ14_getBytes_43 hp15
-- J12_putStringAt
def P_J12_putStringAt (κ : Nat → Nat) (a0 : Nat) (x1 : Int32) (x2 : Option Nat) (σ : xS) (K : Unit → xH → Prop) : Prop :=
  xrc σ a0 8 ∧ xcall (fun τ L => P_J12_inflateIfNeededFor κ a0 x2 τ L) σ fun _ σ1 => xgq σ1 a0 8 0 fun v2 => xgi σ1 a0 8 1 fun v3 => xnn x2 fun b4 => xrc σ1 b4 9 ∧ xcall (fun τ L => P_J14_getBytes κ b4 v2 x1 v3 τ L) σ1 fun _ σ5 => K () σ5.1
theorem mdJ12_putStringAt : yJ12_putStringAt.cls ≠ "java/lang/invoke/MethodHandle" ∧ yJ12_putStringAt.cls ≠ "java/lang/invoke/VarHandle" ∧ (parseMethodDescriptor yJ12_putStringAt.desc).map (fun d => d.parameters.length) = some 2 := by decide +kernel
set_option maxHeartbeats 4000000 in
set_option maxRecDepth 100000 in
theorem R_J12_putStringAt (l : Launch) (hl : l.stackTraces = false) (G : xG) (hG : G.1.2 = x_cl) (a0 : Nat) (x1 : Int32) (x2 : Option Nat) (σ : xS) (K : Unit → xH → Prop) (hp : P_J12_putStringAt G.2 a0 x1 x2 σ K) : xM l yJ12_putStringAt cJ12_putStringAt 3 (Option.none : Option Jvm.ClassFile.FieldType) 7 158 G [(.ref a0), .int x1, va_rf x2] σ (xlift emV K) := by
  refine x_entry (by decide) (by simp [lg_sl, x_catq, x_cati, x_catr, x_catn]) ?_
  intro p e s m args below meth c X hr hin
  have X : xX p s m args meth c G cJ12_putStringAt 3 RJ12 := X
  have hx := X.1
  have hb := X.2.1
  have hts := X.2.2.2.2.1
  have hown := X.2.2.2.1
  unfold P_J12_putStringAt at hp
  refine x_same (lo' := [(0, .ref a0), (1, .int x1), (2, va_rf x2)]) (by simp [lv_args, x_catq, x_cati, x_catr, x_catn]) ?_
  refine x_up (pc' := 1) (fun _ _ _ _ _ L => lv_aload_n hx hb dJ12_putStringAt_0 rfl (lv_at L 0 rfl)) ?_
  refine x_up (pc' := 2) (fun _ _ _ _ _ L => lv_aloadq_n hx hb dJ12_putStringAt_1 rfl (lv_at L 2 rfl)) ?_
  refine x_callO (x := ⟨"java/lang/AbstractStringBuilder", "inflateIfNeededFor", "(Ljava/lang/String;)V"⟩) (owner := "java/lang/AbstractStringBuilder") (em := emV) (fun r st => st) (fun _ _ => rfl) 1 X (kJ13 hG) (fun σ' KK h => R_J12_inflateIfNeededFor l hl G hG a0 x2 σ' KK h) (hts _ q936) (hts _ q3681) (x_dco X q938 q939) (x_selP X (kJ13 hG) (by decide) (by simp [x_dw]) q938 q3681) q938 q115 q939 (by decide +kernel) ⟨Nat.le_of_ble_eq_true rfl, Nat.le_of_ble_eq_true rfl⟩ rfl rfl (Nat.le_of_ble_eq_true rfl) dJ12_putStringAt_2 hp.1 hp.2 (fun _ σ1 hp1 => ?_)
  refine x_pc (pc' := 5) rfl ?_
  refine x_up (pc' := 6) (fun _ _ _ _ _ L => lv_aloadq_n hx hb dJ12_putStringAt_5 rfl (lv_at L 2 rfl)) ?_
  refine x_up (pc' := 7) (fun _ _ _ _ _ L => lv_aload_n hx hb dJ12_putStringAt_6 rfl (lv_at L 0 rfl)) ?_
  refine x_gq X (kJ13 hG) 0 (by decide) q573 (fun _ h => h) dJ12_putStringAt_7 hp1 (fun v2 hp2 => ?_)
  refine x_pc (pc' := 10) rfl ?_
  refine x_up (pc' := 11) (fun _ _ _ _ _ L => lv_iload_n hx hb dJ12_putStringAt_10 rfl (lv_at L 1 rfl)) ?_
  refine x_up (pc' := 12) (fun _ _ _ _ _ L => lv_aload_n hx hb dJ12_putStringAt_11 rfl (lv_at L 0 rfl)) ?_
  refine x_gi X (kJ13 hG) 1 (by decide) q574 (fun _ h => h) dJ12_putStringAt_12 hp2 (fun v3 hp3 => ?_)
  refine x_pc (pc' := 15) rfl ?_
  obtain ⟨b4, rfl, hp4⟩ := hp3
  refine x_callV (em := emV) (fun r st => st) (fun _ _ => rfl) 3 X (kJ14 hG) (fun σ' KK h => R_J14_getBytes l hl G hG b4 v2 x1 v3 σ' KK h) (lw_V q960 q961 q962 q117 q963) ⟨rfl, mdJ14_getBytes⟩ ⟨Nat.le_of_ble_eq_true rfl, Nat.le_of_ble_eq_true rfl⟩ rfl rfl (Nat.le_of_ble_eq_true rfl) dJ12_putStringAt_15 hp4.1 hp4.2 (fun _ σ5 hp5 => ?_)
  refine x_pc (pc' := 18) rfl ?_
  exact x_vret X hr dJ12_putStringAt_18 hp5
-- J12_append
def P_J12_append (κ : Nat → Nat) (a0 : Nat) (x1 : Option Nat) (σ : xS) (K : Option Nat → xH → Prop) : Prop :=
  ((x1 = none → (xrc σ a0 8 ∧ xcall (fun τ L => P_J12_appendNull κ a0 τ L) σ fun v2 σ3 => K v2 σ3.1)) ∧ (∀ b1 : Nat, x1 = some b1 → (xrc σ b1 9 ∧ xcall (fun τ L => P_J14_length κ b1 τ L) σ fun v4 σ5 => xgi σ5 a0 8 3 fun v6 => xrc σ5 a0 8 ∧ xcall (fun τ L => P_J12_ensureCapacityInternal κ a0 (v6 + v4) τ L) σ5 fun _ σ7 => xgi σ7 a0 8 3 fun v8 => xrc σ7 a0 8 ∧ xcall (fun τ L => P_J12_putStringAt κ a0 v8 (some b1) τ L) σ7 fun _ σ9 => xgi σ9 a0 8 3 fun v10 => xpi κ σ9 a0 8 3 (v10 + v4) fun σ11 => K (some a0) σ11.1)))
theorem mdJ12_append : yJ12_append.cls ≠ "java/lang/invoke/MethodHandle" ∧ yJ12_append.cls ≠ "java/lang/invoke/VarHandle" ∧ (parseMethodDescriptor yJ12_append.desc).map (fun d => d.parameters.length) = some 1 := by decide +kernel
set_option maxHeartbeats 4000000 in
set_option maxRecDepth 100000 in
theorem R_J12_append (l : Launch) (hl : l.stackTraces = false) (G : xG) (hG : G.1.2 = x_cl) (a0 : Nat) (x1 : Option Nat) (σ : xS) (K : Option Nat → xH → Prop) (hp : P_J12_append G.2 a0 x1 σ K) : xM l yJ12_append cJ12_append 3 (Option.some (Jvm.ClassFile.FieldType.object "java/lang/AbstractStringBuilder")) 8 180 G [(.ref a0), va_rf x1] σ (xlift emQ K) := by
  refine x_entry (by decide) (by simp [lg_sl, x_catq, x_cati, x_catr, x_catn]) ?_
  intro p e s m args below meth c X hr hin
  have X : xX p s m args meth c G cJ12_append 3 RJ12 := X
  have hx := X.1
  have hb := X.2.1
  have hts := X.2.2.2.2.1
  have hown := X.2.2.2.1
  unfold P_J12_append at hp
  refine x_same (lo' := [(0, .ref a0), (1, va_rf x1)]) (by simp [lv_args, x_catq, x_cati, x_catr, x_catn]) ?_
  refine x_up (pc' := 1) (fun _ _ _ _ _ L => lv_aloadq_n hx hb dJ12_append_0 rfl (lv_at L 1 rfl)) ?_
  rcases x1 with _ | b1
  · have hp1 := hp.1 rfl
    refine x_up (pc' := 4) (fun _ _ _ _ _ L => lv_ifnonnullN hx hb dJ12_append_1) ?_
    refine x_up (pc' := 5) (fun _ _ _ _ _ L => lv_aload_n hx hb dJ12_append_4 rfl (lv_at L 0 rfl)) ?_
    refine x_callO (x := ⟨"java/lang/AbstractStringBuilder", "appendNull", "()Ljava/lang/AbstractStringBuilder;"⟩) (owner := "java/lang/AbstractStringBuilder") (em := emQ) (fun r st => va_rf r :: st) (fun _ _ => rfl) 0 X (kJ13 hG) (fun σ' KK h => R_J12_appendNull l hl G hG a0 σ' KK h) (hts _ q869) (hts _ q3677) (x_dco X q871 q872) (x_selP X (kJ13 hG) (by decide) (by simp [x_dw]) q871 q3677) q871 q115 q872 (by decide +kernel) ⟨Nat.le_of_ble_eq_true rfl, Nat.le_of_ble_eq_true rfl⟩ rfl rfl (Nat.le_of_ble_eq_true rfl) dJ12_append_5 hp1.1 hp1.2 (fun v2 σ3 hp2 => ?_)
    refine x_pc (pc' := 8) rfl ?_
    exact x_aret X hr (Or.inl ⟨_, rfl⟩) dJ12_append_8 v2 hp2
  · have hp3 := hp.2 _ rfl
    refine x_up (pc' := 9) (fun _ _ _ _ _ L => lv_ifnonnull (tgt := 9) hx hb dJ12_append_1 (by decide)) ?_
    refine x_up (pc' := 10) (fun _ _ _ _ _ L => lv_aload_n hx hb dJ12_append_9 rfl (lv_at L 1 rfl)) ?_
    refine x_callV (em := emI) (fun r st => .int r :: st) (fun _ _ => rfl) 0 X (kJ14 hG) (fun σ' KK h => R_J14_length l hl G hG b1 σ' KK h) (lw_V q924 q925 q926 q117 q927) ⟨rfl, mdJ14_length⟩ ⟨Nat.le_of_ble_eq_true rfl, Nat.le_of_ble_eq_true rfl⟩ rfl rfl (Nat.le_of_ble_eq_true rfl) dJ12_append_10 hp3.1 hp3.2 (fun v4 σ5 hp4 => ?_)
    refine x_pc (pc' := 13) rfl ?_
    refine x_upL (pc' := 14) (lo' := [(2, .int v4), (0, .ref a0), (1, .ref b1)]) (fun _ _ _ _ _ L => lv_istore_n hx hb dJ12_append_13 rfl L (by decide) rfl) ?_
    refine x_up (pc' := 15) (fun _ _ _ _ _ L => lv_aload_n hx hb dJ12_append_14 rfl (lv_at L 1 rfl)) ?_
    refine x_up (pc' := 16) (fun _ _ _ _ _ L => lv_aload_n hx hb dJ12_append_15 rfl (lv_at L 1 rfl)) ?_
    refine x_gi X (kJ13 hG) 3 (by decide) q577 (fun _ h => h) dJ12_append_16 hp4 (fun v6 hp5 => ?_)
    refine x_pc (pc' := 19) rfl ?_
    refine x_up (pc' := 20) (fun _ _ _ _ _ L => lv_iload_n hx hb dJ12_append_19 rfl (lv_at L 0 rfl)) ?_
    refine x_up (pc' := 21) (fun _ _ _ _ _ L => lv_iadd hx hb dJ12_append_20) ?_
    refine x_callO (x := ⟨"java/lang/AbstractStringBuilder", "ensureCapacityInternal", "(I)V"⟩) (owner := "java/lang/AbstractStringBuilder") (em := emV) (fun r st => st) (fun _ _ => rfl) 1 X (kJ13 hG) (fun σ' KK h => R_J12_ensureCapacityInternal l hl G hG a0 (v6 + v4) σ' KK h) (hts _ q873) (hts _ q3678) (x_dco X q875 q876) (x_selP X (kJ13 hG) (by decide) (by simp [x_dw]) q875 q3678) q875 q115 q876 (by decide +kernel) ⟨Nat.le_of_ble_eq_true rfl, Nat.le_of_ble_eq_true rfl⟩ rfl rfl (Nat.le_of_ble_eq_true rfl) dJ12_append_21 hp5.1 hp5.2 (fun _ σ7 hp6 => ?_)
    refine x_pc (pc' := 24) rfl ?_
    refine x_up (pc' := 25) (fun _ _ _ _ _ L => lv_aload_n hx hb dJ12_append_24 rfl (lv_at L 1 rfl)) ?_
    refine x_up (pc' := 26) (fun _ _ _ _ _ L => lv_aload_n hx hb dJ12_append_25 rfl (lv_at L 1 rfl)) ?_
    refine x_gi X (kJ13 hG) 3 (by decide) q577 (fun _ h => h) dJ12_append_26 hp6 (fun v8 hp7 => ?_)
    refine x_pc (pc' := 29) rfl ?_
    refine x_up (pc' := 30) (fun _ _ _ _ _ L => lv_aload_n hx hb dJ12_append_29 rfl (lv_at L 2 rfl)) ?_
    refine x_callO (x := ⟨"java/lang/AbstractStringBuilder", "putStringAt", "(ILjava/lang/String;)V"⟩) (owner := "java/lang/AbstractStringBuilder") (em := emV) (fun r st => st) (fun _ _ => rfl) 2 X (kJ13 hG) (fun σ' KK h => R_J12_putStringAt l hl G hG a0 v8 (some b1) σ' KK h) (hts _ q932) (hts _ q3680) (x_dco X q934 q935) (x_selP X (kJ13 hG) (by decide) (by simp [x_dw]) q934 q3680) q934 q115 q935 (by decide +kernel) ⟨Nat.le_of_ble_eq_true rfl, Nat.le_of_ble_eq_true rfl⟩ rfl rfl (Nat.le_of_ble_eq_true rfl) dJ12_append_30 hp7.1 hp7.2 (fun _ σ9 hp8 => ?_)
    refine x_pc (pc' := 33) rfl ?_
    refine x_up (pc' := 34) (fun _ _ _ _ _ L => lv_aload_n hx hb dJ12_append_33 rfl (lv_at L 1 rfl)) ?_
    refine x_up (pc' := 35) (fun _ _ _ _ _ L => lv_dup hx hb dJ12_append_34 rfl) ?_
    refine x_gi X (kJ13 hG) 3 (by decide) q577 (fun _ h => h) dJ12_append_35 hp8 (fun v10 hp9 => ?_)
    refine x_pc (pc' := 38) rfl ?_
    refine x_up (pc' := 39) (fun _ _ _ _ _ L => lv_iload_n hx hb dJ12_append_38 rfl (lv_at L 0 rfl)) ?_
    refine x_up (pc' := 40) (fun _ _ _ _ _ L => lv_iadd hx hb dJ12_append_39) ?_
    refine x_pi X (kJ13 hG) 3 (by decide) q577 (fun _ h => h) rfl rfl rfl dJ12_append_40 hp9 (fun σ11 hp10 => ?_)
    refine x_pc (pc' := 43) rfl ?_
    refine x_up (pc' := 44) (fun _ _ _ _ _ L => lv_aload_n hx hb dJ12_append_43 rfl (lv_at L 1 rfl)) ?_
    exact x_aret X hr (Or.inl ⟨_, rfl⟩) dJ12_append_44 (some a0) hp10
-- J13_append
def P_J13_append (κ : Nat → Nat) (a0 : Nat) (x1 : Option Nat) (σ : xS) (K : Option Nat → xH → Prop) : Prop :=
  xrc σ a0 8 ∧ xcall (fun τ L => P_J12_append κ a0 x1 τ L) σ fun v1 σ2 => K (some a0) σ2.1
theorem mdJ13_append : yJ13_append.cls ≠ "java/lang/invoke/MethodHandle" ∧ yJ13_append.cls ≠ "java/lang/invoke/VarHandle" ∧ (parseMethodDescriptor yJ13_append.desc).map (fun d => d.parameters.length) = some 1 := by decide +kernel
set_option maxHeartbeats 4000000 in
set_option maxRecDepth 100000 in
theorem R_J13_append (l : Launch) (hl : l.stackTraces = false) (G : xG) (hG : G.1.2 = x_cl) (a0 : Nat) (x1 : Option Nat) (σ : xS) (K : Option Nat → xH → Prop) (hp : P_J13_append G.2 a0 x1 σ K) : xM l yJ13_append cJ13_append 2 (Option.some (Jvm.ClassFile.FieldType.object "java/lang/StringBuilder")) 9 202 G [(.ref a0), va_rf x1] σ (xlift emQ K) := by
  refine x_entry (by decide) (by simp [lg_sl, x_catq, x_cati, x_catr, x_catn]) ?_
  intro p e s m args below meth c X hr hin
  have X : xX p s m args meth c G cJ13_append 2 RJ13 := X
  have hx := X.1
  have hb := X.2.1
  have hts := X.2.2.2.2.1
  have hown := X.2.2.2.1
  unfold P_J13_append at hp
  refine x_same (lo' := [(0, .ref a0), (1, va_rf x1)]) (by simp [lv_args, x_catq, x_cati, x_catr, x_catn]) ?_
  refine x_up (pc' := 1) (fun _ _ _ _ _ L => lv_aload_n hx hb dJ13_append_0 rfl (lv_at L 0 rfl)) ?_
  refine x_up (pc' := 2) (fun _ _ _ _ _ L => lv_aloadq_n hx hb dJ13_append_1 rfl (lv_at L 1 rfl)) ?_
  refine x_callSU (em := emQ) (fun r st => va_rf r :: st) (fun _ _ => rfl) 1 X (kJ13 hG) (fun σ' KK h => R_J12_append l hl G hG a0 x1 σ' KK h) q866 q3676 q586 q867 q115 q868 (by decide +kernel) ⟨Nat.le_of_ble_eq_true rfl, Nat.le_of_ble_eq_true rfl⟩ rfl rfl (Nat.le_of_ble_eq_true rfl) dJ13_append_2 hp.1 hp.2 (fun v1 σ2 hp1 => ?_)
  refine x_pc (pc' := 5) rfl ?_
  refine x_up (pc' := 6) (fun _ _ _ _ _ L => lv_pop hx hb dJ13_append_5 (x_catq _)) ?_
  refine x_up (pc' := 7) (fun _ _ _ _ _ L => lv_aload_n hx hb dJ13_append_6 rfl (lv_at L 0 rfl)) ?_
  exact x_aret X hr (Or.inl ⟨_, rfl⟩) dJ13_append_7 (some a0) hp1
-- X13_word
def B_X13_word_2 (κ : Nat → Nat) (K : Unit → xH → Prop) (KX : Nat → xH → Prop) (f0 : Nat) (f1 : Option Nat) : (Int32 → xS → Prop) → Int32 → xS → Prop := fun self3003 w3001 σ3002 =>
  xnn f1 fun b3004 => xrc σ3002 b3004 9 ∧ xcall (fun τ L => P_J14_length κ b3004 τ L) σ3002 fun v3005 σ3006 => ((v3005 ≤ w3001 → (K () σ3006.1)) ∧ (¬ v3005 ≤ w3001 → (xrc σ3006 b3004 9 ∧ xcall (fun τ L => P_J14_charAt κ b3004 w3001 τ L) σ3006 fun v3007 σ3008 => xrc σ3008 f0 36 ∧ xcall (fun τ L => P_X13_passes κ f0 v3007 τ L) σ3008 fun v3009 σ3010 => xrc σ3010 f0 36 ∧ xcallX (fun τ L LX => P_X13_expect κ f0 v3009 τ L LX) σ3010 (fun _ σ3011 => self3003 (w3001 + (1 : Int32)) σ3011) (fun q3012 σ3013 => κ 0 ≤ q3012 ∧ ((xrc σ3013 q3012 38 ∧ (KX q3012 σ3013.1)))))))
def P_X13_word (κ : Nat → Nat) (a0 : Nat) (x1 : Option Nat) (σ : xS) (K : Unit → xH → Prop) (KX : Nat → xH → Prop) : Prop :=
  xwhile (B_X13_word_2 κ K KX a0 x1) (0 : Int32) σ
theorem mdX13_word : yX13_word.cls ≠ "java/lang/invoke/MethodHandle" ∧ yX13_word.cls ≠ "java/lang/invoke/VarHandle" ∧ (parseMethodDescriptor yX13_word.desc).map (fun d => d.parameters.length) = some 1 := by decide +kernel
set_option maxHeartbeats 4000000 in
set_option maxRecDepth 100000 in
theorem R_X13_word (l : Launch) (hl : l.stackTraces = false) (G : xG) (hG : G.1.2 = x_cl) (a0 : Nat) (x1 : Option Nat) (σ : xS) (K : Unit → xH → Prop) (KX : Nat → xH → Prop) (hp : P_X13_word G.2 a0 x1 σ K KX) : xMX l yX13_word cX13_word 3 (Option.none : Option Jvm.ClassFile.FieldType) 7 150 G [(.ref a0), va_rf x1] σ (xlift emV K) KX := by
  refine x_entryX (by decide) (by simp [lg_sl, x_catq, x_cati, x_catr, x_catn]) ?_
  intro p e s m args below meth c X hr hin hno
  have X : xX p s m args meth c G cX13_word 3 RX13 := X
  have hx := X.1
  have hb := X.2.1
  have hts := X.2.2.2.2.1
  have hown := X.2.2.2.1
  have hout : ∀ pc, ∀ x ∈ c.exceptionTable.toList, covers x pc = false := fun _ x hx => (hno x hx).elim
  unfold P_X13_word at hp
  refine x_same (lo' := [(0, .ref a0), (1, va_rf x1)]) (by simp [lv_args, x_catq, x_cati, x_catr, x_catn]) ?_
  refine x_up (pc' := 1) (fun _ _ _ _ _ L => lv_iconst (v := (0 : Int32)) hx hb dX13_word_0 (by decide)) ?_
  refine x_st (pc' := 2) ([(2, .int (0 : Int32)), (0, .ref a0), (1, va_rf x1)]) rfl (by simp [x_catq, x_cati, x_catr, x_catn]) (fun _ _ _ _ _ L => lv_istore_n hx hb dX13_word_1 rfl L (by decide) rfl) ?_
  refine x_lo (lo' := [(2, .int (0 : Int32)), (0, .ref a0), (1, va_rf x1)]) [0, 1, 2] rfl ?_
  refine x_while (v0 := (0 : Int32)) (fun w1 => [(2, .int w1), (0, .ref a0), (1, va_rf x1)]) hp (fun self2 hself3 => ?_)
  rintro y5 σ4 hp1
  unfold B_X13_word_2 at hp1
  refine x_same (lo' := [(2, .int y5), (0, .ref a0), (1, va_rf x1)]) rfl ?_
  refine x_up (pc' := 3) (fun _ _ _ _ _ L => lv_iload_n hx hb dX13_word_2 rfl (lv_at L 0 rfl)) ?_
  refine x_up (pc' := 4) (fun _ _ _ _ _ L => lv_aloadq_n hx hb dX13_word_3 rfl (lv_at L 2 rfl)) ?_
  obtain ⟨b6, rfl, hp2⟩ := hp1
  refine x_callV (em := emI) (fun r st => .int r :: st) (fun _ _ => rfl) 0 X (kJ14 hG) (fun σ' KK h => R_J14_length l hl G hG b6 σ' KK h) (lw_V q2984 q925 q926 q117 q927) ⟨rfl, mdJ14_length⟩ ⟨Nat.le_of_ble_eq_true rfl, Nat.le_of_ble_eq_true rfl⟩ rfl rfl (Nat.le_of_ble_eq_true rfl) dX13_word_4 hp2.1 hp2.2 (fun v7 σ8 hp3 => ?_)
  refine x_pc (pc' := 7) rfl ?_
  refine x_if (C := v7 ≤ y5) (pt := 29) (pc' := 10) (fun _ _ _ _ _ => lv_icmp_ge (tgt := 29) hx hb dX13_word_7 (by decide)) (fun c7 => ?_) (fun c7 => ?_)
  · have hp4 := hp3.1 c7
    refine x_vx ?_; exact x_vret X hr dX13_word_29 hp4
  · have hp5 := hp3.2 c7
    refine x_up (pc' := 11) (fun _ _ _ _ _ L => lv_aload_n hx hb dX13_word_10 rfl (lv_at L 1 rfl)) ?_
    refine x_up (pc' := 12) (fun _ _ _ _ _ L => lv_aload_n hx hb dX13_word_11 rfl (lv_at L 1 rfl)) ?_
    refine x_up (pc' := 13) (fun _ _ _ _ _ L => lv_aload_n hx hb dX13_word_12 rfl (lv_at L 2 rfl)) ?_
    refine x_up (pc' := 14) (fun _ _ _ _ _ L => lv_iload_n hx hb dX13_word_13 rfl (lv_at L 0 rfl)) ?_
    refine x_callV (em := emI) (fun r st => .int r :: st) (fun _ _ => rfl) 1 X (kJ14 hG) (fun σ' KK h => R_J14_charAt l hl G hG b6 y5 σ' KK h) (lw_V q2985 q2986 q2987 q117 q2988) ⟨rfl, mdJ14_charAt⟩ ⟨Nat.le_of_ble_eq_true rfl, Nat.le_of_ble_eq_true rfl⟩ rfl rfl (Nat.le_of_ble_eq_true rfl) dX13_word_14 hp5.1 hp5.2 (fun v9 σ10 hp6 => ?_)
    refine x_pc (pc' := 17) rfl ?_
    refine x_callV (em := emI) (fun r st => .int r :: st) (fun _ _ => rfl) 1 X (kX13 hG) (fun σ' KK h => R_X13_passes l hl G hG a0 v9 σ' KK h) (lw_V q2976 q2978 qs42 q160 q2979) ⟨rfl, mdX13_passes⟩ ⟨Nat.le_of_ble_eq_true rfl, Nat.le_of_ble_eq_true rfl⟩ rfl rfl (Nat.le_of_ble_eq_true rfl) dX13_word_17 hp6.1 hp6.2 (fun v11 σ12 hp7 => ?_)
    refine x_pc (pc' := 20) rfl ?_
    refine x_callVX (em := emV) (fun r st => st) (fun _ _ => rfl) 1 X (kX13 hG) (fun σ' KK KX h => R_X13_expect l hl G hG a0 v11 σ' KK KX h) (lw_V q3038 q3040 qs46 q160 q3041) ⟨rfl, mdX13_expect⟩ ⟨Nat.le_of_ble_eq_true rfl, Nat.le_of_ble_eq_true rfl⟩ rfl rfl (Nat.le_of_ble_eq_true rfl) dX13_word_20 hp7.1 hp7.2 (fun _ σ13 hpA20 => ?_) (fun q14 σ15 hpB20 => ?_)
    · have hp8 := hpA20
      refine x_pc (pc' := 23) rfl ?_
      refine x_upL (pc' := 26) (lo' := [(2, .int (y5 + (1 : Int32))), (0, .ref a0), (1, .ref b6)]) (fun _ _ _ _ _ L => lv_iinc (v := y5 + (1 : Int32)) hx hb dX13_word_23 L (k := 0) rfl rfl (by decide) rfl) ?_
      refine x_up (pc' := 2) (fun _ _ _ _ _ L => lv_goto (tgt := 2) hx hb dX13_word_26 (by decide)) ?_
      refine x_lo (lo' := [(2, .int (y5 + (1 : Int32))), (0, .ref a0), (1, .ref b6)]) [0, 1, 2] rfl ?_
      exact hself3 (y5 + (1 : Int32)) σ13 hp8
    · have hp9 := hpB20
      obtain ⟨hq20, hp10⟩ := hp9
      obtain ⟨hr20, hp11⟩ := hp10
      exact x_out X (kX14 hG) (hout 20) hr20 hq20 hp11
-- X13_digit
def P_X13_digit (κ : Nat → Nat) (a0 : Nat) (σ : xS) (K : Int32 → xH → Prop) (KX : Nat → xH → Prop) : Prop :=
  xrc σ a0 36 ∧ xcall (fun τ L => P_X13_isNext κ a0 (48 : Int32) (57 : Int32) τ L) σ fun v1 σ2 => xrc σ2 a0 36 ∧ xcallX (fun τ L LX => P_X13_expect κ a0 v1 τ L LX) σ2 (fun _ σ3 => xgi σ3 a0 36 1 fun v6 => xpi κ σ3 a0 36 1 (v6 + (1 : Int32)) fun σ7 => xgq σ7 a0 36 0 fun v8 => xgi σ7 a0 36 1 fun v9 => xnn v8 fun b10 => xrc σ7 b10 9 ∧ xcall (fun τ L => P_J14_charAt κ b10 (v9 - (1 : Int32)) τ L) σ7 fun v11 σ12 => K (v11 - (48 : Int32)) σ12.1) (fun q4 σ5 => κ 0 ≤ q4 ∧ ((xrc σ5 q4 38 ∧ (KX q4 σ5.1))))
theorem mdX13_digit : yX13_digit.cls ≠ "java/lang/invoke/MethodHandle" ∧ yX13_digit.cls ≠ "java/lang/invoke/VarHandle" ∧ (parseMethodDescriptor yX13_digit.desc).map (fun d => d.parameters.length) = some 0 := by decide +kernel
set_option maxHeartbeats 4000000 in
set_option maxRecDepth 100000 in
theorem R_X13_digit (l : Launch) (hl : l.stackTraces = false) (G : xG) (hG : G.1.2 = x_cl) (a0 : Nat) (σ : xS) (K : Int32 → xH → Prop) (KX : Nat → xH → Prop) (hp : P_X13_digit G.2 a0 σ K KX) : xMX l yX13_digit cX13_digit 1 (Option.some Jvm.ClassFile.FieldType.int) 7 142 G [(.ref a0)] σ (xlift emI K) KX := by
  refine x_entryX (by decide) (Nat.le_of_ble_eq_true rfl) ?_
  intro p e s m args below meth c X hr hin hno
  have X : xX p s m args meth c G cX13_digit 1 RX13 := X
  have hx := X.1
  have hb := X.2.1
  have hts := X.2.2.2.2.1
  have hown := X.2.2.2.1
  have hout : ∀ pc, ∀ x ∈ c.exceptionTable.toList, covers x pc = false := fun _ x hx => (hno x hx).elim
  unfold P_X13_digit at hp
  refine x_same (lo' := [(0, .ref a0)]) rfl ?_
  refine x_up (pc' := 1) (fun _ _ _ _ _ L => lv_aload_n hx hb dX13_digit_0 rfl (lv_at L 0 rfl)) ?_
  refine x_up (pc' := 2) (fun _ _ _ _ _ L => lv_aload_n hx hb dX13_digit_1 rfl (lv_at L 0 rfl)) ?_
  refine x_up (pc' := 4) (fun _ _ _ _ _ L => lv_bipush (v := (48 : Int32)) hx hb dX13_digit_2 (by decide)) ?_
  refine x_up (pc' := 6) (fun _ _ _ _ _ L => lv_bipush (v := (57 : Int32)) hx hb dX13_digit_4 (by decide)) ?_
  refine x_callV (em := emI) (fun r st => .int r :: st) (fun _ _ => rfl) 2 X (kX13 hG) (fun σ' KK h => R_X13_isNext l hl G hG a0 (48 : Int32) (57 : Int32) σ' KK h) (lw_V q2980 q2982 qs43 q160 q2983) ⟨rfl, mdX13_isNext⟩ ⟨Nat.le_of_ble_eq_true rfl, Nat.le_of_ble_eq_true rfl⟩ rfl rfl (Nat.le_of_ble_eq_true rfl) dX13_digit_6 hp.1 hp.2 (fun v1 σ2 hp1 => ?_)
  refine x_pc (pc' := 9) rfl ?_
  refine x_callVX (em := emV) (fun r st => st) (fun _ _ => rfl) 1 X (kX13 hG) (fun σ' KK KX h => R_X13_expect l hl G hG a0 v1 σ' KK KX h) (lw_V q3038 q3040 qs46 q160 q3041) ⟨rfl, mdX13_expect⟩ ⟨Nat.le_of_ble_eq_true rfl, Nat.le_of_ble_eq_true rfl⟩ rfl rfl (Nat.le_of_ble_eq_true rfl) dX13_digit_9 hp1.1 hp1.2 (fun _ σ3 hpA9 => ?_) (fun q4 σ5 hpB9 => ?_)
  · have hp2 := hpA9
    refine x_pc (pc' := 12) rfl ?_
    refine x_up (pc' := 13) (fun _ _ _ _ _ L => lv_aload_n hx hb dX13_digit_12 rfl (lv_at L 0 rfl)) ?_
    refine x_up (pc' := 14) (fun _ _ _ _ _ L => lv_dup hx hb dX13_digit_13 rfl) ?_
    refine x_gi X (kX13 hG) 1 (by decide) q2908 (fun _ h => h) dX13_digit_14 hp2 (fun v6 hp3 => ?_)
    refine x_pc (pc' := 17) rfl ?_
    refine x_up (pc' := 18) (fun _ _ _ _ _ L => lv_iconst (v := (1 : Int32)) hx hb dX13_digit_17 (by decide)) ?_
    refine x_up (pc' := 19) (fun _ _ _ _ _ L => lv_iadd hx hb dX13_digit_18) ?_
    refine x_pi X (kX13 hG) 1 (by decide) q2908 (fun _ h => h) rfl rfl rfl dX13_digit_19 hp3 (fun σ7 hp4 => ?_)
    refine x_pc (pc' := 22) rfl ?_
    refine x_up (pc' := 23) (fun _ _ _ _ _ L => lv_aload_n hx hb dX13_digit_22 rfl (lv_at L 0 rfl)) ?_
    refine x_gq X (kX13 hG) 0 (by decide) q2907 (fun _ h => h) dX13_digit_23 hp4 (fun v8 hp5 => ?_)
    refine x_pc (pc' := 26) rfl ?_
    refine x_up (pc' := 27) (fun _ _ _ _ _ L => lv_aload_n hx hb dX13_digit_26 rfl (lv_at L 0 rfl)) ?_
    refine x_gi X (kX13 hG) 1 (by decide) q2908 (fun _ h => h) dX13_digit_27 hp5 (fun v9 hp6 => ?_)
    refine x_pc (pc' := 30) rfl ?_
    refine x_up (pc' := 31) (fun _ _ _ _ _ L => lv_iconst (v := (1 : Int32)) hx hb dX13_digit_30 (by decide)) ?_
    refine x_up (pc' := 32) (fun _ _ _ _ _ L => lv_isub hx hb dX13_digit_31) ?_
    obtain ⟨b10, rfl, hp7⟩ := hp6
    refine x_callV (em := emI) (fun r st => .int r :: st) (fun _ _ => rfl) 1 X (kJ14 hG) (fun σ' KK h => R_J14_charAt l hl G hG b10 (v9 - (1 : Int32)) σ' KK h) (lw_V q2985 q2986 q2987 q117 q2988) ⟨rfl, mdJ14_charAt⟩ ⟨Nat.le_of_ble_eq_true rfl, Nat.le_of_ble_eq_true rfl⟩ rfl rfl (Nat.le_of_ble_eq_true rfl) dX13_digit_32 hp7.1 hp7.2 (fun v11 σ12 hp8 => ?_)
    refine x_pc (pc' := 35) rfl ?_
    refine x_up (pc' := 37) (fun _ _ _ _ _ L => lv_bipush (v := (48 : Int32)) hx hb dX13_digit_35 (by decide)) ?_
    refine x_up (pc' := 38) (fun _ _ _ _ _ L => lv_isub hx hb dX13_digit_37) ?_
    refine x_vx ?_; exact x_iret X hr rfl dX13_digit_38 hp8
  · have hp9 := hpB9
    obtain ⟨hq9, hp10⟩ := hp9
    obtain ⟨hr9, hp11⟩ := hp10
    exact x_out X (kX14 hG) (hout 9) hr9 hq9 hp11
-- X13_number
def B_X13_number_7 (κ : Nat → Nat) (K : Int32 → xH → Prop) (KX : Nat → xH → Prop) (f0 : Nat) : ((Int32 × Int32) → xS → Prop) → (Int32 × Int32) → xS → Prop := fun self8003 w8001 σ8002 =>
  (((3 : Int32) ≤ w8001.2 → (K w8001.1 σ8002.1)) ∧ (¬ (3 : Int32) ≤ w8001.2 → (xrc σ8002 f0 36 ∧ xcall (fun τ L => P_X13_isNext κ f0 (48 : Int32) (57 : Int32) τ L) σ8002 fun v8004 σ8005 => ((v8004 = 0 → (K w8001.1 σ8005.1)) ∧ (¬ v8004 = 0 → (xrc σ8005 f0 36 ∧ xcallX (fun τ L LX => P_X13_digit κ f0 τ L LX) σ8005 (fun v8006 σ8007 => self8003 ((((10 : Int32) * w8001.1) + v8006), (w8001.2 + (1 : Int32))) σ8007) (fun q8008 σ8009 => κ 0 ≤ q8008 ∧ ((xrc σ8009 q8008 38 ∧ (KX q8008 σ8009.1))))))))))
def P_X13_number (κ : Nat → Nat) (a0 : Nat) (σ : xS) (K : Int32 → xH → Prop) (KX : Nat → xH → Prop) : Prop :=
  xrc σ a0 36 ∧ xcallX (fun τ L LX => P_X13_digit κ a0 τ L LX) σ (fun v1 σ2 => xwhile (B_X13_number_7 κ K KX a0) (v1, (1 : Int32)) σ2) (fun q3 σ4 => κ 0 ≤ q3 ∧ ((xrc σ4 q3 38 ∧ (KX q3 σ4.1))))
theorem mdX13_number : yX13_number.cls ≠ "java/lang/invoke/MethodHandle" ∧ yX13_number.cls ≠ "java/lang/invoke/VarHandle" ∧ (parseMethodDescriptor yX13_number.desc).map (fun d => d.parameters.length) = some 0 := by decide +kernel
set_option maxHeartbeats 4000000 in
set_option maxRecDepth 100000 in
theorem R_X13_number (l : Launch) (hl : l.stackTraces = false) (G : xG) (hG : G.1.2 = x_cl) (a0 : Nat) (σ : xS) (K : Int32 → xH → Prop) (KX : Nat → xH → Prop) (hp : P_X13_number G.2 a0 σ K KX) : xMX l yX13_number cX13_number 3 (Option.some Jvm.ClassFile.FieldType.int) 8 162 G [(.ref a0)] σ (xlift emI K) KX := by
  refine x_entryX (by decide) (Nat.le_of_ble_eq_true rfl) ?_
  intro p e s m args below meth c X hr hin hno
  have X : xX p s m args meth c G cX13_number 3 RX13 := X
  have hx := X.1
  have hb := X.2.1
  have hts := X.2.2.2.2.1
  have hown := X.2.2.2.1
  have hout : ∀ pc, ∀ x ∈ c.exceptionTable.toList, covers x pc = false := fun _ x hx => (hno x hx).elim
  unfold P_X13_number at hp
  refine x_same (lo' := [(0, .ref a0)]) rfl ?_
  refine x_up (pc' := 1) (fun _ _ _ _ _ L => lv_aload_n hx hb dX13_number_0 rfl (lv_at L 0 rfl)) ?_
  refine x_callVX (em := emI) (fun r st => .int r :: st) (fun _ _ => rfl) 0 X (kX13 hG) (fun σ' KK KX h => R_X13_digit l hl G hG a0 σ' KK KX h) (lw_V q3066 q3068 qs48 q160 q3069) ⟨rfl, mdX13_digit⟩ ⟨Nat.le_of_ble_eq_true rfl, Nat.le_of_ble_eq_true rfl⟩ rfl rfl (Nat.le_of_ble_eq_true rfl) dX13_number_1 hp.1 hp.2 (fun v1 σ2 hpA1 => ?_) (fun q3 σ4 hpB1 => ?_)
  · have hp1 := hpA1
    refine x_pc (pc' := 4) rfl ?_
    refine x_upL (pc' := 5) (lo' := [(1, .int v1), (0, .ref a0)]) (fun _ _ _ _ _ L => lv_istore_n hx hb dX13_number_4 rfl L (by decide) rfl) ?_
    refine x_up (pc' := 6) (fun _ _ _ _ _ L => lv_iconst (v := (1 : Int32)) hx hb dX13_number_5 (by decide)) ?_
    refine x_upL (pc' := 7) (lo' := [(2, .int (1 : Int32)), (1, .int v1), (0, .ref a0)]) (fun _ _ _ _ _ L => lv_istore_n hx hb dX13_number_6 rfl L (by decide) rfl) ?_
    refine x_lo (lo' := [(1, .int v1), (2, .int (1 : Int32)), (0, .ref a0)]) [1, 0, 2] rfl ?_
    refine x_while (v0 := (v1, (1 : Int32))) (fun w5 => [(1, .int w5.1), (2, .int w5.2), (0, .ref a0)]) hp1 (fun self6 hself7 => ?_)
    rintro ⟨y9, y10⟩ σ8 hp2
    unfold B_X13_number_7 at hp2
    refine x_same (lo' := [(1, .int y9), (2, .int y10), (0, .ref a0)]) rfl ?_
    refine x_up (pc' := 8) (fun _ _ _ _ _ L => lv_iload_n hx hb dX13_number_7 rfl (lv_at L 1 rfl)) ?_
    refine x_up (pc' := 9) (fun _ _ _ _ _ L => lv_iconst (v := (3 : Int32)) hx hb dX13_number_8 (by decide)) ?_
    refine x_if (C := (3 : Int32) ≤ y10) (pt := 39) (pc' := 12) (fun _ _ _ _ _ => lv_icmp_ge (tgt := 39) hx hb dX13_number_9 (by decide)) (fun c9 => ?_) (fun c9 => ?_)
    · have hp3 := hp2.1 c9
      refine x_up (pc' := 40) (fun _ _ _ _ _ L => lv_iload_n hx hb dX13_number_39 rfl (lv_at L 0 rfl)) ?_
      refine x_vx ?_; exact x_iret X hr rfl dX13_number_40 hp3
    · have hp4 := hp2.2 c9
      refine x_up (pc' := 13) (fun _ _ _ _ _ L => lv_aload_n hx hb dX13_number_12 rfl (lv_at L 2 rfl)) ?_
      refine x_up (pc' := 15) (fun _ _ _ _ _ L => lv_bipush (v := (48 : Int32)) hx hb dX13_number_13 (by decide)) ?_
      refine x_up (pc' := 17) (fun _ _ _ _ _ L => lv_bipush (v := (57 : Int32)) hx hb dX13_number_15 (by decide)) ?_
      refine x_callV (em := emI) (fun r st => .int r :: st) (fun _ _ => rfl) 2 X (kX13 hG) (fun σ' KK h => R_X13_isNext l hl G hG a0 (48 : Int32) (57 : Int32) σ' KK h) (lw_V q2980 q2982 qs43 q160 q2983) ⟨rfl, mdX13_isNext⟩ ⟨Nat.le_of_ble_eq_true rfl, Nat.le_of_ble_eq_true rfl⟩ rfl rfl (Nat.le_of_ble_eq_true rfl) dX13_number_17 hp4.1 hp4.2 (fun v11 σ12 hp5 => ?_)
      refine x_pc (pc' := 20) rfl ?_
      refine x_if (C := v11 = 0) (pt := 39) (pc' := 23) (fun _ _ _ _ _ => lv_if_eq (tgt := 39) hx hb dX13_number_20 (by decide)) (fun c20 => ?_) (fun c20 => ?_)
      · have hp6 := hp5.1 c20
        refine x_up (pc' := 40) (fun _ _ _ _ _ L => lv_iload_n hx hb dX13_number_39 rfl (lv_at L 0 rfl)) ?_
        refine x_vx ?_; exact x_iret X hr rfl dX13_number_40 hp6
      · have hp7 := hp5.2 c20
        refine x_up (pc' := 25) (fun _ _ _ _ _ L => lv_bipush (v := (10 : Int32)) hx hb dX13_number_23 (by decide)) ?_
        refine x_up (pc' := 26) (fun _ _ _ _ _ L => lv_iload_n hx hb dX13_number_25 rfl (lv_at L 0 rfl)) ?_
        refine x_up (pc' := 27) (fun _ _ _ _ _ L => lv_imul hx hb dX13_number_26) ?_
        refine x_up (pc' := 28) (fun _ _ _ _ _ L => lv_aload_n hx hb dX13_number_27 rfl (lv_at L 2 rfl)) ?_
        refine x_callVX (em := emI) (fun r st => .int r :: st) (fun _ _ => rfl) 0 X (kX13 hG) (fun σ' KK KX h => R_X13_digit l hl G hG a0 σ' KK KX h) (lw_V q3066 q3068 qs48 q160 q3069) ⟨rfl, mdX13_digit⟩ ⟨Nat.le_of_ble_eq_true rfl, Nat.le_of_ble_eq_true rfl⟩ rfl rfl (Nat.le_of_ble_eq_true rfl) dX13_number_28 hp7.1 hp7.2 (fun v13 σ14 hpA28 => ?_) (fun q15 σ16 hpB28 => ?_)
        · have hp8 := hpA28
          refine x_pc (pc' := 31) rfl ?_
          refine x_up (pc' := 32) (fun _ _ _ _ _ L => lv_iadd hx hb dX13_number_31) ?_
          refine x_upL (pc' := 33) (lo' := [(1, .int (((10 : Int32) * y9) + v13)), (2, .int y10), (0, .ref a0)]) (fun _ _ _ _ _ L => lv_istore_n hx hb dX13_number_32 rfl L (by decide) rfl) ?_
          refine x_upL (pc' := 36) (lo' := [(2, .int (y10 + (1 : Int32))), (1, .int (((10 : Int32) * y9) + v13)), (0, .ref a0)]) (fun _ _ _ _ _ L => lv_iinc (v := y10 + (1 : Int32)) hx hb dX13_number_33 L (k := 1) rfl rfl (by decide) rfl) ?_
          refine x_up (pc' := 7) (fun _ _ _ _ _ L => lv_goto (tgt := 7) hx hb dX13_number_36 (by decide)) ?_
          refine x_lo (lo' := [(1, .int (((10 : Int32) * y9) + v13)), (2, .int (y10 + (1 : Int32))), (0, .ref a0)]) [1, 0, 2] rfl ?_
          exact hself7 ((((10 : Int32) * y9) + v13), (y10 + (1 : Int32))) σ14 hp8
        · have hp9 := hpB28
          obtain ⟨hq28, hp10⟩ := hp9
          obtain ⟨hr28, hp11⟩ := hp10
          exact x_out X (kX14 hG) (hout 28) hr28 hq28 hp11
  · have hp12 := hpB1
    obtain ⟨hq1, hp13⟩ := hp12
    obtain ⟨hr1, hp14⟩ := hp13
    exact x_out X (kX14 hG) (hout 1) hr1 hq1 hp14
-- X13_withNumber
def P_X13_withNumber (κ : Nat → Nat) (a0 : Nat) (x1 : Option Nat) (σ : xS) (K : Option Nat → xH → Prop) (KX : Nat → xH → Prop) : Prop :=
  xnew κ σ 8 4 [va_rf none, .int 0, .int 0, .int 0] fun q1 σ2 => xcall (fun τ L => P_J13_init κ q1 τ L) σ2 fun _ σ3 => xnn x1 fun b4 => xrc σ3 b4 9 ∧ xcall (fun τ L => P_J14_substring κ b4 (1 : Int32) τ L) σ3 fun v5 σ6 => xrc σ6 q1 8 ∧ xcall (fun τ L => P_J13_append κ q1 v5 τ L) σ6 fun v7 σ8 => xnn v7 fun b9 => xrc σ8 b9 8 ∧ xcall (fun τ L => P_J13_append κ b9 (some (κ 20)) τ L) σ8 fun v10 σ11 => xnn v10 fun b12 => xrc σ11 b12 8 ∧ xcall (fun τ L => P_J13_toString κ b12 τ L) σ11 fun v13 σ14 => xrc σ14 a0 36 ∧ xcallX (fun τ L LX => P_X13_word κ a0 v13 τ L LX) σ14 (fun _ σ15 => xnew κ σ15 11 3 [va_rf none, .int 0, .int 0] fun q18 σ19 => xrc σ19 a0 36 ∧ xcallX (fun τ L LX => P_X13_number κ a0 τ L LX) σ19 (fun v20 σ21 => xcall (fun τ L => P_X5_init κ q18 (some b4) v20 (0 : Int32) τ L) σ21 fun _ σ24 => K (some q18) σ24.1) (fun q22 σ23 => κ 0 ≤ q22 ∧ ((xrc σ23 q22 38 ∧ (KX q22 σ23.1))))) (fun q16 σ17 => κ 0 ≤ q16 ∧ ((xrc σ17 q16 38 ∧ (KX q16 σ17.1))))
theorem mdX13_withNumber : yX13_withNumber.cls ≠ "java/lang/invoke/MethodHandle" ∧ yX13_withNumber.cls ≠ "java/lang/invoke/VarHandle" ∧ (parseMethodDescriptor yX13_withNumber.desc).map (fun d => d.parameters.length) = some 1 := by decide +kernel
set_option maxHeartbeats 4000000 in
set_option maxRecDepth 100000 in
theorem R_X13_withNumber (l : Launch) (hl : l.stackTraces = false) (G : xG) (hG : G.1.2 = x_cl) (a0 : Nat) (x1 : Option Nat) (σ : xS) (K : Option Nat → xH → Prop) (KX : Nat → xH → Prop) (hp : P_X13_withNumber G.2 a0 x1 σ K KX) : xMX l yX13_withNumber cX13_withNumber 2 (Option.some (Jvm.ClassFile.FieldType.object "WordCache$Order")) 10 223 G [(.ref a0), va_rf x1] σ (xlift emQ K) KX := by
  refine x_entryX (by decide) (by simp [lg_sl, x_catq, x_cati, x_catr, x_catn]) ?_
  intro p e s m args below meth c X hr hin hno
  have X : xX p s m args meth c G cX13_withNumber 2 RX13 := X
  have hx := X.1
  have hb := X.2.1
  have hts := X.2.2.2.2.1
  have hown := X.2.2.2.1
  have hout : ∀ pc, ∀ x ∈ c.exceptionTable.toList, covers x pc = false := fun _ x hx => (hno x hx).elim
  unfold P_X13_withNumber at hp
  refine x_same (lo' := [(0, .ref a0), (1, va_rf x1)]) (by simp [lv_args, x_catq, x_cati, x_catr, x_catn]) ?_
  refine x_up (pc' := 1) (fun _ _ _ _ _ L => lv_aload_n hx hb dX13_withNumber_0 rfl (lv_at L 0 rfl)) ?_
  refine x_new X (kJ13 hG) q3001 q556 q116 (fs := [va_rf none, .int 0, .int 0, .int 0]) x_dflt_J13 dX13_withNumber_1 hp (fun q1 σ2 hp1 => ?_)
  refine x_pc (pc' := 4) rfl ?_
  refine x_up (pc' := 5) (fun _ _ _ _ _ L => lv_dup hx hb dX13_withNumber_4 rfl) ?_
  refine x_callI 0 X (fun σ' KK h => R_J13_init l hl G hG q1 σ' KK h) (lw_meth q559) q116 q3002 q558 rfl mdJ13_init ⟨Nat.le_of_ble_eq_true rfl, Nat.le_of_ble_eq_true rfl⟩ rfl rfl (Nat.le_of_ble_eq_true rfl) dX13_withNumber_5 hp1 (fun σ3 hp2 => ?_)
  refine x_pc (pc' := 8) rfl ?_
  refine x_up (pc' := 9) (fun _ _ _ _ _ L => lv_aloadq_n hx hb dX13_withNumber_8 rfl (lv_at L 1 rfl)) ?_
  refine x_up (pc' := 10) (fun _ _ _ _ _ L => lv_iconst (v := (1 : Int32)) hx hb dX13_withNumber_9 (by decide)) ?_
  obtain ⟨b4, rfl, hp3⟩ := hp2
  refine x_callV (em := emQ) (fun r st => va_rf r :: st) (fun _ _ => rfl) 1 X (kJ14 hG) (fun σ' KK h => R_J14_substring l hl G hG b4 (1 : Int32) σ' KK h) (lw_V q3003 q3004 q3005 q117 q3006) ⟨rfl, mdJ14_substring⟩ ⟨Nat.le_of_ble_eq_true rfl, Nat.le_of_ble_eq_true rfl⟩ rfl rfl (Nat.le_of_ble_eq_true rfl) dX13_withNumber_10 hp3.1 hp3.2 (fun v5 σ6 hp4 => ?_)
  refine x_pc (pc' := 13) rfl ?_
  refine x_callV (em := emQ) (fun r st => va_rf r :: st) (fun _ _ => rfl) 1 X (kJ13 hG) (fun σ' KK h => R_J13_append l hl G hG q1 v5 σ' KK h) (lw_V q3031 q863 q864 q116 q865) ⟨rfl, mdJ13_append⟩ ⟨Nat.le_of_ble_eq_true rfl, Nat.le_of_ble_eq_true rfl⟩ rfl rfl (Nat.le_of_ble_eq_true rfl) dX13_withNumber_13 hp4.1 hp4.2 (fun v7 σ8 hp5 => ?_)
  refine x_pc (pc' := 16) rfl ?_
  refine x_ldcS (tx := " ") (q := G.2 20) X (by simp [x_ss, RX13]) dX13_withNumber_16 ?_
  refine x_pc (pc' := 18) rfl ?_
  obtain ⟨b9, rfl, hp6⟩ := hp5
  refine x_callV (em := emQ) (fun r st => va_rf r :: st) (fun _ _ => rfl) 1 X (kJ13 hG) (fun σ' KK h => R_J13_append l hl G hG b9 (some (G.2 20)) σ' KK h) (lw_V q3031 q863 q864 q116 q865) ⟨rfl, mdJ13_append⟩ ⟨Nat.le_of_ble_eq_true rfl, Nat.le_of_ble_eq_true rfl⟩ rfl rfl (Nat.le_of_ble_eq_true rfl) dX13_withNumber_18 hp6.1 hp6.2 (fun v10 σ11 hp7 => ?_)
  refine x_pc (pc' := 21) rfl ?_
  obtain ⟨b12, rfl, hp8⟩ := hp7
  refine x_callV (em := emQ) (fun r st => va_rf r :: st) (fun _ _ => rfl) 0 X (kJ13 hG) (fun σ' KK h => R_J13_toString l hl G hG b12 σ' KK h) (lw_V q3033 q993 q994 q116 q995) ⟨rfl, mdJ13_toString⟩ ⟨Nat.le_of_ble_eq_true rfl, Nat.le_of_ble_eq_true rfl⟩ rfl rfl (Nat.le_of_ble_eq_true rfl) dX13_withNumber_21 hp8.1 hp8.2 (fun v13 σ14 hp9 => ?_)
  refine x_pc (pc' := 24) rfl ?_
  refine x_callVX (em := emV) (fun r st => st) (fun _ _ => rfl) 1 X (kX13 hG) (fun σ' KK KX h => R_X13_word l hl G hG a0 v13 σ' KK KX h) (lw_V q3034 q3036 qs45 q160 q3037) ⟨rfl, mdX13_word⟩ ⟨Nat.le_of_ble_eq_true rfl, Nat.le_of_ble_eq_true rfl⟩ rfl rfl (Nat.le_of_ble_eq_true rfl) dX13_withNumber_24 hp9.1 hp9.2 (fun _ σ15 hpA24 => ?_) (fun q16 σ17 hpB24 => ?_)
  · have hp10 := hpA24
    refine x_pc (pc' := 27) rfl ?_
    refine x_new X (kX5 hG) q3061 q2130 q120 (fs := [va_rf none, .int 0, .int 0]) x_dflt_X5 dX13_withNumber_27 hp10 (fun q18 σ19 hp11 => ?_)
    refine x_pc (pc' := 30) rfl ?_
    refine x_up (pc' := 31) (fun _ _ _ _ _ L => lv_dup hx hb dX13_withNumber_30 rfl) ?_
    refine x_up (pc' := 32) (fun _ _ _ _ _ L => lv_aload_n hx hb dX13_withNumber_31 rfl (lv_at L 1 rfl)) ?_
    refine x_up (pc' := 33) (fun _ _ _ _ _ L => lv_aload_n hx hb dX13_withNumber_32 rfl (lv_at L 0 rfl)) ?_
    refine x_callVX (em := emI) (fun r st => .int r :: st) (fun _ _ => rfl) 0 X (kX13 hG) (fun σ' KK KX h => R_X13_number l hl G hG a0 σ' KK KX h) (lw_V q3062 q3064 qs47 q160 q3065) ⟨rfl, mdX13_number⟩ ⟨Nat.le_of_ble_eq_true rfl, Nat.le_of_ble_eq_true rfl⟩ rfl rfl (Nat.le_of_ble_eq_true rfl) dX13_withNumber_33 hp11.1 hp11.2 (fun v20 σ21 hpA33 => ?_) (fun q22 σ23 hpB33 => ?_)
    · have hp12 := hpA33
      refine x_pc (pc' := 36) rfl ?_
      refine x_up (pc' := 37) (fun _ _ _ _ _ L => lv_iconst (v := (0 : Int32)) hx hb dX13_withNumber_36 (by decide)) ?_
      refine x_callI 3 X (fun σ' KK h => R_X5_init l hl G hG q18 (some b4) v20 (0 : Int32) σ' KK h) (lw_meth q2134) q120 q3070 q2133 rfl mdX5_init ⟨Nat.le_of_ble_eq_true rfl, Nat.le_of_ble_eq_true rfl⟩ rfl rfl (Nat.le_of_ble_eq_true rfl) dX13_withNumber_37 hp12 (fun σ24 hp13 => ?_)
      refine x_pc (pc' := 40) rfl ?_
      refine x_vx ?_; exact x_aret X hr (Or.inl ⟨_, rfl⟩) dX13_withNumber_40 (some q18) hp13
    · have hp14 := hpB33
      obtain ⟨hq33, hp15⟩ := hp14
      obtain ⟨hr33, hp16⟩ := hp15
      exact x_out X (kX14 hG) (hout 33) hr33 hq33 hp16
  · have hp17 := hpB24
    obtain ⟨hq24, hp18⟩ := hp17
    obtain ⟨hr24, hp19⟩ := hp18
    exact x_out X (kX14 hG) (hout 24) hr24 hq24 hp19
-- X13_withTwo
def P_X13_withTwo (κ : Nat → Nat) (a0 : Nat) (x1 : Option Nat) (σ : xS) (K : Option Nat → xH → Prop) (KX : Nat → xH → Prop) : Prop :=
  xnew κ σ 8 4 [va_rf none, .int 0, .int 0, .int 0] fun q1 σ2 => xcall (fun τ L => P_J13_init κ q1 τ L) σ2 fun _ σ3 => xnn x1 fun b4 => xrc σ3 b4 9 ∧ xcall (fun τ L => P_J14_substring κ b4 (1 : Int32) τ L) σ3 fun v5 σ6 => xrc σ6 q1 8 ∧ xcall (fun τ L => P_J13_append κ q1 v5 τ L) σ6 fun v7 σ8 => xnn v7 fun b9 => xrc σ8 b9 8 ∧ xcall (fun τ L => P_J13_append κ b9 (some (κ 20)) τ L) σ8 fun v10 σ11 => xnn v10 fun b12 => xrc σ11 b12 8 ∧ xcall (fun τ L => P_J13_toString κ b12 τ L) σ11 fun v13 σ14 => xrc σ14 a0 36 ∧ xcallX (fun τ L LX => P_X13_word κ a0 v13 τ L LX) σ14 (fun _ σ15 => xrc σ15 a0 36 ∧ xcallX (fun τ L LX => P_X13_number κ a0 τ L LX) σ15 (fun v18 σ19 => xrc σ19 a0 36 ∧ xcallX (fun τ L LX => P_X13_word κ a0 (some (κ 21)) τ L LX) σ19 (fun _ σ22 => xrc σ22 a0 36 ∧ xcall (fun τ L => P_X13_passes κ a0 (45 : Int32) τ L) σ22 fun v25 σ26 => xrc σ26 a0 36 ∧ xcallX (fun τ L LX => P_X13_number κ a0 τ L LX) σ26 (fun v27 σ28 => xnew κ σ28 11 3 [va_rf none, .int 0, .int 0] fun q31 σ32 => ((v25 = 0 → (xcall (fun τ L => P_X5_init κ q31 (some b4) v18 v27 τ L) σ32 fun _ σ33 => K (some q31) σ33.1)) ∧ (¬ v25 = 0 → (xcall (fun τ L => P_X5_init κ q31 (some b4) v18 (-v27) τ L) σ32 fun _ σ34 => K (some q31) σ34.1)))) (fun q29 σ30 => κ 0 ≤ q29 ∧ ((xrc σ30 q29 38 ∧ (KX q29 σ30.1))))) (fun q23 σ24 => κ 0 ≤ q23 ∧ ((xrc σ24 q23 38 ∧ (KX q23 σ24.1))))) (fun q20 σ21 => κ 0 ≤ q20 ∧ ((xrc σ21 q20 38 ∧ (KX q20 σ21.1))))) (fun q16 σ17 => κ 0 ≤ q16 ∧ ((xrc σ17 q16 38 ∧ (KX q16 σ17.1))))
theorem mdX13_withTwo : yX13_withTwo.cls ≠ "java/lang/invoke/MethodHandle" ∧ yX13_withTwo.cls ≠ "java/lang/invoke/VarHandle" ∧ (parseMethodDescriptor yX13_withTwo.desc).map (fun d => d.parameters.length) = some 1 := by decide +kernel
set_option maxHeartbeats 4000000 in
set_option maxRecDepth 100000 in
theorem R_X13_withTwo (l : Launch) (hl : l.stackTraces = false) (G : xG) (hG : G.1.2 = x_cl) (a0 : Nat) (x1 : Option Nat) (σ : xS) (K : Option Nat → xH → Prop) (KX : Nat → xH → Prop) (hp : P_X13_withTwo G.2 a0 x1 σ K KX) : xMX l yX13_withTwo cX13_withTwo 5 (Option.some (Jvm.ClassFile.FieldType.object "WordCache$Order")) 10 223 G [(.ref a0), va_rf x1] σ (xlift emQ K) KX := by
  refine x_entryX (by decide) (by simp [lg_sl, x_catq, x_cati, x_catr, x_catn]) ?_
  intro p e s m args below meth c X hr hin hno
  have X : xX p s m args meth c G cX13_withTwo 5 RX13 := X
  have hx := X.1
  have hb := X.2.1
  have hts := X.2.2.2.2.1
  have hown := X.2.2.2.1
  have hout : ∀ pc, ∀ x ∈ c.exceptionTable.toList, covers x pc = false := fun _ x hx => (hno x hx).elim
  unfold P_X13_withTwo at hp
  refine x_same (lo' := [(0, .ref a0), (1, va_rf x1)]) (by simp [lv_args, x_catq, x_cati, x_catr, x_catn]) ?_
  refine x_up (pc' := 1) (fun _ _ _ _ _ L => lv_aload_n hx hb dX13_withTwo_0 rfl (lv_at L 0 rfl)) ?_
  refine x_new X (kJ13 hG) q3001 q556 q116 (fs := [va_rf none, .int 0, .int 0, .int 0]) x_dflt_J13 dX13_withTwo_1 hp (fun q1 σ2 hp1 => ?_)
  refine x_pc (pc' := 4) rfl ?_
  refine x_up (pc' := 5) (fun _ _ _ _ _ L => lv_dup hx hb dX13_withTwo_4 rfl) ?_
  refine x_callI 0 X (fun σ' KK h => R_J13_init l hl G hG q1 σ' KK h) (lw_meth q559) q116 q3002 q558 rfl mdJ13_init ⟨Nat.le_of_ble_eq_true rfl, Nat.le_of_ble_eq_true rfl⟩ rfl rfl (Nat.le_of_ble_eq_true rfl) dX13_withTwo_5 hp1 (fun σ3 hp2 => ?_)
  refine x_pc (pc' := 8) rfl ?_
  refine x_up (pc' := 9) (fun _ _ _ _ _ L => lv_aloadq_n hx hb dX13_withTwo_8 rfl (lv_at L 1 rfl)) ?_
  refine x_up (pc' := 10) (fun _ _ _ _ _ L => lv_iconst (v := (1 : Int32)) hx hb dX13_withTwo_9 (by decide)) ?_
  obtain ⟨b4, rfl, hp3⟩ := hp2
  refine x_callV (em := emQ) (fun r st => va_rf r :: st) (fun _ _ => rfl) 1 X (kJ14 hG) (fun σ' KK h => R_J14_substring l hl G hG b4 (1 : Int32) σ' KK h) (lw_V q3003 q3004 q3005 q117 q3006) ⟨rfl, mdJ14_substring⟩ ⟨Nat.le_of_ble_eq_true rfl, Nat.le_of_ble_eq_true rfl⟩ rfl rfl (Nat.le_of_ble_eq_true rfl) dX13_withTwo_10 hp3.1 hp3.2 (fun v5 σ6 hp4 => ?_)
  refine x_pc (pc' := 13) rfl ?_
  refine x_callV (em := emQ) (fun r st => va_rf r :: st) (fun _ _ => rfl) 1 X (kJ13 hG) (fun σ' KK h => R_J13_append l hl G hG q1 v5 σ' KK h) (lw_V q3031 q863 q864 q116 q865) ⟨rfl, mdJ13_append⟩ ⟨Nat.le_of_ble_eq_true rfl, Nat.le_of_ble_eq_true rfl⟩ rfl rfl (Nat.le_of_ble_eq_true rfl) dX13_withTwo_13 hp4.1 hp4.2 (fun v7 σ8 hp5 => ?_)
  refine x_pc (pc' := 16) rfl ?_
  refine x_ldcS (tx := " ") (q := G.2 20) X (by simp [x_ss, RX13]) dX13_withTwo_16 ?_
  refine x_pc (pc' := 18) rfl ?_
  obtain ⟨b9, rfl, hp6⟩ := hp5
  refine x_callV (em := emQ) (fun r st => va_rf r :: st) (fun _ _ => rfl) 1 X (kJ13 hG) (fun σ' KK h => R_J13_append l hl G hG b9 (some (G.2 20)) σ' KK h) (lw_V q3031 q863 q864 q116 q865) ⟨rfl, mdJ13_append⟩ ⟨Nat.le_of_ble_eq_true rfl, Nat.le_of_ble_eq_true rfl⟩ rfl rfl (Nat.le_of_ble_eq_true rfl) dX13_withTwo_18 hp6.1 hp6.2 (fun v10 σ11 hp7 => ?_)
  refine x_pc (pc' := 21) rfl ?_
  obtain ⟨b12, rfl, hp8⟩ := hp7
  refine x_callV (em := emQ) (fun r st => va_rf r :: st) (fun _ _ => rfl) 0 X (kJ13 hG) (fun σ' KK h => R_J13_toString l hl G hG b12 σ' KK h) (lw_V q3033 q993 q994 q116 q995) ⟨rfl, mdJ13_toString⟩ ⟨Nat.le_of_ble_eq_true rfl, Nat.le_of_ble_eq_true rfl⟩ rfl rfl (Nat.le_of_ble_eq_true rfl) dX13_withTwo_21 hp8.1 hp8.2 (fun v13 σ14 hp9 => ?_)
  refine x_pc (pc' := 24) rfl ?_
  refine x_callVX (em := emV) (fun r st => st) (fun _ _ => rfl) 1 X (kX13 hG) (fun σ' KK KX h => R_X13_word l hl G hG a0 v13 σ' KK KX h) (lw_V q3034 q3036 qs45 q160 q3037) ⟨rfl, mdX13_word⟩ ⟨Nat.le_of_ble_eq_true rfl, Nat.le_of_ble_eq_true rfl⟩ rfl rfl (Nat.le_of_ble_eq_true rfl) dX13_withTwo_24 hp9.1 hp9.2 (fun _ σ15 hpA24 => ?_) (fun q16 σ17 hpB24 => ?_)
  · have hp10 := hpA24
    refine x_pc (pc' := 27) rfl ?_
    refine x_up (pc' := 28) (fun _ _ _ _ _ L => lv_aload_n hx hb dX13_withTwo_27 rfl (lv_at L 0 rfl)) ?_
    refine x_callVX (em := emI) (fun r st => .int r :: st) (fun _ _ => rfl) 0 X (kX13 hG) (fun σ' KK KX h => R_X13_number l hl G hG a0 σ' KK KX h) (lw_V q3062 q3064 qs47 q160 q3065) ⟨rfl, mdX13_number⟩ ⟨Nat.le_of_ble_eq_true rfl, Nat.le_of_ble_eq_true rfl⟩ rfl rfl (Nat.le_of_ble_eq_true rfl) dX13_withTwo_28 hp10.1 hp10.2 (fun v18 σ19 hpA28 => ?_) (fun q20 σ21 hpB28 => ?_)
    · have hp11 := hpA28
      refine x_pc (pc' := 31) rfl ?_
      refine x_upL (pc' := 32) (lo' := [(2, .int v18), (0, .ref a0), (1, .ref b4)]) (fun _ _ _ _ _ L => lv_istore_n hx hb dX13_withTwo_31 rfl L (by decide) rfl) ?_
      refine x_up (pc' := 33) (fun _ _ _ _ _ L => lv_aload_n hx hb dX13_withTwo_32 rfl (lv_at L 1 rfl)) ?_
      refine x_ldcS (tx := "=") (q := G.2 21) X (by simp [x_ss, RX13]) dX13_withTwo_33 ?_
      refine x_pc (pc' := 35) rfl ?_
      refine x_callVX (em := emV) (fun r st => st) (fun _ _ => rfl) 1 X (kX13 hG) (fun σ' KK KX h => R_X13_word l hl G hG a0 (some (G.2 21)) σ' KK KX h) (lw_V q3034 q3036 qs45 q160 q3037) ⟨rfl, mdX13_word⟩ ⟨Nat.le_of_ble_eq_true rfl, Nat.le_of_ble_eq_true rfl⟩ rfl rfl (Nat.le_of_ble_eq_true rfl) dX13_withTwo_35 hp11.1 hp11.2 (fun _ σ22 hpA35 => ?_) (fun q23 σ24 hpB35 => ?_)
      · have hp12 := hpA35
        refine x_pc (pc' := 38) rfl ?_
        refine x_up (pc' := 39) (fun _ _ _ _ _ L => lv_aload_n hx hb dX13_withTwo_38 rfl (lv_at L 1 rfl)) ?_
        refine x_up (pc' := 41) (fun _ _ _ _ _ L => lv_bipush (v := (45 : Int32)) hx hb dX13_withTwo_39 (by decide)) ?_
        refine x_callV (em := emI) (fun r st => .int r :: st) (fun _ _ => rfl) 1 X (kX13 hG) (fun σ' KK h => R_X13_passes l hl G hG a0 (45 : Int32) σ' KK h) (lw_V q2976 q2978 qs42 q160 q2979) ⟨rfl, mdX13_passes⟩ ⟨Nat.le_of_ble_eq_true rfl, Nat.le_of_ble_eq_true rfl⟩ rfl rfl (Nat.le_of_ble_eq_true rfl) dX13_withTwo_41 hp12.1 hp12.2 (fun v25 σ26 hp13 => ?_)
        refine x_pc (pc' := 44) rfl ?_
        refine x_upL (pc' := 45) (lo' := [(3, .int v25), (2, .int v18), (0, .ref a0), (1, .ref b4)]) (fun _ _ _ _ _ L => lv_istore_n hx hb dX13_withTwo_44 rfl L (by decide) rfl) ?_
        refine x_up (pc' := 46) (fun _ _ _ _ _ L => lv_aload_n hx hb dX13_withTwo_45 rfl (lv_at L 2 rfl)) ?_
        refine x_callVX (em := emI) (fun r st => .int r :: st) (fun _ _ => rfl) 0 X (kX13 hG) (fun σ' KK KX h => R_X13_number l hl G hG a0 σ' KK KX h) (lw_V q3062 q3064 qs47 q160 q3065) ⟨rfl, mdX13_number⟩ ⟨Nat.le_of_ble_eq_true rfl, Nat.le_of_ble_eq_true rfl⟩ rfl rfl (Nat.le_of_ble_eq_true rfl) dX13_withTwo_46 hp13.1 hp13.2 (fun v27 σ28 hpA46 => ?_) (fun q29 σ30 hpB46 => ?_)
        · have hp14 := hpA46
          refine x_pc (pc' := 49) rfl ?_
          refine x_upL (pc' := 51) (lo' := [(4, .int v27), (3, .int v25), (2, .int v18), (0, .ref a0), (1, .ref b4)]) (fun _ _ _ _ _ L => lv_istore hx hb dX13_withTwo_49 L (by decide) rfl) ?_
          refine x_new X (kX5 hG) q3061 q2130 q120 (fs := [va_rf none, .int 0, .int 0]) x_dflt_X5 dX13_withTwo_51 hp14 (fun q31 σ32 hp15 => ?_)
          refine x_pc (pc' := 54) rfl ?_
          refine x_up (pc' := 55) (fun _ _ _ _ _ L => lv_dup hx hb dX13_withTwo_54 rfl) ?_
          refine x_up (pc' := 56) (fun _ _ _ _ _ L => lv_aload_n hx hb dX13_withTwo_55 rfl (lv_at L 4 rfl)) ?_
          refine x_up (pc' := 57) (fun _ _ _ _ _ L => lv_iload_n hx hb dX13_withTwo_56 rfl (lv_at L 2 rfl)) ?_
          refine x_up (pc' := 58) (fun _ _ _ _ _ L => lv_iload_n hx hb dX13_withTwo_57 rfl (lv_at L 1 rfl)) ?_
          refine x_if (C := v25 = 0) (pt := 67) (pc' := 61) (fun _ _ _ _ _ => lv_if_eq (tgt := 67) hx hb dX13_withTwo_58 (by decide)) (fun c58 => ?_) (fun c58 => ?_)
          · have hp16 := hp15.1 c58
            refine x_up (pc' := 69) (fun _ _ _ _ _ L => lv_iload hx hb dX13_withTwo_67 (lv_at L 0 rfl)) ?_
            refine x_callI 3 X (fun σ' KK h => R_X5_init l hl G hG q31 (some b4) v18 v27 σ' KK h) (lw_meth q2134) q120 q3070 q2133 rfl mdX5_init ⟨Nat.le_of_ble_eq_true rfl, Nat.le_of_ble_eq_true rfl⟩ rfl rfl (Nat.le_of_ble_eq_true rfl) dX13_withTwo_69 hp16 (fun σ33 hp17 => ?_)
            refine x_pc (pc' := 72) rfl ?_
            refine x_vx ?_; exact x_aret X hr (Or.inl ⟨_, rfl⟩) dX13_withTwo_72 (some q31) hp17
          · have hp18 := hp15.2 c58
            refine x_up (pc' := 63) (fun _ _ _ _ _ L => lv_iload hx hb dX13_withTwo_61 (lv_at L 0 rfl)) ?_
            refine x_up (pc' := 64) (fun _ _ _ _ _ L => lv_ineg hx hb dX13_withTwo_63) ?_
            refine x_up (pc' := 69) (fun _ _ _ _ _ L => lv_goto (tgt := 69) hx hb dX13_withTwo_64 (by decide)) ?_
            refine x_callI 3 X (fun σ' KK h => R_X5_init l hl G hG q31 (some b4) v18 (-v27) σ' KK h) (lw_meth q2134) q120 q3070 q2133 rfl mdX5_init ⟨Nat.le_of_ble_eq_true rfl, Nat.le_of_ble_eq_true rfl⟩ rfl rfl (Nat.le_of_ble_eq_true rfl) dX13_withTwo_69 hp18 (fun σ34 hp19 => ?_)
            refine x_pc (pc' := 72) rfl ?_
            refine x_vx ?_; exact x_aret X hr (Or.inl ⟨_, rfl⟩) dX13_withTwo_72 (some q31) hp19
        · have hp20 := hpB46
          obtain ⟨hq46, hp21⟩ := hp20
          obtain ⟨hr46, hp22⟩ := hp21
          exact x_out X (kX14 hG) (hout 46) hr46 hq46 hp22
      · have hp23 := hpB35
        obtain ⟨hq35, hp24⟩ := hp23
        obtain ⟨hr35, hp25⟩ := hp24
        exact x_out X (kX14 hG) (hout 35) hr35 hq35 hp25
    · have hp26 := hpB28
      obtain ⟨hq28, hp27⟩ := hp26
      obtain ⟨hr28, hp28⟩ := hp27
      exact x_out X (kX14 hG) (hout 28) hr28 hq28 hp28
  · have hp29 := hpB24
    obtain ⟨hq24, hp30⟩ := hp29
    obtain ⟨hr24, hp31⟩ := hp30
    exact x_out X (kX14 hG) (hout 24) hr24 hq24 hp31
-- X13_withF
def P_X13_withF (κ : Nat → Nat) (a0 : Nat) (σ : xS) (K : Option Nat → xH → Prop) (KX : Nat → xH → Prop) : Prop :=
  xrc σ a0 36 ∧ xcall (fun τ L => P_X13_isNext κ a0 (114 : Int32) (114 : Int32) τ L) σ fun v1 σ2 => ((v1 = 0 → (xrc σ2 a0 36 ∧ xcallX (fun τ L LX => P_X13_word κ a0 (some (κ 22)) τ L LX) σ2 (fun _ σ3 => xnew κ σ3 11 3 [va_rf none, .int 0, .int 0] fun q6 σ7 => xcall (fun τ L => P_X5_init κ q6 (some (κ 15)) (0 : Int32) (0 : Int32) τ L) σ7 fun _ σ8 => K (some q6) σ8.1) (fun q4 σ5 => κ 0 ≤ q4 ∧ ((xrc σ5 q4 38 ∧ (KX q4 σ5.1)))))) ∧ (¬ v1 = 0 → (xrc σ2 a0 36 ∧ xcallX (fun τ L LX => P_X13_withNumber κ a0 (some (κ 14)) τ L LX) σ2 (fun v9 σ10 => K v9 σ10.1) (fun q11 σ12 => κ 0 ≤ q11 ∧ ((xrc σ12 q11 38 ∧ (KX q11 σ12.1)))))))
theorem mdX13_withF : yX13_withF.cls ≠ "java/lang/invoke/MethodHandle" ∧ yX13_withF.cls ≠ "java/lang/invoke/VarHandle" ∧ (parseMethodDescriptor yX13_withF.desc).map (fun d => d.parameters.length) = some 0 := by decide +kernel
set_option maxHeartbeats 4000000 in
set_option maxRecDepth 100000 in
theorem R_X13_withF (l : Launch) (hl : l.stackTraces = false) (G : xG) (hG : G.1.2 = x_cl) (a0 : Nat) (σ : xS) (K : Option Nat → xH → Prop) (KX : Nat → xH → Prop) (hp : P_X13_withF G.2 a0 σ K KX) : xMX l yX13_withF cX13_withF 1 (Option.some (Jvm.ClassFile.FieldType.object "WordCache$Order")) 11 244 G [(.ref a0)] σ (xlift emQ K) KX := by
  refine x_entryX (by decide) (Nat.le_of_ble_eq_true rfl) ?_
  intro p e s m args below meth c X hr hin hno
  have X : xX p s m args meth c G cX13_withF 1 RX13 := X
  have hx := X.1
  have hb := X.2.1
  have hts := X.2.2.2.2.1
  have hown := X.2.2.2.1
  have hout : ∀ pc, ∀ x ∈ c.exceptionTable.toList, covers x pc = false := fun _ x hx => (hno x hx).elim
  unfold P_X13_withF at hp
  refine x_same (lo' := [(0, .ref a0)]) rfl ?_
  refine x_up (pc' := 1) (fun _ _ _ _ _ L => lv_aload_n hx hb dX13_withF_0 rfl (lv_at L 0 rfl)) ?_
  refine x_up (pc' := 3) (fun _ _ _ _ _ L => lv_bipush (v := (114 : Int32)) hx hb dX13_withF_1 (by decide)) ?_
  refine x_up (pc' := 5) (fun _ _ _ _ _ L => lv_bipush (v := (114 : Int32)) hx hb dX13_withF_3 (by decide)) ?_
  refine x_callV (em := emI) (fun r st => .int r :: st) (fun _ _ => rfl) 2 X (kX13 hG) (fun σ' KK h => R_X13_isNext l hl G hG a0 (114 : Int32) (114 : Int32) σ' KK h) (lw_V q2980 q2982 qs43 q160 q2983) ⟨rfl, mdX13_isNext⟩ ⟨Nat.le_of_ble_eq_true rfl, Nat.le_of_ble_eq_true rfl⟩ rfl rfl (Nat.le_of_ble_eq_true rfl) dX13_withF_5 hp.1 hp.2 (fun v1 σ2 hp1 => ?_)
  refine x_pc (pc' := 8) rfl ?_
  refine x_if (C := v1 = 0) (pt := 18) (pc' := 11) (fun _ _ _ _ _ => lv_if_eq (tgt := 18) hx hb dX13_withF_8 (by decide)) (fun c8 => ?_) (fun c8 => ?_)
  · have hp2 := hp1.1 c8
    refine x_up (pc' := 19) (fun _ _ _ _ _ L => lv_aload_n hx hb dX13_withF_18 rfl (lv_at L 0 rfl)) ?_
    refine x_ldcS (tx := "lush") (q := G.2 22) X (by simp [x_ss, RX13]) dX13_withF_19 ?_
    refine x_pc (pc' := 21) rfl ?_
    refine x_callVX (em := emV) (fun r st => st) (fun _ _ => rfl) 1 X (kX13 hG) (fun σ' KK KX h => R_X13_word l hl G hG a0 (some (G.2 22)) σ' KK KX h) (lw_V q3034 q3036 qs45 q160 q3037) ⟨rfl, mdX13_word⟩ ⟨Nat.le_of_ble_eq_true rfl, Nat.le_of_ble_eq_true rfl⟩ rfl rfl (Nat.le_of_ble_eq_true rfl) dX13_withF_21 hp2.1 hp2.2 (fun _ σ3 hpA21 => ?_) (fun q4 σ5 hpB21 => ?_)
    · have hp3 := hpA21
      refine x_pc (pc' := 24) rfl ?_
      refine x_new X (kX5 hG) q3061 q2130 q120 (fs := [va_rf none, .int 0, .int 0]) x_dflt_X5 dX13_withF_24 hp3 (fun q6 σ7 hp4 => ?_)
      refine x_pc (pc' := 27) rfl ?_
      refine x_up (pc' := 28) (fun _ _ _ _ _ L => lv_dup hx hb dX13_withF_27 rfl) ?_
      refine x_ldcS (tx := "flush") (q := G.2 15) X (by simp [x_ss, RX13]) dX13_withF_28 ?_
      refine x_pc (pc' := 30) rfl ?_
      refine x_up (pc' := 31) (fun _ _ _ _ _ L => lv_iconst (v := (0 : Int32)) hx hb dX13_withF_30 (by decide)) ?_
      refine x_up (pc' := 32) (fun _ _ _ _ _ L => lv_iconst (v := (0 : Int32)) hx hb dX13_withF_31 (by decide)) ?_
      refine x_callI 3 X (fun σ' KK h => R_X5_init l hl G hG q6 (some (G.2 15)) (0 : Int32) (0 : Int32) σ' KK h) (lw_meth q2134) q120 q3070 q2133 rfl mdX5_init ⟨Nat.le_of_ble_eq_true rfl, Nat.le_of_ble_eq_true rfl⟩ rfl rfl (Nat.le_of_ble_eq_true rfl) dX13_withF_32 hp4 (fun σ8 hp5 => ?_)
      refine x_pc (pc' := 35) rfl ?_
      refine x_vx ?_; exact x_aret X hr (Or.inl ⟨_, rfl⟩) dX13_withF_35 (some q6) hp5
    · have hp6 := hpB21
      obtain ⟨hq21, hp7⟩ := hp6
      obtain ⟨hr21, hp8⟩ := hp7
      exact x_out X (kX14 hG) (hout 21) hr21 hq21 hp8
  · have hp9 := hp1.2 c8
    refine x_up (pc' := 12) (fun _ _ _ _ _ L => lv_aload_n hx hb dX13_withF_11 rfl (lv_at L 0 rfl)) ?_
    refine x_ldcS (tx := "free") (q := G.2 14) X (by simp [x_ss, RX13]) dX13_withF_12 ?_
    refine x_pc (pc' := 14) rfl ?_
    refine x_callVX (em := emQ) (fun r st => va_rf r :: st) (fun _ _ => rfl) 1 X (kX13 hG) (fun σ' KK KX h => R_X13_withNumber l hl G hG a0 (some (G.2 14)) σ' KK KX h) (lw_V q2997 q2999 qs44 q160 q3000) ⟨rfl, mdX13_withNumber⟩ ⟨Nat.le_of_ble_eq_true rfl, Nat.le_of_ble_eq_true rfl⟩ rfl rfl (Nat.le_of_ble_eq_true rfl) dX13_withF_14 hp9.1 hp9.2 (fun v9 σ10 hpA14 => ?_) (fun q11 σ12 hpB14 => ?_)
    · have hp10 := hpA14
      refine x_pc (pc' := 17) rfl ?_
      refine x_vx ?_; exact x_aret X hr (Or.inl ⟨_, rfl⟩) dX13_withF_17 v9 hp10
    · have hp11 := hpB14
      obtain ⟨hq14, hp12⟩ := hp11
      obtain ⟨hr14, hp13⟩ := hp12
      exact x_out X (kX14 hG) (hout 14) hr14 hq14 hp13
-- X13_order
def P_X13_order (κ : Nat → Nat) (a0 : Nat) (σ : xS) (K : Option Nat → xH → Prop) (KX : Nat → xH → Prop) : Prop :=
  xrc σ a0 36 ∧ xcall (fun τ L => P_X13_passes κ a0 (114 : Int32) τ L) σ fun v1 σ2 => ((v1 = 0 → (xrc σ2 a0 36 ∧ xcall (fun τ L => P_X13_passes κ a0 (119 : Int32) τ L) σ2 fun v3 σ4 => ((v3 = 0 → (xrc σ4 a0 36 ∧ xcall (fun τ L => P_X13_passes κ a0 (112 : Int32) τ L) σ4 fun v5 σ6 => ((v5 = 0 → (xrc σ6 a0 36 ∧ xcall (fun τ L => P_X13_passes κ a0 (102 : Int32) τ L) σ6 fun v7 σ8 => ((v7 = 0 → (xrc σ8 a0 36 ∧ xcall (fun τ L => P_X13_passes κ a0 (100 : Int32) τ L) σ8 fun v9 σ10 => ((v9 = 0 → (xrc σ10 a0 36 ∧ xcall (fun τ L => P_X13_passes κ a0 (116 : Int32) τ L) σ10 fun v11 σ12 => xrc σ12 a0 36 ∧ xcallX (fun τ L LX => P_X13_expect κ a0 v11 τ L LX) σ12 (fun _ σ13 => xrc σ13 a0 36 ∧ xcallX (fun τ L LX => P_X13_withNumber κ a0 (some (κ 17)) τ L LX) σ13 (fun v16 σ17 => K v16 σ17.1) (fun q18 σ19 => κ 0 ≤ q18 ∧ ((xrc σ19 q18 38 ∧ (KX q18 σ19.1))))) (fun q14 σ15 => κ 0 ≤ q14 ∧ ((xrc σ15 q14 38 ∧ (KX q14 σ15.1)))))) ∧ (¬ v9 = 0 → (xrc σ10 a0 36 ∧ xcallX (fun τ L LX => P_X13_withTwo κ a0 (some (κ 16)) τ L LX) σ10 (fun v20 σ21 => K v20 σ21.1) (fun q22 σ23 => κ 0 ≤ q22 ∧ ((xrc σ23 q22 38 ∧ (KX q22 σ23.1))))))))) ∧ (¬ v7 = 0 → (xrc σ8 a0 36 ∧ xcallX (fun τ L LX => P_X13_withF κ a0 τ L LX) σ8 (fun v24 σ25 => K v24 σ25.1) (fun q26 σ27 => κ 0 ≤ q26 ∧ ((xrc σ27 q26 38 ∧ (KX q26 σ27.1))))))))) ∧ (¬ v5 = 0 → (xrc σ6 a0 36 ∧ xcallX (fun τ L LX => P_X13_withNumber κ a0 (some (κ 13)) τ L LX) σ6 (fun v28 σ29 => K v28 σ29.1) (fun q30 σ31 => κ 0 ≤ q30 ∧ ((xrc σ31 q30 38 ∧ (KX q30 σ31.1))))))))) ∧ (¬ v3 = 0 → (xrc σ4 a0 36 ∧ xcallX (fun τ L LX => P_X13_withTwo κ a0 (some (κ 12)) τ L LX) σ4 (fun v32 σ33 => K v32 σ33.1) (fun q34 σ35 => κ 0 ≤ q34 ∧ ((xrc σ35 q34 38 ∧ (KX q34 σ35.1))))))))) ∧ (¬ v1 = 0 → (xrc σ2 a0 36 ∧ xcallX (fun τ L LX => P_X13_withNumber κ a0 (some (κ 11)) τ L LX) σ2 (fun v36 σ37 => K v36 σ37.1) (fun q38 σ39 => κ 0 ≤ q38 ∧ ((xrc σ39 q38 38 ∧ (KX q38 σ39.1)))))))
theorem mdX13_order : yX13_order.cls ≠ "java/lang/invoke/MethodHandle" ∧ yX13_order.cls ≠ "java/lang/invoke/VarHandle" ∧ (parseMethodDescriptor yX13_order.desc).map (fun d => d.parameters.length) = some 0 := by decide +kernel
set_option maxHeartbeats 4000000 in
set_option maxRecDepth 100000 in
theorem R_X13_order (l : Launch) (hl : l.stackTraces = false) (G : xG) (hG : G.1.2 = x_cl) (a0 : Nat) (σ : xS) (K : Option Nat → xH → Prop) (KX : Nat → xH → Prop) (hp : P_X13_order G.2 a0 σ K KX) : xMX l yX13_order cX13_order 1 (Option.some (Jvm.ClassFile.FieldType.object "WordCache$Order")) 12 264 G [(.ref a0)] σ (xlift emQ K) KX := by
  refine x_entryX (by decide) (Nat.le_of_ble_eq_true rfl) ?_
  intro p e s m args below meth c X hr hin hno
  have X : xX p s m args meth c G cX13_order 1 RX13 := X
  have hx := X.1
  have hb := X.2.1
  have hts := X.2.2.2.2.1
  have hown := X.2.2.2.1
  have hout : ∀ pc, ∀ x ∈ c.exceptionTable.toList, covers x pc = false := fun _ x hx => (hno x hx).elim
  unfold P_X13_order at hp
  refine x_same (lo' := [(0, .ref a0)]) rfl ?_
  refine x_up (pc' := 1) (fun _ _ _ _ _ L => lv_aload_n hx hb dX13_order_0 rfl (lv_at L 0 rfl)) ?_
  refine x_up (pc' := 3) (fun _ _ _ _ _ L => lv_bipush (v := (114 : Int32)) hx hb dX13_order_1 (by decide)) ?_
  refine x_callV (em := emI) (fun r st => .int r :: st) (fun _ _ => rfl) 1 X (kX13 hG) (fun σ' KK h => R_X13_passes l hl G hG a0 (114 : Int32) σ' KK h) (lw_V q2976 q2978 qs42 q160 q2979) ⟨rfl, mdX13_passes⟩ ⟨Nat.le_of_ble_eq_true rfl, Nat.le_of_ble_eq_true rfl⟩ rfl rfl (Nat.le_of_ble_eq_true rfl) dX13_order_3 hp.1 hp.2 (fun v1 σ2 hp1 => ?_)
  refine x_pc (pc' := 6) rfl ?_
  refine x_if (C := v1 = 0) (pt := 16) (pc' := 9) (fun _ _ _ _ _ => lv_if_eq (tgt := 16) hx hb dX13_order_6 (by decide)) (fun c6 => ?_) (fun c6 => ?_)
  · have hp2 := hp1.1 c6
    refine x_up (pc' := 17) (fun _ _ _ _ _ L => lv_aload_n hx hb dX13_order_16 rfl (lv_at L 0 rfl)) ?_
    refine x_up (pc' := 19) (fun _ _ _ _ _ L => lv_bipush (v := (119 : Int32)) hx hb dX13_order_17 (by decide)) ?_
    refine x_callV (em := emI) (fun r st => .int r :: st) (fun _ _ => rfl) 1 X (kX13 hG) (fun σ' KK h => R_X13_passes l hl G hG a0 (119 : Int32) σ' KK h) (lw_V q2976 q2978 qs42 q160 q2979) ⟨rfl, mdX13_passes⟩ ⟨Nat.le_of_ble_eq_true rfl, Nat.le_of_ble_eq_true rfl⟩ rfl rfl (Nat.le_of_ble_eq_true rfl) dX13_order_19 hp2.1 hp2.2 (fun v3 σ4 hp3 => ?_)
    refine x_pc (pc' := 22) rfl ?_
    refine x_if (C := v3 = 0) (pt := 32) (pc' := 25) (fun _ _ _ _ _ => lv_if_eq (tgt := 32) hx hb dX13_order_22 (by decide)) (fun c22 => ?_) (fun c22 => ?_)
    · have hp4 := hp3.1 c22
      refine x_up (pc' := 33) (fun _ _ _ _ _ L => lv_aload_n hx hb dX13_order_32 rfl (lv_at L 0 rfl)) ?_
      refine x_up (pc' := 35) (fun _ _ _ _ _ L => lv_bipush (v := (112 : Int32)) hx hb dX13_order_33 (by decide)) ?_
      refine x_callV (em := emI) (fun r st => .int r :: st) (fun _ _ => rfl) 1 X (kX13 hG) (fun σ' KK h => R_X13_passes l hl G hG a0 (112 : Int32) σ' KK h) (lw_V q2976 q2978 qs42 q160 q2979) ⟨rfl, mdX13_passes⟩ ⟨Nat.le_of_ble_eq_true rfl, Nat.le_of_ble_eq_true rfl⟩ rfl rfl (Nat.le_of_ble_eq_true rfl) dX13_order_35 hp4.1 hp4.2 (fun v5 σ6 hp5 => ?_)
      refine x_pc (pc' := 38) rfl ?_
      refine x_if (C := v5 = 0) (pt := 48) (pc' := 41) (fun _ _ _ _ _ => lv_if_eq (tgt := 48) hx hb dX13_order_38 (by decide)) (fun c38 => ?_) (fun c38 => ?_)
      · have hp6 := hp5.1 c38
        refine x_up (pc' := 49) (fun _ _ _ _ _ L => lv_aload_n hx hb dX13_order_48 rfl (lv_at L 0 rfl)) ?_
        refine x_up (pc' := 51) (fun _ _ _ _ _ L => lv_bipush (v := (102 : Int32)) hx hb dX13_order_49 (by decide)) ?_
        refine x_callV (em := emI) (fun r st => .int r :: st) (fun _ _ => rfl) 1 X (kX13 hG) (fun σ' KK h => R_X13_passes l hl G hG a0 (102 : Int32) σ' KK h) (lw_V q2976 q2978 qs42 q160 q2979) ⟨rfl, mdX13_passes⟩ ⟨Nat.le_of_ble_eq_true rfl, Nat.le_of_ble_eq_true rfl⟩ rfl rfl (Nat.le_of_ble_eq_true rfl) dX13_order_51 hp6.1 hp6.2 (fun v7 σ8 hp7 => ?_)
        refine x_pc (pc' := 54) rfl ?_
        refine x_if (C := v7 = 0) (pt := 62) (pc' := 57) (fun _ _ _ _ _ => lv_if_eq (tgt := 62) hx hb dX13_order_54 (by decide)) (fun c54 => ?_) (fun c54 => ?_)
        · have hp8 := hp7.1 c54
          refine x_up (pc' := 63) (fun _ _ _ _ _ L => lv_aload_n hx hb dX13_order_62 rfl (lv_at L 0 rfl)) ?_
          refine x_up (pc' := 65) (fun _ _ _ _ _ L => lv_bipush (v := (100 : Int32)) hx hb dX13_order_63 (by decide)) ?_
          refine x_callV (em := emI) (fun r st => .int r :: st) (fun _ _ => rfl) 1 X (kX13 hG) (fun σ' KK h => R_X13_passes l hl G hG a0 (100 : Int32) σ' KK h) (lw_V q2976 q2978 qs42 q160 q2979) ⟨rfl, mdX13_passes⟩ ⟨Nat.le_of_ble_eq_true rfl, Nat.le_of_ble_eq_true rfl⟩ rfl rfl (Nat.le_of_ble_eq_true rfl) dX13_order_65 hp8.1 hp8.2 (fun v9 σ10 hp9 => ?_)
          refine x_pc (pc' := 68) rfl ?_
          refine x_if (C := v9 = 0) (pt := 78) (pc' := 71) (fun _ _ _ _ _ => lv_if_eq (tgt := 78) hx hb dX13_order_68 (by decide)) (fun c68 => ?_) (fun c68 => ?_)
          · have hp10 := hp9.1 c68
            refine x_up (pc' := 79) (fun _ _ _ _ _ L => lv_aload_n hx hb dX13_order_78 rfl (lv_at L 0 rfl)) ?_
            refine x_up (pc' := 80) (fun _ _ _ _ _ L => lv_aload_n hx hb dX13_order_79 rfl (lv_at L 0 rfl)) ?_
            refine x_up (pc' := 82) (fun _ _ _ _ _ L => lv_bipush (v := (116 : Int32)) hx hb dX13_order_80 (by decide)) ?_
            refine x_callV (em := emI) (fun r st => .int r :: st) (fun _ _ => rfl) 1 X (kX13 hG) (fun σ' KK h => R_X13_passes l hl G hG a0 (116 : Int32) σ' KK h) (lw_V q2976 q2978 qs42 q160 q2979) ⟨rfl, mdX13_passes⟩ ⟨Nat.le_of_ble_eq_true rfl, Nat.le_of_ble_eq_true rfl⟩ rfl rfl (Nat.le_of_ble_eq_true rfl) dX13_order_82 hp10.1 hp10.2 (fun v11 σ12 hp11 => ?_)
            refine x_pc (pc' := 85) rfl ?_
            refine x_callVX (em := emV) (fun r st => st) (fun _ _ => rfl) 1 X (kX13 hG) (fun σ' KK KX h => R_X13_expect l hl G hG a0 v11 σ' KK KX h) (lw_V q3038 q3040 qs46 q160 q3041) ⟨rfl, mdX13_expect⟩ ⟨Nat.le_of_ble_eq_true rfl, Nat.le_of_ble_eq_true rfl⟩ rfl rfl (Nat.le_of_ble_eq_true rfl) dX13_order_85 hp11.1 hp11.2 (fun _ σ13 hpA85 => ?_) (fun q14 σ15 hpB85 => ?_)
            · have hp12 := hpA85
              refine x_pc (pc' := 88) rfl ?_
              refine x_up (pc' := 89) (fun _ _ _ _ _ L => lv_aload_n hx hb dX13_order_88 rfl (lv_at L 0 rfl)) ?_
              refine x_ldcS (tx := "ticks") (q := G.2 17) X (by simp [x_ss, RX13]) dX13_order_89 ?_
              refine x_pc (pc' := 91) rfl ?_
              refine x_callVX (em := emQ) (fun r st => va_rf r :: st) (fun _ _ => rfl) 1 X (kX13 hG) (fun σ' KK KX h => R_X13_withNumber l hl G hG a0 (some (G.2 17)) σ' KK KX h) (lw_V q2997 q2999 qs44 q160 q3000) ⟨rfl, mdX13_withNumber⟩ ⟨Nat.le_of_ble_eq_true rfl, Nat.le_of_ble_eq_true rfl⟩ rfl rfl (Nat.le_of_ble_eq_true rfl) dX13_order_91 hp12.1 hp12.2 (fun v16 σ17 hpA91 => ?_) (fun q18 σ19 hpB91 => ?_)
              · have hp13 := hpA91
                refine x_pc (pc' := 94) rfl ?_
                refine x_vx ?_; exact x_aret X hr (Or.inl ⟨_, rfl⟩) dX13_order_94 v16 hp13
              · have hp14 := hpB91
                obtain ⟨hq91, hp15⟩ := hp14
                obtain ⟨hr91, hp16⟩ := hp15
                exact x_out X (kX14 hG) (hout 91) hr91 hq91 hp16
            · have hp17 := hpB85
              obtain ⟨hq85, hp18⟩ := hp17
              obtain ⟨hr85, hp19⟩ := hp18
              exact x_out X (kX14 hG) (hout 85) hr85 hq85 hp19
          · have hp20 := hp9.2 c68
            refine x_up (pc' := 72) (fun _ _ _ _ _ L => lv_aload_n hx hb dX13_order_71 rfl (lv_at L 0 rfl)) ?_
            refine x_ldcS (tx := "device") (q := G.2 16) X (by simp [x_ss, RX13]) dX13_order_72 ?_
            refine x_pc (pc' := 74) rfl ?_
            refine x_callVX (em := emQ) (fun r st => va_rf r :: st) (fun _ _ => rfl) 1 X (kX13 hG) (fun σ' KK KX h => R_X13_withTwo l hl G hG a0 (some (G.2 16)) σ' KK KX h) (lw_V q3072 q3074 qs49 q160 q3075) ⟨rfl, mdX13_withTwo⟩ ⟨Nat.le_of_ble_eq_true rfl, Nat.le_of_ble_eq_true rfl⟩ rfl rfl (Nat.le_of_ble_eq_true rfl) dX13_order_74 hp20.1 hp20.2 (fun v20 σ21 hpA74 => ?_) (fun q22 σ23 hpB74 => ?_)
            · have hp21 := hpA74
              refine x_pc (pc' := 77) rfl ?_
              refine x_vx ?_; exact x_aret X hr (Or.inl ⟨_, rfl⟩) dX13_order_77 v20 hp21
            · have hp22 := hpB74
              obtain ⟨hq74, hp23⟩ := hp22
              obtain ⟨hr74, hp24⟩ := hp23
              exact x_out X (kX14 hG) (hout 74) hr74 hq74 hp24
        · have hp25 := hp7.2 c54
          refine x_up (pc' := 58) (fun _ _ _ _ _ L => lv_aload_n hx hb dX13_order_57 rfl (lv_at L 0 rfl)) ?_
          refine x_callVX (em := emQ) (fun r st => va_rf r :: st) (fun _ _ => rfl) 0 X (kX13 hG) (fun σ' KK KX h => R_X13_withF l hl G hG a0 σ' KK KX h) (lw_V q3078 q3080 qs50 q160 q3081) ⟨rfl, mdX13_withF⟩ ⟨Nat.le_of_ble_eq_true rfl, Nat.le_of_ble_eq_true rfl⟩ rfl rfl (Nat.le_of_ble_eq_true rfl) dX13_order_58 hp25.1 hp25.2 (fun v24 σ25 hpA58 => ?_) (fun q26 σ27 hpB58 => ?_)
          · have hp26 := hpA58
            refine x_pc (pc' := 61) rfl ?_
            refine x_vx ?_; exact x_aret X hr (Or.inl ⟨_, rfl⟩) dX13_order_61 v24 hp26
          · have hp27 := hpB58
            obtain ⟨hq58, hp28⟩ := hp27
            obtain ⟨hr58, hp29⟩ := hp28
            exact x_out X (kX14 hG) (hout 58) hr58 hq58 hp29
      · have hp30 := hp5.2 c38
        refine x_up (pc' := 42) (fun _ _ _ _ _ L => lv_aload_n hx hb dX13_order_41 rfl (lv_at L 0 rfl)) ?_
        refine x_ldcS (tx := "pin") (q := G.2 13) X (by simp [x_ss, RX13]) dX13_order_42 ?_
        refine x_pc (pc' := 44) rfl ?_
        refine x_callVX (em := emQ) (fun r st => va_rf r :: st) (fun _ _ => rfl) 1 X (kX13 hG) (fun σ' KK KX h => R_X13_withNumber l hl G hG a0 (some (G.2 13)) σ' KK KX h) (lw_V q2997 q2999 qs44 q160 q3000) ⟨rfl, mdX13_withNumber⟩ ⟨Nat.le_of_ble_eq_true rfl, Nat.le_of_ble_eq_true rfl⟩ rfl rfl (Nat.le_of_ble_eq_true rfl) dX13_order_44 hp30.1 hp30.2 (fun v28 σ29 hpA44 => ?_) (fun q30 σ31 hpB44 => ?_)
        · have hp31 := hpA44
          refine x_pc (pc' := 47) rfl ?_
          refine x_vx ?_; exact x_aret X hr (Or.inl ⟨_, rfl⟩) dX13_order_47 v28 hp31
        · have hp32 := hpB44
          obtain ⟨hq44, hp33⟩ := hp32
          obtain ⟨hr44, hp34⟩ := hp33
          exact x_out X (kX14 hG) (hout 44) hr44 hq44 hp34
    · have hp35 := hp3.2 c22
      refine x_up (pc' := 26) (fun _ _ _ _ _ L => lv_aload_n hx hb dX13_order_25 rfl (lv_at L 0 rfl)) ?_
      refine x_ldcS (tx := "write") (q := G.2 12) X (by simp [x_ss, RX13]) dX13_order_26 ?_
      refine x_pc (pc' := 28) rfl ?_
      refine x_callVX (em := emQ) (fun r st => va_rf r :: st) (fun _ _ => rfl) 1 X (kX13 hG) (fun σ' KK KX h => R_X13_withTwo l hl G hG a0 (some (G.2 12)) σ' KK KX h) (lw_V q3072 q3074 qs49 q160 q3075) ⟨rfl, mdX13_withTwo⟩ ⟨Nat.le_of_ble_eq_true rfl, Nat.le_of_ble_eq_true rfl⟩ rfl rfl (Nat.le_of_ble_eq_true rfl) dX13_order_28 hp35.1 hp35.2 (fun v32 σ33 hpA28 => ?_) (fun q34 σ35 hpB28 => ?_)
      · have hp36 := hpA28
        refine x_pc (pc' := 31) rfl ?_
        refine x_vx ?_; exact x_aret X hr (Or.inl ⟨_, rfl⟩) dX13_order_31 v32 hp36
      · have hp37 := hpB28
        obtain ⟨hq28, hp38⟩ := hp37
        obtain ⟨hr28, hp39⟩ := hp38
        exact x_out X (kX14 hG) (hout 28) hr28 hq28 hp39
  · have hp40 := hp1.2 c6
    refine x_up (pc' := 10) (fun _ _ _ _ _ L => lv_aload_n hx hb dX13_order_9 rfl (lv_at L 0 rfl)) ?_
    refine x_ldcS (tx := "read") (q := G.2 11) X (by simp [x_ss, RX13]) dX13_order_10 ?_
    refine x_pc (pc' := 12) rfl ?_
    refine x_callVX (em := emQ) (fun r st => va_rf r :: st) (fun _ _ => rfl) 1 X (kX13 hG) (fun σ' KK KX h => R_X13_withNumber l hl G hG a0 (some (G.2 11)) σ' KK KX h) (lw_V q2997 q2999 qs44 q160 q3000) ⟨rfl, mdX13_withNumber⟩ ⟨Nat.le_of_ble_eq_true rfl, Nat.le_of_ble_eq_true rfl⟩ rfl rfl (Nat.le_of_ble_eq_true rfl) dX13_order_12 hp40.1 hp40.2 (fun v36 σ37 hpA12 => ?_) (fun q38 σ39 hpB12 => ?_)
    · have hp41 := hpA12
      refine x_pc (pc' := 15) rfl ?_
      refine x_vx ?_; exact x_aret X hr (Or.inl ⟨_, rfl⟩) dX13_order_15 v36 hp41
    · have hp42 := hpB12
      obtain ⟨hq12, hp43⟩ := hp42
      obtain ⟨hr12, hp44⟩ := hp43
      exact x_out X (kX14 hG) (hout 12) hr12 hq12 hp44
-- X13_whole
def B_X13_whole_8 (κ : Nat → Nat) (KX : Nat → xH → Prop) (kx9004 : Unit → xS → Prop) (f0 : Nat) (f1 : Nat) : (Unit → xS → Prop) → Unit → xS → Prop := fun self9003 w9001 σ9002 =>
  xrc σ9002 f0 36 ∧ xcallX (fun τ L LX => P_X13_order κ f0 τ L LX) σ9002 (fun v9005 σ9006 => xrc σ9006 f1 3 ∧ xcall (fun τ L => P_J4_add κ f1 v9005 τ L) σ9006 fun v9009 σ9010 => xrc σ9010 f0 36 ∧ xcall (fun τ L => P_X13_passes κ f0 (59 : Int32) τ L) σ9010 fun v9011 σ9012 => ((v9011 = 0 → (kx9004 () σ9012)) ∧ (¬ v9011 = 0 → (self9003 () σ9012)))) (fun q9007 σ9008 => κ 0 ≤ q9007 ∧ ((xrc σ9008 q9007 38 ∧ (KX q9007 σ9008.1))))
def P_X13_whole (κ : Nat → Nat) (a0 : Nat) (σ : xS) (K : Option Nat → xH → Prop) (KX : Nat → xH → Prop) : Prop :=
  xnew κ σ 3 3 [.int 0, va_rf none, .int 0] fun q1 σ2 => xcall (fun τ L => P_J4_init κ q1 τ L) σ2 fun _ σ3 => xwhile (B_X13_whole_8 κ KX (fun e4 σ5 => xgi σ5 a0 36 1 fun v6 => xgq σ5 a0 36 0 fun v7 => xnn v7 fun b8 => xrc σ5 b8 9 ∧ xcall (fun τ L => P_J14_length κ b8 τ L) σ5 fun v9 σ10 => ((v6 = v9 → (xrc σ10 a0 36 ∧ xcallX (fun τ L LX => P_X13_expect κ a0 (1 : Int32) τ L LX) σ10 (fun _ σ11 => K (some q1) σ11.1) (fun q12 σ13 => κ 0 ≤ q12 ∧ ((xrc σ13 q12 38 ∧ (KX q12 σ13.1)))))) ∧ (¬ v6 = v9 → (xrc σ10 a0 36 ∧ xcallX (fun τ L LX => P_X13_expect κ a0 (0 : Int32) τ L LX) σ10 (fun _ σ14 => K (some q1) σ14.1) (fun q15 σ16 => κ 0 ≤ q15 ∧ ((xrc σ16 q15 38 ∧ (KX q15 σ16.1)))))))) a0 q1) () σ3
theorem mdX13_whole : yX13_whole.cls ≠ "java/lang/invoke/MethodHandle" ∧ yX13_whole.cls ≠ "java/lang/invoke/VarHandle" ∧ (parseMethodDescriptor yX13_whole.desc).map (fun d => d.parameters.length) = some 0 := by decide +kernel
set_option maxHeartbeats 4000000 in
set_option maxRecDepth 100000 in
theorem R_X13_whole (l : Launch) (hl : l.stackTraces = false) (G : xG) (hG : G.1.2 = x_cl) (a0 : Nat) (σ : xS) (K : Option Nat → xH → Prop) (KX : Nat → xH → Prop) (hp : P_X13_whole G.2 a0 σ K KX) : xMX l yX13_whole cX13_whole 2 (Option.some (Jvm.ClassFile.FieldType.object "java/util/List")) 13 284 G [(.ref a0)] σ (xlift emQ K) KX := by
  refine x_entryX (by decide) (Nat.le_of_ble_eq_true rfl) ?_
  intro p e s m args below meth c X hr hin hno
  have X : xX p s m args meth c G cX13_whole 2 RX13 := X
  have hx := X.1
  have hb := X.2.1
  have hts := X.2.2.2.2.1
  have hown := X.2.2.2.1
  have hout : ∀ pc, ∀ x ∈ c.exceptionTable.toList, covers x pc = false := fun _ x hx => (hno x hx).elim
  unfold P_X13_whole at hp
  refine x_same (lo' := [(0, .ref a0)]) rfl ?_
  refine x_new X (kJ4 hG) q2970 q214 q105 (fs := [.int 0, va_rf none, .int 0]) x_dflt_J4 dX13_whole_0 hp (fun q1 σ2 hp1 => ?_)
  refine x_pc (pc' := 3) rfl ?_
  refine x_up (pc' := 4) (fun _ _ _ _ _ L => lv_dup hx hb dX13_whole_3 rfl) ?_
  refine x_callI 0 X (fun σ' KK h => R_J4_init l hl G hG q1 σ' KK h) (lw_meth q217) q105 q2971 q216 rfl mdJ4_init ⟨Nat.le_of_ble_eq_true rfl, Nat.le_of_ble_eq_true rfl⟩ rfl rfl (Nat.le_of_ble_eq_true rfl) dX13_whole_4 hp1 (fun σ3 hp2 => ?_)
  refine x_pc (pc' := 7) rfl ?_
  refine x_upL (pc' := 8) (lo' := [(1, .ref q1), (0, .ref a0)]) (fun _ _ _ _ _ L => lv_astore_n hx hb dX13_whole_7 rfl L (by decide) rfl) ?_
  refine x_lo (lo' := [(0, .ref a0), (1, .ref q1)]) [1, 0] rfl ?_
  refine x_while (v0 := ()) (fun _ => [(0, .ref a0), (1, .ref q1)]) hp2 (fun self5 hself6 => ?_)
  rintro ⟨⟩ σ7 hp3
  unfold B_X13_whole_8 at hp3
  refine x_same (lo' := [(0, .ref a0), (1, .ref q1)]) rfl ?_
  refine x_up (pc' := 9) (fun _ _ _ _ _ L => lv_aload_n hx hb dX13_whole_8 rfl (lv_at L 1 rfl)) ?_
  refine x_up (pc' := 10) (fun _ _ _ _ _ L => lv_aload_n hx hb dX13_whole_9 rfl (lv_at L 0 rfl)) ?_
  refine x_callVX (em := emQ) (fun r st => va_rf r :: st) (fun _ _ => rfl) 0 X (kX13 hG) (fun σ' KK KX h => R_X13_order l hl G hG a0 σ' KK KX h) (lw_V q2972 q2974 qs41 q160 q2975) ⟨rfl, mdX13_order⟩ ⟨Nat.le_of_ble_eq_true rfl, Nat.le_of_ble_eq_true rfl⟩ rfl rfl (Nat.le_of_ble_eq_true rfl) dX13_whole_10 hp3.1 hp3.2 (fun v8 σ9 hpA10 => ?_) (fun q10 σ11 hpB10 => ?_)
  · have hp4 := hpA10
    refine x_pc (pc' := 13) rfl ?_
    refine x_callF (x := ⟨"java/util/List", "add", "(Ljava/lang/Object;)Z"⟩) (em := emI) (fun r st => .int r :: st) (fun _ _ => rfl) 1 X (kJ4 hG) (fun σ' KK h => R_J4_add l hl G hG q1 v8 σ' KK h) q3088 q337 q339 q105 q341 ⟨⟨q336, q335, q340, q338, q275⟩, by decide, by decide⟩ (by decide +kernel) ⟨Nat.le_of_ble_eq_true rfl, Nat.le_of_ble_eq_true rfl⟩ rfl rfl (Nat.le_of_ble_eq_true rfl) dX13_whole_13 hp4.1 hp4.2 (fun v12 σ13 hp5 => ?_)
    refine x_pc (pc' := 18) rfl ?_
    refine x_up (pc' := 19) (fun _ _ _ _ _ L => lv_pop hx hb dX13_whole_18 rfl) ?_
    refine x_up (pc' := 20) (fun _ _ _ _ _ L => lv_aload_n hx hb dX13_whole_19 rfl (lv_at L 0 rfl)) ?_
    refine x_up (pc' := 22) (fun _ _ _ _ _ L => lv_bipush (v := (59 : Int32)) hx hb dX13_whole_20 (by decide)) ?_
    refine x_callV (em := emI) (fun r st => .int r :: st) (fun _ _ => rfl) 1 X (kX13 hG) (fun σ' KK h => R_X13_passes l hl G hG a0 (59 : Int32) σ' KK h) (lw_V q2976 q2978 qs42 q160 q2979) ⟨rfl, mdX13_passes⟩ ⟨Nat.le_of_ble_eq_true rfl, Nat.le_of_ble_eq_true rfl⟩ rfl rfl (Nat.le_of_ble_eq_true rfl) dX13_whole_22 hp5.1 hp5.2 (fun v14 σ15 hp6 => ?_)
    refine x_pc (pc' := 25) rfl ?_
    refine x_ifn (C := v14 = 0) (pt := 8) (pc' := 28) (fun _ _ _ _ _ => lv_if_ne (tgt := 8) hx hb dX13_whole_25 (by decide)) (fun c25 => ?_) (fun c25 => ?_)
    · have hp7 := hp6.1 c25
      refine x_up (pc' := 29) (fun _ _ _ _ _ L => lv_aload_n hx hb dX13_whole_28 rfl (lv_at L 0 rfl)) ?_
      refine x_up (pc' := 30) (fun _ _ _ _ _ L => lv_aload_n hx hb dX13_whole_29 rfl (lv_at L 0 rfl)) ?_
      refine x_gi X (kX13 hG) 1 (by decide) q2908 (fun _ h => h) dX13_whole_30 hp7 (fun v16 hp8 => ?_)
      refine x_pc (pc' := 33) rfl ?_
      refine x_up (pc' := 34) (fun _ _ _ _ _ L => lv_aload_n hx hb dX13_whole_33 rfl (lv_at L 0 rfl)) ?_
      refine x_gq X (kX13 hG) 0 (by decide) q2907 (fun _ h => h) dX13_whole_34 hp8 (fun v17 hp9 => ?_)
      refine x_pc (pc' := 37) rfl ?_
      obtain ⟨b18, rfl, hp10⟩ := hp9
      refine x_callV (em := emI) (fun r st => .int r :: st) (fun _ _ => rfl) 0 X (kJ14 hG) (fun σ' KK h => R_J14_length l hl G hG b18 σ' KK h) (lw_V q2984 q925 q926 q117 q927) ⟨rfl, mdJ14_length⟩ ⟨Nat.le_of_ble_eq_true rfl, Nat.le_of_ble_eq_true rfl⟩ rfl rfl (Nat.le_of_ble_eq_true rfl) dX13_whole_37 hp10.1 hp10.2 (fun v19 σ20 hp11 => ?_)
      refine x_pc (pc' := 40) rfl ?_
      refine x_ifn (C := v16 = v19) (pt := 47) (pc' := 43) (fun _ _ _ _ _ => lv_icmp_ne (tgt := 47) hx hb dX13_whole_40 (by decide)) (fun c40 => ?_) (fun c40 => ?_)
      · have hp12 := hp11.1 c40
        refine x_up (pc' := 44) (fun _ _ _ _ _ L => lv_iconst (v := (1 : Int32)) hx hb dX13_whole_43 (by decide)) ?_
        refine x_up (pc' := 48) (fun _ _ _ _ _ L => lv_goto (tgt := 48) hx hb dX13_whole_44 (by decide)) ?_
        refine x_callVX (em := emV) (fun r st => st) (fun _ _ => rfl) 1 X (kX13 hG) (fun σ' KK KX h => R_X13_expect l hl G hG a0 (1 : Int32) σ' KK KX h) (lw_V q3038 q3040 qs46 q160 q3041) ⟨rfl, mdX13_expect⟩ ⟨Nat.le_of_ble_eq_true rfl, Nat.le_of_ble_eq_true rfl⟩ rfl rfl (Nat.le_of_ble_eq_true rfl) dX13_whole_48 hp12.1 hp12.2 (fun _ σ21 hpA48 => ?_) (fun q22 σ23 hpB48 => ?_)
        · have hp13 := hpA48
          refine x_pc (pc' := 51) rfl ?_
          refine x_up (pc' := 52) (fun _ _ _ _ _ L => lv_aload_n hx hb dX13_whole_51 rfl (lv_at L 1 rfl)) ?_
          refine x_vx ?_; exact x_aret X hr (Or.inl ⟨_, rfl⟩) dX13_whole_52 (some q1) hp13
        · have hp14 := hpB48
          obtain ⟨hq48, hp15⟩ := hp14
          obtain ⟨hr48, hp16⟩ := hp15
          exact x_out X (kX14 hG) (hout 48) hr48 hq48 hp16
      · have hp17 := hp11.2 c40
        refine x_up (pc' := 48) (fun _ _ _ _ _ L => lv_iconst (v := (0 : Int32)) hx hb dX13_whole_47 (by decide)) ?_
        refine x_callVX (em := emV) (fun r st => st) (fun _ _ => rfl) 1 X (kX13 hG) (fun σ' KK KX h => R_X13_expect l hl G hG a0 (0 : Int32) σ' KK KX h) (lw_V q3038 q3040 qs46 q160 q3041) ⟨rfl, mdX13_expect⟩ ⟨Nat.le_of_ble_eq_true rfl, Nat.le_of_ble_eq_true rfl⟩ rfl rfl (Nat.le_of_ble_eq_true rfl) dX13_whole_48 hp17.1 hp17.2 (fun _ σ24 hpA48 => ?_) (fun q25 σ26 hpB48 => ?_)
        · have hp18 := hpA48
          refine x_pc (pc' := 51) rfl ?_
          refine x_up (pc' := 52) (fun _ _ _ _ _ L => lv_aload_n hx hb dX13_whole_51 rfl (lv_at L 1 rfl)) ?_
          refine x_vx ?_; exact x_aret X hr (Or.inl ⟨_, rfl⟩) dX13_whole_52 (some q1) hp18
        · have hp19 := hpB48
          obtain ⟨hq48, hp20⟩ := hp19
          obtain ⟨hr48, hp21⟩ := hp20
          exact x_out X (kX14 hG) (hout 48) hr48 hq48 hp21
    · have hp22 := hp6.2 c25
      refine x_lo (lo' := [(0, .ref a0), (1, .ref q1)]) [0, 1] rfl ?_
      exact hself6 () σ15 hp22
  · have hp23 := hpB10
    obtain ⟨hq10, hp24⟩ := hp23
    obtain ⟨hr10, hp25⟩ := hp24
    exact x_out X (kX14 hG) (hout 10) hr10 hq10 hp25
-- X1_readOrders
def P_X1_readOrders (κ : Nat → Nat) (a0 : Nat) (σ : xS) (K : Option Nat → xH → Prop) (KX : Nat → xH → Prop) : Prop :=
  xnew κ σ 36 2 [va_rf none, .int 0] fun q1 σ2 => xgq σ2 a0 0 3 fun v3 => xnn v3 fun b4 => xrc σ2 b4 8 ∧ xcall (fun τ L => P_J13_toString κ b4 τ L) σ2 fun v5 σ6 => xcall (fun τ L => P_X13_init κ q1 v5 τ L) σ6 fun _ σ7 => xgq σ7 a0 0 3 fun v8 => xnn v8 fun b9 => xrc σ7 b9 8 ∧ xcall (fun τ L => P_J13_setLength κ b9 (0 : Int32) τ L) σ7 fun _ σ10 => xrc σ10 q1 36 ∧ xcallX (fun τ L LX => P_X13_whole κ q1 τ L LX) σ10 (fun v11 σ12 => K v11 σ12.1) (fun q13 σ14 => κ 0 ≤ q13 ∧ ((xrc σ14 q13 38 ∧ (xgi σ14 q13 38 6 fun v15 => xpi κ σ14 a0 0 5 v15 fun σ16 => xmak κ σ16 17 fun q17 σ18 => κ 0 ≤ q17 ∧ xrc σ18 q17 17 ∧ KX q17 σ18.1))))
theorem mdX1_readOrders : yX1_readOrders.cls ≠ "java/lang/invoke/MethodHandle" ∧ yX1_readOrders.cls ≠ "java/lang/invoke/VarHandle" ∧ (parseMethodDescriptor yX1_readOrders.desc).map (fun d => d.parameters.length) = some 0 := by decide +kernel
set_option maxHeartbeats 4000000 in
set_option maxRecDepth 100000 in
theorem R_X1_readOrders (l : Launch) (hl : l.stackTraces = false) (G : xG) (hG : G.1.2 = x_cl) (a0 : Nat) (σ : xS) (K : Option Nat → xH → Prop) (KX : Nat → xH → Prop) (hp : P_X1_readOrders G.2 a0 σ K KX) : xMH l yX1_readOrders cX1_readOrders 3 (Option.some (Jvm.ClassFile.FieldType.object "java/util/List")) [(23, 27, 28, 301)] 14 305 G [(.ref a0)] σ (xlift emQ K) KX := by
  refine x_entryH (by decide) (Nat.le_of_ble_eq_true rfl) ?_
  intro p e s m args below meth c X hr hin hE
  have X : xX p s m args meth c G cX1_readOrders 3 RX1 := X
  have hx := X.1
  have hb := X.2.1
  have hts := X.2.2.2.2.1
  have hown := X.2.2.2.1
  unfold P_X1_readOrders at hp
  refine x_same (lo' := [(0, .ref a0)]) rfl ?_
  refine x_new X (kX13 hG) q2900 q2901 q160 (fs := [va_rf none, .int 0]) x_dflt_X13 dX1_readOrders_0 hp (fun q1 σ2 hp1 => ?_)
  refine x_pc (pc' := 3) rfl ?_
  refine x_up (pc' := 4) (fun _ _ _ _ _ L => lv_dup hx hb dX1_readOrders_3 rfl) ?_
  refine x_up (pc' := 5) (fun _ _ _ _ _ L => lv_aload_n hx hb dX1_readOrders_4 rfl (lv_at L 0 rfl)) ?_
  refine x_gq X (kX1 hG) 3 (by decide) q592 (fun _ h => h) dX1_readOrders_5 hp1 (fun v3 hp2 => ?_)
  refine x_pc (pc' := 8) rfl ?_
  obtain ⟨b4, rfl, hp3⟩ := hp2
  refine x_callV (em := emQ) (fun r st => va_rf r :: st) (fun _ _ => rfl) 0 X (kJ13 hG) (fun σ' KK h => R_J13_toString l hl G hG b4 σ' KK h) (lw_V q2902 q993 q994 q116 q995) ⟨rfl, mdJ13_toString⟩ ⟨Nat.le_of_ble_eq_true rfl, Nat.le_of_ble_eq_true rfl⟩ rfl rfl (Nat.le_of_ble_eq_true rfl) dX1_readOrders_8 hp3.1 hp3.2 (fun v5 σ6 hp4 => ?_)
  refine x_pc (pc' := 11) rfl ?_
  refine x_callI 1 X (fun σ' KK h => R_X13_init l hl G hG q1 v5 σ' KK h) (lw_meth q2905) q160 q2903 q2904 rfl mdX13_init ⟨Nat.le_of_ble_eq_true rfl, Nat.le_of_ble_eq_true rfl⟩ rfl rfl (Nat.le_of_ble_eq_true rfl) dX1_readOrders_11 hp4 (fun σ7 hp5 => ?_)
  refine x_pc (pc' := 14) rfl ?_
  refine x_upL (pc' := 15) (lo' := [(1, .ref q1), (0, .ref a0)]) (fun _ _ _ _ _ L => lv_astore_n hx hb dX1_readOrders_14 rfl L (by decide) rfl) ?_
  refine x_up (pc' := 16) (fun _ _ _ _ _ L => lv_aload_n hx hb dX1_readOrders_15 rfl (lv_at L 1 rfl)) ?_
  refine x_gq X (kX1 hG) 3 (by decide) q592 (fun _ h => h) dX1_readOrders_16 hp5 (fun v8 hp6 => ?_)
  refine x_pc (pc' := 19) rfl ?_
  refine x_up (pc' := 20) (fun _ _ _ _ _ L => lv_iconst (v := (0 : Int32)) hx hb dX1_readOrders_19 (by decide)) ?_
  obtain ⟨b9, rfl, hp7⟩ := hp6
  refine x_callV (em := emV) (fun r st => st) (fun _ _ => rfl) 1 X (kJ13 hG) (fun σ' KK h => R_J13_setLength l hl G hG b9 (0 : Int32) σ' KK h) (lw_V q2914 q2915 q2916 q116 q2917) ⟨rfl, mdJ13_setLength⟩ ⟨Nat.le_of_ble_eq_true rfl, Nat.le_of_ble_eq_true rfl⟩ rfl rfl (Nat.le_of_ble_eq_true rfl) dX1_readOrders_20 hp7.1 hp7.2 (fun _ σ10 hp8 => ?_)
  refine x_pc (pc' := 23) rfl ?_
  refine x_up (pc' := 24) (fun _ _ _ _ _ L => lv_aload_n hx hb dX1_readOrders_23 rfl (lv_at L 0 rfl)) ?_
  refine x_callVX (em := emQ) (fun r st => va_rf r :: st) (fun _ _ => rfl) 0 X (kX13 hG) (fun σ' KK KX h => R_X13_whole l hl G hG q1 σ' KK KX h) (lw_V q2966 q2967 q2968 q160 q2969) ⟨rfl, mdX13_whole⟩ ⟨Nat.le_of_ble_eq_true rfl, Nat.le_of_ble_eq_true rfl⟩ rfl rfl (Nat.le_of_ble_eq_true rfl) dX1_readOrders_24 hp8.1 hp8.2 (fun v11 σ12 hpA24 => ?_) (fun q13 σ14 hpB24 => ?_)
  · have hp9 := hpA24
    refine x_pc (pc' := 27) rfl ?_
    refine x_vx ?_; exact x_aret X hr (Or.inl ⟨_, rfl⟩) dX1_readOrders_27 v11 hp9
  · have hp10 := hpB24
    obtain ⟨hq24, hp11⟩ := hp10
    obtain ⟨hr24, hp12⟩ := hp11
    refine x_catch X (kX14 hG) [] ({ startPc := 23, endPc := 27, handlerPc := 28, catchType := 301 } : ExceptionTableEntry) [] (hE.trans rfl) (fun _ h => nomatch h) rfl (by decide) q2899 q3044 hr24 hq24 ?_
    refine x_pc (pc' := 28) rfl ?_
    refine x_upL (pc' := 29) (lo' := [(2, .ref q13), (1, .ref q1), (0, .ref a0)]) (fun _ _ _ _ _ L => lv_astore_n hx hb dX1_readOrders_28 rfl L (by decide) rfl) ?_
    refine x_up (pc' := 30) (fun _ _ _ _ _ L => lv_aload_n hx hb dX1_readOrders_29 rfl (lv_at L 2 rfl)) ?_
    refine x_up (pc' := 31) (fun _ _ _ _ _ L => lv_aload_n hx hb dX1_readOrders_30 rfl (lv_at L 0 rfl)) ?_
    refine x_giN X (kX14 hG) 6 (by decide) q3056 (fun _ h => h) dX1_readOrders_31 hp12 (fun v15 hp13 => ?_)
    refine x_pc (pc' := 34) rfl ?_
    refine x_pi X (kX1 hG) 5 (by decide) q594 (fun _ h => h) rfl rfl rfl dX1_readOrders_34 hp13 (fun σ16 hp14 => ?_)
    refine x_pc (pc' := 37) rfl ?_
    refine x_make0 (names := ["java/lang/RuntimeException", "java/lang/Exception"]) X hl (kJ29 hG) (by decide +kernel) (by decide +kernel) q2720 q134 xat_X1_223 xal_X1_223 (by decide +kernel) dX1_readOrders_37 dX1_readOrders_40 dX1_readOrders_41 (Nat.le_of_ble_eq_true rfl) (Nat.le_of_ble_eq_true rfl) (Nat.le_of_ble_eq_true rfl) hp14 (fun q17 σ18 hp15 => ?_)
    refine x_pc (pc' := 44) rfl ?_
    obtain ⟨hq44, hr44, hp16⟩ := hp15
    refine x_athrow X dX1_readOrders_44 ?_
    exact x_outP X (kJ29 hG) (by rw [hE]; exact (List.forall_mem_cons.mpr ⟨(Or.inl rfl), (fun _ h => nomatch h)⟩)) hr44 hq44 hp16
-- X1_run
def B_X1_run_19 (κ : Nat → Nat) (K : Int32 → xH → Prop) (KX : Nat → xH → Prop) (f0 : Nat) (f1 : Option Nat) (f2 : Nat) : (Int32 → xS → Prop) → Int32 → xS → Prop := fun self20003 w20001 σ20002 =>
  xnn f1 fun b20004 => xrc σ20002 b20004 3 ∧ xcall (fun τ L => P_J4_size κ b20004 τ L) σ20002 fun v20005 σ20006 => ((v20005 ≤ w20001 → (xrc σ20006 f0 0 ∧ xcall (fun τ L => P_X1_remember κ f0 (some f2) τ L) σ20006 fun _ σ20007 => K w20001 σ20007.1)) ∧ (¬ v20005 ≤ w20001 → (xrc σ20006 b20004 3 ∧ xcall (fun τ L => P_J4_get κ b20004 w20001 τ L) σ20006 fun v20008 σ20009 => xnn v20008 fun b20010 => xrc σ20009 b20010 11 ∧ xrc σ20009 b20010 11 ∧ xcallX (fun τ L LX => P_X5_does κ b20010 (some f2) τ L LX) σ20009 (fun v20011 σ20012 => self20003 (w20001 + (1 : Int32)) σ20012) (fun q20013 σ20014 => κ 0 ≤ q20013 ∧ ((xrc σ20014 q20013 26 ∧ (xnew κ σ20014 1026 9 [] fun q20015 σ20016 => xcall (fun τ L => P_X6_init_2 κ q20015 (7 : Int32) w20001 (some q20013) τ L) σ20016 fun _ σ20017 => xpq κ σ20017 f0 0 6 (some q20015) fun σ20018 => xmak κ σ20018 20 fun q20019 σ20020 => κ 0 ≤ q20019 ∧ xrc σ20020 q20019 20 ∧ KX q20019 σ20020.1)))))))
def P_X1_run (κ : Nat → Nat) (a0 : Nat) (σ : xS) (K : Int32 → xH → Prop) (KX : Nat → xH → Prop) : Prop :=
  xrc σ a0 0 ∧ xcallX (fun τ L LX => P_X1_readOrders κ a0 τ L LX) σ (fun v1 σ2 => xnew κ σ2 1 20 [va_rf none, va_rf none, va_rf none, va_rf none, va_rf none, va_rf none, va_rf none, va_rf none, .int 0, .int 0, .int 0, .int 0, .int 0, .int 0, .int 0, .int 0, .int 0, .int 0, .int 0, .int 0] fun q5 σ6 => xgq σ6 a0 0 0 fun v7 => xcall (fun τ L => P_X2_init_2 κ q5 v7 τ L) σ6 fun _ σ8 => xwhile (B_X1_run_19 κ K KX a0 v1 q5) (0 : Int32) σ8) (fun q3 σ4 => κ 0 ≤ q3 ∧ ((xrc σ4 q3 17 ∧ (KX q3 σ4.1))))
theorem mdX1_run : yX1_run.cls ≠ "java/lang/invoke/MethodHandle" ∧ yX1_run.cls ≠ "java/lang/invoke/VarHandle" ∧ (parseMethodDescriptor yX1_run.desc).map (fun d => d.parameters.length) = some 0 := by decide +kernel
set_option maxHeartbeats 4000000 in
set_option maxRecDepth 100000 in
theorem R_X1_run (l : Launch) (hl : l.stackTraces = false) (G : xG) (hG : G.1.2 = x_cl) (a0 : Nat) (σ : xS) (K : Int32 → xH → Prop) (KX : Nat → xH → Prop) (hp : P_X1_run G.2 a0 σ K KX) : xMH l yX1_run cX1_run 5 (Option.some Jvm.ClassFile.FieldType.int) [(19, 51, 54, 19)] 16 453 G [(.ref a0)] σ (xlift emI K) KX := by
  refine x_entryH (by decide) (Nat.le_of_ble_eq_true rfl) ?_
  intro p e s m args below meth c X hr hin hE
  have X : xX p s m args meth c G cX1_run 5 RX1 := X
  have hx := X.1
  have hb := X.2.1
  have hts := X.2.2.2.2.1
  have hown := X.2.2.2.1
  unfold P_X1_run at hp
  refine x_same (lo' := [(0, .ref a0)]) rfl ?_
  refine x_up (pc' := 1) (fun _ _ _ _ _ L => lv_aload_n hx hb dX1_run_0 rfl (lv_at L 0 rfl)) ?_
  refine x_callVH (em := emQ) (fun r st => va_rf r :: st) (fun _ _ => rfl) 0 X (kX1 hG) (fun σ' KK KX h => R_X1_readOrders l hl G hG a0 σ' KK KX h) (lw_VW q2895 q2897 qs40 q99 q2898) ⟨rfl, mdX1_readOrders⟩ ⟨Nat.le_of_ble_eq_true rfl, Nat.le_of_ble_eq_true rfl⟩ rfl rfl (Nat.le_of_ble_eq_true rfl) dX1_run_1 hp.1 hp.2 (fun v1 σ2 hpA1 => ?_) (fun q3 σ4 hpB1 => ?_)
  · have hp1 := hpA1
    refine x_pc (pc' := 4) rfl ?_
    refine x_upL (pc' := 5) (lo' := [(1, va_rf v1), (0, .ref a0)]) (fun _ _ _ _ _ L => lv_astoreq_n hx hb dX1_run_4 rfl L (by decide) rfl) ?_
    refine x_new X (kX2 hG) q172 q173 q100 (fs := [va_rf none, va_rf none, va_rf none, va_rf none, va_rf none, va_rf none, va_rf none, va_rf none, .int 0, .int 0, .int 0, .int 0, .int 0, .int 0, .int 0, .int 0, .int 0, .int 0, .int 0, .int 0]) x_dflt_X2 dX1_run_5 hp1 (fun q5 σ6 hp2 => ?_)
    refine x_pc (pc' := 8) rfl ?_
    refine x_up (pc' := 9) (fun _ _ _ _ _ L => lv_dup hx hb dX1_run_8 rfl) ?_
    refine x_up (pc' := 10) (fun _ _ _ _ _ L => lv_aload_n hx hb dX1_run_9 rfl (lv_at L 1 rfl)) ?_
    refine x_gq X (kX1 hG) 0 (by decide) q589 (fun _ h => h) dX1_run_10 hp2 (fun v7 hp3 => ?_)
    refine x_pc (pc' := 13) rfl ?_
    refine x_callI 1 X (fun σ' KK h => R_X2_init_2 l hl G hG q5 v7 σ' KK h) (lw_meth q617) q100 q615 q616 rfl mdX2_init_2 ⟨Nat.le_of_ble_eq_true rfl, Nat.le_of_ble_eq_true rfl⟩ rfl rfl (Nat.le_of_ble_eq_true rfl) dX1_run_13 hp3 (fun σ8 hp4 => ?_)
    refine x_pc (pc' := 16) rfl ?_
    refine x_st (pc' := 17) ([(2, .ref q5), (1, va_rf v1), (0, .ref a0)]) rfl (by simp [x_catq, x_cati, x_catr, x_catn]) (fun _ _ _ _ _ L => lv_astore_n hx hb dX1_run_16 rfl L (by decide) rfl) ?_
    refine x_up (pc' := 18) (fun _ _ _ _ _ L => lv_iconst (v := (0 : Int32)) hx hb dX1_run_17 (by decide)) ?_
    refine x_upL (pc' := 19) (lo' := [(3, .int (0 : Int32)), (2, .ref q5), (1, va_rf v1), (0, .ref a0)]) (fun _ _ _ _ _ L => lv_istore_n hx hb dX1_run_18 rfl L (by decide) rfl) ?_
    refine x_lo (lo' := [(3, .int (0 : Int32)), (0, .ref a0), (1, va_rf v1), (2, .ref q5)]) [0, 3, 2, 1] rfl ?_
    refine x_while (v0 := (0 : Int32)) (fun w9 => [(3, .int w9), (0, .ref a0), (1, va_rf v1), (2, .ref q5)]) hp4 (fun self10 hself11 => ?_)
    rintro y13 σ12 hp5
    unfold B_X1_run_19 at hp5
    refine x_same (lo' := [(3, .int y13), (0, .ref a0), (1, va_rf v1), (2, .ref q5)]) rfl ?_
    refine x_up (pc' := 20) (fun _ _ _ _ _ L => lv_iload_n hx hb dX1_run_19 rfl (lv_at L 0 rfl)) ?_
    refine x_up (pc' := 21) (fun _ _ _ _ _ L => lv_aloadq_n hx hb dX1_run_20 rfl (lv_at L 2 rfl)) ?_
    obtain ⟨b14, rfl, hp6⟩ := hp5
    refine x_callF (x := ⟨"java/util/List", "size", "()I"⟩) (em := emI) (fun r st => .int r :: st) (fun _ _ => rfl) 0 X (kJ4 hG) (fun σ' KK h => R_J4_size l hl G hG b14 σ' KK h) q2715 q2078 q1341 q105 q1342 ⟨⟨q2077, q2076, q2080, q2079, q275⟩, by decide, by decide⟩ (by decide +kernel) ⟨Nat.le_of_ble_eq_true rfl, Nat.le_of_ble_eq_true rfl⟩ rfl rfl (Nat.le_of_ble_eq_true rfl) dX1_run_21 hp6.1 hp6.2 (fun v15 σ16 hp7 => ?_)
    refine x_pc (pc' := 26) rfl ?_
    refine x_if (C := v15 ≤ y13) (pt := 51) (pc' := 29) (fun _ _ _ _ _ => lv_icmp_ge (tgt := 51) hx hb dX1_run_26 (by decide)) (fun c26 => ?_) (fun c26 => ?_)
    · have hp8 := hp7.1 c26
      refine x_up (pc' := 80) (fun _ _ _ _ _ L => lv_goto (tgt := 80) hx hb dX1_run_51 (by decide)) ?_
      refine x_up (pc' := 81) (fun _ _ _ _ _ L => lv_aload_n hx hb dX1_run_80 rfl (lv_at L 1 rfl)) ?_
      refine x_up (pc' := 82) (fun _ _ _ _ _ L => lv_aload_n hx hb dX1_run_81 rfl (lv_at L 3 rfl)) ?_
      refine x_callV (em := emV) (fun r st => st) (fun _ _ => rfl) 1 X (kX1 hG) (fun σ' KK h => R_X1_remember l hl G hG a0 (some q5) σ' KK h) (lw_V q1951 q1953 qs21 q99 q1954) ⟨rfl, mdX1_remember⟩ ⟨Nat.le_of_ble_eq_true rfl, Nat.le_of_ble_eq_true rfl⟩ rfl rfl (Nat.le_of_ble_eq_true rfl) dX1_run_82 hp8.1 hp8.2 (fun _ σ17 hp9 => ?_)
      refine x_pc (pc' := 85) rfl ?_
      refine x_up (pc' := 86) (fun _ _ _ _ _ L => lv_iload_n hx hb dX1_run_85 rfl (lv_at L 0 rfl)) ?_
      refine x_vx ?_; exact x_iret X hr rfl dX1_run_86 hp9
    · have hp10 := hp7.2 c26
      refine x_up (pc' := 30) (fun _ _ _ _ _ L => lv_aload_n hx hb dX1_run_29 rfl (lv_at L 2 rfl)) ?_
      refine x_up (pc' := 31) (fun _ _ _ _ _ L => lv_iload_n hx hb dX1_run_30 rfl (lv_at L 0 rfl)) ?_
      refine x_callF (x := ⟨"java/util/List", "get", "(I)Ljava/lang/Object;"⟩) (em := emQ) (fun r st => va_rf r :: st) (fun _ _ => rfl) 1 X (kJ4 hG) (fun σ' KK h => R_J4_get l hl G hG b14 y13 σ' KK h) q2717 q2086 q784 q105 q785 ⟨⟨q2085, q2084, q2088, q2087, q275⟩, by decide, by decide⟩ (by decide +kernel) ⟨Nat.le_of_ble_eq_true rfl, Nat.le_of_ble_eq_true rfl⟩ rfl rfl (Nat.le_of_ble_eq_true rfl) dX1_run_31 hp10.1 hp10.2 (fun v18 σ19 hp11 => ?_)
      refine x_pc (pc' := 36) rfl ?_
      obtain ⟨b20, rfl, hp12⟩ := hp11
      refine x_castS X (kX5 hG) q2129 hp12.1 dX1_run_36 ?_
      have hp13 := hp12.2
      refine x_pc (pc' := 39) rfl ?_
      refine x_up (pc' := 40) (fun _ _ _ _ _ L => lv_aload_n hx hb dX1_run_39 rfl (lv_at L 3 rfl)) ?_
      refine x_callVX (em := emI) (fun r st => .int r :: st) (fun _ _ => rfl) 1 X (kX5 hG) (fun σ' KK KX h => R_X5_does l hl G hG b20 (some q5) σ' KK KX h) (lw_V q2151 q2152 q2153 q120 q2154) ⟨rfl, mdX5_does⟩ ⟨Nat.le_of_ble_eq_true rfl, Nat.le_of_ble_eq_true rfl⟩ rfl rfl (Nat.le_of_ble_eq_true rfl) dX1_run_40 hp13.1 hp13.2 (fun v21 σ22 hpA40 => ?_) (fun q23 σ24 hpB40 => ?_)
      · have hp14 := hpA40
        refine x_pc (pc' := 43) rfl ?_
        refine x_upL (pc' := 45) (lo' := [(4, .int v21), (3, .int y13), (0, .ref a0), (1, .ref b14), (2, .ref q5)]) (fun _ _ _ _ _ L => lv_istore hx hb dX1_run_43 L (by decide) rfl) ?_
        refine x_upL (pc' := 48) (lo' := [(3, .int (y13 + (1 : Int32))), (4, .int v21), (0, .ref a0), (1, .ref b14), (2, .ref q5)]) (fun _ _ _ _ _ L => lv_iinc (v := y13 + (1 : Int32)) hx hb dX1_run_45 L (k := 1) rfl rfl (by decide) rfl) ?_
        refine x_up (pc' := 19) (fun _ _ _ _ _ L => lv_goto (tgt := 19) hx hb dX1_run_48 (by decide)) ?_
        refine x_lo (lo' := [(3, .int (y13 + (1 : Int32))), (0, .ref a0), (1, .ref b14), (2, .ref q5)]) [0, 2, 3, 4] rfl ?_
        exact hself11 (y13 + (1 : Int32)) σ22 hp14
      · have hp15 := hpB40
        obtain ⟨hq40, hp16⟩ := hp15
        obtain ⟨hr40, hp17⟩ := hp16
        refine x_catch X (kX6 hG) [] ({ startPc := 19, endPc := 51, handlerPc := 54, catchType := 19 } : ExceptionTableEntry) [] (hE.trans rfl) (fun _ h => nomatch h) rfl (by decide) q2150 q2242 hr40 hq40 ?_
        refine x_pc (pc' := 54) rfl ?_
        refine x_upL (pc' := 56) (lo' := [(4, .ref q23), (3, .int y13), (0, .ref a0), (1, .ref b14), (2, .ref q5)]) (fun _ _ _ _ _ L => lv_astore hx hb dX1_run_54 L (by decide) rfl) ?_
        refine x_up (pc' := 57) (fun _ _ _ _ _ L => lv_aload_n hx hb dX1_run_56 rfl (lv_at L 2 rfl)) ?_
        refine x_newE X (kX6 hG) q2150 q2241 q148 dX1_run_57 hp17 (fun q25 σ26 hp18 => ?_)
        refine x_pc (pc' := 60) rfl ?_
        refine x_up (pc' := 61) (fun _ _ _ _ _ L => lv_dup hx hb dX1_run_60 rfl) ?_
        refine x_up (pc' := 63) (fun _ _ _ _ _ L => lv_bipush (v := (7 : Int32)) hx hb dX1_run_61 (by decide)) ?_
        refine x_up (pc' := 64) (fun _ _ _ _ _ L => lv_iload_n hx hb dX1_run_63 rfl (lv_at L 1 rfl)) ?_
        refine x_up (pc' := 66) (fun _ _ _ _ _ L => lv_aload hx hb dX1_run_64 (lv_at L 0 rfl)) ?_
        refine x_callI 3 X (fun σ' KK h => R_X6_init_2 l hl G hG q25 (7 : Int32) y13 (some q23) σ' KK h) (lw_meth q2254) q148 q3089 q2253 rfl mdX6_init_2 ⟨Nat.le_of_ble_eq_true rfl, Nat.le_of_ble_eq_true rfl⟩ rfl rfl (Nat.le_of_ble_eq_true rfl) dX1_run_66 hp18 (fun σ27 hp19 => ?_)
        refine x_pc (pc' := 69) rfl ?_
        refine x_pq X (kX1 hG) 6 (by decide) q595 (fun _ h => h) rfl (some q25) (x_nar _ (by decide)) (x_fit _ (by decide)) dX1_run_69 hp19 (fun σ28 hp20 => ?_)
        refine x_pc (pc' := 72) rfl ?_
        refine x_make0 (names := ["java/lang/RuntimeException", "java/lang/Exception"]) X hl (kJ32 hG) (by decide +kernel) (by decide +kernel) q2555 q137 xat_X1_114 xal_X1_114 (by decide +kernel) dX1_run_72 dX1_run_75 dX1_run_76 (Nat.le_of_ble_eq_true rfl) (Nat.le_of_ble_eq_true rfl) (Nat.le_of_ble_eq_true rfl) hp20 (fun q29 σ30 hp21 => ?_)
        refine x_pc (pc' := 79) rfl ?_
        obtain ⟨hq79, hr79, hp22⟩ := hp21
        refine x_athrow X dX1_run_79 ?_
        exact x_outP X (kJ32 hG) (by rw [hE]; exact (List.forall_mem_cons.mpr ⟨(Or.inl rfl), (fun _ h => nomatch h)⟩)) hr79 hq79 hp22
  · have hp23 := hpB1
    obtain ⟨hq1, hp24⟩ := hp23
    obtain ⟨hr1, hp25⟩ := hp24
    exact x_outP X (kJ29 hG) (by rw [hE]; exact (List.forall_mem_cons.mpr ⟨(Or.inl rfl), (fun _ h => nomatch h)⟩)) hr1 hq1 hp25
-- X1_faultPosition
def P_X1_faultPosition (κ : Nat → Nat) (a0 : Nat) (σ : xS) (K : Int32 → xH → Prop) (KX : Nat → xH → Prop) : Prop :=
  xgi σ a0 0 5 fun v1 => xcallX (fun τ L LX => P_X1_existing κ v1 τ L LX) σ (fun v2 σ3 => K v2 σ3.1) (fun q4 σ5 => κ 0 ≤ q4 ∧ ((xrc σ5 q4 18 ∧ (KX q4 σ5.1))))
theorem mdX1_faultPosition : yX1_faultPosition.cls ≠ "java/lang/invoke/MethodHandle" ∧ yX1_faultPosition.cls ≠ "java/lang/invoke/VarHandle" ∧ (parseMethodDescriptor yX1_faultPosition.desc).map (fun d => d.parameters.length) = some 0 := by decide +kernel
set_option maxHeartbeats 4000000 in
set_option maxRecDepth 100000 in
theorem R_X1_faultPosition (l : Launch) (hl : l.stackTraces = false) (G : xG) (hG : G.1.2 = x_cl) (a0 : Nat) (σ : xS) (K : Int32 → xH → Prop) (KX : Nat → xH → Prop) (hp : P_X1_faultPosition G.2 a0 σ K KX) : xMX l yX1_faultPosition cX1_faultPosition 1 (Option.some Jvm.ClassFile.FieldType.int) 8 129 G [(.ref a0)] σ (xlift emI K) KX := by
  refine x_entryX (by decide) (Nat.le_of_ble_eq_true rfl) ?_
  intro p e s m args below meth c X hr hin hno
  have X : xX p s m args meth c G cX1_faultPosition 1 RX1 := X
  have hx := X.1
  have hb := X.2.1
  have hts := X.2.2.2.2.1
  have hown := X.2.2.2.1
  have hout : ∀ pc, ∀ x ∈ c.exceptionTable.toList, covers x pc = false := fun _ x hx => (hno x hx).elim
  unfold P_X1_faultPosition at hp
  refine x_same (lo' := [(0, .ref a0)]) rfl ?_
  refine x_up (pc' := 1) (fun _ _ _ _ _ L => lv_aload_n hx hb dX1_faultPosition_0 rfl (lv_at L 0 rfl)) ?_
  refine x_gi X (kX1 hG) 5 (by decide) q594 (fun _ h => h) dX1_faultPosition_1 hp (fun v1 hp1 => ?_)
  refine x_pc (pc' := 4) rfl ?_
  refine x_callSX (em := emI) (fun r st => .int r :: st) (fun _ _ => rfl) 1 X (fun σ' KK KX h => R_X1_existing l hl G hG v1 σ' KK KX h) (lw_S q2770 q2771 q99 q2772) mdX1_existing ⟨Nat.le_of_ble_eq_true rfl, Nat.le_of_ble_eq_true rfl⟩ rfl rfl (Nat.le_of_ble_eq_true rfl) dX1_faultPosition_4 hp1 (fun v2 σ3 hpA4 => ?_) (fun q4 σ5 hpB4 => ?_)
  · have hp2 := hpA4
    refine x_pc (pc' := 7) rfl ?_
    refine x_vx ?_; exact x_iret X hr rfl dX1_faultPosition_7 hp2
  · have hp3 := hpB4
    obtain ⟨hq4, hp4⟩ := hp3
    obtain ⟨hr4, hp5⟩ := hp4
    exact x_out X (kJ30 hG) (hout 4) hr4 hq4 hp5
-- X1_reason
def P_X1_reason (κ : Nat → Nat) (a0 : Nat) (x1 : Int32) (x2 : Int32) (σ : xS) (K : Int32 → xH → Prop) (KX : Nat → xH → Prop) : Prop :=
  xgq σ a0 0 6 fun v1 => ((v1 = none → (xcallX (fun τ L LX => P_X1_requireElement κ (0 : Int32) τ L LX) σ (fun _ σ3 => ((x1 = 0 → (xgq σ3 a0 0 6 fun v6 => ((v6 = none → (xcallX (fun τ L LX => P_X1_requireElement κ (0 : Int32) τ L LX) σ3 (fun _ σ8 => ((x2 = 0 → (False)) ∧ (¬ x2 = 0 → (False)))) (fun q9 σ10 => κ 0 ≤ q9 ∧ ((xrc σ10 q9 18 ∧ (KX q9 σ10.1)))))) ∧ (∀ b7 : Nat, v6 = some b7 → (xcallX (fun τ L LX => P_X1_requireElement κ (1 : Int32) τ L LX) σ3 (fun _ σ11 => ((x2 = 0 → (xgi σ11 b7 26 6 fun v14 => K v14 σ11.1)) ∧ (¬ x2 = 0 → (xgi σ11 b7 26 7 fun v15 => K v15 σ11.1)))) (fun q12 σ13 => κ 0 ≤ q12 ∧ ((xrc σ13 q12 18 ∧ (KX q12 σ13.1))))))))) ∧ (¬ x1 = 0 → (xgq σ3 a0 0 6 fun v16 => xnn v16 fun b17 => xgq σ3 b17 26 8 fun v18 => ((v18 = none → (xcallX (fun τ L LX => P_X1_requireElement κ (0 : Int32) τ L LX) σ3 (fun _ σ20 => ((x2 = 0 → (False)) ∧ (¬ x2 = 0 → (False)))) (fun q21 σ22 => κ 0 ≤ q21 ∧ ((xrc σ22 q21 18 ∧ (KX q21 σ22.1)))))) ∧ (∀ b19 : Nat, v18 = some b19 → (xcallX (fun τ L LX => P_X1_requireElement κ (1 : Int32) τ L LX) σ3 (fun _ σ23 => ((x2 = 0 → (xgi σ23 b19 26 6 fun v26 => K v26 σ23.1)) ∧ (¬ x2 = 0 → (xgi σ23 b19 26 7 fun v27 => K v27 σ23.1)))) (fun q24 σ25 => κ 0 ≤ q24 ∧ ((xrc σ25 q24 18 ∧ (KX q24 σ25.1))))))))))) (fun q4 σ5 => κ 0 ≤ q4 ∧ ((xrc σ5 q4 18 ∧ (KX q4 σ5.1)))))) ∧ (∀ b2 : Nat, v1 = some b2 → (xcallX (fun τ L LX => P_X1_requireElement κ (1 : Int32) τ L LX) σ (fun _ σ28 => ((x1 = 0 → (xgq σ28 a0 0 6 fun v31 => ((v31 = none → (xcallX (fun τ L LX => P_X1_requireElement κ (0 : Int32) τ L LX) σ28 (fun _ σ33 => ((x2 = 0 → (False)) ∧ (¬ x2 = 0 → (False)))) (fun q34 σ35 => κ 0 ≤ q34 ∧ ((xrc σ35 q34 18 ∧ (KX q34 σ35.1)))))) ∧ (∀ b32 : Nat, v31 = some b32 → (xcallX (fun τ L LX => P_X1_requireElement κ (1 : Int32) τ L LX) σ28 (fun _ σ36 => ((x2 = 0 → (xgi σ36 b32 26 6 fun v39 => K v39 σ36.1)) ∧ (¬ x2 = 0 → (xgi σ36 b32 26 7 fun v40 => K v40 σ36.1)))) (fun q37 σ38 => κ 0 ≤ q37 ∧ ((xrc σ38 q37 18 ∧ (KX q37 σ38.1))))))))) ∧ (¬ x1 = 0 → (xgq σ28 a0 0 6 fun v41 => xnn v41 fun b42 => xgq σ28 b42 26 8 fun v43 => ((v43 = none → (xcallX (fun τ L LX => P_X1_requireElement κ (0 : Int32) τ L LX) σ28 (fun _ σ45 => ((x2 = 0 → (False)) ∧ (¬ x2 = 0 → (False)))) (fun q46 σ47 => κ 0 ≤ q46 ∧ ((xrc σ47 q46 18 ∧ (KX q46 σ47.1)))))) ∧ (∀ b44 : Nat, v43 = some b44 → (xcallX (fun τ L LX => P_X1_requireElement κ (1 : Int32) τ L LX) σ28 (fun _ σ48 => ((x2 = 0 → (xgi σ48 b44 26 6 fun v51 => K v51 σ48.1)) ∧ (¬ x2 = 0 → (xgi σ48 b44 26 7 fun v52 => K v52 σ48.1)))) (fun q49 σ50 => κ 0 ≤ q49 ∧ ((xrc σ50 q49 18 ∧ (KX q49 σ50.1))))))))))) (fun q29 σ30 => κ 0 ≤ q29 ∧ ((xrc σ30 q29 18 ∧ (KX q29 σ30.1)))))))
theorem mdX1_reason : yX1_reason.cls ≠ "java/lang/invoke/MethodHandle" ∧ yX1_reason.cls ≠ "java/lang/invoke/VarHandle" ∧ (parseMethodDescriptor yX1_reason.desc).map (fun d => d.parameters.length) = some 2 := by decide +kernel
set_option maxHeartbeats 4000000 in
set_option maxRecDepth 100000 in
theorem R_X1_reason (l : Launch) (hl : l.stackTraces = false) (G : xG) (hG : G.1.2 = x_cl) (a0 : Nat) (x1 : Int32) (x2 : Int32) (σ : xS) (K : Int32 → xH → Prop) (KX : Nat → xH → Prop) (hp : P_X1_reason G.2 a0 x1 x2 σ K KX) : xMX l yX1_reason cX1_reason 4 (Option.some Jvm.ClassFile.FieldType.int) 7 109 G [(.ref a0), .int x1, .int x2] σ (xlift emI K) KX := by
  refine x_entryX (by decide) (Nat.le_of_ble_eq_true rfl) ?_
  intro p e s m args below meth c X hr hin hno
  have X : xX p s m args meth c G cX1_reason 4 RX1 := X
  have hx := X.1
  have hb := X.2.1
  have hts := X.2.2.2.2.1
  have hown := X.2.2.2.1
  have hout : ∀ pc, ∀ x ∈ c.exceptionTable.toList, covers x pc = false := fun _ x hx => (hno x hx).elim
  unfold P_X1_reason at hp
  refine x_same (lo' := [(0, .ref a0), (1, .int x1), (2, .int x2)]) rfl ?_
  refine x_up (pc' := 1) (fun _ _ _ _ _ L => lv_aload_n hx hb dX1_reason_0 rfl (lv_at L 0 rfl)) ?_
  refine x_gq X (kX1 hG) 6 (by decide) q595 (fun _ h => h) dX1_reason_1 hp (fun v1 hp1 => ?_)
  refine x_pc (pc' := 4) rfl ?_
  rcases v1 with _ | b2
  · have hp2 := hp1.1 rfl
    refine x_up (pc' := 11) (fun _ _ _ _ _ L => lv_ifnullN (tgt := 11) hx hb dX1_reason_4 (by decide)) ?_
    refine x_up (pc' := 12) (fun _ _ _ _ _ L => lv_iconst (v := (0 : Int32)) hx hb dX1_reason_11 (by decide)) ?_
    refine x_callSX (em := emV) (fun r st => st) (fun _ _ => rfl) 1 X (fun σ' KK KX h => R_X1_requireElement l hl G hG (0 : Int32) σ' KK KX h) (lw_S q2734 q2735 q99 q2736) mdX1_requireElement ⟨Nat.le_of_ble_eq_true rfl, Nat.le_of_ble_eq_true rfl⟩ rfl rfl (Nat.le_of_ble_eq_true rfl) dX1_reason_12 hp2 (fun _ σ3 hpA12 => ?_) (fun q4 σ5 hpB12 => ?_)
    · have hp3 := hpA12
      refine x_pc (pc' := 15) rfl ?_
      refine x_up (pc' := 16) (fun _ _ _ _ _ L => lv_iload_n hx hb dX1_reason_15 rfl (lv_at L 1 rfl)) ?_
      refine x_if (C := x1 = 0) (pt := 29) (pc' := 19) (fun _ _ _ _ _ => lv_if_eq (tgt := 29) hx hb dX1_reason_16 (by decide)) (fun c16 => ?_) (fun c16 => ?_)
      · have hp4 := hp3.1 c16
        refine x_up (pc' := 30) (fun _ _ _ _ _ L => lv_aload_n hx hb dX1_reason_29 rfl (lv_at L 0 rfl)) ?_
        refine x_gq X (kX1 hG) 6 (by decide) q595 (fun _ h => h) dX1_reason_30 hp4 (fun v6 hp5 => ?_)
        refine x_pc (pc' := 33) rfl ?_
        refine x_upL (pc' := 34) (lo' := [(3, va_rf v6), (0, .ref a0), (1, .int x1), (2, .int x2)]) (fun _ _ _ _ _ L => lv_astoreq_n hx hb dX1_reason_33 rfl L (by decide) rfl) ?_
        refine x_up (pc' := 35) (fun _ _ _ _ _ L => lv_aloadq_n hx hb dX1_reason_34 rfl (lv_at L 0 rfl)) ?_
        rcases v6 with _ | b7
        · have hp6 := hp5.1 rfl
          refine x_up (pc' := 42) (fun _ _ _ _ _ L => lv_ifnullN (tgt := 42) hx hb dX1_reason_35 (by decide)) ?_
          refine x_up (pc' := 43) (fun _ _ _ _ _ L => lv_iconst (v := (0 : Int32)) hx hb dX1_reason_42 (by decide)) ?_
          refine x_callSX (em := emV) (fun r st => st) (fun _ _ => rfl) 1 X (fun σ' KK KX h => R_X1_requireElement l hl G hG (0 : Int32) σ' KK KX h) (lw_S q2734 q2735 q99 q2736) mdX1_requireElement ⟨Nat.le_of_ble_eq_true rfl, Nat.le_of_ble_eq_true rfl⟩ rfl rfl (Nat.le_of_ble_eq_true rfl) dX1_reason_43 hp6 (fun _ σ8 hpA43 => ?_) (fun q9 σ10 hpB43 => ?_)
          · have hp7 := hpA43
            refine x_pc (pc' := 46) rfl ?_
            refine x_up (pc' := 47) (fun _ _ _ _ _ L => lv_iload_n hx hb dX1_reason_46 rfl (lv_at L 3 rfl)) ?_
            refine x_if (C := x2 = 0) (pt := 57) (pc' := 50) (fun _ _ _ _ _ => lv_if_eq (tgt := 57) hx hb dX1_reason_47 (by decide)) (fun c47 => ?_) (fun c47 => ?_)
            · have hp8 := hp7.1 c47
              refine x_up (pc' := 58) (fun _ _ _ _ _ L => lv_aload_nN hx hb dX1_reason_57 rfl (lv_at L 0 rfl)) ?_
              exact hp8.elim
            · have hp9 := hp7.2 c47
              refine x_up (pc' := 51) (fun _ _ _ _ _ L => lv_aload_nN hx hb dX1_reason_50 rfl (lv_at L 0 rfl)) ?_
              exact hp9.elim
          · have hp10 := hpB43
            obtain ⟨hq43, hp11⟩ := hp10
            obtain ⟨hr43, hp12⟩ := hp11
            exact x_out X (kJ30 hG) (hout 43) hr43 hq43 hp12
        · have hp13 := hp5.2 _ rfl
          refine x_up (pc' := 38) (fun _ _ _ _ _ L => lv_ifnull hx hb dX1_reason_35) ?_
          refine x_up (pc' := 39) (fun _ _ _ _ _ L => lv_iconst (v := (1 : Int32)) hx hb dX1_reason_38 (by decide)) ?_
          refine x_up (pc' := 43) (fun _ _ _ _ _ L => lv_goto (tgt := 43) hx hb dX1_reason_39 (by decide)) ?_
          refine x_callSX (em := emV) (fun r st => st) (fun _ _ => rfl) 1 X (fun σ' KK KX h => R_X1_requireElement l hl G hG (1 : Int32) σ' KK KX h) (lw_S q2734 q2735 q99 q2736) mdX1_requireElement ⟨Nat.le_of_ble_eq_true rfl, Nat.le_of_ble_eq_true rfl⟩ rfl rfl (Nat.le_of_ble_eq_true rfl) dX1_reason_43 hp13 (fun _ σ11 hpA43 => ?_) (fun q12 σ13 hpB43 => ?_)
          · have hp14 := hpA43
            refine x_pc (pc' := 46) rfl ?_
            refine x_up (pc' := 47) (fun _ _ _ _ _ L => lv_iload_n hx hb dX1_reason_46 rfl (lv_at L 3 rfl)) ?_
            refine x_if (C := x2 = 0) (pt := 57) (pc' := 50) (fun _ _ _ _ _ => lv_if_eq (tgt := 57) hx hb dX1_reason_47 (by decide)) (fun c47 => ?_) (fun c47 => ?_)
            · have hp15 := hp14.1 c47
              refine x_up (pc' := 58) (fun _ _ _ _ _ L => lv_aload_n hx hb dX1_reason_57 rfl (lv_at L 0 rfl)) ?_
              refine x_giN X (kX6 hG) 6 (by decide) q2257 (fun _ h => h) dX1_reason_58 hp15 (fun v14 hp16 => ?_)
              refine x_pc (pc' := 61) rfl ?_
              refine x_vx ?_; exact x_iret X hr rfl dX1_reason_61 hp16
            · have hp17 := hp14.2 c47
              refine x_up (pc' := 51) (fun _ _ _ _ _ L => lv_aload_n hx hb dX1_reason_50 rfl (lv_at L 0 rfl)) ?_
              refine x_giN X (kX6 hG) 7 (by decide) q2259 (fun _ h => h) dX1_reason_51 hp17 (fun v15 hp18 => ?_)
              refine x_pc (pc' := 54) rfl ?_
              refine x_up (pc' := 61) (fun _ _ _ _ _ L => lv_goto (tgt := 61) hx hb dX1_reason_54 (by decide)) ?_
              refine x_vx ?_; exact x_iret X hr rfl dX1_reason_61 hp18
          · have hp19 := hpB43
            obtain ⟨hq43, hp20⟩ := hp19
            obtain ⟨hr43, hp21⟩ := hp20
            exact x_out X (kJ30 hG) (hout 43) hr43 hq43 hp21
      · have hp22 := hp3.2 c16
        refine x_up (pc' := 20) (fun _ _ _ _ _ L => lv_aload_n hx hb dX1_reason_19 rfl (lv_at L 0 rfl)) ?_
        refine x_gq X (kX1 hG) 6 (by decide) q595 (fun _ h => h) dX1_reason_20 hp22 (fun v16 hp23 => ?_)
        refine x_pc (pc' := 23) rfl ?_
        obtain ⟨b17, rfl, hp24⟩ := hp23
        refine x_gqN X (kX6 hG) 8 (by decide) q2261 (fun _ h => h) dX1_reason_23 hp24 (fun v18 hp25 => ?_)
        refine x_pc (pc' := 26) rfl ?_
        refine x_up (pc' := 33) (fun _ _ _ _ _ L => lv_goto (tgt := 33) hx hb dX1_reason_26 (by decide)) ?_
        refine x_upL (pc' := 34) (lo' := [(3, va_rf v18), (0, .ref a0), (1, .int x1), (2, .int x2)]) (fun _ _ _ _ _ L => lv_astoreq_n hx hb dX1_reason_33 rfl L (by decide) rfl) ?_
        refine x_up (pc' := 35) (fun _ _ _ _ _ L => lv_aloadq_n hx hb dX1_reason_34 rfl (lv_at L 0 rfl)) ?_
        rcases v18 with _ | b19
        · have hp26 := hp25.1 rfl
          refine x_up (pc' := 42) (fun _ _ _ _ _ L => lv_ifnullN (tgt := 42) hx hb dX1_reason_35 (by decide)) ?_
          refine x_up (pc' := 43) (fun _ _ _ _ _ L => lv_iconst (v := (0 : Int32)) hx hb dX1_reason_42 (by decide)) ?_
          refine x_callSX (em := emV) (fun r st => st) (fun _ _ => rfl) 1 X (fun σ' KK KX h => R_X1_requireElement l hl G hG (0 : Int32) σ' KK KX h) (lw_S q2734 q2735 q99 q2736) mdX1_requireElement ⟨Nat.le_of_ble_eq_true rfl, Nat.le_of_ble_eq_true rfl⟩ rfl rfl (Nat.le_of_ble_eq_true rfl) dX1_reason_43 hp26 (fun _ σ20 hpA43 => ?_) (fun q21 σ22 hpB43 => ?_)
          · have hp27 := hpA43
            refine x_pc (pc' := 46) rfl ?_
            refine x_up (pc' := 47) (fun _ _ _ _ _ L => lv_iload_n hx hb dX1_reason_46 rfl (lv_at L 3 rfl)) ?_
            refine x_if (C := x2 = 0) (pt := 57) (pc' := 50) (fun _ _ _ _ _ => lv_if_eq (tgt := 57) hx hb dX1_reason_47 (by decide)) (fun c47 => ?_) (fun c47 => ?_)
            · have hp28 := hp27.1 c47
              refine x_up (pc' := 58) (fun _ _ _ _ _ L => lv_aload_nN hx hb dX1_reason_57 rfl (lv_at L 0 rfl)) ?_
              exact hp28.elim
            · have hp29 := hp27.2 c47
              refine x_up (pc' := 51) (fun _ _ _ _ _ L => lv_aload_nN hx hb dX1_reason_50 rfl (lv_at L 0 rfl)) ?_
              exact hp29.elim
          · have hp30 := hpB43
            obtain ⟨hq43, hp31⟩ := hp30
            obtain ⟨hr43, hp32⟩ := hp31
            exact x_out X (kJ30 hG) (hout 43) hr43 hq43 hp32
        · have hp33 := hp25.2 _ rfl
          refine x_up (pc' := 38) (fun _ _ _ _ _ L => lv_ifnull hx hb dX1_reason_35) ?_
          refine x_up (pc' := 39) (fun _ _ _ _ _ L => lv_iconst (v := (1 : Int32)) hx hb dX1_reason_38 (by decide)) ?_
          refine x_up (pc' := 43) (fun _ _ _ _ _ L => lv_goto (tgt := 43) hx hb dX1_reason_39 (by decide)) ?_
          refine x_callSX (em := emV) (fun r st => st) (fun _ _ => rfl) 1 X (fun σ' KK KX h => R_X1_requireElement l hl G hG (1 : Int32) σ' KK KX h) (lw_S q2734 q2735 q99 q2736) mdX1_requireElement ⟨Nat.le_of_ble_eq_true rfl, Nat.le_of_ble_eq_true rfl⟩ rfl rfl (Nat.le_of_ble_eq_true rfl) dX1_reason_43 hp33 (fun _ σ23 hpA43 => ?_) (fun q24 σ25 hpB43 => ?_)
          · have hp34 := hpA43
            refine x_pc (pc' := 46) rfl ?_
            refine x_up (pc' := 47) (fun _ _ _ _ _ L => lv_iload_n hx hb dX1_reason_46 rfl (lv_at L 3 rfl)) ?_
            refine x_if (C := x2 = 0) (pt := 57) (pc' := 50) (fun _ _ _ _ _ => lv_if_eq (tgt := 57) hx hb dX1_reason_47 (by decide)) (fun c47 => ?_) (fun c47 => ?_)
            · have hp35 := hp34.1 c47
              refine x_up (pc' := 58) (fun _ _ _ _ _ L => lv_aload_n hx hb dX1_reason_57 rfl (lv_at L 0 rfl)) ?_
              refine x_giN X (kX6 hG) 6 (by decide) q2257 (fun _ h => h) dX1_reason_58 hp35 (fun v26 hp36 => ?_)
              refine x_pc (pc' := 61) rfl ?_
              refine x_vx ?_; exact x_iret X hr rfl dX1_reason_61 hp36
            · have hp37 := hp34.2 c47
              refine x_up (pc' := 51) (fun _ _ _ _ _ L => lv_aload_n hx hb dX1_reason_50 rfl (lv_at L 0 rfl)) ?_
              refine x_giN X (kX6 hG) 7 (by decide) q2259 (fun _ h => h) dX1_reason_51 hp37 (fun v27 hp38 => ?_)
              refine x_pc (pc' := 54) rfl ?_
              refine x_up (pc' := 61) (fun _ _ _ _ _ L => lv_goto (tgt := 61) hx hb dX1_reason_54 (by decide)) ?_
              refine x_vx ?_; exact x_iret X hr rfl dX1_reason_61 hp38
          · have hp39 := hpB43
            obtain ⟨hq43, hp40⟩ := hp39
            obtain ⟨hr43, hp41⟩ := hp40
            exact x_out X (kJ30 hG) (hout 43) hr43 hq43 hp41
    · have hp42 := hpB12
      obtain ⟨hq12, hp43⟩ := hp42
      obtain ⟨hr12, hp44⟩ := hp43
      exact x_out X (kJ30 hG) (hout 12) hr12 hq12 hp44
  · have hp45 := hp1.2 _ rfl
    refine x_up (pc' := 7) (fun _ _ _ _ _ L => lv_ifnull hx hb dX1_reason_4) ?_
    refine x_up (pc' := 8) (fun _ _ _ _ _ L => lv_iconst (v := (1 : Int32)) hx hb dX1_reason_7 (by decide)) ?_
    refine x_up (pc' := 12) (fun _ _ _ _ _ L => lv_goto (tgt := 12) hx hb dX1_reason_8 (by decide)) ?_
    refine x_callSX (em := emV) (fun r st => st) (fun _ _ => rfl) 1 X (fun σ' KK KX h => R_X1_requireElement l hl G hG (1 : Int32) σ' KK KX h) (lw_S q2734 q2735 q99 q2736) mdX1_requireElement ⟨Nat.le_of_ble_eq_true rfl, Nat.le_of_ble_eq_true rfl⟩ rfl rfl (Nat.le_of_ble_eq_true rfl) dX1_reason_12 hp45 (fun _ σ28 hpA12 => ?_) (fun q29 σ30 hpB12 => ?_)
    · have hp46 := hpA12
      refine x_pc (pc' := 15) rfl ?_
      refine x_up (pc' := 16) (fun _ _ _ _ _ L => lv_iload_n hx hb dX1_reason_15 rfl (lv_at L 1 rfl)) ?_
      refine x_if (C := x1 = 0) (pt := 29) (pc' := 19) (fun _ _ _ _ _ => lv_if_eq (tgt := 29) hx hb dX1_reason_16 (by decide)) (fun c16 => ?_) (fun c16 => ?_)
      · have hp47 := hp46.1 c16
        refine x_up (pc' := 30) (fun _ _ _ _ _ L => lv_aload_n hx hb dX1_reason_29 rfl (lv_at L 0 rfl)) ?_
        refine x_gq X (kX1 hG) 6 (by decide) q595 (fun _ h => h) dX1_reason_30 hp47 (fun v31 hp48 => ?_)
        refine x_pc (pc' := 33) rfl ?_
        refine x_upL (pc' := 34) (lo' := [(3, va_rf v31), (0, .ref a0), (1, .int x1), (2, .int x2)]) (fun _ _ _ _ _ L => lv_astoreq_n hx hb dX1_reason_33 rfl L (by decide) rfl) ?_
        refine x_up (pc' := 35) (fun _ _ _ _ _ L => lv_aloadq_n hx hb dX1_reason_34 rfl (lv_at L 0 rfl)) ?_
        rcases v31 with _ | b32
        · have hp49 := hp48.1 rfl
          refine x_up (pc' := 42) (fun _ _ _ _ _ L => lv_ifnullN (tgt := 42) hx hb dX1_reason_35 (by decide)) ?_
          refine x_up (pc' := 43) (fun _ _ _ _ _ L => lv_iconst (v := (0 : Int32)) hx hb dX1_reason_42 (by decide)) ?_
          refine x_callSX (em := emV) (fun r st => st) (fun _ _ => rfl) 1 X (fun σ' KK KX h => R_X1_requireElement l hl G hG (0 : Int32) σ' KK KX h) (lw_S q2734 q2735 q99 q2736) mdX1_requireElement ⟨Nat.le_of_ble_eq_true rfl, Nat.le_of_ble_eq_true rfl⟩ rfl rfl (Nat.le_of_ble_eq_true rfl) dX1_reason_43 hp49 (fun _ σ33 hpA43 => ?_) (fun q34 σ35 hpB43 => ?_)
          · have hp50 := hpA43
            refine x_pc (pc' := 46) rfl ?_
            refine x_up (pc' := 47) (fun _ _ _ _ _ L => lv_iload_n hx hb dX1_reason_46 rfl (lv_at L 3 rfl)) ?_
            refine x_if (C := x2 = 0) (pt := 57) (pc' := 50) (fun _ _ _ _ _ => lv_if_eq (tgt := 57) hx hb dX1_reason_47 (by decide)) (fun c47 => ?_) (fun c47 => ?_)
            · have hp51 := hp50.1 c47
              refine x_up (pc' := 58) (fun _ _ _ _ _ L => lv_aload_nN hx hb dX1_reason_57 rfl (lv_at L 0 rfl)) ?_
              exact hp51.elim
            · have hp52 := hp50.2 c47
              refine x_up (pc' := 51) (fun _ _ _ _ _ L => lv_aload_nN hx hb dX1_reason_50 rfl (lv_at L 0 rfl)) ?_
              exact hp52.elim
          · have hp53 := hpB43
            obtain ⟨hq43, hp54⟩ := hp53
            obtain ⟨hr43, hp55⟩ := hp54
            exact x_out X (kJ30 hG) (hout 43) hr43 hq43 hp55
        · have hp56 := hp48.2 _ rfl
          refine x_up (pc' := 38) (fun _ _ _ _ _ L => lv_ifnull hx hb dX1_reason_35) ?_
          refine x_up (pc' := 39) (fun _ _ _ _ _ L => lv_iconst (v := (1 : Int32)) hx hb dX1_reason_38 (by decide)) ?_
          refine x_up (pc' := 43) (fun _ _ _ _ _ L => lv_goto (tgt := 43) hx hb dX1_reason_39 (by decide)) ?_
          refine x_callSX (em := emV) (fun r st => st) (fun _ _ => rfl) 1 X (fun σ' KK KX h => R_X1_requireElement l hl G hG (1 : Int32) σ' KK KX h) (lw_S q2734 q2735 q99 q2736) mdX1_requireElement ⟨Nat.le_of_ble_eq_true rfl, Nat.le_of_ble_eq_true rfl⟩ rfl rfl (Nat.le_of_ble_eq_true rfl) dX1_reason_43 hp56 (fun _ σ36 hpA43 => ?_) (fun q37 σ38 hpB43 => ?_)
          · have hp57 := hpA43
            refine x_pc (pc' := 46) rfl ?_
            refine x_up (pc' := 47) (fun _ _ _ _ _ L => lv_iload_n hx hb dX1_reason_46 rfl (lv_at L 3 rfl)) ?_
            refine x_if (C := x2 = 0) (pt := 57) (pc' := 50) (fun _ _ _ _ _ => lv_if_eq (tgt := 57) hx hb dX1_reason_47 (by decide)) (fun c47 => ?_) (fun c47 => ?_)
            · have hp58 := hp57.1 c47
              refine x_up (pc' := 58) (fun _ _ _ _ _ L => lv_aload_n hx hb dX1_reason_57 rfl (lv_at L 0 rfl)) ?_
              refine x_giN X (kX6 hG) 6 (by decide) q2257 (fun _ h => h) dX1_reason_58 hp58 (fun v39 hp59 => ?_)
              refine x_pc (pc' := 61) rfl ?_
              refine x_vx ?_; exact x_iret X hr rfl dX1_reason_61 hp59
            · have hp60 := hp57.2 c47
              refine x_up (pc' := 51) (fun _ _ _ _ _ L => lv_aload_n hx hb dX1_reason_50 rfl (lv_at L 0 rfl)) ?_
              refine x_giN X (kX6 hG) 7 (by decide) q2259 (fun _ h => h) dX1_reason_51 hp60 (fun v40 hp61 => ?_)
              refine x_pc (pc' := 54) rfl ?_
              refine x_up (pc' := 61) (fun _ _ _ _ _ L => lv_goto (tgt := 61) hx hb dX1_reason_54 (by decide)) ?_
              refine x_vx ?_; exact x_iret X hr rfl dX1_reason_61 hp61
          · have hp62 := hpB43
            obtain ⟨hq43, hp63⟩ := hp62
            obtain ⟨hr43, hp64⟩ := hp63
            exact x_out X (kJ30 hG) (hout 43) hr43 hq43 hp64
      · have hp65 := hp46.2 c16
        refine x_up (pc' := 20) (fun _ _ _ _ _ L => lv_aload_n hx hb dX1_reason_19 rfl (lv_at L 0 rfl)) ?_
        refine x_gq X (kX1 hG) 6 (by decide) q595 (fun _ h => h) dX1_reason_20 hp65 (fun v41 hp66 => ?_)
        refine x_pc (pc' := 23) rfl ?_
        obtain ⟨b42, rfl, hp67⟩ := hp66
        refine x_gqN X (kX6 hG) 8 (by decide) q2261 (fun _ h => h) dX1_reason_23 hp67 (fun v43 hp68 => ?_)
        refine x_pc (pc' := 26) rfl ?_
        refine x_up (pc' := 33) (fun _ _ _ _ _ L => lv_goto (tgt := 33) hx hb dX1_reason_26 (by decide)) ?_
        refine x_upL (pc' := 34) (lo' := [(3, va_rf v43), (0, .ref a0), (1, .int x1), (2, .int x2)]) (fun _ _ _ _ _ L => lv_astoreq_n hx hb dX1_reason_33 rfl L (by decide) rfl) ?_
        refine x_up (pc' := 35) (fun _ _ _ _ _ L => lv_aloadq_n hx hb dX1_reason_34 rfl (lv_at L 0 rfl)) ?_
        rcases v43 with _ | b44
        · have hp69 := hp68.1 rfl
          refine x_up (pc' := 42) (fun _ _ _ _ _ L => lv_ifnullN (tgt := 42) hx hb dX1_reason_35 (by decide)) ?_
          refine x_up (pc' := 43) (fun _ _ _ _ _ L => lv_iconst (v := (0 : Int32)) hx hb dX1_reason_42 (by decide)) ?_
          refine x_callSX (em := emV) (fun r st => st) (fun _ _ => rfl) 1 X (fun σ' KK KX h => R_X1_requireElement l hl G hG (0 : Int32) σ' KK KX h) (lw_S q2734 q2735 q99 q2736) mdX1_requireElement ⟨Nat.le_of_ble_eq_true rfl, Nat.le_of_ble_eq_true rfl⟩ rfl rfl (Nat.le_of_ble_eq_true rfl) dX1_reason_43 hp69 (fun _ σ45 hpA43 => ?_) (fun q46 σ47 hpB43 => ?_)
          · have hp70 := hpA43
            refine x_pc (pc' := 46) rfl ?_
            refine x_up (pc' := 47) (fun _ _ _ _ _ L => lv_iload_n hx hb dX1_reason_46 rfl (lv_at L 3 rfl)) ?_
            refine x_if (C := x2 = 0) (pt := 57) (pc' := 50) (fun _ _ _ _ _ => lv_if_eq (tgt := 57) hx hb dX1_reason_47 (by decide)) (fun c47 => ?_) (fun c47 => ?_)
            · have hp71 := hp70.1 c47
              refine x_up (pc' := 58) (fun _ _ _ _ _ L => lv_aload_nN hx hb dX1_reason_57 rfl (lv_at L 0 rfl)) ?_
              exact hp71.elim
            · have hp72 := hp70.2 c47
              refine x_up (pc' := 51) (fun _ _ _ _ _ L => lv_aload_nN hx hb dX1_reason_50 rfl (lv_at L 0 rfl)) ?_
              exact hp72.elim
          · have hp73 := hpB43
            obtain ⟨hq43, hp74⟩ := hp73
            obtain ⟨hr43, hp75⟩ := hp74
            exact x_out X (kJ30 hG) (hout 43) hr43 hq43 hp75
        · have hp76 := hp68.2 _ rfl
          refine x_up (pc' := 38) (fun _ _ _ _ _ L => lv_ifnull hx hb dX1_reason_35) ?_
          refine x_up (pc' := 39) (fun _ _ _ _ _ L => lv_iconst (v := (1 : Int32)) hx hb dX1_reason_38 (by decide)) ?_
          refine x_up (pc' := 43) (fun _ _ _ _ _ L => lv_goto (tgt := 43) hx hb dX1_reason_39 (by decide)) ?_
          refine x_callSX (em := emV) (fun r st => st) (fun _ _ => rfl) 1 X (fun σ' KK KX h => R_X1_requireElement l hl G hG (1 : Int32) σ' KK KX h) (lw_S q2734 q2735 q99 q2736) mdX1_requireElement ⟨Nat.le_of_ble_eq_true rfl, Nat.le_of_ble_eq_true rfl⟩ rfl rfl (Nat.le_of_ble_eq_true rfl) dX1_reason_43 hp76 (fun _ σ48 hpA43 => ?_) (fun q49 σ50 hpB43 => ?_)
          · have hp77 := hpA43
            refine x_pc (pc' := 46) rfl ?_
            refine x_up (pc' := 47) (fun _ _ _ _ _ L => lv_iload_n hx hb dX1_reason_46 rfl (lv_at L 3 rfl)) ?_
            refine x_if (C := x2 = 0) (pt := 57) (pc' := 50) (fun _ _ _ _ _ => lv_if_eq (tgt := 57) hx hb dX1_reason_47 (by decide)) (fun c47 => ?_) (fun c47 => ?_)
            · have hp78 := hp77.1 c47
              refine x_up (pc' := 58) (fun _ _ _ _ _ L => lv_aload_n hx hb dX1_reason_57 rfl (lv_at L 0 rfl)) ?_
              refine x_giN X (kX6 hG) 6 (by decide) q2257 (fun _ h => h) dX1_reason_58 hp78 (fun v51 hp79 => ?_)
              refine x_pc (pc' := 61) rfl ?_
              refine x_vx ?_; exact x_iret X hr rfl dX1_reason_61 hp79
            · have hp80 := hp77.2 c47
              refine x_up (pc' := 51) (fun _ _ _ _ _ L => lv_aload_n hx hb dX1_reason_50 rfl (lv_at L 0 rfl)) ?_
              refine x_giN X (kX6 hG) 7 (by decide) q2259 (fun _ h => h) dX1_reason_51 hp80 (fun v52 hp81 => ?_)
              refine x_pc (pc' := 54) rfl ?_
              refine x_up (pc' := 61) (fun _ _ _ _ _ L => lv_goto (tgt := 61) hx hb dX1_reason_54 (by decide)) ?_
              refine x_vx ?_; exact x_iret X hr rfl dX1_reason_61 hp81
          · have hp82 := hpB43
            obtain ⟨hq43, hp83⟩ := hp82
            obtain ⟨hr43, hp84⟩ := hp83
            exact x_out X (kJ30 hG) (hout 43) hr43 hq43 hp84
    · have hp85 := hpB12
      obtain ⟨hq12, hp86⟩ := hp85
      obtain ⟨hr12, hp87⟩ := hp86
      exact x_out X (kJ30 hG) (hout 12) hr12 hq12 hp87
-- J23_stringSize
def B_J23_stringSize_16 (κ : Nat → Nat) (K : Int32 → xH → Prop) (f0 : Int32) (f1 : Int32) : ((Int32 × Int32) → xS → Prop) → (Int32 × Int32) → xS → Prop := fun self17003 w17001 σ17002 =>
  (((10 : Int32) ≤ w17001.2 → (K ((10 : Int32) + f1) σ17002.1)) ∧ (¬ (10 : Int32) ≤ w17001.2 → (((f0 ≤ w17001.1 → (self17003 (((10 : Int32) * w17001.1), (w17001.2 + (1 : Int32))) σ17002)) ∧ (¬ f0 ≤ w17001.1 → (K (w17001.2 + f1) σ17002.1))))))
def P_J23_stringSize (κ : Nat → Nat) (x0 : Int32) (σ : xS) (K : Int32 → xH → Prop) : Prop :=
  ((x0 < 0 → (xwhile (B_J23_stringSize_16 κ K x0 (1 : Int32)) ((-10 : Int32), (1 : Int32)) σ)) ∧ (¬ x0 < 0 → (xwhile (B_J23_stringSize_16 κ K (-x0) (0 : Int32)) ((-10 : Int32), (1 : Int32)) σ)))
theorem mdJ23_stringSize : yJ23_stringSize.cls ≠ "java/lang/invoke/MethodHandle" ∧ yJ23_stringSize.cls ≠ "java/lang/invoke/VarHandle" ∧ (parseMethodDescriptor yJ23_stringSize.desc).map (fun d => d.parameters.length) = some 1 := by decide +kernel
set_option maxHeartbeats 4000000 in
set_option maxRecDepth 100000 in
theorem R_J23_stringSize (l : Launch) (hl : l.stackTraces = false) (G : xG) (hG : G.1.2 = x_cl) (x0 : Int32) (σ : xS) (K : Int32 → xH → Prop) (hp : P_J23_stringSize G.2 x0 σ K) : xM l yJ23_stringSize cJ23_stringSize 4 (Option.some Jvm.ClassFile.FieldType.int) 0 0 G [.int x0] σ (xlift emI K) := by
  refine x_entry (by decide) (Nat.le_of_ble_eq_true rfl) ?_
  intro p e s m args below meth c X hr hin
  have X : xX p s m args meth c G cJ23_stringSize 4 RJ23 := X
  have hx := X.1
  have hb := X.2.1
  have hts := X.2.2.2.2.1
  have hown := X.2.2.2.1
  unfold P_J23_stringSize at hp
  refine x_same (lo' := [(0, .int x0)]) rfl ?_
  refine x_up (pc' := 1) (fun _ _ _ _ _ L => lv_iconst (v := (1 : Int32)) hx hb dJ23_stringSize_0 (by decide)) ?_
  refine x_upL (pc' := 2) (lo' := [(1, .int (1 : Int32)), (0, .int x0)]) (fun _ _ _ _ _ L => lv_istore_n hx hb dJ23_stringSize_1 rfl L (by decide) rfl) ?_
  refine x_up (pc' := 3) (fun _ _ _ _ _ L => lv_iload_n hx hb dJ23_stringSize_2 rfl (lv_at L 1 rfl)) ?_
  refine x_if (C := x0 < 0) (pt := 11) (pc' := 6) (fun _ _ _ _ _ => lv_if_lt (tgt := 11) hx hb dJ23_stringSize_3 (by decide)) (fun c3 => ?_) (fun c3 => ?_)
  · have hp1 := hp.1 c3
    refine x_up (pc' := 13) (fun _ _ _ _ _ L => lv_bipush (v := (-10 : Int32)) hx hb dJ23_stringSize_11 (by decide)) ?_
    refine x_upL (pc' := 14) (lo' := [(2, .int (-10 : Int32)), (1, .int (1 : Int32)), (0, .int x0)]) (fun _ _ _ _ _ L => lv_istore_n hx hb dJ23_stringSize_13 rfl L (by decide) rfl) ?_
    refine x_up (pc' := 15) (fun _ _ _ _ _ L => lv_iconst (v := (1 : Int32)) hx hb dJ23_stringSize_14 (by decide)) ?_
    refine x_upL (pc' := 16) (lo' := [(3, .int (1 : Int32)), (2, .int (-10 : Int32)), (1, .int (1 : Int32)), (0, .int x0)]) (fun _ _ _ _ _ L => lv_istore_n hx hb dJ23_stringSize_15 rfl L (by decide) rfl) ?_
    refine x_lo (lo' := [(2, .int (-10 : Int32)), (3, .int (1 : Int32)), (0, .int x0), (1, .int (1 : Int32))]) [1, 0, 3, 2] rfl ?_
    refine x_while (v0 := ((-10 : Int32), (1 : Int32))) (fun w1 => [(2, .int w1.1), (3, .int w1.2), (0, .int x0), (1, .int (1 : Int32))]) hp1 (fun self2 hself3 => ?_)
    rintro ⟨y5, y6⟩ σ4 hp2
    unfold B_J23_stringSize_16 at hp2
    refine x_same (lo' := [(2, .int y5), (3, .int y6), (0, .int x0), (1, .int (1 : Int32))]) rfl ?_
    refine x_up (pc' := 17) (fun _ _ _ _ _ L => lv_iload_n hx hb dJ23_stringSize_16 rfl (lv_at L 1 rfl)) ?_
    refine x_up (pc' := 19) (fun _ _ _ _ _ L => lv_bipush (v := (10 : Int32)) hx hb dJ23_stringSize_17 (by decide)) ?_
    refine x_if (C := (10 : Int32) ≤ y6) (pt := 42) (pc' := 22) (fun _ _ _ _ _ => lv_icmp_ge (tgt := 42) hx hb dJ23_stringSize_19 (by decide)) (fun c19 => ?_) (fun c19 => ?_)
    · have hp3 := hp2.1 c19
      refine x_up (pc' := 44) (fun _ _ _ _ _ L => lv_bipush (v := (10 : Int32)) hx hb dJ23_stringSize_42 (by decide)) ?_
      refine x_up (pc' := 45) (fun _ _ _ _ _ L => lv_iload_n hx hb dJ23_stringSize_44 rfl (lv_at L 3 rfl)) ?_
      refine x_up (pc' := 46) (fun _ _ _ _ _ L => lv_iadd hx hb dJ23_stringSize_45) ?_
      exact x_iret X hr rfl dJ23_stringSize_46 hp3
    · have hp4 := hp2.2 c19
      refine x_up (pc' := 23) (fun _ _ _ _ _ L => lv_iload_n hx hb dJ23_stringSize_22 rfl (lv_at L 2 rfl)) ?_
      refine x_up (pc' := 24) (fun _ _ _ _ _ L => lv_iload_n hx hb dJ23_stringSize_23 rfl (lv_at L 0 rfl)) ?_
      refine x_if (C := x0 ≤ y5) (pt := 31) (pc' := 27) (fun _ _ _ _ _ => lv_icmp_le (tgt := 31) hx hb dJ23_stringSize_24 (by decide)) (fun c24 => ?_) (fun c24 => ?_)
      · have hp5 := hp4.1 c24
        refine x_up (pc' := 33) (fun _ _ _ _ _ L => lv_bipush (v := (10 : Int32)) hx hb dJ23_stringSize_31 (by decide)) ?_
        refine x_up (pc' := 34) (fun _ _ _ _ _ L => lv_iload_n hx hb dJ23_stringSize_33 rfl (lv_at L 0 rfl)) ?_
        refine x_up (pc' := 35) (fun _ _ _ _ _ L => lv_imul hx hb dJ23_stringSize_34) ?_
        refine x_upL (pc' := 36) (lo' := [(2, .int ((10 : Int32) * y5)), (3, .int y6), (0, .int x0), (1, .int (1 : Int32))]) (fun _ _ _ _ _ L => lv_istore_n hx hb dJ23_stringSize_35 rfl L (by decide) rfl) ?_
        refine x_upL (pc' := 39) (lo' := [(3, .int (y6 + (1 : Int32))), (2, .int ((10 : Int32) * y5)), (0, .int x0), (1, .int (1 : Int32))]) (fun _ _ _ _ _ L => lv_iinc (v := y6 + (1 : Int32)) hx hb dJ23_stringSize_36 L (k := 1) rfl rfl (by decide) rfl) ?_
        refine x_up (pc' := 16) (fun _ _ _ _ _ L => lv_goto (tgt := 16) hx hb dJ23_stringSize_39 (by decide)) ?_
        refine x_lo (lo' := [(2, .int ((10 : Int32) * y5)), (3, .int (y6 + (1 : Int32))), (0, .int x0), (1, .int (1 : Int32))]) [1, 0, 2, 3] rfl ?_
        exact hself3 (((10 : Int32) * y5), (y6 + (1 : Int32))) σ4 hp5
      · have hp6 := hp4.2 c24
        refine x_up (pc' := 28) (fun _ _ _ _ _ L => lv_iload_n hx hb dJ23_stringSize_27 rfl (lv_at L 1 rfl)) ?_
        refine x_up (pc' := 29) (fun _ _ _ _ _ L => lv_iload_n hx hb dJ23_stringSize_28 rfl (lv_at L 3 rfl)) ?_
        refine x_up (pc' := 30) (fun _ _ _ _ _ L => lv_iadd hx hb dJ23_stringSize_29) ?_
        exact x_iret X hr rfl dJ23_stringSize_30 hp6
  · have hp7 := hp.2 c3
    refine x_up (pc' := 7) (fun _ _ _ _ _ L => lv_iconst (v := (0 : Int32)) hx hb dJ23_stringSize_6 (by decide)) ?_
    refine x_upL (pc' := 8) (lo' := [(1, .int (0 : Int32)), (0, .int x0)]) (fun _ _ _ _ _ L => lv_istore_n hx hb dJ23_stringSize_7 rfl L (by decide) rfl) ?_
    refine x_up (pc' := 9) (fun _ _ _ _ _ L => lv_iload_n hx hb dJ23_stringSize_8 rfl (lv_at L 1 rfl)) ?_
    refine x_up (pc' := 10) (fun _ _ _ _ _ L => lv_ineg hx hb dJ23_stringSize_9) ?_
    refine x_upL (pc' := 11) (lo' := [(0, .int (-x0)), (1, .int (0 : Int32))]) (fun _ _ _ _ _ L => lv_istore_n hx hb dJ23_stringSize_10 rfl L (by decide) rfl) ?_
    refine x_up (pc' := 13) (fun _ _ _ _ _ L => lv_bipush (v := (-10 : Int32)) hx hb dJ23_stringSize_11 (by decide)) ?_
    refine x_upL (pc' := 14) (lo' := [(2, .int (-10 : Int32)), (0, .int (-x0)), (1, .int (0 : Int32))]) (fun _ _ _ _ _ L => lv_istore_n hx hb dJ23_stringSize_13 rfl L (by decide) rfl) ?_
    refine x_up (pc' := 15) (fun _ _ _ _ _ L => lv_iconst (v := (1 : Int32)) hx hb dJ23_stringSize_14 (by decide)) ?_
    refine x_upL (pc' := 16) (lo' := [(3, .int (1 : Int32)), (2, .int (-10 : Int32)), (0, .int (-x0)), (1, .int (0 : Int32))]) (fun _ _ _ _ _ L => lv_istore_n hx hb dJ23_stringSize_15 rfl L (by decide) rfl) ?_
    refine x_lo (lo' := [(2, .int (-10 : Int32)), (3, .int (1 : Int32)), (0, .int (-x0)), (1, .int (0 : Int32))]) [1, 0, 2, 3] rfl ?_
    refine x_while (v0 := ((-10 : Int32), (1 : Int32))) (fun w7 => [(2, .int w7.1), (3, .int w7.2), (0, .int (-x0)), (1, .int (0 : Int32))]) hp7 (fun self8 hself9 => ?_)
    rintro ⟨y11, y12⟩ σ10 hp8
    unfold B_J23_stringSize_16 at hp8
    refine x_same (lo' := [(2, .int y11), (3, .int y12), (0, .int (-x0)), (1, .int (0 : Int32))]) rfl ?_
    refine x_up (pc' := 17) (fun _ _ _ _ _ L => lv_iload_n hx hb dJ23_stringSize_16 rfl (lv_at L 1 rfl)) ?_
    refine x_up (pc' := 19) (fun _ _ _ _ _ L => lv_bipush (v := (10 : Int32)) hx hb dJ23_stringSize_17 (by decide)) ?_
    refine x_if (C := (10 : Int32) ≤ y12) (pt := 42) (pc' := 22) (fun _ _ _ _ _ => lv_icmp_ge (tgt := 42) hx hb dJ23_stringSize_19 (by decide)) (fun c19 => ?_) (fun c19 => ?_)
    · have hp9 := hp8.1 c19
      refine x_up (pc' := 44) (fun _ _ _ _ _ L => lv_bipush (v := (10 : Int32)) hx hb dJ23_stringSize_42 (by decide)) ?_
      refine x_up (pc' := 45) (fun _ _ _ _ _ L => lv_iload_n hx hb dJ23_stringSize_44 rfl (lv_at L 3 rfl)) ?_
      refine x_up (pc' := 46) (fun _ _ _ _ _ L => lv_iadd hx hb dJ23_stringSize_45) ?_
      exact x_iret X hr rfl dJ23_stringSize_46 hp9
    · have hp10 := hp8.2 c19
      refine x_up (pc' := 23) (fun _ _ _ _ _ L => lv_iload_n hx hb dJ23_stringSize_22 rfl (lv_at L 2 rfl)) ?_
      refine x_up (pc' := 24) (fun _ _ _ _ _ L => lv_iload_n hx hb dJ23_stringSize_23 rfl (lv_at L 0 rfl)) ?_
      refine x_if (C := (-x0) ≤ y11) (pt := 31) (pc' := 27) (fun _ _ _ _ _ => lv_icmp_le (tgt := 31) hx hb dJ23_stringSize_24 (by decide)) (fun c24 => ?_) (fun c24 => ?_)
      · have hp11 := hp10.1 c24
        refine x_up (pc' := 33) (fun _ _ _ _ _ L => lv_bipush (v := (10 : Int32)) hx hb dJ23_stringSize_31 (by decide)) ?_
        refine x_up (pc' := 34) (fun _ _ _ _ _ L => lv_iload_n hx hb dJ23_stringSize_33 rfl (lv_at L 0 rfl)) ?_
        refine x_up (pc' := 35) (fun _ _ _ _ _ L => lv_imul hx hb dJ23_stringSize_34) ?_
        refine x_upL (pc' := 36) (lo' := [(2, .int ((10 : Int32) * y11)), (3, .int y12), (0, .int (-x0)), (1, .int (0 : Int32))]) (fun _ _ _ _ _ L => lv_istore_n hx hb dJ23_stringSize_35 rfl L (by decide) rfl) ?_
        refine x_upL (pc' := 39) (lo' := [(3, .int (y12 + (1 : Int32))), (2, .int ((10 : Int32) * y11)), (0, .int (-x0)), (1, .int (0 : Int32))]) (fun _ _ _ _ _ L => lv_iinc (v := y12 + (1 : Int32)) hx hb dJ23_stringSize_36 L (k := 1) rfl rfl (by decide) rfl) ?_
        refine x_up (pc' := 16) (fun _ _ _ _ _ L => lv_goto (tgt := 16) hx hb dJ23_stringSize_39 (by decide)) ?_
        refine x_lo (lo' := [(2, .int ((10 : Int32) * y11)), (3, .int (y12 + (1 : Int32))), (0, .int (-x0)), (1, .int (0 : Int32))]) [1, 0, 2, 3] rfl ?_
        exact hself9 (((10 : Int32) * y11), (y12 + (1 : Int32))) σ10 hp11
      · have hp12 := hp10.2 c24
        refine x_up (pc' := 28) (fun _ _ _ _ _ L => lv_iload_n hx hb dJ23_stringSize_27 rfl (lv_at L 1 rfl)) ?_
        refine x_up (pc' := 29) (fun _ _ _ _ _ L => lv_iload_n hx hb dJ23_stringSize_28 rfl (lv_at L 3 rfl)) ?_
        refine x_up (pc' := 30) (fun _ _ _ _ _ L => lv_iadd hx hb dJ23_stringSize_29) ?_
        exact x_iret X hr rfl dJ23_stringSize_30 hp12
-- J15_getChars_2
def B_J15_getChars_2_22 (κ : Nat → Nat) (kx23004 : (Int32 × Int32) → xS → Prop) (f2 : Option Nat) (f6 : Int32) : ((Int32 × Int32) → xS → Prop) → (Int32 × Int32) → xS → Prop := fun self23003 w23001 σ23002 =>
  (((-100 : Int32) < w23001.1 → (kx23004 (w23001.1, w23001.2) σ23002)) ∧ (¬ (-100 : Int32) < w23001.1 → (xai .byte σ23002 (κ 3) (((w23001.1 / (100 : Int32)) * (100 : Int32)) - w23001.1) fun v23005 => xcall (fun τ L => P_J15_putChar κ f2 (w23001.2 + (-1 : Int32)) v23005 τ L) σ23002 fun _ σ23006 => xai .byte σ23006 (κ 4) (((w23001.1 / (100 : Int32)) * (100 : Int32)) - w23001.1) fun v23007 => xcall (fun τ L => P_J15_putChar κ f2 (w23001.2 + (-1 : Int32) + (-1 : Int32)) v23007 τ L) σ23006 fun _ σ23008 => self23003 ((w23001.1 / (100 : Int32)), (w23001.2 + (-1 : Int32) + (-1 : Int32))) σ23008)))
def P_J15_getChars_2 (κ : Nat → Nat) (x0 : Int32) (x1 : Int32) (x2 : Option Nat) (σ : xS) (K : Int32 → xH → Prop) : Prop :=
  ((0 ≤ x0 → ((((0 : Int32) = 0 → (xwhile (B_J15_getChars_2_22 κ (fun e1 σ2 => xai .byte σ2 (κ 3) (-e1.1) fun v3 => xcall (fun τ L => P_J15_putChar κ x2 (e1.2 + (-1 : Int32)) v3 τ L) σ2 fun _ σ4 => (((-9 : Int32) ≤ e1.1 → ((((0 : Int32) = 0 → (K (e1.2 + (-1 : Int32)) σ4.1)) ∧ (¬ (0 : Int32) = 0 → (xcall (fun τ L => P_J15_putChar κ x2 (e1.2 + (-1 : Int32) + (-1 : Int32)) (45 : Int32) τ L) σ4 fun _ σ5 => K (e1.2 + (-1 : Int32) + (-1 : Int32)) σ5.1))))) ∧ (¬ (-9 : Int32) ≤ e1.1 → (xai .byte σ4 (κ 4) (-e1.1) fun v6 => xcall (fun τ L => P_J15_putChar κ x2 (e1.2 + (-1 : Int32) + (-1 : Int32)) v6 τ L) σ4 fun _ σ7 => (((0 : Int32) = 0 → (K (e1.2 + (-1 : Int32) + (-1 : Int32)) σ7.1)) ∧ (¬ (0 : Int32) = 0 → (xcall (fun τ L => P_J15_putChar κ x2 (e1.2 + (-1 : Int32) + (-1 : Int32) + (-1 : Int32)) (45 : Int32) τ L) σ7 fun _ σ8 => K (e1.2 + (-1 : Int32) + (-1 : Int32) + (-1 : Int32)) σ8.1))))))) x2 (0 : Int32)) ((-x0), x1) σ)) ∧ (¬ (0 : Int32) = 0 → (xwhile (B_J15_getChars_2_22 κ (fun e9 σ10 => xai .byte σ10 (κ 3) (-e9.1) fun v11 => xcall (fun τ L => P_J15_putChar κ x2 (e9.2 + (-1 : Int32)) v11 τ L) σ10 fun _ σ12 => (((-9 : Int32) ≤ e9.1 → ((((0 : Int32) = 0 → (K (e9.2 + (-1 : Int32)) σ12.1)) ∧ (¬ (0 : Int32) = 0 → (xcall (fun τ L => P_J15_putChar κ x2 (e9.2 + (-1 : Int32) + (-1 : Int32)) (45 : Int32) τ L) σ12 fun _ σ13 => K (e9.2 + (-1 : Int32) + (-1 : Int32)) σ13.1))))) ∧ (¬ (-9 : Int32) ≤ e9.1 → (xai .byte σ12 (κ 4) (-e9.1) fun v14 => xcall (fun τ L => P_J15_putChar κ x2 (e9.2 + (-1 : Int32) + (-1 : Int32)) v14 τ L) σ12 fun _ σ15 => (((0 : Int32) = 0 → (K (e9.2 + (-1 : Int32) + (-1 : Int32)) σ15.1)) ∧ (¬ (0 : Int32) = 0 → (xcall (fun τ L => P_J15_putChar κ x2 (e9.2 + (-1 : Int32) + (-1 : Int32) + (-1 : Int32)) (45 : Int32) τ L) σ15 fun _ σ16 => K (e9.2 + (-1 : Int32) + (-1 : Int32) + (-1 : Int32)) σ16.1))))))) x2 (0 : Int32)) (x0, x1) σ))))) ∧ (¬ 0 ≤ x0 → ((((1 : Int32) = 0 → (xwhile (B_J15_getChars_2_22 κ (fun e17 σ18 => xai .byte σ18 (κ 3) (-e17.1) fun v19 => xcall (fun τ L => P_J15_putChar κ x2 (e17.2 + (-1 : Int32)) v19 τ L) σ18 fun _ σ20 => (((-9 : Int32) ≤ e17.1 → ((((1 : Int32) = 0 → (K (e17.2 + (-1 : Int32)) σ20.1)) ∧ (¬ (1 : Int32) = 0 → (xcall (fun τ L => P_J15_putChar κ x2 (e17.2 + (-1 : Int32) + (-1 : Int32)) (45 : Int32) τ L) σ20 fun _ σ21 => K (e17.2 + (-1 : Int32) + (-1 : Int32)) σ21.1))))) ∧ (¬ (-9 : Int32) ≤ e17.1 → (xai .byte σ20 (κ 4) (-e17.1) fun v22 => xcall (fun τ L => P_J15_putChar κ x2 (e17.2 + (-1 : Int32) + (-1 : Int32)) v22 τ L) σ20 fun _ σ23 => (((1 : Int32) = 0 → (K (e17.2 + (-1 : Int32) + (-1 : Int32)) σ23.1)) ∧ (¬ (1 : Int32) = 0 → (xcall (fun τ L => P_J15_putChar κ x2 (e17.2 + (-1 : Int32) + (-1 : Int32) + (-1 : Int32)) (45 : Int32) τ L) σ23 fun _ σ24 => K (e17.2 + (-1 : Int32) + (-1 : Int32) + (-1 : Int32)) σ24.1))))))) x2 (1 : Int32)) ((-x0), x1) σ)) ∧ (¬ (1 : Int32) = 0 → (xwhile (B_J15_getChars_2_22 κ (fun e25 σ26 => xai .byte σ26 (κ 3) (-e25.1) fun v27 => xcall (fun τ L => P_J15_putChar κ x2 (e25.2 + (-1 : Int32)) v27 τ L) σ26 fun _ σ28 => (((-9 : Int32) ≤ e25.1 → ((((1 : Int32) = 0 → (K (e25.2 + (-1 : Int32)) σ28.1)) ∧ (¬ (1 : Int32) = 0 → (xcall (fun τ L => P_J15_putChar κ x2 (e25.2 + (-1 : Int32) + (-1 : Int32)) (45 : Int32) τ L) σ28 fun _ σ29 => K (e25.2 + (-1 : Int32) + (-1 : Int32)) σ29.1))))) ∧ (¬ (-9 : Int32) ≤ e25.1 → (xai .byte σ28 (κ 4) (-e25.1) fun v30 => xcall (fun τ L => P_J15_putChar κ x2 (e25.2 + (-1 : Int32) + (-1 : Int32)) v30 τ L) σ28 fun _ σ31 => (((1 : Int32) = 0 → (K (e25.2 + (-1 : Int32) + (-1 : Int32)) σ31.1)) ∧ (¬ (1 : Int32) = 0 → (xcall (fun τ L => P_J15_putChar κ x2 (e25.2 + (-1 : Int32) + (-1 : Int32) + (-1 : Int32)) (45 : Int32) τ L) σ31 fun _ σ32 => K (e25.2 + (-1 : Int32) + (-1 : Int32) + (-1 : Int32)) σ32.1))))))) x2 (1 : Int32)) (x0, x1) σ))))))
theorem mdJ15_getChars_2 : yJ15_getChars_2.cls ≠ "java/lang/invoke/MethodHandle" ∧ yJ15_getChars_2.cls ≠ "java/lang/invoke/VarHandle" ∧ (parseMethodDescriptor yJ15_getChars_2.desc).map (fun d => d.parameters.length) = some 3 := by decide +kernel
set_option maxHeartbeats 4000000 in
set_option maxRecDepth 100000 in
theorem R_J15_getChars_2 (l : Launch) (hl : l.stackTraces = false) (G : xG) (hG : G.1.2 = x_cl) (x0 : Int32) (x1 : Int32) (x2 : Option Nat) (σ : xS) (K : Int32 → xH → Prop) (hp : P_J15_getChars_2 G.2 x0 x1 x2 σ K) : xM l yJ15_getChars_2 cJ15_getChars_2 7 (Option.some Jvm.ClassFile.FieldType.int) 2 42 G [.int x0, .int x1, va_rf x2] σ (xlift emI K) := by
  refine x_entry (by decide) (by simp [lg_sl, x_catq, x_cati, x_catr, x_catn]) ?_
  intro p e s m args below meth c X hr hin
  have X : xX p s m args meth c G cJ15_getChars_2 7 RJ15 := X
  have hx := X.1
  have hb := X.2.1
  have hts := X.2.2.2.2.1
  have hown := X.2.2.2.1
  unfold P_J15_getChars_2 at hp
  refine x_same (lo' := [(0, .int x0), (1, .int x1), (2, va_rf x2)]) (by simp [lv_args, x_catq, x_cati, x_catr, x_catn]) ?_
  refine x_up (pc' := 1) (fun _ _ _ _ _ L => lv_iload_n hx hb dJ15_getChars_2_0 rfl (lv_at L 1 rfl)) ?_
  refine x_upL (pc' := 3) (lo' := [(5, .int x1), (0, .int x0), (1, .int x1), (2, va_rf x2)]) (fun _ _ _ _ _ L => lv_istore hx hb dJ15_getChars_2_1 L (by decide) rfl) ?_
  refine x_up (pc' := 4) (fun _ _ _ _ _ L => lv_iload_n hx hb dJ15_getChars_2_3 rfl (lv_at L 1 rfl)) ?_
  refine x_if (C := 0 ≤ x0) (pt := 11) (pc' := 7) (fun _ _ _ _ _ => lv_if_ge (tgt := 11) hx hb dJ15_getChars_2_4 (by decide)) (fun c4 => ?_) (fun c4 => ?_)
  · have hp1 := hp.1 c4
    refine x_up (pc' := 12) (fun _ _ _ _ _ L => lv_iconst (v := (0 : Int32)) hx hb dJ15_getChars_2_11 (by decide)) ?_
    refine x_upL (pc' := 14) (lo' := [(6, .int (0 : Int32)), (5, .int x1), (0, .int x0), (1, .int x1), (2, va_rf x2)]) (fun _ _ _ _ _ L => lv_istore hx hb dJ15_getChars_2_12 L (by decide) rfl) ?_
    refine x_up (pc' := 16) (fun _ _ _ _ _ L => lv_iload hx hb dJ15_getChars_2_14 (lv_at L 0 rfl)) ?_
    refine x_ifn (C := (0 : Int32) = 0) (pt := 22) (pc' := 19) (fun _ _ _ _ _ => lv_if_ne (tgt := 22) hx hb dJ15_getChars_2_16 (by decide)) (fun c16 => ?_) (fun c16 => ?_)
    · have hp2 := hp1.1 c16
      refine x_up (pc' := 20) (fun _ _ _ _ _ L => lv_iload_n hx hb dJ15_getChars_2_19 rfl (lv_at L 2 rfl)) ?_
      refine x_up (pc' := 21) (fun _ _ _ _ _ L => lv_ineg hx hb dJ15_getChars_2_20) ?_
      refine x_upL (pc' := 22) (lo' := [(0, .int (-x0)), (6, .int (0 : Int32)), (5, .int x1), (1, .int x1), (2, va_rf x2)]) (fun _ _ _ _ _ L => lv_istore_n hx hb dJ15_getChars_2_21 rfl L (by decide) rfl) ?_
      refine x_lo (lo' := [(0, .int (-x0)), (5, .int x1), (2, va_rf x2), (6, .int (0 : Int32))]) [0, 2, 4, 1] rfl ?_
      refine x_while (v0 := ((-x0), x1)) (fun w1 => [(0, .int w1.1), (5, .int w1.2), (2, va_rf x2), (6, .int (0 : Int32))]) hp2 (fun self2 hself3 => ?_)
      rintro ⟨y5, y6⟩ σ4 hp3
      unfold B_J15_getChars_2_22 at hp3
      refine x_same (lo' := [(0, .int y5), (5, .int y6), (2, va_rf x2), (6, .int (0 : Int32))]) rfl ?_
      refine x_up (pc' := 23) (fun _ _ _ _ _ L => lv_iload_n hx hb dJ15_getChars_2_22 rfl (lv_at L 0 rfl)) ?_
      refine x_up (pc' := 25) (fun _ _ _ _ _ L => lv_bipush (v := (-100 : Int32)) hx hb dJ15_getChars_2_23 (by decide)) ?_
      refine x_if (C := (-100 : Int32) < y5) (pt := 76) (pc' := 28) (fun _ _ _ _ _ => lv_icmp_gt (tgt := 76) hx hb dJ15_getChars_2_25 (by decide)) (fun c25 => ?_) (fun c25 => ?_)
      · have hp4 := hp3.1 c25
        refine x_up (pc' := 77) (fun _ _ _ _ _ L => lv_aloadq_n hx hb dJ15_getChars_2_76 rfl (lv_at L 2 rfl)) ?_
        refine x_upL (pc' := 80) (lo' := [(5, .int (y6 + (-1 : Int32))), (0, .int y5), (2, va_rf x2), (6, .int (0 : Int32))]) (fun _ _ _ _ _ L => lv_iinc (v := y6 + (-1 : Int32)) hx hb dJ15_getChars_2_77 L (k := 1) rfl rfl (by decide) rfl) ?_
        refine x_up (pc' := 82) (fun _ _ _ _ _ L => lv_iload hx hb dJ15_getChars_2_80 (lv_at L 0 rfl)) ?_
        refine x_gets (C := "java/lang/Integer") (n := "DigitOnes") (d := "[B") (v := .ref (G.2 3)) X (by simp [x_sts]) q989 (fun _ h => h) dJ15_getChars_2_82 ?_
        refine x_pc (pc' := 85) rfl ?_
        refine x_up (pc' := 86) (fun _ _ _ _ _ L => lv_iload_n hx hb dJ15_getChars_2_85 rfl (lv_at L 1 rfl)) ?_
        refine x_up (pc' := 87) (fun _ _ _ _ _ L => lv_ineg hx hb dJ15_getChars_2_86) ?_
        refine x_bald X dJ15_getChars_2_87 hp4 (fun v7 hp5 => ?_)
        refine x_pc (pc' := 88) rfl ?_
        refine x_callS (em := emV) (fun r st => st) (fun _ _ => rfl) 3 X (fun σ' KK h => R_J15_putChar l hl G hG x2 (y6 + (-1 : Int32)) v7 σ' KK h) (lw_S q915 q916 q118 q917) mdJ15_putChar ⟨Nat.le_of_ble_eq_true rfl, Nat.le_of_ble_eq_true rfl⟩ rfl rfl (Nat.le_of_ble_eq_true rfl) dJ15_getChars_2_88 hp5 (fun _ σ8 hp6 => ?_)
        refine x_pc (pc' := 91) rfl ?_
        refine x_up (pc' := 92) (fun _ _ _ _ _ L => lv_iload_n hx hb dJ15_getChars_2_91 rfl (lv_at L 1 rfl)) ?_
        refine x_up (pc' := 94) (fun _ _ _ _ _ L => lv_bipush (v := (-9 : Int32)) hx hb dJ15_getChars_2_92 (by decide)) ?_
        refine x_if (C := (-9 : Int32) ≤ y5) (pt := 112) (pc' := 97) (fun _ _ _ _ _ => lv_icmp_ge (tgt := 112) hx hb dJ15_getChars_2_94 (by decide)) (fun c94 => ?_) (fun c94 => ?_)
        · have hp7 := hp6.1 c94
          refine x_up (pc' := 114) (fun _ _ _ _ _ L => lv_iload hx hb dJ15_getChars_2_112 (lv_at L 3 rfl)) ?_
          refine x_if (C := (0 : Int32) = 0) (pt := 128) (pc' := 117) (fun _ _ _ _ _ => lv_if_eq (tgt := 128) hx hb dJ15_getChars_2_114 (by decide)) (fun c114 => ?_) (fun c114 => ?_)
          · have hp8 := hp7.1 c114
            refine x_up (pc' := 130) (fun _ _ _ _ _ L => lv_iload hx hb dJ15_getChars_2_128 (lv_at L 0 rfl)) ?_
            exact x_iret X hr rfl dJ15_getChars_2_130 hp8
          · have hp9 := hp7.2 c114
            refine x_up (pc' := 118) (fun _ _ _ _ _ L => lv_aloadq_n hx hb dJ15_getChars_2_117 rfl (lv_at L 2 rfl)) ?_
            refine x_upL (pc' := 121) (lo' := [(5, .int (y6 + (-1 : Int32) + (-1 : Int32))), (0, .int y5), (2, va_rf x2), (6, .int (0 : Int32))]) (fun _ _ _ _ _ L => lv_iinc (v := y6 + (-1 : Int32) + (-1 : Int32)) hx hb dJ15_getChars_2_118 L (k := 0) rfl rfl (by decide) rfl) ?_
            refine x_up (pc' := 123) (fun _ _ _ _ _ L => lv_iload hx hb dJ15_getChars_2_121 (lv_at L 0 rfl)) ?_
            refine x_up (pc' := 125) (fun _ _ _ _ _ L => lv_bipush (v := (45 : Int32)) hx hb dJ15_getChars_2_123 (by decide)) ?_
            refine x_callS (em := emV) (fun r st => st) (fun _ _ => rfl) 3 X (fun σ' KK h => R_J15_putChar l hl G hG x2 (y6 + (-1 : Int32) + (-1 : Int32)) (45 : Int32) σ' KK h) (lw_S q915 q916 q118 q917) mdJ15_putChar ⟨Nat.le_of_ble_eq_true rfl, Nat.le_of_ble_eq_true rfl⟩ rfl rfl (Nat.le_of_ble_eq_true rfl) dJ15_getChars_2_125 hp9 (fun _ σ9 hp10 => ?_)
            refine x_pc (pc' := 128) rfl ?_
            refine x_up (pc' := 130) (fun _ _ _ _ _ L => lv_iload hx hb dJ15_getChars_2_128 (lv_at L 0 rfl)) ?_
            exact x_iret X hr rfl dJ15_getChars_2_130 hp10
        · have hp11 := hp6.2 c94
          refine x_up (pc' := 98) (fun _ _ _ _ _ L => lv_aloadq_n hx hb dJ15_getChars_2_97 rfl (lv_at L 2 rfl)) ?_
          refine x_upL (pc' := 101) (lo' := [(5, .int (y6 + (-1 : Int32) + (-1 : Int32))), (0, .int y5), (2, va_rf x2), (6, .int (0 : Int32))]) (fun _ _ _ _ _ L => lv_iinc (v := y6 + (-1 : Int32) + (-1 : Int32)) hx hb dJ15_getChars_2_98 L (k := 0) rfl rfl (by decide) rfl) ?_
          refine x_up (pc' := 103) (fun _ _ _ _ _ L => lv_iload hx hb dJ15_getChars_2_101 (lv_at L 0 rfl)) ?_
          refine x_gets (C := "java/lang/Integer") (n := "DigitTens") (d := "[B") (v := .ref (G.2 4)) X (by simp [x_sts]) q990 (fun _ h => h) dJ15_getChars_2_103 ?_
          refine x_pc (pc' := 106) rfl ?_
          refine x_up (pc' := 107) (fun _ _ _ _ _ L => lv_iload_n hx hb dJ15_getChars_2_106 rfl (lv_at L 1 rfl)) ?_
          refine x_up (pc' := 108) (fun _ _ _ _ _ L => lv_ineg hx hb dJ15_getChars_2_107) ?_
          refine x_bald X dJ15_getChars_2_108 hp11 (fun v10 hp12 => ?_)
          refine x_pc (pc' := 109) rfl ?_
          refine x_callS (em := emV) (fun r st => st) (fun _ _ => rfl) 3 X (fun σ' KK h => R_J15_putChar l hl G hG x2 (y6 + (-1 : Int32) + (-1 : Int32)) v10 σ' KK h) (lw_S q915 q916 q118 q917) mdJ15_putChar ⟨Nat.le_of_ble_eq_true rfl, Nat.le_of_ble_eq_true rfl⟩ rfl rfl (Nat.le_of_ble_eq_true rfl) dJ15_getChars_2_109 hp12 (fun _ σ11 hp13 => ?_)
          refine x_pc (pc' := 112) rfl ?_
          refine x_up (pc' := 114) (fun _ _ _ _ _ L => lv_iload hx hb dJ15_getChars_2_112 (lv_at L 3 rfl)) ?_
          refine x_if (C := (0 : Int32) = 0) (pt := 128) (pc' := 117) (fun _ _ _ _ _ => lv_if_eq (tgt := 128) hx hb dJ15_getChars_2_114 (by decide)) (fun c114 => ?_) (fun c114 => ?_)
          · have hp14 := hp13.1 c114
            refine x_up (pc' := 130) (fun _ _ _ _ _ L => lv_iload hx hb dJ15_getChars_2_128 (lv_at L 0 rfl)) ?_
            exact x_iret X hr rfl dJ15_getChars_2_130 hp14
          · have hp15 := hp13.2 c114
            refine x_up (pc' := 118) (fun _ _ _ _ _ L => lv_aloadq_n hx hb dJ15_getChars_2_117 rfl (lv_at L 2 rfl)) ?_
            refine x_upL (pc' := 121) (lo' := [(5, .int (y6 + (-1 : Int32) + (-1 : Int32) + (-1 : Int32))), (0, .int y5), (2, va_rf x2), (6, .int (0 : Int32))]) (fun _ _ _ _ _ L => lv_iinc (v := y6 + (-1 : Int32) + (-1 : Int32) + (-1 : Int32)) hx hb dJ15_getChars_2_118 L (k := 0) rfl rfl (by decide) rfl) ?_
            refine x_up (pc' := 123) (fun _ _ _ _ _ L => lv_iload hx hb dJ15_getChars_2_121 (lv_at L 0 rfl)) ?_
            refine x_up (pc' := 125) (fun _ _ _ _ _ L => lv_bipush (v := (45 : Int32)) hx hb dJ15_getChars_2_123 (by decide)) ?_
            refine x_callS (em := emV) (fun r st => st) (fun _ _ => rfl) 3 X (fun σ' KK h => R_J15_putChar l hl G hG x2 (y6 + (-1 : Int32) + (-1 : Int32) + (-1 : Int32)) (45 : Int32) σ' KK h) (lw_S q915 q916 q118 q917) mdJ15_putChar ⟨Nat.le_of_ble_eq_true rfl, Nat.le_of_ble_eq_true rfl⟩ rfl rfl (Nat.le_of_ble_eq_true rfl) dJ15_getChars_2_125 hp15 (fun _ σ12 hp16 => ?_)
            refine x_pc (pc' := 128) rfl ?_
            refine x_up (pc' := 130) (fun _ _ _ _ _ L => lv_iload hx hb dJ15_getChars_2_128 (lv_at L 0 rfl)) ?_
            exact x_iret X hr rfl dJ15_getChars_2_130 hp16
      · have hp17 := hp3.2 c25
        refine x_up (pc' := 29) (fun _ _ _ _ _ L => lv_iload_n hx hb dJ15_getChars_2_28 rfl (lv_at L 0 rfl)) ?_
        refine x_up (pc' := 31) (fun _ _ _ _ _ L => lv_bipush (v := (100 : Int32)) hx hb dJ15_getChars_2_29 (by decide)) ?_
        refine x_up (pc' := 32) (fun _ _ _ _ _ L => lv_idiv hx hb dJ15_getChars_2_31 (by decide)) ?_
        refine x_st (pc' := 33) ([(3, .int (y5 / (100 : Int32))), (0, .int y5), (5, .int y6), (2, va_rf x2), (6, .int (0 : Int32))]) rfl (by simp [x_catq, x_cati, x_catr, x_catn]) (fun _ _ _ _ _ L => lv_istore_n hx hb dJ15_getChars_2_32 rfl L (by decide) rfl) ?_
        refine x_up (pc' := 34) (fun _ _ _ _ _ L => lv_iload_n hx hb dJ15_getChars_2_33 rfl (lv_at L 0 rfl)) ?_
        refine x_up (pc' := 36) (fun _ _ _ _ _ L => lv_bipush (v := (100 : Int32)) hx hb dJ15_getChars_2_34 (by decide)) ?_
        refine x_up (pc' := 37) (fun _ _ _ _ _ L => lv_imul hx hb dJ15_getChars_2_36) ?_
        refine x_up (pc' := 38) (fun _ _ _ _ _ L => lv_iload_n hx hb dJ15_getChars_2_37 rfl (lv_at L 1 rfl)) ?_
        refine x_up (pc' := 39) (fun _ _ _ _ _ L => lv_isub hx hb dJ15_getChars_2_38) ?_
        refine x_upL (pc' := 41) (lo' := [(4, .int (((y5 / (100 : Int32)) * (100 : Int32)) - y5)), (3, .int (y5 / (100 : Int32))), (0, .int y5), (5, .int y6), (2, va_rf x2), (6, .int (0 : Int32))]) (fun _ _ _ _ _ L => lv_istore hx hb dJ15_getChars_2_39 L (by decide) rfl) ?_
        refine x_up (pc' := 42) (fun _ _ _ _ _ L => lv_iload_n hx hb dJ15_getChars_2_41 rfl (lv_at L 1 rfl)) ?_
        refine x_upL (pc' := 43) (lo' := [(0, .int (y5 / (100 : Int32))), (4, .int (((y5 / (100 : Int32)) * (100 : Int32)) - y5)), (3, .int (y5 / (100 : Int32))), (5, .int y6), (2, va_rf x2), (6, .int (0 : Int32))]) (fun _ _ _ _ _ L => lv_istore_n hx hb dJ15_getChars_2_42 rfl L (by decide) rfl) ?_
        refine x_up (pc' := 44) (fun _ _ _ _ _ L => lv_aloadq_n hx hb dJ15_getChars_2_43 rfl (lv_at L 4 rfl)) ?_
        refine x_upL (pc' := 47) (lo' := [(5, .int (y6 + (-1 : Int32))), (0, .int (y5 / (100 : Int32))), (4, .int (((y5 / (100 : Int32)) * (100 : Int32)) - y5)), (3, .int (y5 / (100 : Int32))), (2, va_rf x2), (6, .int (0 : Int32))]) (fun _ _ _ _ _ L => lv_iinc (v := y6 + (-1 : Int32)) hx hb dJ15_getChars_2_44 L (k := 3) rfl rfl (by decide) rfl) ?_
        refine x_up (pc' := 49) (fun _ _ _ _ _ L => lv_iload hx hb dJ15_getChars_2_47 (lv_at L 0 rfl)) ?_
        refine x_gets (C := "java/lang/Integer") (n := "DigitOnes") (d := "[B") (v := .ref (G.2 3)) X (by simp [x_sts]) q989 (fun _ h => h) dJ15_getChars_2_49 ?_
        refine x_pc (pc' := 52) rfl ?_
        refine x_up (pc' := 54) (fun _ _ _ _ _ L => lv_iload hx hb dJ15_getChars_2_52 (lv_at L 2 rfl)) ?_
        refine x_bald X dJ15_getChars_2_54 hp17 (fun v13 hp18 => ?_)
        refine x_pc (pc' := 55) rfl ?_
        refine x_callS (em := emV) (fun r st => st) (fun _ _ => rfl) 3 X (fun σ' KK h => R_J15_putChar l hl G hG x2 (y6 + (-1 : Int32)) v13 σ' KK h) (lw_S q915 q916 q118 q917) mdJ15_putChar ⟨Nat.le_of_ble_eq_true rfl, Nat.le_of_ble_eq_true rfl⟩ rfl rfl (Nat.le_of_ble_eq_true rfl) dJ15_getChars_2_55 hp18 (fun _ σ14 hp19 => ?_)
        refine x_pc (pc' := 58) rfl ?_
        refine x_up (pc' := 59) (fun _ _ _ _ _ L => lv_aloadq_n hx hb dJ15_getChars_2_58 rfl (lv_at L 4 rfl)) ?_
        refine x_upL (pc' := 62) (lo' := [(5, .int (y6 + (-1 : Int32) + (-1 : Int32))), (0, .int (y5 / (100 : Int32))), (4, .int (((y5 / (100 : Int32)) * (100 : Int32)) - y5)), (3, .int (y5 / (100 : Int32))), (2, va_rf x2), (6, .int (0 : Int32))]) (fun _ _ _ _ _ L => lv_iinc (v := y6 + (-1 : Int32) + (-1 : Int32)) hx hb dJ15_getChars_2_59 L (k := 0) rfl rfl (by decide) rfl) ?_
        refine x_up (pc' := 64) (fun _ _ _ _ _ L => lv_iload hx hb dJ15_getChars_2_62 (lv_at L 0 rfl)) ?_
        refine x_gets (C := "java/lang/Integer") (n := "DigitTens") (d := "[B") (v := .ref (G.2 4)) X (by simp [x_sts]) q990 (fun _ h => h) dJ15_getChars_2_64 ?_
        refine x_pc (pc' := 67) rfl ?_
        refine x_up (pc' := 69) (fun _ _ _ _ _ L => lv_iload hx hb dJ15_getChars_2_67 (lv_at L 2 rfl)) ?_
        refine x_bald X dJ15_getChars_2_69 hp19 (fun v15 hp20 => ?_)
        refine x_pc (pc' := 70) rfl ?_
        refine x_callS (em := emV) (fun r st => st) (fun _ _ => rfl) 3 X (fun σ' KK h => R_J15_putChar l hl G hG x2 (y6 + (-1 : Int32) + (-1 : Int32)) v15 σ' KK h) (lw_S q915 q916 q118 q917) mdJ15_putChar ⟨Nat.le_of_ble_eq_true rfl, Nat.le_of_ble_eq_true rfl⟩ rfl rfl (Nat.le_of_ble_eq_true rfl) dJ15_getChars_2_70 hp20 (fun _ σ16 hp21 => ?_)
        refine x_pc (pc' := 73) rfl ?_
        refine x_up (pc' := 22) (fun _ _ _ _ _ L => lv_goto (tgt := 22) hx hb dJ15_getChars_2_73 (by decide)) ?_
        refine x_lo (lo' := [(0, .int (y5 / (100 : Int32))), (5, .int (y6 + (-1 : Int32) + (-1 : Int32))), (2, va_rf x2), (6, .int (0 : Int32))]) [1, 0, 4, 5] rfl ?_
        exact hself3 ((y5 / (100 : Int32)), (y6 + (-1 : Int32) + (-1 : Int32))) σ16 hp21
    · have hp22 := hp1.2 c16
      refine x_lo (lo' := [(0, .int x0), (5, .int x1), (2, va_rf x2), (6, .int (0 : Int32))]) [2, 1, 4, 0] rfl ?_
      refine x_while (v0 := (x0, x1)) (fun w17 => [(0, .int w17.1), (5, .int w17.2), (2, va_rf x2), (6, .int (0 : Int32))]) hp22 (fun self18 hself19 => ?_)
      rintro ⟨y21, y22⟩ σ20 hp23
      unfold B_J15_getChars_2_22 at hp23
      refine x_same (lo' := [(0, .int y21), (5, .int y22), (2, va_rf x2), (6, .int (0 : Int32))]) rfl ?_
      refine x_up (pc' := 23) (fun _ _ _ _ _ L => lv_iload_n hx hb dJ15_getChars_2_22 rfl (lv_at L 0 rfl)) ?_
      refine x_up (pc' := 25) (fun _ _ _ _ _ L => lv_bipush (v := (-100 : Int32)) hx hb dJ15_getChars_2_23 (by decide)) ?_
      refine x_if (C := (-100 : Int32) < y21) (pt := 76) (pc' := 28) (fun _ _ _ _ _ => lv_icmp_gt (tgt := 76) hx hb dJ15_getChars_2_25 (by decide)) (fun c25 => ?_) (fun c25 => ?_)
      · have hp24 := hp23.1 c25
        refine x_up (pc' := 77) (fun _ _ _ _ _ L => lv_aloadq_n hx hb dJ15_getChars_2_76 rfl (lv_at L 2 rfl)) ?_
        refine x_upL (pc' := 80) (lo' := [(5, .int (y22 + (-1 : Int32))), (0, .int y21), (2, va_rf x2), (6, .int (0 : Int32))]) (fun _ _ _ _ _ L => lv_iinc (v := y22 + (-1 : Int32)) hx hb dJ15_getChars_2_77 L (k := 1) rfl rfl (by decide) rfl) ?_
        refine x_up (pc' := 82) (fun _ _ _ _ _ L => lv_iload hx hb dJ15_getChars_2_80 (lv_at L 0 rfl)) ?_
        refine x_gets (C := "java/lang/Integer") (n := "DigitOnes") (d := "[B") (v := .ref (G.2 3)) X (by simp [x_sts]) q989 (fun _ h => h) dJ15_getChars_2_82 ?_
        refine x_pc (pc' := 85) rfl ?_
        refine x_up (pc' := 86) (fun _ _ _ _ _ L => lv_iload_n hx hb dJ15_getChars_2_85 rfl (lv_at L 1 rfl)) ?_
        refine x_up (pc' := 87) (fun _ _ _ _ _ L => lv_ineg hx hb dJ15_getChars_2_86) ?_
        refine x_bald X dJ15_getChars_2_87 hp24 (fun v23 hp25 => ?_)
        refine x_pc (pc' := 88) rfl ?_
        refine x_callS (em := emV) (fun r st => st) (fun _ _ => rfl) 3 X (fun σ' KK h => R_J15_putChar l hl G hG x2 (y22 + (-1 : Int32)) v23 σ' KK h) (lw_S q915 q916 q118 q917) mdJ15_putChar ⟨Nat.le_of_ble_eq_true rfl, Nat.le_of_ble_eq_true rfl⟩ rfl rfl (Nat.le_of_ble_eq_true rfl) dJ15_getChars_2_88 hp25 (fun _ σ24 hp26 => ?_)
        refine x_pc (pc' := 91) rfl ?_
        refine x_up (pc' := 92) (fun _ _ _ _ _ L => lv_iload_n hx hb dJ15_getChars_2_91 rfl (lv_at L 1 rfl)) ?_
        refine x_up (pc' := 94) (fun _ _ _ _ _ L => lv_bipush (v := (-9 : Int32)) hx hb dJ15_getChars_2_92 (by decide)) ?_
        refine x_if (C := (-9 : Int32) ≤ y21) (pt := 112) (pc' := 97) (fun _ _ _ _ _ => lv_icmp_ge (tgt := 112) hx hb dJ15_getChars_2_94 (by decide)) (fun c94 => ?_) (fun c94 => ?_)
        · have hp27 := hp26.1 c94
          refine x_up (pc' := 114) (fun _ _ _ _ _ L => lv_iload hx hb dJ15_getChars_2_112 (lv_at L 3 rfl)) ?_
          refine x_if (C := (0 : Int32) = 0) (pt := 128) (pc' := 117) (fun _ _ _ _ _ => lv_if_eq (tgt := 128) hx hb dJ15_getChars_2_114 (by decide)) (fun c114 => ?_) (fun c114 => ?_)
          · have hp28 := hp27.1 c114
            refine x_up (pc' := 130) (fun _ _ _ _ _ L => lv_iload hx hb dJ15_getChars_2_128 (lv_at L 0 rfl)) ?_
            exact x_iret X hr rfl dJ15_getChars_2_130 hp28
          · have hp29 := hp27.2 c114
            refine x_up (pc' := 118) (fun _ _ _ _ _ L => lv_aloadq_n hx hb dJ15_getChars_2_117 rfl (lv_at L 2 rfl)) ?_
            refine x_upL (pc' := 121) (lo' := [(5, .int (y22 + (-1 : Int32) + (-1 : Int32))), (0, .int y21), (2, va_rf x2), (6, .int (0 : Int32))]) (fun _ _ _ _ _ L => lv_iinc (v := y22 + (-1 : Int32) + (-1 : Int32)) hx hb dJ15_getChars_2_118 L (k := 0) rfl rfl (by decide) rfl) ?_
            refine x_up (pc' := 123) (fun _ _ _ _ _ L => lv_iload hx hb dJ15_getChars_2_121 (lv_at L 0 rfl)) ?_
            refine x_up (pc' := 125) (fun _ _ _ _ _ L => lv_bipush (v := (45 : Int32)) hx hb dJ15_getChars_2_123 (by decide)) ?_
            refine x_callS (em := emV) (fun r st => st) (fun _ _ => rfl) 3 X (fun σ' KK h => R_J15_putChar l hl G hG x2 (y22 + (-1 : Int32) + (-1 : Int32)) (45 : Int32) σ' KK h) (lw_S q915 q916 q118 q917) mdJ15_putChar ⟨Nat.le_of_ble_eq_true rfl, Nat.le_of_ble_eq_true rfl⟩ rfl rfl (Nat.le_of_ble_eq_true rfl) dJ15_getChars_2_125 hp29 (fun _ σ25 hp30 => ?_)
            refine x_pc (pc' := 128) rfl ?_
            refine x_up (pc' := 130) (fun _ _ _ _ _ L => lv_iload hx hb dJ15_getChars_2_128 (lv_at L 0 rfl)) ?_
            exact x_iret X hr rfl dJ15_getChars_2_130 hp30
        · have hp31 := hp26.2 c94
          refine x_up (pc' := 98) (fun _ _ _ _ _ L => lv_aloadq_n hx hb dJ15_getChars_2_97 rfl (lv_at L 2 rfl)) ?_
          refine x_upL (pc' := 101) (lo' := [(5, .int (y22 + (-1 : Int32) + (-1 : Int32))), (0, .int y21), (2, va_rf x2), (6, .int (0 : Int32))]) (fun _ _ _ _ _ L => lv_iinc (v := y22 + (-1 : Int32) + (-1 : Int32)) hx hb dJ15_getChars_2_98 L (k := 0) rfl rfl (by decide) rfl) ?_
          refine x_up (pc' := 103) (fun _ _ _ _ _ L => lv_iload hx hb dJ15_getChars_2_101 (lv_at L 0 rfl)) ?_
          refine x_gets (C := "java/lang/Integer") (n := "DigitTens") (d := "[B") (v := .ref (G.2 4)) X (by simp [x_sts]) q990 (fun _ h => h) dJ15_getChars_2_103 ?_
          refine x_pc (pc' := 106) rfl ?_
          refine x_up (pc' := 107) (fun _ _ _ _ _ L => lv_iload_n hx hb dJ15_getChars_2_106 rfl (lv_at L 1 rfl)) ?_
          refine x_up (pc' := 108) (fun _ _ _ _ _ L => lv_ineg hx hb dJ15_getChars_2_107) ?_
          refine x_bald X dJ15_getChars_2_108 hp31 (fun v26 hp32 => ?_)
          refine x_pc (pc' := 109) rfl ?_
          refine x_callS (em := emV) (fun r st => st) (fun _ _ => rfl) 3 X (fun σ' KK h => R_J15_putChar l hl G hG x2 (y22 + (-1 : Int32) + (-1 : Int32)) v26 σ' KK h) (lw_S q915 q916 q118 q917) mdJ15_putChar ⟨Nat.le_of_ble_eq_true rfl, Nat.le_of_ble_eq_true rfl⟩ rfl rfl (Nat.le_of_ble_eq_true rfl) dJ15_getChars_2_109 hp32 (fun _ σ27 hp33 => ?_)
          refine x_pc (pc' := 112) rfl ?_
          refine x_up (pc' := 114) (fun _ _ _ _ _ L => lv_iload hx hb dJ15_getChars_2_112 (lv_at L 3 rfl)) ?_
          refine x_if (C := (0 : Int32) = 0) (pt := 128) (pc' := 117) (fun _ _ _ _ _ => lv_if_eq (tgt := 128) hx hb dJ15_getChars_2_114 (by decide)) (fun c114 => ?_) (fun c114 => ?_)
          · have hp34 := hp33.1 c114
            refine x_up (pc' := 130) (fun _ _ _ _ _ L => lv_iload hx hb dJ15_getChars_2_128 (lv_at L 0 rfl)) ?_
            exact x_iret X hr rfl dJ15_getChars_2_130 hp34
          · have hp35 := hp33.2 c114
            refine x_up (pc' := 118) (fun _ _ _ _ _ L => lv_aloadq_n hx hb dJ15_getChars_2_117 rfl (lv_at L 2 rfl)) ?_
            refine x_upL (pc' := 121) (lo' := [(5, .int (y22 + (-1 : Int32) + (-1 : Int32) + (-1 : Int32))), (0, .int y21), (2, va_rf x2), (6, .int (0 : Int32))]) (fun _ _ _ _ _ L => lv_iinc (v := y22 + (-1 : Int32) + (-1 : Int32) + (-1 : Int32)) hx hb dJ15_getChars_2_118 L (k := 0) rfl rfl (by decide) rfl) ?_
            refine x_up (pc' := 123) (fun _ _ _ _ _ L => lv_iload hx hb dJ15_getChars_2_121 (lv_at L 0 rfl)) ?_
            refine x_up (pc' := 125) (fun _ _ _ _ _ L => lv_bipush (v := (45 : Int32)) hx hb dJ15_getChars_2_123 (by decide)) ?_
            refine x_callS (em := emV) (fun r st => st) (fun _ _ => rfl) 3 X (fun σ' KK h => R_J15_putChar l hl G hG x2 (y22 + (-1 : Int32) + (-1 : Int32) + (-1 : Int32)) (45 : Int32) σ' KK h) (lw_S q915 q916 q118 q917) mdJ15_putChar ⟨Nat.le_of_ble_eq_true rfl, Nat.le_of_ble_eq_true rfl⟩ rfl rfl (Nat.le_of_ble_eq_true rfl) dJ15_getChars_2_125 hp35 (fun _ σ28 hp36 => ?_)
            refine x_pc (pc' := 128) rfl ?_
            refine x_up (pc' := 130) (fun _ _ _ _ _ L => lv_iload hx hb dJ15_getChars_2_128 (lv_at L 0 rfl)) ?_
            exact x_iret X hr rfl dJ15_getChars_2_130 hp36
      · have hp37 := hp23.2 c25
        refine x_up (pc' := 29) (fun _ _ _ _ _ L => lv_iload_n hx hb dJ15_getChars_2_28 rfl (lv_at L 0 rfl)) ?_
        refine x_up (pc' := 31) (fun _ _ _ _ _ L => lv_bipush (v := (100 : Int32)) hx hb dJ15_getChars_2_29 (by decide)) ?_
        refine x_up (pc' := 32) (fun _ _ _ _ _ L => lv_idiv hx hb dJ15_getChars_2_31 (by decide)) ?_
        refine x_st (pc' := 33) ([(3, .int (y21 / (100 : Int32))), (0, .int y21), (5, .int y22), (2, va_rf x2), (6, .int (0 : Int32))]) rfl (by simp [x_catq, x_cati, x_catr, x_catn]) (fun _ _ _ _ _ L => lv_istore_n hx hb dJ15_getChars_2_32 rfl L (by decide) rfl) ?_
        refine x_up (pc' := 34) (fun _ _ _ _ _ L => lv_iload_n hx hb dJ15_getChars_2_33 rfl (lv_at L 0 rfl)) ?_
        refine x_up (pc' := 36) (fun _ _ _ _ _ L => lv_bipush (v := (100 : Int32)) hx hb dJ15_getChars_2_34 (by decide)) ?_
        refine x_up (pc' := 37) (fun _ _ _ _ _ L => lv_imul hx hb dJ15_getChars_2_36) ?_
        refine x_up (pc' := 38) (fun _ _ _ _ _ L => lv_iload_n hx hb dJ15_getChars_2_37 rfl (lv_at L 1 rfl)) ?_
        refine x_up (pc' := 39) (fun _ _ _ _ _ L => lv_isub hx hb dJ15_getChars_2_38) ?_
        refine x_upL (pc' := 41) (lo' := [(4, .int (((y21 / (100 : Int32)) * (100 : Int32)) - y21)), (3, .int (y21 / (100 : Int32))), (0, .int y21), (5, .int y22), (2, va_rf x2), (6, .int (0 : Int32))]) (fun _ _ _ _ _ L => lv_istore hx hb dJ15_getChars_2_39 L (by decide) rfl) ?_
        refine x_up (pc' := 42) (fun _ _ _ _ _ L => lv_iload_n hx hb dJ15_getChars_2_41 rfl (lv_at L 1 rfl)) ?_
        refine x_upL (pc' := 43) (lo' := [(0, .int (y21 / (100 : Int32))), (4, .int (((y21 / (100 : Int32)) * (100 : Int32)) - y21)), (3, .int (y21 / (100 : Int32))), (5, .int y22), (2, va_rf x2), (6, .int (0 : Int32))]) (fun _ _ _ _ _ L => lv_istore_n hx hb dJ15_getChars_2_42 rfl L (by decide) rfl) ?_
        refine x_up (pc' := 44) (fun _ _ _ _ _ L => lv_aloadq_n hx hb dJ15_getChars_2_43 rfl (lv_at L 4 rfl)) ?_
        refine x_upL (pc' := 47) (lo' := [(5, .int (y22 + (-1 : Int32))), (0, .int (y21 / (100 : Int32))), (4, .int (((y21 / (100 : Int32)) * (100 : Int32)) - y21)), (3, .int (y21 / (100 : Int32))), (2, va_rf x2), (6, .int (0 : Int32))]) (fun _ _ _ _ _ L => lv_iinc (v := y22 + (-1 : Int32)) hx hb dJ15_getChars_2_44 L (k := 3) rfl rfl (by decide) rfl) ?_
        refine x_up (pc' := 49) (fun _ _ _ _ _ L => lv_iload hx hb dJ15_getChars_2_47 (lv_at L 0 rfl)) ?_
        refine x_gets (C := "java/lang/Integer") (n := "DigitOnes") (d := "[B") (v := .ref (G.2 3)) X (by simp [x_sts]) q989 (fun _ h => h) dJ15_getChars_2_49 ?_
        refine x_pc (pc' := 52) rfl ?_
        refine x_up (pc' := 54) (fun _ _ _ _ _ L => lv_iload hx hb dJ15_getChars_2_52 (lv_at L 2 rfl)) ?_
        refine x_bald X dJ15_getChars_2_54 hp37 (fun v29 hp38 => ?_)
        refine x_pc (pc' := 55) rfl ?_
        refine x_callS (em := emV) (fun r st => st) (fun _ _ => rfl) 3 X (fun σ' KK h => R_J15_putChar l hl G hG x2 (y22 + (-1 : Int32)) v29 σ' KK h) (lw_S q915 q916 q118 q917) mdJ15_putChar ⟨Nat.le_of_ble_eq_true rfl, Nat.le_of_ble_eq_true rfl⟩ rfl rfl (Nat.le_of_ble_eq_true rfl) dJ15_getChars_2_55 hp38 (fun _ σ30 hp39 => ?_)
        refine x_pc (pc' := 58) rfl ?_
        refine x_up (pc' := 59) (fun _ _ _ _ _ L => lv_aloadq_n hx hb dJ15_getChars_2_58 rfl (lv_at L 4 rfl)) ?_
        refine x_upL (pc' := 62) (lo' := [(5, .int (y22 + (-1 : Int32) + (-1 : Int32))), (0, .int (y21 / (100 : Int32))), (4, .int (((y21 / (100 : Int32)) * (100 : Int32)) - y21)), (3, .int (y21 / (100 : Int32))), (2, va_rf x2), (6, .int (0 : Int32))]) (fun _ _ _ _ _ L => lv_iinc (v := y22 + (-1 : Int32) + (-1 : Int32)) hx hb dJ15_getChars_2_59 L (k := 0) rfl rfl (by decide) rfl) ?_
        refine x_up (pc' := 64) (fun _ _ _ _ _ L => lv_iload hx hb dJ15_getChars_2_62 (lv_at L 0 rfl)) ?_
        refine x_gets (C := "java/lang/Integer") (n := "DigitTens") (d := "[B") (v := .ref (G.2 4)) X (by simp [x_sts]) q990 (fun _ h => h) dJ15_getChars_2_64 ?_
        refine x_pc (pc' := 67) rfl ?_
        refine x_up (pc' := 69) (fun _ _ _ _ _ L => lv_iload hx hb dJ15_getChars_2_67 (lv_at L 2 rfl)) ?_
        refine x_bald X dJ15_getChars_2_69 hp39 (fun v31 hp40 => ?_)
        refine x_pc (pc' := 70) rfl ?_
        refine x_callS (em := emV) (fun r st => st) (fun _ _ => rfl) 3 X (fun σ' KK h => R_J15_putChar l hl G hG x2 (y22 + (-1 : Int32) + (-1 : Int32)) v31 σ' KK h) (lw_S q915 q916 q118 q917) mdJ15_putChar ⟨Nat.le_of_ble_eq_true rfl, Nat.le_of_ble_eq_true rfl⟩ rfl rfl (Nat.le_of_ble_eq_true rfl) dJ15_getChars_2_70 hp40 (fun _ σ32 hp41 => ?_)
        refine x_pc (pc' := 73) rfl ?_
        refine x_up (pc' := 22) (fun _ _ _ _ _ L => lv_goto (tgt := 22) hx hb dJ15_getChars_2_73 (by decide)) ?_
        refine x_lo (lo' := [(0, .int (y21 / (100 : Int32))), (5, .int (y22 + (-1 : Int32) + (-1 : Int32))), (2, va_rf x2), (6, .int (0 : Int32))]) [1, 0, 4, 5] rfl ?_
        exact hself19 ((y21 / (100 : Int32)), (y22 + (-1 : Int32) + (-1 : Int32))) σ32 hp41
  · have hp42 := hp.2 c4
    refine x_up (pc' := 8) (fun _ _ _ _ _ L => lv_iconst (v := (1 : Int32)) hx hb dJ15_getChars_2_7 (by decide)) ?_
    refine x_up (pc' := 12) (fun _ _ _ _ _ L => lv_goto (tgt := 12) hx hb dJ15_getChars_2_8 (by decide)) ?_
    refine x_upL (pc' := 14) (lo' := [(6, .int (1 : Int32)), (5, .int x1), (0, .int x0), (1, .int x1), (2, va_rf x2)]) (fun _ _ _ _ _ L => lv_istore hx hb dJ15_getChars_2_12 L (by decide) rfl) ?_
    refine x_up (pc' := 16) (fun _ _ _ _ _ L => lv_iload hx hb dJ15_getChars_2_14 (lv_at L 0 rfl)) ?_
    refine x_ifn (C := (1 : Int32) = 0) (pt := 22) (pc' := 19) (fun _ _ _ _ _ => lv_if_ne (tgt := 22) hx hb dJ15_getChars_2_16 (by decide)) (fun c16 => ?_) (fun c16 => ?_)
    · have hp43 := hp42.1 c16
      refine x_up (pc' := 20) (fun _ _ _ _ _ L => lv_iload_n hx hb dJ15_getChars_2_19 rfl (lv_at L 2 rfl)) ?_
      refine x_up (pc' := 21) (fun _ _ _ _ _ L => lv_ineg hx hb dJ15_getChars_2_20) ?_
      refine x_upL (pc' := 22) (lo' := [(0, .int (-x0)), (6, .int (1 : Int32)), (5, .int x1), (1, .int x1), (2, va_rf x2)]) (fun _ _ _ _ _ L => lv_istore_n hx hb dJ15_getChars_2_21 rfl L (by decide) rfl) ?_
      refine x_lo (lo' := [(0, .int (-x0)), (5, .int x1), (2, va_rf x2), (6, .int (1 : Int32))]) [0, 2, 4, 1] rfl ?_
      refine x_while (v0 := ((-x0), x1)) (fun w33 => [(0, .int w33.1), (5, .int w33.2), (2, va_rf x2), (6, .int (1 : Int32))]) hp43 (fun self34 hself35 => ?_)
      rintro ⟨y37, y38⟩ σ36 hp44
      unfold B_J15_getChars_2_22 at hp44
      refine x_same (lo' := [(0, .int y37), (5, .int y38), (2, va_rf x2), (6, .int (1 : Int32))]) rfl ?_
      refine x_up (pc' := 23) (fun _ _ _ _ _ L => lv_iload_n hx hb dJ15_getChars_2_22 rfl (lv_at L 0 rfl)) ?_
      refine x_up (pc' := 25) (fun _ _ _ _ _ L => lv_bipush (v := (-100 : Int32)) hx hb dJ15_getChars_2_23 (by decide)) ?_
      refine x_if (C := (-100 : Int32) < y37) (pt := 76) (pc' := 28) (fun _ _ _ _ _ => lv_icmp_gt (tgt := 76) hx hb dJ15_getChars_2_25 (by decide)) (fun c25 => ?_) (fun c25 => ?_)
      · have hp45 := hp44.1 c25
        refine x_up (pc' := 77) (fun _ _ _ _ _ L => lv_aloadq_n hx hb dJ15_getChars_2_76 rfl (lv_at L 2 rfl)) ?_
        refine x_upL (pc' := 80) (lo' := [(5, .int (y38 + (-1 : Int32))), (0, .int y37), (2, va_rf x2), (6, .int (1 : Int32))]) (fun _ _ _ _ _ L => lv_iinc (v := y38 + (-1 : Int32)) hx hb dJ15_getChars_2_77 L (k := 1) rfl rfl (by decide) rfl) ?_
        refine x_up (pc' := 82) (fun _ _ _ _ _ L => lv_iload hx hb dJ15_getChars_2_80 (lv_at L 0 rfl)) ?_
        refine x_gets (C := "java/lang/Integer") (n := "DigitOnes") (d := "[B") (v := .ref (G.2 3)) X (by simp [x_sts]) q989 (fun _ h => h) dJ15_getChars_2_82 ?_
        refine x_pc (pc' := 85) rfl ?_
        refine x_up (pc' := 86) (fun _ _ _ _ _ L => lv_iload_n hx hb dJ15_getChars_2_85 rfl (lv_at L 1 rfl)) ?_
        refine x_up (pc' := 87) (fun _ _ _ _ _ L => lv_ineg hx hb dJ15_getChars_2_86) ?_
        refine x_bald X dJ15_getChars_2_87 hp45 (fun v39 hp46 => ?_)
        refine x_pc (pc' := 88) rfl ?_
        refine x_callS (em := emV) (fun r st => st) (fun _ _ => rfl) 3 X (fun σ' KK h => R_J15_putChar l hl G hG x2 (y38 + (-1 : Int32)) v39 σ' KK h) (lw_S q915 q916 q118 q917) mdJ15_putChar ⟨Nat.le_of_ble_eq_true rfl, Nat.le_of_ble_eq_true rfl⟩ rfl rfl (Nat.le_of_ble_eq_true rfl) dJ15_getChars_2_88 hp46 (fun _ σ40 hp47 => ?_)
        refine x_pc (pc' := 91) rfl ?_
        refine x_up (pc' := 92) (fun _ _ _ _ _ L => lv_iload_n hx hb dJ15_getChars_2_91 rfl (lv_at L 1 rfl)) ?_
        refine x_up (pc' := 94) (fun _ _ _ _ _ L => lv_bipush (v := (-9 : Int32)) hx hb dJ15_getChars_2_92 (by decide)) ?_
        refine x_if (C := (-9 : Int32) ≤ y37) (pt := 112) (pc' := 97) (fun _ _ _ _ _ => lv_icmp_ge (tgt := 112) hx hb dJ15_getChars_2_94 (by decide)) (fun c94 => ?_) (fun c94 => ?_)
        · have hp48 := hp47.1 c94
          refine x_up (pc' := 114) (fun _ _ _ _ _ L => lv_iload hx hb dJ15_getChars_2_112 (lv_at L 3 rfl)) ?_
          refine x_if (C := (1 : Int32) = 0) (pt := 128) (pc' := 117) (fun _ _ _ _ _ => lv_if_eq (tgt := 128) hx hb dJ15_getChars_2_114 (by decide)) (fun c114 => ?_) (fun c114 => ?_)
          · have hp49 := hp48.1 c114
            refine x_up (pc' := 130) (fun _ _ _ _ _ L => lv_iload hx hb dJ15_getChars_2_128 (lv_at L 0 rfl)) ?_
            exact x_iret X hr rfl dJ15_getChars_2_130 hp49
          · have hp50 := hp48.2 c114
            refine x_up (pc' := 118) (fun _ _ _ _ _ L => lv_aloadq_n hx hb dJ15_getChars_2_117 rfl (lv_at L 2 rfl)) ?_
            refine x_upL (pc' := 121) (lo' := [(5, .int (y38 + (-1 : Int32) + (-1 : Int32))), (0, .int y37), (2, va_rf x2), (6, .int (1 : Int32))]) (fun _ _ _ _ _ L => lv_iinc (v := y38 + (-1 : Int32) + (-1 : Int32)) hx hb dJ15_getChars_2_118 L (k := 0) rfl rfl (by decide) rfl) ?_
            refine x_up (pc' := 123) (fun _ _ _ _ _ L => lv_iload hx hb dJ15_getChars_2_121 (lv_at L 0 rfl)) ?_
            refine x_up (pc' := 125) (fun _ _ _ _ _ L => lv_bipush (v := (45 : Int32)) hx hb dJ15_getChars_2_123 (by decide)) ?_
            refine x_callS (em := emV) (fun r st => st) (fun _ _ => rfl) 3 X (fun σ' KK h => R_J15_putChar l hl G hG x2 (y38 + (-1 : Int32) + (-1 : Int32)) (45 : Int32) σ' KK h) (lw_S q915 q916 q118 q917) mdJ15_putChar ⟨Nat.le_of_ble_eq_true rfl, Nat.le_of_ble_eq_true rfl⟩ rfl rfl (Nat.le_of_ble_eq_true rfl) dJ15_getChars_2_125 hp50 (fun _ σ41 hp51 => ?_)
            refine x_pc (pc' := 128) rfl ?_
            refine x_up (pc' := 130) (fun _ _ _ _ _ L => lv_iload hx hb dJ15_getChars_2_128 (lv_at L 0 rfl)) ?_
            exact x_iret X hr rfl dJ15_getChars_2_130 hp51
        · have hp52 := hp47.2 c94
          refine x_up (pc' := 98) (fun _ _ _ _ _ L => lv_aloadq_n hx hb dJ15_getChars_2_97 rfl (lv_at L 2 rfl)) ?_
          refine x_upL (pc' := 101) (lo' := [(5, .int (y38 + (-1 : Int32) + (-1 : Int32))), (0, .int y37), (2, va_rf x2), (6, .int (1 : Int32))]) (fun _ _ _ _ _ L => lv_iinc (v := y38 + (-1 : Int32) + (-1 : Int32)) hx hb dJ15_getChars_2_98 L (k := 0) rfl rfl (by decide) rfl) ?_
          refine x_up (pc' := 103) (fun _ _ _ _ _ L => lv_iload hx hb dJ15_getChars_2_101 (lv_at L 0 rfl)) ?_
          refine x_gets (C := "java/lang/Integer") (n := "DigitTens") (d := "[B") (v := .ref (G.2 4)) X (by simp [x_sts]) q990 (fun _ h => h) dJ15_getChars_2_103 ?_
          refine x_pc (pc' := 106) rfl ?_
          refine x_up (pc' := 107) (fun _ _ _ _ _ L => lv_iload_n hx hb dJ15_getChars_2_106 rfl (lv_at L 1 rfl)) ?_
          refine x_up (pc' := 108) (fun _ _ _ _ _ L => lv_ineg hx hb dJ15_getChars_2_107) ?_
          refine x_bald X dJ15_getChars_2_108 hp52 (fun v42 hp53 => ?_)
          refine x_pc (pc' := 109) rfl ?_
          refine x_callS (em := emV) (fun r st => st) (fun _ _ => rfl) 3 X (fun σ' KK h => R_J15_putChar l hl G hG x2 (y38 + (-1 : Int32) + (-1 : Int32)) v42 σ' KK h) (lw_S q915 q916 q118 q917) mdJ15_putChar ⟨Nat.le_of_ble_eq_true rfl, Nat.le_of_ble_eq_true rfl⟩ rfl rfl (Nat.le_of_ble_eq_true rfl) dJ15_getChars_2_109 hp53 (fun _ σ43 hp54 => ?_)
          refine x_pc (pc' := 112) rfl ?_
          refine x_up (pc' := 114) (fun _ _ _ _ _ L => lv_iload hx hb dJ15_getChars_2_112 (lv_at L 3 rfl)) ?_
          refine x_if (C := (1 : Int32) = 0) (pt := 128) (pc' := 117) (fun _ _ _ _ _ => lv_if_eq (tgt := 128) hx hb dJ15_getChars_2_114 (by decide)) (fun c114 => ?_) (fun c114 => ?_)
          · have hp55 := hp54.1 c114
            refine x_up (pc' := 130) (fun _ _ _ _ _ L => lv_iload hx hb dJ15_getChars_2_128 (lv_at L 0 rfl)) ?_
            exact x_iret X hr rfl dJ15_getChars_2_130 hp55
          · have hp56 := hp54.2 c114
            refine x_up (pc' := 118) (fun _ _ _ _ _ L => lv_aloadq_n hx hb dJ15_getChars_2_117 rfl (lv_at L 2 rfl)) ?_
            refine x_upL (pc' := 121) (lo' := [(5, .int (y38 + (-1 : Int32) + (-1 : Int32) + (-1 : Int32))), (0, .int y37), (2, va_rf x2), (6, .int (1 : Int32))]) (fun _ _ _ _ _ L => lv_iinc (v := y38 + (-1 : Int32) + (-1 : Int32) + (-1 : Int32)) hx hb dJ15_getChars_2_118 L (k := 0) rfl rfl (by decide) rfl) ?_
            refine x_up (pc' := 123) (fun _ _ _ _ _ L => lv_iload hx hb dJ15_getChars_2_121 (lv_at L 0 rfl)) ?_
            refine x_up (pc' := 125) (fun _ _ _ _ _ L => lv_bipush (v := (45 : Int32)) hx hb dJ15_getChars_2_123 (by decide)) ?_
            refine x_callS (em := emV) (fun r st => st) (fun _ _ => rfl) 3 X (fun σ' KK h => R_J15_putChar l hl G hG x2 (y38 + (-1 : Int32) + (-1 : Int32) + (-1 : Int32)) (45 : Int32) σ' KK h) (lw_S q915 q916 q118 q917) mdJ15_putChar ⟨Nat.le_of_ble_eq_true rfl, Nat.le_of_ble_eq_true rfl⟩ rfl rfl (Nat.le_of_ble_eq_true rfl) dJ15_getChars_2_125 hp56 (fun _ σ44 hp57 => ?_)
            refine x_pc (pc' := 128) rfl ?_
            refine x_up (pc' := 130) (fun _ _ _ _ _ L => lv_iload hx hb dJ15_getChars_2_128 (lv_at L 0 rfl)) ?_
            exact x_iret X hr rfl dJ15_getChars_2_130 hp57
      · have hp58 := hp44.2 c25
        refine x_up (pc' := 29) (fun _ _ _ _ _ L => lv_iload_n hx hb dJ15_getChars_2_28 rfl (lv_at L 0 rfl)) ?_
        refine x_up (pc' := 31) (fun _ _ _ _ _ L => lv_bipush (v := (100 : Int32)) hx hb dJ15_getChars_2_29 (by decide)) ?_
        refine x_up (pc' := 32) (fun _ _ _ _ _ L => lv_idiv hx hb dJ15_getChars_2_31 (by decide)) ?_
        refine x_st (pc' := 33) ([(3, .int (y37 / (100 : Int32))), (0, .int y37), (5, .int y38), (2, va_rf x2), (6, .int (1 : Int32))]) rfl (by simp [x_catq, x_cati, x_catr, x_catn]) (fun _ _ _ _ _ L => lv_istore_n hx hb dJ15_getChars_2_32 rfl L (by decide) rfl) ?_
        refine x_up (pc' := 34) (fun _ _ _ _ _ L => lv_iload_n hx hb dJ15_getChars_2_33 rfl (lv_at L 0 rfl)) ?_
        refine x_up (pc' := 36) (fun _ _ _ _ _ L => lv_bipush (v := (100 : Int32)) hx hb dJ15_getChars_2_34 (by decide)) ?_
        refine x_up (pc' := 37) (fun _ _ _ _ _ L => lv_imul hx hb dJ15_getChars_2_36) ?_
        refine x_up (pc' := 38) (fun _ _ _ _ _ L => lv_iload_n hx hb dJ15_getChars_2_37 rfl (lv_at L 1 rfl)) ?_
        refine x_up (pc' := 39) (fun _ _ _ _ _ L => lv_isub hx hb dJ15_getChars_2_38) ?_
        refine x_upL (pc' := 41) (lo' := [(4, .int (((y37 / (100 : Int32)) * (100 : Int32)) - y37)), (3, .int (y37 / (100 : Int32))), (0, .int y37), (5, .int y38), (2, va_rf x2), (6, .int (1 : Int32))]) (fun _ _ _ _ _ L => lv_istore hx hb dJ15_getChars_2_39 L (by decide) rfl) ?_
        refine x_up (pc' := 42) (fun _ _ _ _ _ L => lv_iload_n hx hb dJ15_getChars_2_41 rfl (lv_at L 1 rfl)) ?_
        refine x_upL (pc' := 43) (lo' := [(0, .int (y37 / (100 : Int32))), (4, .int (((y37 / (100 : Int32)) * (100 : Int32)) - y37)), (3, .int (y37 / (100 : Int32))), (5, .int y38), (2, va_rf x2), (6, .int (1 : Int32))]) (fun _ _ _ _ _ L => lv_istore_n hx hb dJ15_getChars_2_42 rfl L (by decide) rfl) ?_
        refine x_up (pc' := 44) (fun _ _ _ _ _ L => lv_aloadq_n hx hb dJ15_getChars_2_43 rfl (lv_at L 4 rfl)) ?_
        refine x_upL (pc' := 47) (lo' := [(5, .int (y38 + (-1 : Int32))), (0, .int (y37 / (100 : Int32))), (4, .int (((y37 / (100 : Int32)) * (100 : Int32)) - y37)), (3, .int (y37 / (100 : Int32))), (2, va_rf x2), (6, .int (1 : Int32))]) (fun _ _ _ _ _ L => lv_iinc (v := y38 + (-1 : Int32)) hx hb dJ15_getChars_2_44 L (k := 3) rfl rfl (by decide) rfl) ?_
        refine x_up (pc' := 49) (fun _ _ _ _ _ L => lv_iload hx hb dJ15_getChars_2_47 (lv_at L 0 rfl)) ?_
        refine x_gets (C := "java/lang/Integer") (n := "DigitOnes") (d := "[B") (v := .ref (G.2 3)) X (by simp [x_sts]) q989 (fun _ h => h) dJ15_getChars_2_49 ?_
        refine x_pc (pc' := 52) rfl ?_
        refine x_up (pc' := 54) (fun _ _ _ _ _ L => lv_iload hx hb dJ15_getChars_2_52 (lv_at L 2 rfl)) ?_
        refine x_bald X dJ15_getChars_2_54 hp58 (fun v45 hp59 => ?_)
        refine x_pc (pc' := 55) rfl ?_
        refine x_callS (em := emV) (fun r st => st) (fun _ _ => rfl) 3 X (fun σ' KK h => R_J15_putChar l hl G hG x2 (y38 + (-1 : Int32)) v45 σ' KK h) (lw_S q915 q916 q118 q917) mdJ15_putChar ⟨Nat.le_of_ble_eq_true rfl, Nat.le_of_ble_eq_true rfl⟩ rfl rfl (Nat.le_of_ble_eq_true rfl) dJ15_getChars_2_55 hp59 (fun _ σ46 hp60 => ?_)
        refine x_pc (pc' := 58) rfl ?_
        refine x_up (pc' := 59) (fun _ _ _ _ _ L => lv_aloadq_n hx hb dJ15_getChars_2_58 rfl (lv_at L 4 rfl)) ?_
        refine x_upL (pc' := 62) (lo' := [(5, .int (y38 + (-1 : Int32) + (-1 : Int32))), (0, .int (y37 / (100 : Int32))), (4, .int (((y37 / (100 : Int32)) * (100 : Int32)) - y37)), (3, .int (y37 / (100 : Int32))), (2, va_rf x2), (6, .int (1 : Int32))]) (fun _ _ _ _ _ L => lv_iinc (v := y38 + (-1 : Int32) + (-1 : Int32)) hx hb dJ15_getChars_2_59 L (k := 0) rfl rfl (by decide) rfl) ?_
        refine x_up (pc' := 64) (fun _ _ _ _ _ L => lv_iload hx hb dJ15_getChars_2_62 (lv_at L 0 rfl)) ?_
        refine x_gets (C := "java/lang/Integer") (n := "DigitTens") (d := "[B") (v := .ref (G.2 4)) X (by simp [x_sts]) q990 (fun _ h => h) dJ15_getChars_2_64 ?_
        refine x_pc (pc' := 67) rfl ?_
        refine x_up (pc' := 69) (fun _ _ _ _ _ L => lv_iload hx hb dJ15_getChars_2_67 (lv_at L 2 rfl)) ?_
        refine x_bald X dJ15_getChars_2_69 hp60 (fun v47 hp61 => ?_)
        refine x_pc (pc' := 70) rfl ?_
        refine x_callS (em := emV) (fun r st => st) (fun _ _ => rfl) 3 X (fun σ' KK h => R_J15_putChar l hl G hG x2 (y38 + (-1 : Int32) + (-1 : Int32)) v47 σ' KK h) (lw_S q915 q916 q118 q917) mdJ15_putChar ⟨Nat.le_of_ble_eq_true rfl, Nat.le_of_ble_eq_true rfl⟩ rfl rfl (Nat.le_of_ble_eq_true rfl) dJ15_getChars_2_70 hp61 (fun _ σ48 hp62 => ?_)
        refine x_pc (pc' := 73) rfl ?_
        refine x_up (pc' := 22) (fun _ _ _ _ _ L => lv_goto (tgt := 22) hx hb dJ15_getChars_2_73 (by decide)) ?_
        refine x_lo (lo' := [(0, .int (y37 / (100 : Int32))), (5, .int (y38 + (-1 : Int32) + (-1 : Int32))), (2, va_rf x2), (6, .int (1 : Int32))]) [1, 0, 4, 5] rfl ?_
        exact hself35 ((y37 / (100 : Int32)), (y38 + (-1 : Int32) + (-1 : Int32))) σ48 hp62
    · have hp63 := hp42.2 c16
      refine x_lo (lo' := [(0, .int x0), (5, .int x1), (2, va_rf x2), (6, .int (1 : Int32))]) [2, 1, 4, 0] rfl ?_
      refine x_while (v0 := (x0, x1)) (fun w49 => [(0, .int w49.1), (5, .int w49.2), (2, va_rf x2), (6, .int (1 : Int32))]) hp63 (fun self50 hself51 => ?_)
      rintro ⟨y53, y54⟩ σ52 hp64
      unfold B_J15_getChars_2_22 at hp64
      refine x_same (lo' := [(0, .int y53), (5, .int y54), (2, va_rf x2), (6, .int (1 : Int32))]) rfl ?_
      refine x_up (pc' := 23) (fun _ _ _ _ _ L => lv_iload_n hx hb dJ15_getChars_2_22 rfl (lv_at L 0 rfl)) ?_
      refine x_up (pc' := 25) (fun _ _ _ _ _ L => lv_bipush (v := (-100 : Int32)) hx hb dJ15_getChars_2_23 (by decide)) ?_
      refine x_if (C := (-100 : Int32) < y53) (pt := 76) (pc' := 28) (fun _ _ _ _ _ => lv_icmp_gt (tgt := 76) hx hb dJ15_getChars_2_25 (by decide)) (fun c25 => ?_) (fun c25 => ?_)
      · have hp65 := hp64.1 c25
        refine x_up (pc' := 77) (fun _ _ _ _ _ L => lv_aloadq_n hx hb dJ15_getChars_2_76 rfl (lv_at L 2 rfl)) ?_
        refine x_upL (pc' := 80) (lo' := [(5, .int (y54 + (-1 : Int32))), (0, .int y53), (2, va_rf x2), (6, .int (1 : Int32))]) (fun _ _ _ _ _ L => lv_iinc (v := y54 + (-1 : Int32)) hx hb dJ15_getChars_2_77 L (k := 1) rfl rfl (by decide) rfl) ?_
        refine x_up (pc' := 82) (fun _ _ _ _ _ L => lv_iload hx hb dJ15_getChars_2_80 (lv_at L 0 rfl)) ?_
        refine x_gets (C := "java/lang/Integer") (n := "DigitOnes") (d := "[B") (v := .ref (G.2 3)) X (by simp [x_sts]) q989 (fun _ h => h) dJ15_getChars_2_82 ?_
        refine x_pc (pc' := 85) rfl ?_
        refine x_up (pc' := 86) (fun _ _ _ _ _ L => lv_iload_n hx hb dJ15_getChars_2_85 rfl (lv_at L 1 rfl)) ?_
        refine x_up (pc' := 87) (fun _ _ _ _ _ L => lv_ineg hx hb dJ15_getChars_2_86) ?_
        refine x_bald X dJ15_getChars_2_87 hp65 (fun v55 hp66 => ?_)
        refine x_pc (pc' := 88) rfl ?_
        refine x_callS (em := emV) (fun r st => st) (fun _ _ => rfl) 3 X (fun σ' KK h => R_J15_putChar l hl G hG x2 (y54 + (-1 : Int32)) v55 σ' KK h) (lw_S q915 q916 q118 q917) mdJ15_putChar ⟨Nat.le_of_ble_eq_true rfl, Nat.le_of_ble_eq_true rfl⟩ rfl rfl (Nat.le_of_ble_eq_true rfl) dJ15_getChars_2_88 hp66 (fun _ σ56 hp67 => ?_)
        refine x_pc (pc' := 91) rfl ?_
        refine x_up (pc' := 92) (fun _ _ _ _ _ L => lv_iload_n hx hb dJ15_getChars_2_91 rfl (lv_at L 1 rfl)) ?_
        refine x_up (pc' := 94) (fun _ _ _ _ _ L => lv_bipush (v := (-9 : Int32)) hx hb dJ15_getChars_2_92 (by decide)) ?_
        refine x_if (C := (-9 : Int32) ≤ y53) (pt := 112) (pc' := 97) (fun _ _ _ _ _ => lv_icmp_ge (tgt := 112) hx hb dJ15_getChars_2_94 (by decide)) (fun c94 => ?_) (fun c94 => ?_)
        · have hp68 := hp67.1 c94
          refine x_up (pc' := 114) (fun _ _ _ _ _ L => lv_iload hx hb dJ15_getChars_2_112 (lv_at L 3 rfl)) ?_
          refine x_if (C := (1 : Int32) = 0) (pt := 128) (pc' := 117) (fun _ _ _ _ _ => lv_if_eq (tgt := 128) hx hb dJ15_getChars_2_114 (by decide)) (fun c114 => ?_) (fun c114 => ?_)
          · have hp69 := hp68.1 c114
            refine x_up (pc' := 130) (fun _ _ _ _ _ L => lv_iload hx hb dJ15_getChars_2_128 (lv_at L 0 rfl)) ?_
            exact x_iret X hr rfl dJ15_getChars_2_130 hp69
          · have hp70 := hp68.2 c114
            refine x_up (pc' := 118) (fun _ _ _ _ _ L => lv_aloadq_n hx hb dJ15_getChars_2_117 rfl (lv_at L 2 rfl)) ?_
            refine x_upL (pc' := 121) (lo' := [(5, .int (y54 + (-1 : Int32) + (-1 : Int32))), (0, .int y53), (2, va_rf x2), (6, .int (1 : Int32))]) (fun _ _ _ _ _ L => lv_iinc (v := y54 + (-1 : Int32) + (-1 : Int32)) hx hb dJ15_getChars_2_118 L (k := 0) rfl rfl (by decide) rfl) ?_
            refine x_up (pc' := 123) (fun _ _ _ _ _ L => lv_iload hx hb dJ15_getChars_2_121 (lv_at L 0 rfl)) ?_
            refine x_up (pc' := 125) (fun _ _ _ _ _ L => lv_bipush (v := (45 : Int32)) hx hb dJ15_getChars_2_123 (by decide)) ?_
            refine x_callS (em := emV) (fun r st => st) (fun _ _ => rfl) 3 X (fun σ' KK h => R_J15_putChar l hl G hG x2 (y54 + (-1 : Int32) + (-1 : Int32)) (45 : Int32) σ' KK h) (lw_S q915 q916 q118 q917) mdJ15_putChar ⟨Nat.le_of_ble_eq_true rfl, Nat.le_of_ble_eq_true rfl⟩ rfl rfl (Nat.le_of_ble_eq_true rfl) dJ15_getChars_2_125 hp70 (fun _ σ57 hp71 => ?_)
            refine x_pc (pc' := 128) rfl ?_
            refine x_up (pc' := 130) (fun _ _ _ _ _ L => lv_iload hx hb dJ15_getChars_2_128 (lv_at L 0 rfl)) ?_
            exact x_iret X hr rfl dJ15_getChars_2_130 hp71
        · have hp72 := hp67.2 c94
          refine x_up (pc' := 98) (fun _ _ _ _ _ L => lv_aloadq_n hx hb dJ15_getChars_2_97 rfl (lv_at L 2 rfl)) ?_
          refine x_upL (pc' := 101) (lo' := [(5, .int (y54 + (-1 : Int32) + (-1 : Int32))), (0, .int y53), (2, va_rf x2), (6, .int (1 : Int32))]) (fun _ _ _ _ _ L => lv_iinc (v := y54 + (-1 : Int32) + (-1 : Int32)) hx hb dJ15_getChars_2_98 L (k := 0) rfl rfl (by decide) rfl) ?_
          refine x_up (pc' := 103) (fun _ _ _ _ _ L => lv_iload hx hb dJ15_getChars_2_101 (lv_at L 0 rfl)) ?_
          refine x_gets (C := "java/lang/Integer") (n := "DigitTens") (d := "[B") (v := .ref (G.2 4)) X (by simp [x_sts]) q990 (fun _ h => h) dJ15_getChars_2_103 ?_
          refine x_pc (pc' := 106) rfl ?_
          refine x_up (pc' := 107) (fun _ _ _ _ _ L => lv_iload_n hx hb dJ15_getChars_2_106 rfl (lv_at L 1 rfl)) ?_
          refine x_up (pc' := 108) (fun _ _ _ _ _ L => lv_ineg hx hb dJ15_getChars_2_107) ?_
          refine x_bald X dJ15_getChars_2_108 hp72 (fun v58 hp73 => ?_)
          refine x_pc (pc' := 109) rfl ?_
          refine x_callS (em := emV) (fun r st => st) (fun _ _ => rfl) 3 X (fun σ' KK h => R_J15_putChar l hl G hG x2 (y54 + (-1 : Int32) + (-1 : Int32)) v58 σ' KK h) (lw_S q915 q916 q118 q917) mdJ15_putChar ⟨Nat.le_of_ble_eq_true rfl, Nat.le_of_ble_eq_true rfl⟩ rfl rfl (Nat.le_of_ble_eq_true rfl) dJ15_getChars_2_109 hp73 (fun _ σ59 hp74 => ?_)
          refine x_pc (pc' := 112) rfl ?_
          refine x_up (pc' := 114) (fun _ _ _ _ _ L => lv_iload hx hb dJ15_getChars_2_112 (lv_at L 3 rfl)) ?_
          refine x_if (C := (1 : Int32) = 0) (pt := 128) (pc' := 117) (fun _ _ _ _ _ => lv_if_eq (tgt := 128) hx hb dJ15_getChars_2_114 (by decide)) (fun c114 => ?_) (fun c114 => ?_)
          · have hp75 := hp74.1 c114
            refine x_up (pc' := 130) (fun _ _ _ _ _ L => lv_iload hx hb dJ15_getChars_2_128 (lv_at L 0 rfl)) ?_
            exact x_iret X hr rfl dJ15_getChars_2_130 hp75
          · have hp76 := hp74.2 c114
            refine x_up (pc' := 118) (fun _ _ _ _ _ L => lv_aloadq_n hx hb dJ15_getChars_2_117 rfl (lv_at L 2 rfl)) ?_
            refine x_upL (pc' := 121) (lo' := [(5, .int (y54 + (-1 : Int32) + (-1 : Int32) + (-1 : Int32))), (0, .int y53), (2, va_rf x2), (6, .int (1 : Int32))]) (fun _ _ _ _ _ L => lv_iinc (v := y54 + (-1 : Int32) + (-1 : Int32) + (-1 : Int32)) hx hb dJ15_getChars_2_118 L (k := 0) rfl rfl (by decide) rfl) ?_
            refine x_up (pc' := 123) (fun _ _ _ _ _ L => lv_iload hx hb dJ15_getChars_2_121 (lv_at L 0 rfl)) ?_
            refine x_up (pc' := 125) (fun _ _ _ _ _ L => lv_bipush (v := (45 : Int32)) hx hb dJ15_getChars_2_123 (by decide)) ?_
            refine x_callS (em := emV) (fun r st => st) (fun _ _ => rfl) 3 X (fun σ' KK h => R_J15_putChar l hl G hG x2 (y54 + (-1 : Int32) + (-1 : Int32) + (-1 : Int32)) (45 : Int32) σ' KK h) (lw_S q915 q916 q118 q917) mdJ15_putChar ⟨Nat.le_of_ble_eq_true rfl, Nat.le_of_ble_eq_true rfl⟩ rfl rfl (Nat.le_of_ble_eq_true rfl) dJ15_getChars_2_125 hp76 (fun _ σ60 hp77 => ?_)
            refine x_pc (pc' := 128) rfl ?_
            refine x_up (pc' := 130) (fun _ _ _ _ _ L => lv_iload hx hb dJ15_getChars_2_128 (lv_at L 0 rfl)) ?_
            exact x_iret X hr rfl dJ15_getChars_2_130 hp77
      · have hp78 := hp64.2 c25
        refine x_up (pc' := 29) (fun _ _ _ _ _ L => lv_iload_n hx hb dJ15_getChars_2_28 rfl (lv_at L 0 rfl)) ?_
        refine x_up (pc' := 31) (fun _ _ _ _ _ L => lv_bipush (v := (100 : Int32)) hx hb dJ15_getChars_2_29 (by decide)) ?_
        refine x_up (pc' := 32) (fun _ _ _ _ _ L => lv_idiv hx hb dJ15_getChars_2_31 (by decide)) ?_
        refine x_st (pc' := 33) ([(3, .int (y53 / (100 : Int32))), (0, .int y53), (5, .int y54), (2, va_rf x2), (6, .int (1 : Int32))]) rfl (by simp [x_catq, x_cati, x_catr, x_catn]) (fun _ _ _ _ _ L => lv_istore_n hx hb dJ15_getChars_2_32 rfl L (by decide) rfl) ?_
        refine x_up (pc' := 34) (fun _ _ _ _ _ L => lv_iload_n hx hb dJ15_getChars_2_33 rfl (lv_at L 0 rfl)) ?_
        refine x_up (pc' := 36) (fun _ _ _ _ _ L => lv_bipush (v := (100 : Int32)) hx hb dJ15_getChars_2_34 (by decide)) ?_
        refine x_up (pc' := 37) (fun _ _ _ _ _ L => lv_imul hx hb dJ15_getChars_2_36) ?_
        refine x_up (pc' := 38) (fun _ _ _ _ _ L => lv_iload_n hx hb dJ15_getChars_2_37 rfl (lv_at L 1 rfl)) ?_
        refine x_up (pc' := 39) (fun _ _ _ _ _ L => lv_isub hx hb dJ15_getChars_2_38) ?_
        refine x_upL (pc' := 41) (lo' := [(4, .int (((y53 / (100 : Int32)) * (100 : Int32)) - y53)), (3, .int (y53 / (100 : Int32))), (0, .int y53), (5, .int y54), (2, va_rf x2), (6, .int (1 : Int32))]) (fun _ _ _ _ _ L => lv_istore hx hb dJ15_getChars_2_39 L (by decide) rfl) ?_
        refine x_up (pc' := 42) (fun _ _ _ _ _ L => lv_iload_n hx hb dJ15_getChars_2_41 rfl (lv_at L 1 rfl)) ?_
        refine x_upL (pc' := 43) (lo' := [(0, .int (y53 / (100 : Int32))), (4, .int (((y53 / (100 : Int32)) * (100 : Int32)) - y53)), (3, .int (y53 / (100 : Int32))), (5, .int y54), (2, va_rf x2), (6, .int (1 : Int32))]) (fun _ _ _ _ _ L => lv_istore_n hx hb dJ15_getChars_2_42 rfl L (by decide) rfl) ?_
        refine x_up (pc' := 44) (fun _ _ _ _ _ L => lv_aloadq_n hx hb dJ15_getChars_2_43 rfl (lv_at L 4 rfl)) ?_
        refine x_upL (pc' := 47) (lo' := [(5, .int (y54 + (-1 : Int32))), (0, .int (y53 / (100 : Int32))), (4, .int (((y53 / (100 : Int32)) * (100 : Int32)) - y53)), (3, .int (y53 / (100 : Int32))), (2, va_rf x2), (6, .int (1 : Int32))]) (fun _ _ _ _ _ L => lv_iinc (v := y54 + (-1 : Int32)) hx hb dJ15_getChars_2_44 L (k := 3) rfl rfl (by decide) rfl) ?_
        refine x_up (pc' := 49) (fun _ _ _ _ _ L => lv_iload hx hb dJ15_getChars_2_47 (lv_at L 0 rfl)) ?_
        refine x_gets (C := "java/lang/Integer") (n := "DigitOnes") (d := "[B") (v := .ref (G.2 3)) X (by simp [x_sts]) q989 (fun _ h => h) dJ15_getChars_2_49 ?_
        refine x_pc (pc' := 52) rfl ?_
        refine x_up (pc' := 54) (fun _ _ _ _ _ L => lv_iload hx hb dJ15_getChars_2_52 (lv_at L 2 rfl)) ?_
        refine x_bald X dJ15_getChars_2_54 hp78 (fun v61 hp79 => ?_)
        refine x_pc (pc' := 55) rfl ?_
        refine x_callS (em := emV) (fun r st => st) (fun _ _ => rfl) 3 X (fun σ' KK h => R_J15_putChar l hl G hG x2 (y54 + (-1 : Int32)) v61 σ' KK h) (lw_S q915 q916 q118 q917) mdJ15_putChar ⟨Nat.le_of_ble_eq_true rfl, Nat.le_of_ble_eq_true rfl⟩ rfl rfl (Nat.le_of_ble_eq_true rfl) dJ15_getChars_2_55 hp79 (fun _ σ62 hp80 => ?_)
        refine x_pc (pc' := 58) rfl ?_
        refine x_up (pc' := 59) (fun _ _ _ _ _ L => lv_aloadq_n hx hb dJ15_getChars_2_58 rfl (lv_at L 4 rfl)) ?_
        refine x_upL (pc' := 62) (lo' := [(5, .int (y54 + (-1 : Int32) + (-1 : Int32))), (0, .int (y53 / (100 : Int32))), (4, .int (((y53 / (100 : Int32)) * (100 : Int32)) - y53)), (3, .int (y53 / (100 : Int32))), (2, va_rf x2), (6, .int (1 : Int32))]) (fun _ _ _ _ _ L => lv_iinc (v := y54 + (-1 : Int32) + (-1 : Int32)) hx hb dJ15_getChars_2_59 L (k := 0) rfl rfl (by decide) rfl) ?_
        refine x_up (pc' := 64) (fun _ _ _ _ _ L => lv_iload hx hb dJ15_getChars_2_62 (lv_at L 0 rfl)) ?_
        refine x_gets (C := "java/lang/Integer") (n := "DigitTens") (d := "[B") (v := .ref (G.2 4)) X (by simp [x_sts]) q990 (fun _ h => h) dJ15_getChars_2_64 ?_
        refine x_pc (pc' := 67) rfl ?_
        refine x_up (pc' := 69) (fun _ _ _ _ _ L => lv_iload hx hb dJ15_getChars_2_67 (lv_at L 2 rfl)) ?_
        refine x_bald X dJ15_getChars_2_69 hp80 (fun v63 hp81 => ?_)
        refine x_pc (pc' := 70) rfl ?_
        refine x_callS (em := emV) (fun r st => st) (fun _ _ => rfl) 3 X (fun σ' KK h => R_J15_putChar l hl G hG x2 (y54 + (-1 : Int32) + (-1 : Int32)) v63 σ' KK h) (lw_S q915 q916 q118 q917) mdJ15_putChar ⟨Nat.le_of_ble_eq_true rfl, Nat.le_of_ble_eq_true rfl⟩ rfl rfl (Nat.le_of_ble_eq_true rfl) dJ15_getChars_2_70 hp81 (fun _ σ64 hp82 => ?_)
        refine x_pc (pc' := 73) rfl ?_
        refine x_up (pc' := 22) (fun _ _ _ _ _ L => lv_goto (tgt := 22) hx hb dJ15_getChars_2_73 (by decide)) ?_
        refine x_lo (lo' := [(0, .int (y53 / (100 : Int32))), (5, .int (y54 + (-1 : Int32) + (-1 : Int32))), (2, va_rf x2), (6, .int (1 : Int32))]) [1, 0, 4, 5] rfl ?_
        exact hself51 ((y53 / (100 : Int32)), (y54 + (-1 : Int32) + (-1 : Int32))) σ64 hp82
-- J15_getChars
def P_J15_getChars (κ : Nat → Nat) (x0 : Int32) (x1 : Int32) (x2 : Int32) (x3 : Option Nat) (σ : xS) (K : Int32 → xH → Prop) : Prop :=
  xcall (fun τ L => P_J15_checkBoundsBeginEnd κ x1 x2 x3 τ L) σ fun _ σ1 => xcall (fun τ L => P_J15_getChars_2 κ x0 x2 x3 τ L) σ1 fun v2 σ3 => (((1 : Int32) = 0 → (((x1 = v2 → (K v2 σ3.1)) ∧ (¬ x1 = v2 → (False))))) ∧ (¬ (1 : Int32) = 0 → (K v2 σ3.1)))
theorem mdJ15_getChars : yJ15_getChars.cls ≠ "java/lang/invoke/MethodHandle" ∧ yJ15_getChars.cls ≠ "java/lang/invoke/VarHandle" ∧ (parseMethodDescriptor yJ15_getChars.desc).map (fun d => d.parameters.length) = some 4 := by decide +kernel
set_option maxHeartbeats 4000000 in
set_option maxRecDepth 100000 in
theorem R_J15_getChars (l : Launch) (hl : l.stackTraces = false) (G : xG) (hG : G.1.2 = x_cl) (x0 : Int32) (x1 : Int32) (x2 : Int32) (x3 : Option Nat) (σ : xS) (K : Int32 → xH → Prop) (hp : P_J15_getChars G.2 x0 x1 x2 x3 σ K) : xM l yJ15_getChars cJ15_getChars 5 (Option.some Jvm.ClassFile.FieldType.int) 3 68 G [.int x0, .int x1, .int x2, va_rf x3] σ (xlift emI K) := by
  refine x_entry (by decide) (by simp [lg_sl, x_catq, x_cati, x_catr, x_catn]) ?_
  intro p e s m args below meth c X hr hin
  have X : xX p s m args meth c G cJ15_getChars 5 RJ15 := X
  have hx := X.1
  have hb := X.2.1
  have hts := X.2.2.2.2.1
  have hown := X.2.2.2.1
  unfold P_J15_getChars at hp
  refine x_same (lo' := [(0, .int x0), (1, .int x1), (2, .int x2), (3, va_rf x3)]) (by simp [lv_args, x_catq, x_cati, x_catr, x_catn]) ?_
  refine x_up (pc' := 1) (fun _ _ _ _ _ L => lv_iload_n hx hb dJ15_getChars_0 rfl (lv_at L 1 rfl)) ?_
  refine x_up (pc' := 2) (fun _ _ _ _ _ L => lv_iload_n hx hb dJ15_getChars_1 rfl (lv_at L 2 rfl)) ?_
  refine x_up (pc' := 3) (fun _ _ _ _ _ L => lv_aloadq_n hx hb dJ15_getChars_2 rfl (lv_at L 3 rfl)) ?_
  refine x_callS (em := emV) (fun r st => st) (fun _ _ => rfl) 3 X (fun σ' KK h => R_J15_checkBoundsBeginEnd l hl G hG x1 x2 x3 σ' KK h) (lw_S q901 q902 q118 q903) mdJ15_checkBoundsBeginEnd ⟨Nat.le_of_ble_eq_true rfl, Nat.le_of_ble_eq_true rfl⟩ rfl rfl (Nat.le_of_ble_eq_true rfl) dJ15_getChars_3 hp (fun _ σ1 hp1 => ?_)
  refine x_pc (pc' := 6) rfl ?_
  refine x_up (pc' := 7) (fun _ _ _ _ _ L => lv_iload_n hx hb dJ15_getChars_6 rfl (lv_at L 0 rfl)) ?_
  refine x_up (pc' := 8) (fun _ _ _ _ _ L => lv_iload_n hx hb dJ15_getChars_7 rfl (lv_at L 2 rfl)) ?_
  refine x_up (pc' := 9) (fun _ _ _ _ _ L => lv_aloadq_n hx hb dJ15_getChars_8 rfl (lv_at L 3 rfl)) ?_
  refine x_callS (em := emI) (fun r st => .int r :: st) (fun _ _ => rfl) 3 X (fun σ' KK h => R_J15_getChars_2 l hl G hG x0 x2 x3 σ' KK h) (lw_S q986 q987 q118 q988) mdJ15_getChars_2 ⟨Nat.le_of_ble_eq_true rfl, Nat.le_of_ble_eq_true rfl⟩ rfl rfl (Nat.le_of_ble_eq_true rfl) dJ15_getChars_9 hp1 (fun v2 σ3 hp2 => ?_)
  refine x_pc (pc' := 12) rfl ?_
  refine x_st (pc' := 14) ([(4, .int v2), (0, .int x0), (1, .int x1), (2, .int x2), (3, va_rf x3)]) rfl (by simp [x_catq, x_cati, x_catr, x_catn]) (fun _ _ _ _ _ L => lv_istore hx hb dJ15_getChars_12 L (by decide) rfl) ?_
  refine x_gets (C := "java/lang/StringUTF16") (n := "$assertionsDisabled") (d := "Z") (v := .int (1 : Int32)) X (by simp [x_sts]) q918 (fun _ h => h) dJ15_getChars_14 ?_
  refine x_pc (pc' := 17) rfl ?_
  refine x_ifn (C := (1 : Int32) = 0) (pt := 34) (pc' := 20) (fun _ _ _ _ _ => lv_if_ne (tgt := 34) hx hb dJ15_getChars_17 (by decide)) (fun c17 => ?_) (fun c17 => ?_)
  · have hp3 := hp2.1 c17
    refine x_up (pc' := 21) (fun _ _ _ _ _ L => lv_iload_n hx hb dJ15_getChars_20 rfl (lv_at L 2 rfl)) ?_
    refine x_up (pc' := 23) (fun _ _ _ _ _ L => lv_iload hx hb dJ15_getChars_21 (lv_at L 0 rfl)) ?_
    refine x_if (C := x1 = v2) (pt := 34) (pc' := 26) (fun _ _ _ _ _ => lv_icmp_eq (tgt := 34) hx hb dJ15_getChars_23 (by decide)) (fun c23 => ?_) (fun c23 => ?_)
    · have hp4 := hp3.1 c23
      refine x_up (pc' := 36) (fun _ _ _ _ _ L => lv_iload hx hb dJ15_getChars_34 (lv_at L 0 rfl)) ?_
      exact x_iret X hr rfl dJ15_getChars_36 hp4
    · have hp5 := hp3.2 c23
      exact hp5.elim
  · have hp6 := hp2.2 c17
    refine x_up (pc' := 36) (fun _ _ _ _ _ L => lv_iload hx hb dJ15_getChars_34 (lv_at L 0 rfl)) ?_
    exact x_iret X hr rfl dJ15_getChars_36 hp6
