-- J23_getChars
def B_J23_getChars_22 (κ : Nat → Nat) (kx23004 : (Int32 × Int32) → xS → Prop) (f2 : Option Nat) (f6 : Int32) : ((Int32 × Int32) → xS → Prop) → (Int32 × Int32) → xS → Prop := fun self23003 w23001 σ23002 =>
  (((-100 : Int32) < w23001.1 → (kx23004 (w23001.1, w23001.2) σ23002)) ∧ (¬ (-100 : Int32) < w23001.1 → (xai .byte σ23002 (κ 3) (((w23001.1 / (100 : Int32)) * (100 : Int32)) - w23001.1) fun v23005 => xnn f2 fun b23006 => xsi κ .byte σ23002 b23006 (w23001.2 + (-1 : Int32)) v23005 fun σ23007 => xai .byte σ23007 (κ 4) (((w23001.1 / (100 : Int32)) * (100 : Int32)) - w23001.1) fun v23008 => xsi κ .byte σ23007 b23006 (w23001.2 + (-1 : Int32) + (-1 : Int32)) v23008 fun σ23009 => self23003 ((w23001.1 / (100 : Int32)), (w23001.2 + (-1 : Int32) + (-1 : Int32))) σ23009)))
def P_J23_getChars (κ : Nat → Nat) (x0 : Int32) (x1 : Int32) (x2 : Option Nat) (σ : xS) (K : Int32 → xH → Prop) : Prop :=
  ((0 ≤ x0 → ((((0 : Int32) = 0 → (xwhile (B_J23_getChars_22 κ (fun e1 σ2 => xai .byte σ2 (κ 3) (-e1.1) fun v3 => xnn x2 fun b4 => xsi κ .byte σ2 b4 (e1.2 + (-1 : Int32)) v3 fun σ5 => (((-9 : Int32) ≤ e1.1 → ((((0 : Int32) = 0 → (K (e1.2 + (-1 : Int32)) σ5.1)) ∧ (¬ (0 : Int32) = 0 → (xsi κ .byte σ5 b4 (e1.2 + (-1 : Int32) + (-1 : Int32)) (45 : Int32) fun σ6 => K (e1.2 + (-1 : Int32) + (-1 : Int32)) σ6.1))))) ∧ (¬ (-9 : Int32) ≤ e1.1 → (xai .byte σ5 (κ 4) (-e1.1) fun v7 => xsi κ .byte σ5 b4 (e1.2 + (-1 : Int32) + (-1 : Int32)) v7 fun σ8 => (((0 : Int32) = 0 → (K (e1.2 + (-1 : Int32) + (-1 : Int32)) σ8.1)) ∧ (¬ (0 : Int32) = 0 → (xsi κ .byte σ8 b4 (e1.2 + (-1 : Int32) + (-1 : Int32) + (-1 : Int32)) (45 : Int32) fun σ9 => K (e1.2 + (-1 : Int32) + (-1 : Int32) + (-1 : Int32)) σ9.1))))))) x2 (0 : Int32)) ((-x0), x1) σ)) ∧ (¬ (0 : Int32) = 0 → (xwhile (B_J23_getChars_22 κ (fun e10 σ11 => xai .byte σ11 (κ 3) (-e10.1) fun v12 => xnn x2 fun b13 => xsi κ .byte σ11 b13 (e10.2 + (-1 : Int32)) v12 fun σ14 => (((-9 : Int32) ≤ e10.1 → ((((0 : Int32) = 0 → (K (e10.2 + (-1 : Int32)) σ14.1)) ∧ (¬ (0 : Int32) = 0 → (xsi κ .byte σ14 b13 (e10.2 + (-1 : Int32) + (-1 : Int32)) (45 : Int32) fun σ15 => K (e10.2 + (-1 : Int32) + (-1 : Int32)) σ15.1))))) ∧ (¬ (-9 : Int32) ≤ e10.1 → (xai .byte σ14 (κ 4) (-e10.1) fun v16 => xsi κ .byte σ14 b13 (e10.2 + (-1 : Int32) + (-1 : Int32)) v16 fun σ17 => (((0 : Int32) = 0 → (K (e10.2 + (-1 : Int32) + (-1 : Int32)) σ17.1)) ∧ (¬ (0 : Int32) = 0 → (xsi κ .byte σ17 b13 (e10.2 + (-1 : Int32) + (-1 : Int32) + (-1 : Int32)) (45 : Int32) fun σ18 => K (e10.2 + (-1 : Int32) + (-1 : Int32) + (-1 : Int32)) σ18.1))))))) x2 (0 : Int32)) (x0, x1) σ))))) ∧ (¬ 0 ≤ x0 → ((((1 : Int32) = 0 → (xwhile (B_J23_getChars_22 κ (fun e19 σ20 => xai .byte σ20 (κ 3) (-e19.1) fun v21 => xnn x2 fun b22 => xsi κ .byte σ20 b22 (e19.2 + (-1 : Int32)) v21 fun σ23 => (((-9 : Int32) ≤ e19.1 → ((((1 : Int32) = 0 → (K (e19.2 + (-1 : Int32)) σ23.1)) ∧ (¬ (1 : Int32) = 0 → (xsi κ .byte σ23 b22 (e19.2 + (-1 : Int32) + (-1 : Int32)) (45 : Int32) fun σ24 => K (e19.2 + (-1 : Int32) + (-1 : Int32)) σ24.1))))) ∧ (¬ (-9 : Int32) ≤ e19.1 → (xai .byte σ23 (κ 4) (-e19.1) fun v25 => xsi κ .byte σ23 b22 (e19.2 + (-1 : Int32) + (-1 : Int32)) v25 fun σ26 => (((1 : Int32) = 0 → (K (e19.2 + (-1 : Int32) + (-1 : Int32)) σ26.1)) ∧ (¬ (1 : Int32) = 0 → (xsi κ .byte σ26 b22 (e19.2 + (-1 : Int32) + (-1 : Int32) + (-1 : Int32)) (45 : Int32) fun σ27 => K (e19.2 + (-1 : Int32) + (-1 : Int32) + (-1 : Int32)) σ27.1))))))) x2 (1 : Int32)) ((-x0), x1) σ)) ∧ (¬ (1 : Int32) = 0 → (xwhile (B_J23_getChars_22 κ (fun e28 σ29 => xai .byte σ29 (κ 3) (-e28.1) fun v30 => xnn x2 fun b31 => xsi κ .byte σ29 b31 (e28.2 + (-1 : Int32)) v30 fun σ32 => (((-9 : Int32) ≤ e28.1 → ((((1 : Int32) = 0 → (K (e28.2 + (-1 : Int32)) σ32.1)) ∧ (¬ (1 : Int32) = 0 → (xsi κ .byte σ32 b31 (e28.2 + (-1 : Int32) + (-1 : Int32)) (45 : Int32) fun σ33 => K (e28.2 + (-1 : Int32) + (-1 : Int32)) σ33.1))))) ∧ (¬ (-9 : Int32) ≤ e28.1 → (xai .byte σ32 (κ 4) (-e28.1) fun v34 => xsi κ .byte σ32 b31 (e28.2 + (-1 : Int32) + (-1 : Int32)) v34 fun σ35 => (((1 : Int32) = 0 → (K (e28.2 + (-1 : Int32) + (-1 : Int32)) σ35.1)) ∧ (¬ (1 : Int32) = 0 → (xsi κ .byte σ35 b31 (e28.2 + (-1 : Int32) + (-1 : Int32) + (-1 : Int32)) (45 : Int32) fun σ36 => K (e28.2 + (-1 : Int32) + (-1 : Int32) + (-1 : Int32)) σ36.1))))))) x2 (1 : Int32)) (x0, x1) σ))))))
theorem mdJ23_getChars : yJ23_getChars.cls ≠ "java/lang/invoke/MethodHandle" ∧ yJ23_getChars.cls ≠ "java/lang/invoke/VarHandle" ∧ (parseMethodDescriptor yJ23_getChars.desc).map (fun d => d.parameters.length) = some 3 := by decide +kernel
set_option maxHeartbeats 4000000 in
set_option maxRecDepth 100000 in
theorem R_J23_getChars (l : Launch) (hl : l.stackTraces = false) (G : xG) (hG : G.1.2 = x_cl) (x0 : Int32) (x1 : Int32) (x2 : Option Nat) (σ : xS) (K : Int32 → xH → Prop) (hp : P_J23_getChars G.2 x0 x1 x2 σ K) : xM l yJ23_getChars cJ23_getChars 7 (Option.some Jvm.ClassFile.FieldType.int) 0 0 G [.int x0, .int x1, va_rf x2] σ (xlift emI K) := by
  refine x_entry (by decide) (by simp [lg_sl, x_catq, x_cati, x_catr, x_catn]) ?_
  intro p e s m args below meth c X hr hin
  have X : xX p s m args meth c G cJ23_getChars 7 RJ23 := X
  have hx := X.1
  have hb := X.2.1
  have hts := X.2.2.2.2.1
  have hown := X.2.2.2.1
  unfold P_J23_getChars at hp
  refine x_same (lo' := [(0, .int x0), (1, .int x1), (2, va_rf x2)]) (by simp [lv_args, x_catq, x_cati, x_catr, x_catn]) ?_
  refine x_up (pc' := 1) (fun _ _ _ _ _ L => lv_iload_n hx hb dJ23_getChars_0 rfl (lv_at L 1 rfl)) ?_
  refine x_upL (pc' := 3) (lo' := [(5, .int x1), (0, .int x0), (1, .int x1), (2, va_rf x2)]) (fun _ _ _ _ _ L => lv_istore hx hb dJ23_getChars_1 L (by decide) rfl) ?_
  refine x_up (pc' := 4) (fun _ _ _ _ _ L => lv_iload_n hx hb dJ23_getChars_3 rfl (lv_at L 1 rfl)) ?_
  refine x_if (C := 0 ≤ x0) (pt := 11) (pc' := 7) (fun _ _ _ _ _ => lv_if_ge (tgt := 11) hx hb dJ23_getChars_4 (by decide)) (fun c4 => ?_) (fun c4 => ?_)
  · have hp1 := hp.1 c4
    refine x_up (pc' := 12) (fun _ _ _ _ _ L => lv_iconst (v := (0 : Int32)) hx hb dJ23_getChars_11 (by decide)) ?_
    refine x_upL (pc' := 14) (lo' := [(6, .int (0 : Int32)), (5, .int x1), (0, .int x0), (1, .int x1), (2, va_rf x2)]) (fun _ _ _ _ _ L => lv_istore hx hb dJ23_getChars_12 L (by decide) rfl) ?_
    refine x_up (pc' := 16) (fun _ _ _ _ _ L => lv_iload hx hb dJ23_getChars_14 (lv_at L 0 rfl)) ?_
    refine x_ifn (C := (0 : Int32) = 0) (pt := 22) (pc' := 19) (fun _ _ _ _ _ => lv_if_ne (tgt := 22) hx hb dJ23_getChars_16 (by decide)) (fun c16 => ?_) (fun c16 => ?_)
    · have hp2 := hp1.1 c16
      refine x_up (pc' := 20) (fun _ _ _ _ _ L => lv_iload_n hx hb dJ23_getChars_19 rfl (lv_at L 2 rfl)) ?_
      refine x_up (pc' := 21) (fun _ _ _ _ _ L => lv_ineg hx hb dJ23_getChars_20) ?_
      refine x_upL (pc' := 22) (lo' := [(0, .int (-x0)), (6, .int (0 : Int32)), (5, .int x1), (1, .int x1), (2, va_rf x2)]) (fun _ _ _ _ _ L => lv_istore_n hx hb dJ23_getChars_21 rfl L (by decide) rfl) ?_
      refine x_lo (lo' := [(0, .int (-x0)), (5, .int x1), (2, va_rf x2), (6, .int (0 : Int32))]) [0, 2, 4, 1] rfl ?_
      refine x_while (v0 := ((-x0), x1)) (fun w1 => [(0, .int w1.1), (5, .int w1.2), (2, va_rf x2), (6, .int (0 : Int32))]) hp2 (fun self2 hself3 => ?_)
      rintro ⟨y5, y6⟩ σ4 hp3
      unfold B_J23_getChars_22 at hp3
      refine x_same (lo' := [(0, .int y5), (5, .int y6), (2, va_rf x2), (6, .int (0 : Int32))]) rfl ?_
      refine x_up (pc' := 23) (fun _ _ _ _ _ L => lv_iload_n hx hb dJ23_getChars_22 rfl (lv_at L 0 rfl)) ?_
      refine x_up (pc' := 25) (fun _ _ _ _ _ L => lv_bipush (v := (-100 : Int32)) hx hb dJ23_getChars_23 (by decide)) ?_
      refine x_if (C := (-100 : Int32) < y5) (pt := 72) (pc' := 28) (fun _ _ _ _ _ => lv_icmp_gt (tgt := 72) hx hb dJ23_getChars_25 (by decide)) (fun c25 => ?_) (fun c25 => ?_)
      · have hp4 := hp3.1 c25
        refine x_up (pc' := 73) (fun _ _ _ _ _ L => lv_aloadq_n hx hb dJ23_getChars_72 rfl (lv_at L 2 rfl)) ?_
        refine x_upL (pc' := 76) (lo' := [(5, .int (y6 + (-1 : Int32))), (0, .int y5), (2, va_rf x2), (6, .int (0 : Int32))]) (fun _ _ _ _ _ L => lv_iinc (v := y6 + (-1 : Int32)) hx hb dJ23_getChars_73 L (k := 1) rfl rfl (by decide) rfl) ?_
        refine x_up (pc' := 78) (fun _ _ _ _ _ L => lv_iload hx hb dJ23_getChars_76 (lv_at L 0 rfl)) ?_
        refine x_gets (C := "java/lang/Integer") (n := "DigitOnes") (d := "[B") (v := .ref (G.2 3)) X (by simp [x_sts]) q979 (fun _ h => h) dJ23_getChars_78 ?_
        refine x_pc (pc' := 81) rfl ?_
        refine x_up (pc' := 82) (fun _ _ _ _ _ L => lv_iload_n hx hb dJ23_getChars_81 rfl (lv_at L 1 rfl)) ?_
        refine x_up (pc' := 83) (fun _ _ _ _ _ L => lv_ineg hx hb dJ23_getChars_82) ?_
        refine x_bald X dJ23_getChars_83 hp4 (fun v7 hp5 => ?_)
        refine x_pc (pc' := 84) rfl ?_
        obtain ⟨b8, rfl, hp6⟩ := hp5
        refine x_bast X dJ23_getChars_84 hp6 (fun σ9 hp7 => ?_)
        refine x_pc (pc' := 85) rfl ?_
        refine x_up (pc' := 86) (fun _ _ _ _ _ L => lv_iload_n hx hb dJ23_getChars_85 rfl (lv_at L 1 rfl)) ?_
        refine x_up (pc' := 88) (fun _ _ _ _ _ L => lv_bipush (v := (-9 : Int32)) hx hb dJ23_getChars_86 (by decide)) ?_
        refine x_if (C := (-9 : Int32) ≤ y5) (pt := 104) (pc' := 91) (fun _ _ _ _ _ => lv_icmp_ge (tgt := 104) hx hb dJ23_getChars_88 (by decide)) (fun c88 => ?_) (fun c88 => ?_)
        · have hp8 := hp7.1 c88
          refine x_up (pc' := 106) (fun _ _ _ _ _ L => lv_iload hx hb dJ23_getChars_104 (lv_at L 3 rfl)) ?_
          refine x_if (C := (0 : Int32) = 0) (pt := 118) (pc' := 109) (fun _ _ _ _ _ => lv_if_eq (tgt := 118) hx hb dJ23_getChars_106 (by decide)) (fun c106 => ?_) (fun c106 => ?_)
          · have hp9 := hp8.1 c106
            refine x_up (pc' := 120) (fun _ _ _ _ _ L => lv_iload hx hb dJ23_getChars_118 (lv_at L 0 rfl)) ?_
            exact x_iret X hr rfl dJ23_getChars_120 hp9
          · have hp10 := hp8.2 c106
            refine x_up (pc' := 110) (fun _ _ _ _ _ L => lv_aload_n hx hb dJ23_getChars_109 rfl (lv_at L 2 rfl)) ?_
            refine x_upL (pc' := 113) (lo' := [(5, .int (y6 + (-1 : Int32) + (-1 : Int32))), (0, .int y5), (2, .ref b8), (6, .int (0 : Int32))]) (fun _ _ _ _ _ L => lv_iinc (v := y6 + (-1 : Int32) + (-1 : Int32)) hx hb dJ23_getChars_110 L (k := 0) rfl rfl (by decide) rfl) ?_
            refine x_up (pc' := 115) (fun _ _ _ _ _ L => lv_iload hx hb dJ23_getChars_113 (lv_at L 0 rfl)) ?_
            refine x_up (pc' := 117) (fun _ _ _ _ _ L => lv_bipush (v := (45 : Int32)) hx hb dJ23_getChars_115 (by decide)) ?_
            refine x_bast X dJ23_getChars_117 hp10 (fun σ10 hp11 => ?_)
            refine x_pc (pc' := 118) rfl ?_
            refine x_up (pc' := 120) (fun _ _ _ _ _ L => lv_iload hx hb dJ23_getChars_118 (lv_at L 0 rfl)) ?_
            exact x_iret X hr rfl dJ23_getChars_120 hp11
        · have hp12 := hp7.2 c88
          refine x_up (pc' := 92) (fun _ _ _ _ _ L => lv_aload_n hx hb dJ23_getChars_91 rfl (lv_at L 2 rfl)) ?_
          refine x_upL (pc' := 95) (lo' := [(5, .int (y6 + (-1 : Int32) + (-1 : Int32))), (0, .int y5), (2, .ref b8), (6, .int (0 : Int32))]) (fun _ _ _ _ _ L => lv_iinc (v := y6 + (-1 : Int32) + (-1 : Int32)) hx hb dJ23_getChars_92 L (k := 0) rfl rfl (by decide) rfl) ?_
          refine x_up (pc' := 97) (fun _ _ _ _ _ L => lv_iload hx hb dJ23_getChars_95 (lv_at L 0 rfl)) ?_
          refine x_gets (C := "java/lang/Integer") (n := "DigitTens") (d := "[B") (v := .ref (G.2 4)) X (by simp [x_sts]) q981 (fun _ h => h) dJ23_getChars_97 ?_
          refine x_pc (pc' := 100) rfl ?_
          refine x_up (pc' := 101) (fun _ _ _ _ _ L => lv_iload_n hx hb dJ23_getChars_100 rfl (lv_at L 1 rfl)) ?_
          refine x_up (pc' := 102) (fun _ _ _ _ _ L => lv_ineg hx hb dJ23_getChars_101) ?_
          refine x_bald X dJ23_getChars_102 hp12 (fun v11 hp13 => ?_)
          refine x_pc (pc' := 103) rfl ?_
          refine x_bast X dJ23_getChars_103 hp13 (fun σ12 hp14 => ?_)
          refine x_pc (pc' := 104) rfl ?_
          refine x_up (pc' := 106) (fun _ _ _ _ _ L => lv_iload hx hb dJ23_getChars_104 (lv_at L 3 rfl)) ?_
          refine x_if (C := (0 : Int32) = 0) (pt := 118) (pc' := 109) (fun _ _ _ _ _ => lv_if_eq (tgt := 118) hx hb dJ23_getChars_106 (by decide)) (fun c106 => ?_) (fun c106 => ?_)
          · have hp15 := hp14.1 c106
            refine x_up (pc' := 120) (fun _ _ _ _ _ L => lv_iload hx hb dJ23_getChars_118 (lv_at L 0 rfl)) ?_
            exact x_iret X hr rfl dJ23_getChars_120 hp15
          · have hp16 := hp14.2 c106
            refine x_up (pc' := 110) (fun _ _ _ _ _ L => lv_aload_n hx hb dJ23_getChars_109 rfl (lv_at L 2 rfl)) ?_
            refine x_upL (pc' := 113) (lo' := [(5, .int (y6 + (-1 : Int32) + (-1 : Int32) + (-1 : Int32))), (0, .int y5), (2, .ref b8), (6, .int (0 : Int32))]) (fun _ _ _ _ _ L => lv_iinc (v := y6 + (-1 : Int32) + (-1 : Int32) + (-1 : Int32)) hx hb dJ23_getChars_110 L (k := 0) rfl rfl (by decide) rfl) ?_
            refine x_up (pc' := 115) (fun _ _ _ _ _ L => lv_iload hx hb dJ23_getChars_113 (lv_at L 0 rfl)) ?_
            refine x_up (pc' := 117) (fun _ _ _ _ _ L => lv_bipush (v := (45 : Int32)) hx hb dJ23_getChars_115 (by decide)) ?_
            refine x_bast X dJ23_getChars_117 hp16 (fun σ13 hp17 => ?_)
            refine x_pc (pc' := 118) rfl ?_
            refine x_up (pc' := 120) (fun _ _ _ _ _ L => lv_iload hx hb dJ23_getChars_118 (lv_at L 0 rfl)) ?_
            exact x_iret X hr rfl dJ23_getChars_120 hp17
      · have hp18 := hp3.2 c25
        refine x_up (pc' := 29) (fun _ _ _ _ _ L => lv_iload_n hx hb dJ23_getChars_28 rfl (lv_at L 0 rfl)) ?_
        refine x_up (pc' := 31) (fun _ _ _ _ _ L => lv_bipush (v := (100 : Int32)) hx hb dJ23_getChars_29 (by decide)) ?_
        refine x_up (pc' := 32) (fun _ _ _ _ _ L => lv_idiv hx hb dJ23_getChars_31 (by decide)) ?_
        refine x_st (pc' := 33) ([(3, .int (y5 / (100 : Int32))), (0, .int y5), (5, .int y6), (2, va_rf x2), (6, .int (0 : Int32))]) rfl (by simp [x_catq, x_cati, x_catr, x_catn]) (fun _ _ _ _ _ L => lv_istore_n hx hb dJ23_getChars_32 rfl L (by decide) rfl) ?_
        refine x_up (pc' := 34) (fun _ _ _ _ _ L => lv_iload_n hx hb dJ23_getChars_33 rfl (lv_at L 0 rfl)) ?_
        refine x_up (pc' := 36) (fun _ _ _ _ _ L => lv_bipush (v := (100 : Int32)) hx hb dJ23_getChars_34 (by decide)) ?_
        refine x_up (pc' := 37) (fun _ _ _ _ _ L => lv_imul hx hb dJ23_getChars_36) ?_
        refine x_up (pc' := 38) (fun _ _ _ _ _ L => lv_iload_n hx hb dJ23_getChars_37 rfl (lv_at L 1 rfl)) ?_
        refine x_up (pc' := 39) (fun _ _ _ _ _ L => lv_isub hx hb dJ23_getChars_38) ?_
        refine x_upL (pc' := 41) (lo' := [(4, .int (((y5 / (100 : Int32)) * (100 : Int32)) - y5)), (3, .int (y5 / (100 : Int32))), (0, .int y5), (5, .int y6), (2, va_rf x2), (6, .int (0 : Int32))]) (fun _ _ _ _ _ L => lv_istore hx hb dJ23_getChars_39 L (by decide) rfl) ?_
        refine x_up (pc' := 42) (fun _ _ _ _ _ L => lv_iload_n hx hb dJ23_getChars_41 rfl (lv_at L 1 rfl)) ?_
        refine x_upL (pc' := 43) (lo' := [(0, .int (y5 / (100 : Int32))), (4, .int (((y5 / (100 : Int32)) * (100 : Int32)) - y5)), (3, .int (y5 / (100 : Int32))), (5, .int y6), (2, va_rf x2), (6, .int (0 : Int32))]) (fun _ _ _ _ _ L => lv_istore_n hx hb dJ23_getChars_42 rfl L (by decide) rfl) ?_
        refine x_up (pc' := 44) (fun _ _ _ _ _ L => lv_aloadq_n hx hb dJ23_getChars_43 rfl (lv_at L 4 rfl)) ?_
        refine x_upL (pc' := 47) (lo' := [(5, .int (y6 + (-1 : Int32))), (0, .int (y5 / (100 : Int32))), (4, .int (((y5 / (100 : Int32)) * (100 : Int32)) - y5)), (3, .int (y5 / (100 : Int32))), (2, va_rf x2), (6, .int (0 : Int32))]) (fun _ _ _ _ _ L => lv_iinc (v := y6 + (-1 : Int32)) hx hb dJ23_getChars_44 L (k := 3) rfl rfl (by decide) rfl) ?_
        refine x_up (pc' := 49) (fun _ _ _ _ _ L => lv_iload hx hb dJ23_getChars_47 (lv_at L 0 rfl)) ?_
        refine x_gets (C := "java/lang/Integer") (n := "DigitOnes") (d := "[B") (v := .ref (G.2 3)) X (by simp [x_sts]) q979 (fun _ h => h) dJ23_getChars_49 ?_
        refine x_pc (pc' := 52) rfl ?_
        refine x_up (pc' := 54) (fun _ _ _ _ _ L => lv_iload hx hb dJ23_getChars_52 (lv_at L 2 rfl)) ?_
        refine x_bald X dJ23_getChars_54 hp18 (fun v14 hp19 => ?_)
        refine x_pc (pc' := 55) rfl ?_
        obtain ⟨b15, rfl, hp20⟩ := hp19
        refine x_bast X dJ23_getChars_55 hp20 (fun σ16 hp21 => ?_)
        refine x_pc (pc' := 56) rfl ?_
        refine x_up (pc' := 57) (fun _ _ _ _ _ L => lv_aload_n hx hb dJ23_getChars_56 rfl (lv_at L 4 rfl)) ?_
        refine x_upL (pc' := 60) (lo' := [(5, .int (y6 + (-1 : Int32) + (-1 : Int32))), (0, .int (y5 / (100 : Int32))), (4, .int (((y5 / (100 : Int32)) * (100 : Int32)) - y5)), (3, .int (y5 / (100 : Int32))), (2, .ref b15), (6, .int (0 : Int32))]) (fun _ _ _ _ _ L => lv_iinc (v := y6 + (-1 : Int32) + (-1 : Int32)) hx hb dJ23_getChars_57 L (k := 0) rfl rfl (by decide) rfl) ?_
        refine x_up (pc' := 62) (fun _ _ _ _ _ L => lv_iload hx hb dJ23_getChars_60 (lv_at L 0 rfl)) ?_
        refine x_gets (C := "java/lang/Integer") (n := "DigitTens") (d := "[B") (v := .ref (G.2 4)) X (by simp [x_sts]) q981 (fun _ h => h) dJ23_getChars_62 ?_
        refine x_pc (pc' := 65) rfl ?_
        refine x_up (pc' := 67) (fun _ _ _ _ _ L => lv_iload hx hb dJ23_getChars_65 (lv_at L 2 rfl)) ?_
        refine x_bald X dJ23_getChars_67 hp21 (fun v17 hp22 => ?_)
        refine x_pc (pc' := 68) rfl ?_
        refine x_bast X dJ23_getChars_68 hp22 (fun σ18 hp23 => ?_)
        refine x_pc (pc' := 69) rfl ?_
        refine x_up (pc' := 22) (fun _ _ _ _ _ L => lv_goto (tgt := 22) hx hb dJ23_getChars_69 (by decide)) ?_
        refine x_lo (lo' := [(0, .int (y5 / (100 : Int32))), (5, .int (y6 + (-1 : Int32) + (-1 : Int32))), (2, .ref b15), (6, .int (0 : Int32))]) [1, 0, 4, 5] rfl ?_
        exact hself3 ((y5 / (100 : Int32)), (y6 + (-1 : Int32) + (-1 : Int32))) σ18 hp23
    · have hp24 := hp1.2 c16
      refine x_lo (lo' := [(0, .int x0), (5, .int x1), (2, va_rf x2), (6, .int (0 : Int32))]) [2, 1, 4, 0] rfl ?_
      refine x_while (v0 := (x0, x1)) (fun w19 => [(0, .int w19.1), (5, .int w19.2), (2, va_rf x2), (6, .int (0 : Int32))]) hp24 (fun self20 hself21 => ?_)
      rintro ⟨y23, y24⟩ σ22 hp25
      unfold B_J23_getChars_22 at hp25
      refine x_same (lo' := [(0, .int y23), (5, .int y24), (2, va_rf x2), (6, .int (0 : Int32))]) rfl ?_
      refine x_up (pc' := 23) (fun _ _ _ _ _ L => lv_iload_n hx hb dJ23_getChars_22 rfl (lv_at L 0 rfl)) ?_
      refine x_up (pc' := 25) (fun _ _ _ _ _ L => lv_bipush (v := (-100 : Int32)) hx hb dJ23_getChars_23 (by decide)) ?_
      refine x_if (C := (-100 : Int32) < y23) (pt := 72) (pc' := 28) (fun _ _ _ _ _ => lv_icmp_gt (tgt := 72) hx hb dJ23_getChars_25 (by decide)) (fun c25 => ?_) (fun c25 => ?_)
      · have hp26 := hp25.1 c25
        refine x_up (pc' := 73) (fun _ _ _ _ _ L => lv_aloadq_n hx hb dJ23_getChars_72 rfl (lv_at L 2 rfl)) ?_
        refine x_upL (pc' := 76) (lo' := [(5, .int (y24 + (-1 : Int32))), (0, .int y23), (2, va_rf x2), (6, .int (0 : Int32))]) (fun _ _ _ _ _ L => lv_iinc (v := y24 + (-1 : Int32)) hx hb dJ23_getChars_73 L (k := 1) rfl rfl (by decide) rfl) ?_
        refine x_up (pc' := 78) (fun _ _ _ _ _ L => lv_iload hx hb dJ23_getChars_76 (lv_at L 0 rfl)) ?_
        refine x_gets (C := "java/lang/Integer") (n := "DigitOnes") (d := "[B") (v := .ref (G.2 3)) X (by simp [x_sts]) q979 (fun _ h => h) dJ23_getChars_78 ?_
        refine x_pc (pc' := 81) rfl ?_
        refine x_up (pc' := 82) (fun _ _ _ _ _ L => lv_iload_n hx hb dJ23_getChars_81 rfl (lv_at L 1 rfl)) ?_
        refine x_up (pc' := 83) (fun _ _ _ _ _ L => lv_ineg hx hb dJ23_getChars_82) ?_
        refine x_bald X dJ23_getChars_83 hp26 (fun v25 hp27 => ?_)
        refine x_pc (pc' := 84) rfl ?_
        obtain ⟨b26, rfl, hp28⟩ := hp27
        refine x_bast X dJ23_getChars_84 hp28 (fun σ27 hp29 => ?_)
        refine x_pc (pc' := 85) rfl ?_
        refine x_up (pc' := 86) (fun _ _ _ _ _ L => lv_iload_n hx hb dJ23_getChars_85 rfl (lv_at L 1 rfl)) ?_
        refine x_up (pc' := 88) (fun _ _ _ _ _ L => lv_bipush (v := (-9 : Int32)) hx hb dJ23_getChars_86 (by decide)) ?_
        refine x_if (C := (-9 : Int32) ≤ y23) (pt := 104) (pc' := 91) (fun _ _ _ _ _ => lv_icmp_ge (tgt := 104) hx hb dJ23_getChars_88 (by decide)) (fun c88 => ?_) (fun c88 => ?_)
        · have hp30 := hp29.1 c88
          refine x_up (pc' := 106) (fun _ _ _ _ _ L => lv_iload hx hb dJ23_getChars_104 (lv_at L 3 rfl)) ?_
          refine x_if (C := (0 : Int32) = 0) (pt := 118) (pc' := 109) (fun _ _ _ _ _ => lv_if_eq (tgt := 118) hx hb dJ23_getChars_106 (by decide)) (fun c106 => ?_) (fun c106 => ?_)
          · have hp31 := hp30.1 c106
            refine x_up (pc' := 120) (fun _ _ _ _ _ L => lv_iload hx hb dJ23_getChars_118 (lv_at L 0 rfl)) ?_
            exact x_iret X hr rfl dJ23_getChars_120 hp31
          · have hp32 := hp30.2 c106
            refine x_up (pc' := 110) (fun _ _ _ _ _ L => lv_aload_n hx hb dJ23_getChars_109 rfl (lv_at L 2 rfl)) ?_
            refine x_upL (pc' := 113) (lo' := [(5, .int (y24 + (-1 : Int32) + (-1 : Int32))), (0, .int y23), (2, .ref b26), (6, .int (0 : Int32))]) (fun _ _ _ _ _ L => lv_iinc (v := y24 + (-1 : Int32) + (-1 : Int32)) hx hb dJ23_getChars_110 L (k := 0) rfl rfl (by decide) rfl) ?_
            refine x_up (pc' := 115) (fun _ _ _ _ _ L => lv_iload hx hb dJ23_getChars_113 (lv_at L 0 rfl)) ?_
            refine x_up (pc' := 117) (fun _ _ _ _ _ L => lv_bipush (v := (45 : Int32)) hx hb dJ23_getChars_115 (by decide)) ?_
            refine x_bast X dJ23_getChars_117 hp32 (fun σ28 hp33 => ?_)
            refine x_pc (pc' := 118) rfl ?_
            refine x_up (pc' := 120) (fun _ _ _ _ _ L => lv_iload hx hb dJ23_getChars_118 (lv_at L 0 rfl)) ?_
            exact x_iret X hr rfl dJ23_getChars_120 hp33
        · have hp34 := hp29.2 c88
          refine x_up (pc' := 92) (fun _ _ _ _ _ L => lv_aload_n hx hb dJ23_getChars_91 rfl (lv_at L 2 rfl)) ?_
          refine x_upL (pc' := 95) (lo' := [(5, .int (y24 + (-1 : Int32) + (-1 : Int32))), (0, .int y23), (2, .ref b26), (6, .int (0 : Int32))]) (fun _ _ _ _ _ L => lv_iinc (v := y24 + (-1 : Int32) + (-1 : Int32)) hx hb dJ23_getChars_92 L (k := 0) rfl rfl (by decide) rfl) ?_
          refine x_up (pc' := 97) (fun _ _ _ _ _ L => lv_iload hx hb dJ23_getChars_95 (lv_at L 0 rfl)) ?_
          refine x_gets (C := "java/lang/Integer") (n := "DigitTens") (d := "[B") (v := .ref (G.2 4)) X (by simp [x_sts]) q981 (fun _ h => h) dJ23_getChars_97 ?_
          refine x_pc (pc' := 100) rfl ?_
          refine x_up (pc' := 101) (fun _ _ _ _ _ L => lv_iload_n hx hb dJ23_getChars_100 rfl (lv_at L 1 rfl)) ?_
          refine x_up (pc' := 102) (fun _ _ _ _ _ L => lv_ineg hx hb dJ23_getChars_101) ?_
          refine x_bald X dJ23_getChars_102 hp34 (fun v29 hp35 => ?_)
          refine x_pc (pc' := 103) rfl ?_
          refine x_bast X dJ23_getChars_103 hp35 (fun σ30 hp36 => ?_)
          refine x_pc (pc' := 104) rfl ?_
          refine x_up (pc' := 106) (fun _ _ _ _ _ L => lv_iload hx hb dJ23_getChars_104 (lv_at L 3 rfl)) ?_
          refine x_if (C := (0 : Int32) = 0) (pt := 118) (pc' := 109) (fun _ _ _ _ _ => lv_if_eq (tgt := 118) hx hb dJ23_getChars_106 (by decide)) (fun c106 => ?_) (fun c106 => ?_)
          · have hp37 := hp36.1 c106
            refine x_up (pc' := 120) (fun _ _ _ _ _ L => lv_iload hx hb dJ23_getChars_118 (lv_at L 0 rfl)) ?_
            exact x_iret X hr rfl dJ23_getChars_120 hp37
          · have hp38 := hp36.2 c106
            refine x_up (pc' := 110) (fun _ _ _ _ _ L => lv_aload_n hx hb dJ23_getChars_109 rfl (lv_at L 2 rfl)) ?_
            refine x_upL (pc' := 113) (lo' := [(5, .int (y24 + (-1 : Int32) + (-1 : Int32) + (-1 : Int32))), (0, .int y23), (2, .ref b26), (6, .int (0 : Int32))]) (fun _ _ _ _ _ L => lv_iinc (v := y24 + (-1 : Int32) + (-1 : Int32) + (-1 : Int32)) hx hb dJ23_getChars_110 L (k := 0) rfl rfl (by decide) rfl) ?_
            refine x_up (pc' := 115) (fun _ _ _ _ _ L => lv_iload hx hb dJ23_getChars_113 (lv_at L 0 rfl)) ?_
            refine x_up (pc' := 117) (fun _ _ _ _ _ L => lv_bipush (v := (45 : Int32)) hx hb dJ23_getChars_115 (by decide)) ?_
            refine x_bast X dJ23_getChars_117 hp38 (fun σ31 hp39 => ?_)
            refine x_pc (pc' := 118) rfl ?_
            refine x_up (pc' := 120) (fun _ _ _ _ _ L => lv_iload hx hb dJ23_getChars_118 (lv_at L 0 rfl)) ?_
            exact x_iret X hr rfl dJ23_getChars_120 hp39
      · have hp40 := hp25.2 c25
        refine x_up (pc' := 29) (fun _ _ _ _ _ L => lv_iload_n hx hb dJ23_getChars_28 rfl (lv_at L 0 rfl)) ?_
        refine x_up (pc' := 31) (fun _ _ _ _ _ L => lv_bipush (v := (100 : Int32)) hx hb dJ23_getChars_29 (by decide)) ?_
        refine x_up (pc' := 32) (fun _ _ _ _ _ L => lv_idiv hx hb dJ23_getChars_31 (by decide)) ?_
        refine x_st (pc' := 33) ([(3, .int (y23 / (100 : Int32))), (0, .int y23), (5, .int y24), (2, va_rf x2), (6, .int (0 : Int32))]) rfl (by simp [x_catq, x_cati, x_catr, x_catn]) (fun _ _ _ _ _ L => lv_istore_n hx hb dJ23_getChars_32 rfl L (by decide) rfl) ?_
        refine x_up (pc' := 34) (fun _ _ _ _ _ L => lv_iload_n hx hb dJ23_getChars_33 rfl (lv_at L 0 rfl)) ?_
        refine x_up (pc' := 36) (fun _ _ _ _ _ L => lv_bipush (v := (100 : Int32)) hx hb dJ23_getChars_34 (by decide)) ?_
        refine x_up (pc' := 37) (fun _ _ _ _ _ L => lv_imul hx hb dJ23_getChars_36) ?_
        refine x_up (pc' := 38) (fun _ _ _ _ _ L => lv_iload_n hx hb dJ23_getChars_37 rfl (lv_at L 1 rfl)) ?_
        refine x_up (pc' := 39) (fun _ _ _ _ _ L => lv_isub hx hb dJ23_getChars_38) ?_
        refine x_upL (pc' := 41) (lo' := [(4, .int (((y23 / (100 : Int32)) * (100 : Int32)) - y23)), (3, .int (y23 / (100 : Int32))), (0, .int y23), (5, .int y24), (2, va_rf x2), (6, .int (0 : Int32))]) (fun _ _ _ _ _ L => lv_istore hx hb dJ23_getChars_39 L (by decide) rfl) ?_
        refine x_up (pc' := 42) (fun _ _ _ _ _ L => lv_iload_n hx hb dJ23_getChars_41 rfl (lv_at L 1 rfl)) ?_
        refine x_upL (pc' := 43) (lo' := [(0, .int (y23 / (100 : Int32))), (4, .int (((y23 / (100 : Int32)) * (100 : Int32)) - y23)), (3, .int (y23 / (100 : Int32))), (5, .int y24), (2, va_rf x2), (6, .int (0 : Int32))]) (fun _ _ _ _ _ L => lv_istore_n hx hb dJ23_getChars_42 rfl L (by decide) rfl) ?_
        refine x_up (pc' := 44) (fun _ _ _ _ _ L => lv_aloadq_n hx hb dJ23_getChars_43 rfl (lv_at L 4 rfl)) ?_
        refine x_upL (pc' := 47) (lo' := [(5, .int (y24 + (-1 : Int32))), (0, .int (y23 / (100 : Int32))), (4, .int (((y23 / (100 : Int32)) * (100 : Int32)) - y23)), (3, .int (y23 / (100 : Int32))), (2, va_rf x2), (6, .int (0 : Int32))]) (fun _ _ _ _ _ L => lv_iinc (v := y24 + (-1 : Int32)) hx hb dJ23_getChars_44 L (k := 3) rfl rfl (by decide) rfl) ?_
        refine x_up (pc' := 49) (fun _ _ _ _ _ L => lv_iload hx hb dJ23_getChars_47 (lv_at L 0 rfl)) ?_
        refine x_gets (C := "java/lang/Integer") (n := "DigitOnes") (d := "[B") (v := .ref (G.2 3)) X (by simp [x_sts]) q979 (fun _ h => h) dJ23_getChars_49 ?_
        refine x_pc (pc' := 52) rfl ?_
        refine x_up (pc' := 54) (fun _ _ _ _ _ L => lv_iload hx hb dJ23_getChars_52 (lv_at L 2 rfl)) ?_
        refine x_bald X dJ23_getChars_54 hp40 (fun v32 hp41 => ?_)
        refine x_pc (pc' := 55) rfl ?_
        obtain ⟨b33, rfl, hp42⟩ := hp41
        refine x_bast X dJ23_getChars_55 hp42 (fun σ34 hp43 => ?_)
        refine x_pc (pc' := 56) rfl ?_
        refine x_up (pc' := 57) (fun _ _ _ _ _ L => lv_aload_n hx hb dJ23_getChars_56 rfl (lv_at L 4 rfl)) ?_
        refine x_upL (pc' := 60) (lo' := [(5, .int (y24 + (-1 : Int32) + (-1 : Int32))), (0, .int (y23 / (100 : Int32))), (4, .int (((y23 / (100 : Int32)) * (100 : Int32)) - y23)), (3, .int (y23 / (100 : Int32))), (2, .ref b33), (6, .int (0 : Int32))]) (fun _ _ _ _ _ L => lv_iinc (v := y24 + (-1 : Int32) + (-1 : Int32)) hx hb dJ23_getChars_57 L (k := 0) rfl rfl (by decide) rfl) ?_
        refine x_up (pc' := 62) (fun _ _ _ _ _ L => lv_iload hx hb dJ23_getChars_60 (lv_at L 0 rfl)) ?_
        refine x_gets (C := "java/lang/Integer") (n := "DigitTens") (d := "[B") (v := .ref (G.2 4)) X (by simp [x_sts]) q981 (fun _ h => h) dJ23_getChars_62 ?_
        refine x_pc (pc' := 65) rfl ?_
        refine x_up (pc' := 67) (fun _ _ _ _ _ L => lv_iload hx hb dJ23_getChars_65 (lv_at L 2 rfl)) ?_
        refine x_bald X dJ23_getChars_67 hp43 (fun v35 hp44 => ?_)
        refine x_pc (pc' := 68) rfl ?_
        refine x_bast X dJ23_getChars_68 hp44 (fun σ36 hp45 => ?_)
        refine x_pc (pc' := 69) rfl ?_
        refine x_up (pc' := 22) (fun _ _ _ _ _ L => lv_goto (tgt := 22) hx hb dJ23_getChars_69 (by decide)) ?_
        refine x_lo (lo' := [(0, .int (y23 / (100 : Int32))), (5, .int (y24 + (-1 : Int32) + (-1 : Int32))), (2, .ref b33), (6, .int (0 : Int32))]) [1, 0, 4, 5] rfl ?_
        exact hself21 ((y23 / (100 : Int32)), (y24 + (-1 : Int32) + (-1 : Int32))) σ36 hp45
  · have hp46 := hp.2 c4
    refine x_up (pc' := 8) (fun _ _ _ _ _ L => lv_iconst (v := (1 : Int32)) hx hb dJ23_getChars_7 (by decide)) ?_
    refine x_up (pc' := 12) (fun _ _ _ _ _ L => lv_goto (tgt := 12) hx hb dJ23_getChars_8 (by decide)) ?_
    refine x_upL (pc' := 14) (lo' := [(6, .int (1 : Int32)), (5, .int x1), (0, .int x0), (1, .int x1), (2, va_rf x2)]) (fun _ _ _ _ _ L => lv_istore hx hb dJ23_getChars_12 L (by decide) rfl) ?_
    refine x_up (pc' := 16) (fun _ _ _ _ _ L => lv_iload hx hb dJ23_getChars_14 (lv_at L 0 rfl)) ?_
    refine x_ifn (C := (1 : Int32) = 0) (pt := 22) (pc' := 19) (fun _ _ _ _ _ => lv_if_ne (tgt := 22) hx hb dJ23_getChars_16 (by decide)) (fun c16 => ?_) (fun c16 => ?_)
    · have hp47 := hp46.1 c16
      refine x_up (pc' := 20) (fun _ _ _ _ _ L => lv_iload_n hx hb dJ23_getChars_19 rfl (lv_at L 2 rfl)) ?_
      refine x_up (pc' := 21) (fun _ _ _ _ _ L => lv_ineg hx hb dJ23_getChars_20) ?_
      refine x_upL (pc' := 22) (lo' := [(0, .int (-x0)), (6, .int (1 : Int32)), (5, .int x1), (1, .int x1), (2, va_rf x2)]) (fun _ _ _ _ _ L => lv_istore_n hx hb dJ23_getChars_21 rfl L (by decide) rfl) ?_
      refine x_lo (lo' := [(0, .int (-x0)), (5, .int x1), (2, va_rf x2), (6, .int (1 : Int32))]) [0, 2, 4, 1] rfl ?_
      refine x_while (v0 := ((-x0), x1)) (fun w37 => [(0, .int w37.1), (5, .int w37.2), (2, va_rf x2), (6, .int (1 : Int32))]) hp47 (fun self38 hself39 => ?_)
      rintro ⟨y41, y42⟩ σ40 hp48
      unfold B_J23_getChars_22 at hp48
      refine x_same (lo' := [(0, .int y41), (5, .int y42), (2, va_rf x2), (6, .int (1 : Int32))]) rfl ?_
      refine x_up (pc' := 23) (fun _ _ _ _ _ L => lv_iload_n hx hb dJ23_getChars_22 rfl (lv_at L 0 rfl)) ?_
      refine x_up (pc' := 25) (fun _ _ _ _ _ L => lv_bipush (v := (-100 : Int32)) hx hb dJ23_getChars_23 (by decide)) ?_
      refine x_if (C := (-100 : Int32) < y41) (pt := 72) (pc' := 28) (fun _ _ _ _ _ => lv_icmp_gt (tgt := 72) hx hb dJ23_getChars_25 (by decide)) (fun c25 => ?_) (fun c25 => ?_)
      · have hp49 := hp48.1 c25
        refine x_up (pc' := 73) (fun _ _ _ _ _ L => lv_aloadq_n hx hb dJ23_getChars_72 rfl (lv_at L 2 rfl)) ?_
        refine x_upL (pc' := 76) (lo' := [(5, .int (y42 + (-1 : Int32))), (0, .int y41), (2, va_rf x2), (6, .int (1 : Int32))]) (fun _ _ _ _ _ L => lv_iinc (v := y42 + (-1 : Int32)) hx hb dJ23_getChars_73 L (k := 1) rfl rfl (by decide) rfl) ?_
        refine x_up (pc' := 78) (fun _ _ _ _ _ L => lv_iload hx hb dJ23_getChars_76 (lv_at L 0 rfl)) ?_
        refine x_gets (C := "java/lang/Integer") (n := "DigitOnes") (d := "[B") (v := .ref (G.2 3)) X (by simp [x_sts]) q979 (fun _ h => h) dJ23_getChars_78 ?_
        refine x_pc (pc' := 81) rfl ?_
        refine x_up (pc' := 82) (fun _ _ _ _ _ L => lv_iload_n hx hb dJ23_getChars_81 rfl (lv_at L 1 rfl)) ?_
        refine x_up (pc' := 83) (fun _ _ _ _ _ L => lv_ineg hx hb dJ23_getChars_82) ?_
        refine x_bald X dJ23_getChars_83 hp49 (fun v43 hp50 => ?_)
        refine x_pc (pc' := 84) rfl ?_
        obtain ⟨b44, rfl, hp51⟩ := hp50
        refine x_bast X dJ23_getChars_84 hp51 (fun σ45 hp52 => ?_)
        refine x_pc (pc' := 85) rfl ?_
        refine x_up (pc' := 86) (fun _ _ _ _ _ L => lv_iload_n hx hb dJ23_getChars_85 rfl (lv_at L 1 rfl)) ?_
        refine x_up (pc' := 88) (fun _ _ _ _ _ L => lv_bipush (v := (-9 : Int32)) hx hb dJ23_getChars_86 (by decide)) ?_
        refine x_if (C := (-9 : Int32) ≤ y41) (pt := 104) (pc' := 91) (fun _ _ _ _ _ => lv_icmp_ge (tgt := 104) hx hb dJ23_getChars_88 (by decide)) (fun c88 => ?_) (fun c88 => ?_)
        · have hp53 := hp52.1 c88
          refine x_up (pc' := 106) (fun _ _ _ _ _ L => lv_iload hx hb dJ23_getChars_104 (lv_at L 3 rfl)) ?_
          refine x_if (C := (1 : Int32) = 0) (pt := 118) (pc' := 109) (fun _ _ _ _ _ => lv_if_eq (tgt := 118) hx hb dJ23_getChars_106 (by decide)) (fun c106 => ?_) (fun c106 => ?_)
          · have hp54 := hp53.1 c106
            refine x_up (pc' := 120) (fun _ _ _ _ _ L => lv_iload hx hb dJ23_getChars_118 (lv_at L 0 rfl)) ?_
            exact x_iret X hr rfl dJ23_getChars_120 hp54
          · have hp55 := hp53.2 c106
            refine x_up (pc' := 110) (fun _ _ _ _ _ L => lv_aload_n hx hb dJ23_getChars_109 rfl (lv_at L 2 rfl)) ?_
            refine x_upL (pc' := 113) (lo' := [(5, .int (y42 + (-1 : Int32) + (-1 : Int32))), (0, .int y41), (2, .ref b44), (6, .int (1 : Int32))]) (fun _ _ _ _ _ L => lv_iinc (v := y42 + (-1 : Int32) + (-1 : Int32)) hx hb dJ23_getChars_110 L (k := 0) rfl rfl (by decide) rfl) ?_
            refine x_up (pc' := 115) (fun _ _ _ _ _ L => lv_iload hx hb dJ23_getChars_113 (lv_at L 0 rfl)) ?_
            refine x_up (pc' := 117) (fun _ _ _ _ _ L => lv_bipush (v := (45 : Int32)) hx hb dJ23_getChars_115 (by decide)) ?_
            refine x_bast X dJ23_getChars_117 hp55 (fun σ46 hp56 => ?_)
            refine x_pc (pc' := 118) rfl ?_
            refine x_up (pc' := 120) (fun _ _ _ _ _ L => lv_iload hx hb dJ23_getChars_118 (lv_at L 0 rfl)) ?_
            exact x_iret X hr rfl dJ23_getChars_120 hp56
        · have hp57 := hp52.2 c88
          refine x_up (pc' := 92) (fun _ _ _ _ _ L => lv_aload_n hx hb dJ23_getChars_91 rfl (lv_at L 2 rfl)) ?_
          refine x_upL (pc' := 95) (lo' := [(5, .int (y42 + (-1 : Int32) + (-1 : Int32))), (0, .int y41), (2, .ref b44), (6, .int (1 : Int32))]) (fun _ _ _ _ _ L => lv_iinc (v := y42 + (-1 : Int32) + (-1 : Int32)) hx hb dJ23_getChars_92 L (k := 0) rfl rfl (by decide) rfl) ?_
          refine x_up (pc' := 97) (fun _ _ _ _ _ L => lv_iload hx hb dJ23_getChars_95 (lv_at L 0 rfl)) ?_
          refine x_gets (C := "java/lang/Integer") (n := "DigitTens") (d := "[B") (v := .ref (G.2 4)) X (by simp [x_sts]) q981 (fun _ h => h) dJ23_getChars_97 ?_
          refine x_pc (pc' := 100) rfl ?_
          refine x_up (pc' := 101) (fun _ _ _ _ _ L => lv_iload_n hx hb dJ23_getChars_100 rfl (lv_at L 1 rfl)) ?_
          refine x_up (pc' := 102) (fun _ _ _ _ _ L => lv_ineg hx hb dJ23_getChars_101) ?_
          refine x_bald X dJ23_getChars_102 hp57 (fun v47 hp58 => ?_)
          refine x_pc (pc' := 103) rfl ?_
          refine x_bast X dJ23_getChars_103 hp58 (fun σ48 hp59 => ?_)
          refine x_pc (pc' := 104) rfl ?_
          refine x_up (pc' := 106) (fun _ _ _ _ _ L => lv_iload hx hb dJ23_getChars_104 (lv_at L 3 rfl)) ?_
          refine x_if (C := (1 : Int32) = 0) (pt := 118) (pc' := 109) (fun _ _ _ _ _ => lv_if_eq (tgt := 118) hx hb dJ23_getChars_106 (by decide)) (fun c106 => ?_) (fun c106 => ?_)
          · have hp60 := hp59.1 c106
            refine x_up (pc' := 120) (fun _ _ _ _ _ L => lv_iload hx hb dJ23_getChars_118 (lv_at L 0 rfl)) ?_
            exact x_iret X hr rfl dJ23_getChars_120 hp60
          · have hp61 := hp59.2 c106
            refine x_up (pc' := 110) (fun _ _ _ _ _ L => lv_aload_n hx hb dJ23_getChars_109 rfl (lv_at L 2 rfl)) ?_
            refine x_upL (pc' := 113) (lo' := [(5, .int (y42 + (-1 : Int32) + (-1 : Int32) + (-1 : Int32))), (0, .int y41), (2, .ref b44), (6, .int (1 : Int32))]) (fun _ _ _ _ _ L => lv_iinc (v := y42 + (-1 : Int32) + (-1 : Int32) + (-1 : Int32)) hx hb dJ23_getChars_110 L (k := 0) rfl rfl (by decide) rfl) ?_
            refine x_up (pc' := 115) (fun _ _ _ _ _ L => lv_iload hx hb dJ23_getChars_113 (lv_at L 0 rfl)) ?_
            refine x_up (pc' := 117) (fun _ _ _ _ _ L => lv_bipush (v := (45 : Int32)) hx hb dJ23_getChars_115 (by decide)) ?_
            refine x_bast X dJ23_getChars_117 hp61 (fun σ49 hp62 => ?_)
            refine x_pc (pc' := 118) rfl ?_
            refine x_up (pc' := 120) (fun _ _ _ _ _ L => lv_iload hx hb dJ23_getChars_118 (lv_at L 0 rfl)) ?_
            exact x_iret X hr rfl dJ23_getChars_120 hp62
      · have hp63 := hp48.2 c25
        refine x_up (pc' := 29) (fun _ _ _ _ _ L => lv_iload_n hx hb dJ23_getChars_28 rfl (lv_at L 0 rfl)) ?_
        refine x_up (pc' := 31) (fun _ _ _ _ _ L => lv_bipush (v := (100 : Int32)) hx hb dJ23_getChars_29 (by decide)) ?_
        refine x_up (pc' := 32) (fun _ _ _ _ _ L => lv_idiv hx hb dJ23_getChars_31 (by decide)) ?_
        refine x_st (pc' := 33) ([(3, .int (y41 / (100 : Int32))), (0, .int y41), (5, .int y42), (2, va_rf x2), (6, .int (1 : Int32))]) rfl (by simp [x_catq, x_cati, x_catr, x_catn]) (fun _ _ _ _ _ L => lv_istore_n hx hb dJ23_getChars_32 rfl L (by decide) rfl) ?_
        refine x_up (pc' := 34) (fun _ _ _ _ _ L => lv_iload_n hx hb dJ23_getChars_33 rfl (lv_at L 0 rfl)) ?_
        refine x_up (pc' := 36) (fun _ _ _ _ _ L => lv_bipush (v := (100 : Int32)) hx hb dJ23_getChars_34 (by decide)) ?_
        refine x_up (pc' := 37) (fun _ _ _ _ _ L => lv_imul hx hb dJ23_getChars_36) ?_
        refine x_up (pc' := 38) (fun _ _ _ _ _ L => lv_iload_n hx hb dJ23_getChars_37 rfl (lv_at L 1 rfl)) ?_
        refine x_up (pc' := 39) (fun _ _ _ _ _ L => lv_isub hx hb dJ23_getChars_38) ?_
        refine x_upL (pc' := 41) (lo' := [(4, .int (((y41 / (100 : Int32)) * (100 : Int32)) - y41)), (3, .int (y41 / (100 : Int32))), (0, .int y41), (5, .int y42), (2, va_rf x2), (6, .int (1 : Int32))]) (fun _ _ _ _ _ L => lv_istore hx hb dJ23_getChars_39 L (by decide) rfl) ?_
        refine x_up (pc' := 42) (fun _ _ _ _ _ L => lv_iload_n hx hb dJ23_getChars_41 rfl (lv_at L 1 rfl)) ?_
        refine x_upL (pc' := 43) (lo' := [(0, .int (y41 / (100 : Int32))), (4, .int (((y41 / (100 : Int32)) * (100 : Int32)) - y41)), (3, .int (y41 / (100 : Int32))), (5, .int y42), (2, va_rf x2), (6, .int (1 : Int32))]) (fun _ _ _ _ _ L => lv_istore_n hx hb dJ23_getChars_42 rfl L (by decide) rfl) ?_
        refine x_up (pc' := 44) (fun _ _ _ _ _ L => lv_aloadq_n hx hb dJ23_getChars_43 rfl (lv_at L 4 rfl)) ?_
        refine x_upL (pc' := 47) (lo' := [(5, .int (y42 + (-1 : Int32))), (0, .int (y41 / (100 : Int32))), (4, .int (((y41 / (100 : Int32)) * (100 : Int32)) - y41)), (3, .int (y41 / (100 : Int32))), (2, va_rf x2), (6, .int (1 : Int32))]) (fun _ _ _ _ _ L => lv_iinc (v := y42 + (-1 : Int32)) hx hb dJ23_getChars_44 L (k := 3) rfl rfl (by decide) rfl) ?_
        refine x_up (pc' := 49) (fun _ _ _ _ _ L => lv_iload hx hb dJ23_getChars_47 (lv_at L 0 rfl)) ?_
        refine x_gets (C := "java/lang/Integer") (n := "DigitOnes") (d := "[B") (v := .ref (G.2 3)) X (by simp [x_sts]) q979 (fun _ h => h) dJ23_getChars_49 ?_
        refine x_pc (pc' := 52) rfl ?_
        refine x_up (pc' := 54) (fun _ _ _ _ _ L => lv_iload hx hb dJ23_getChars_52 (lv_at L 2 rfl)) ?_
        refine x_bald X dJ23_getChars_54 hp63 (fun v50 hp64 => ?_)
        refine x_pc (pc' := 55) rfl ?_
        obtain ⟨b51, rfl, hp65⟩ := hp64
        refine x_bast X dJ23_getChars_55 hp65 (fun σ52 hp66 => ?_)
        refine x_pc (pc' := 56) rfl ?_
        refine x_up (pc' := 57) (fun _ _ _ _ _ L => lv_aload_n hx hb dJ23_getChars_56 rfl (lv_at L 4 rfl)) ?_
        refine x_upL (pc' := 60) (lo' := [(5, .int (y42 + (-1 : Int32) + (-1 : Int32))), (0, .int (y41 / (100 : Int32))), (4, .int (((y41 / (100 : Int32)) * (100 : Int32)) - y41)), (3, .int (y41 / (100 : Int32))), (2, .ref b51), (6, .int (1 : Int32))]) (fun _ _ _ _ _ L => lv_iinc (v := y42 + (-1 : Int32) + (-1 : Int32)) hx hb dJ23_getChars_57 L (k := 0) rfl rfl (by decide) rfl) ?_
        refine x_up (pc' := 62) (fun _ _ _ _ _ L => lv_iload hx hb dJ23_getChars_60 (lv_at L 0 rfl)) ?_
        refine x_gets (C := "java/lang/Integer") (n := "DigitTens") (d := "[B") (v := .ref (G.2 4)) X (by simp [x_sts]) q981 (fun _ h => h) dJ23_getChars_62 ?_
        refine x_pc (pc' := 65) rfl ?_
        refine x_up (pc' := 67) (fun _ _ _ _ _ L => lv_iload hx hb dJ23_getChars_65 (lv_at L 2 rfl)) ?_
        refine x_bald X dJ23_getChars_67 hp66 (fun v53 hp67 => ?_)
        refine x_pc (pc' := 68) rfl ?_
        refine x_bast X dJ23_getChars_68 hp67 (fun σ54 hp68 => ?_)
        refine x_pc (pc' := 69) rfl ?_
        refine x_up (pc' := 22) (fun _ _ _ _ _ L => lv_goto (tgt := 22) hx hb dJ23_getChars_69 (by decide)) ?_
        refine x_lo (lo' := [(0, .int (y41 / (100 : Int32))), (5, .int (y42 + (-1 : Int32) + (-1 : Int32))), (2, .ref b51), (6, .int (1 : Int32))]) [1, 0, 4, 5] rfl ?_
        exact hself39 ((y41 / (100 : Int32)), (y42 + (-1 : Int32) + (-1 : Int32))) σ54 hp68
    · have hp69 := hp46.2 c16
      refine x_lo (lo' := [(0, .int x0), (5, .int x1), (2, va_rf x2), (6, .int (1 : Int32))]) [2, 1, 4, 0] rfl ?_
      refine x_while (v0 := (x0, x1)) (fun w55 => [(0, .int w55.1), (5, .int w55.2), (2, va_rf x2), (6, .int (1 : Int32))]) hp69 (fun self56 hself57 => ?_)
      rintro ⟨y59, y60⟩ σ58 hp70
      unfold B_J23_getChars_22 at hp70
      refine x_same (lo' := [(0, .int y59), (5, .int y60), (2, va_rf x2), (6, .int (1 : Int32))]) rfl ?_
      refine x_up (pc' := 23) (fun _ _ _ _ _ L => lv_iload_n hx hb dJ23_getChars_22 rfl (lv_at L 0 rfl)) ?_
      refine x_up (pc' := 25) (fun _ _ _ _ _ L => lv_bipush (v := (-100 : Int32)) hx hb dJ23_getChars_23 (by decide)) ?_
      refine x_if (C := (-100 : Int32) < y59) (pt := 72) (pc' := 28) (fun _ _ _ _ _ => lv_icmp_gt (tgt := 72) hx hb dJ23_getChars_25 (by decide)) (fun c25 => ?_) (fun c25 => ?_)
      · have hp71 := hp70.1 c25
        refine x_up (pc' := 73) (fun _ _ _ _ _ L => lv_aloadq_n hx hb dJ23_getChars_72 rfl (lv_at L 2 rfl)) ?_
        refine x_upL (pc' := 76) (lo' := [(5, .int (y60 + (-1 : Int32))), (0, .int y59), (2, va_rf x2), (6, .int (1 : Int32))]) (fun _ _ _ _ _ L => lv_iinc (v := y60 + (-1 : Int32)) hx hb dJ23_getChars_73 L (k := 1) rfl rfl (by decide) rfl) ?_
        refine x_up (pc' := 78) (fun _ _ _ _ _ L => lv_iload hx hb dJ23_getChars_76 (lv_at L 0 rfl)) ?_
        refine x_gets (C := "java/lang/Integer") (n := "DigitOnes") (d := "[B") (v := .ref (G.2 3)) X (by simp [x_sts]) q979 (fun _ h => h) dJ23_getChars_78 ?_
        refine x_pc (pc' := 81) rfl ?_
        refine x_up (pc' := 82) (fun _ _ _ _ _ L => lv_iload_n hx hb dJ23_getChars_81 rfl (lv_at L 1 rfl)) ?_
        refine x_up (pc' := 83) (fun _ _ _ _ _ L => lv_ineg hx hb dJ23_getChars_82) ?_
        refine x_bald X dJ23_getChars_83 hp71 (fun v61 hp72 => ?_)
        refine x_pc (pc' := 84) rfl ?_
        obtain ⟨b62, rfl, hp73⟩ := hp72
        refine x_bast X dJ23_getChars_84 hp73 (fun σ63 hp74 => ?_)
        refine x_pc (pc' := 85) rfl ?_
        refine x_up (pc' := 86) (fun _ _ _ _ _ L => lv_iload_n hx hb dJ23_getChars_85 rfl (lv_at L 1 rfl)) ?_
        refine x_up (pc' := 88) (fun _ _ _ _ _ L => lv_bipush (v := (-9 : Int32)) hx hb dJ23_getChars_86 (by decide)) ?_
        refine x_if (C := (-9 : Int32) ≤ y59) (pt := 104) (pc' := 91) (fun _ _ _ _ _ => lv_icmp_ge (tgt := 104) hx hb dJ23_getChars_88 (by decide)) (fun c88 => ?_) (fun c88 => ?_)
        · have hp75 := hp74.1 c88
          refine x_up (pc' := 106) (fun _ _ _ _ _ L => lv_iload hx hb dJ23_getChars_104 (lv_at L 3 rfl)) ?_
          refine x_if (C := (1 : Int32) = 0) (pt := 118) (pc' := 109) (fun _ _ _ _ _ => lv_if_eq (tgt := 118) hx hb dJ23_getChars_106 (by decide)) (fun c106 => ?_) (fun c106 => ?_)
          · have hp76 := hp75.1 c106
            refine x_up (pc' := 120) (fun _ _ _ _ _ L => lv_iload hx hb dJ23_getChars_118 (lv_at L 0 rfl)) ?_
            exact x_iret X hr rfl dJ23_getChars_120 hp76
          · have hp77 := hp75.2 c106
            refine x_up (pc' := 110) (fun _ _ _ _ _ L => lv_aload_n hx hb dJ23_getChars_109 rfl (lv_at L 2 rfl)) ?_
            refine x_upL (pc' := 113) (lo' := [(5, .int (y60 + (-1 : Int32) + (-1 : Int32))), (0, .int y59), (2, .ref b62), (6, .int (1 : Int32))]) (fun _ _ _ _ _ L => lv_iinc (v := y60 + (-1 : Int32) + (-1 : Int32)) hx hb dJ23_getChars_110 L (k := 0) rfl rfl (by decide) rfl) ?_
            refine x_up (pc' := 115) (fun _ _ _ _ _ L => lv_iload hx hb dJ23_getChars_113 (lv_at L 0 rfl)) ?_
            refine x_up (pc' := 117) (fun _ _ _ _ _ L => lv_bipush (v := (45 : Int32)) hx hb dJ23_getChars_115 (by decide)) ?_
            refine x_bast X dJ23_getChars_117 hp77 (fun σ64 hp78 => ?_)
            refine x_pc (pc' := 118) rfl ?_
            refine x_up (pc' := 120) (fun _ _ _ _ _ L => lv_iload hx hb dJ23_getChars_118 (lv_at L 0 rfl)) ?_
            exact x_iret X hr rfl dJ23_getChars_120 hp78
        · have hp79 := hp74.2 c88
          refine x_up (pc' := 92) (fun _ _ _ _ _ L => lv_aload_n hx hb dJ23_getChars_91 rfl (lv_at L 2 rfl)) ?_
          refine x_upL (pc' := 95) (lo' := [(5, .int (y60 + (-1 : Int32) + (-1 : Int32))), (0, .int y59), (2, .ref b62), (6, .int (1 : Int32))]) (fun _ _ _ _ _ L => lv_iinc (v := y60 + (-1 : Int32) + (-1 : Int32)) hx hb dJ23_getChars_92 L (k := 0) rfl rfl (by decide) rfl) ?_
          refine x_up (pc' := 97) (fun _ _ _ _ _ L => lv_iload hx hb dJ23_getChars_95 (lv_at L 0 rfl)) ?_
          refine x_gets (C := "java/lang/Integer") (n := "DigitTens") (d := "[B") (v := .ref (G.2 4)) X (by simp [x_sts]) q981 (fun _ h => h) dJ23_getChars_97 ?_
          refine x_pc (pc' := 100) rfl ?_
          refine x_up (pc' := 101) (fun _ _ _ _ _ L => lv_iload_n hx hb dJ23_getChars_100 rfl (lv_at L 1 rfl)) ?_
          refine x_up (pc' := 102) (fun _ _ _ _ _ L => lv_ineg hx hb dJ23_getChars_101) ?_
          refine x_bald X dJ23_getChars_102 hp79 (fun v65 hp80 => ?_)
          refine x_pc (pc' := 103) rfl ?_
          refine x_bast X dJ23_getChars_103 hp80 (fun σ66 hp81 => ?_)
          refine x_pc (pc' := 104) rfl ?_
          refine x_up (pc' := 106) (fun _ _ _ _ _ L => lv_iload hx hb dJ23_getChars_104 (lv_at L 3 rfl)) ?_
          refine x_if (C := (1 : Int32) = 0) (pt := 118) (pc' := 109) (fun _ _ _ _ _ => lv_if_eq (tgt := 118) hx hb dJ23_getChars_106 (by decide)) (fun c106 => ?_) (fun c106 => ?_)
          · have hp82 := hp81.1 c106
            refine x_up (pc' := 120) (fun _ _ _ _ _ L => lv_iload hx hb dJ23_getChars_118 (lv_at L 0 rfl)) ?_
            exact x_iret X hr rfl dJ23_getChars_120 hp82
          · have hp83 := hp81.2 c106
            refine x_up (pc' := 110) (fun _ _ _ _ _ L => lv_aload_n hx hb dJ23_getChars_109 rfl (lv_at L 2 rfl)) ?_
            refine x_upL (pc' := 113) (lo' := [(5, .int (y60 + (-1 : Int32) + (-1 : Int32) + (-1 : Int32))), (0, .int y59), (2, .ref b62), (6, .int (1 : Int32))]) (fun _ _ _ _ _ L => lv_iinc (v := y60 + (-1 : Int32) + (-1 : Int32) + (-1 : Int32)) hx hb dJ23_getChars_110 L (k := 0) rfl rfl (by decide) rfl) ?_
            refine x_up (pc' := 115) (fun _ _ _ _ _ L => lv_iload hx hb dJ23_getChars_113 (lv_at L 0 rfl)) ?_
            refine x_up (pc' := 117) (fun _ _ _ _ _ L => lv_bipush (v := (45 : Int32)) hx hb dJ23_getChars_115 (by decide)) ?_
            refine x_bast X dJ23_getChars_117 hp83 (fun σ67 hp84 => ?_)
            refine x_pc (pc' := 118) rfl ?_
            refine x_up (pc' := 120) (fun _ _ _ _ _ L => lv_iload hx hb dJ23_getChars_118 (lv_at L 0 rfl)) ?_
            exact x_iret X hr rfl dJ23_getChars_120 hp84
      · have hp85 := hp70.2 c25
        refine x_up (pc' := 29) (fun _ _ _ _ _ L => lv_iload_n hx hb dJ23_getChars_28 rfl (lv_at L 0 rfl)) ?_
        refine x_up (pc' := 31) (fun _ _ _ _ _ L => lv_bipush (v := (100 : Int32)) hx hb dJ23_getChars_29 (by decide)) ?_
        refine x_up (pc' := 32) (fun _ _ _ _ _ L => lv_idiv hx hb dJ23_getChars_31 (by decide)) ?_
        refine x_st (pc' := 33) ([(3, .int (y59 / (100 : Int32))), (0, .int y59), (5, .int y60), (2, va_rf x2), (6, .int (1 : Int32))]) rfl (by simp [x_catq, x_cati, x_catr, x_catn]) (fun _ _ _ _ _ L => lv_istore_n hx hb dJ23_getChars_32 rfl L (by decide) rfl) ?_
        refine x_up (pc' := 34) (fun _ _ _ _ _ L => lv_iload_n hx hb dJ23_getChars_33 rfl (lv_at L 0 rfl)) ?_
        refine x_up (pc' := 36) (fun _ _ _ _ _ L => lv_bipush (v := (100 : Int32)) hx hb dJ23_getChars_34 (by decide)) ?_
        refine x_up (pc' := 37) (fun _ _ _ _ _ L => lv_imul hx hb dJ23_getChars_36) ?_
        refine x_up (pc' := 38) (fun _ _ _ _ _ L => lv_iload_n hx hb dJ23_getChars_37 rfl (lv_at L 1 rfl)) ?_
        refine x_up (pc' := 39) (fun _ _ _ _ _ L => lv_isub hx hb dJ23_getChars_38) ?_
        refine x_upL (pc' := 41) (lo' := [(4, .int (((y59 / (100 : Int32)) * (100 : Int32)) - y59)), (3, .int (y59 / (100 : Int32))), (0, .int y59), (5, .int y60), (2, va_rf x2), (6, .int (1 : Int32))]) (fun _ _ _ _ _ L => lv_istore hx hb dJ23_getChars_39 L (by decide) rfl) ?_
        refine x_up (pc' := 42) (fun _ _ _ _ _ L => lv_iload_n hx hb dJ23_getChars_41 rfl (lv_at L 1 rfl)) ?_
        refine x_upL (pc' := 43) (lo' := [(0, .int (y59 / (100 : Int32))), (4, .int (((y59 / (100 : Int32)) * (100 : Int32)) - y59)), (3, .int (y59 / (100 : Int32))), (5, .int y60), (2, va_rf x2), (6, .int (1 : Int32))]) (fun _ _ _ _ _ L => lv_istore_n hx hb dJ23_getChars_42 rfl L (by decide) rfl) ?_
        refine x_up (pc' := 44) (fun _ _ _ _ _ L => lv_aloadq_n hx hb dJ23_getChars_43 rfl (lv_at L 4 rfl)) ?_
        refine x_upL (pc' := 47) (lo' := [(5, .int (y60 + (-1 : Int32))), (0, .int (y59 / (100 : Int32))), (4, .int (((y59 / (100 : Int32)) * (100 : Int32)) - y59)), (3, .int (y59 / (100 : Int32))), (2, va_rf x2), (6, .int (1 : Int32))]) (fun _ _ _ _ _ L => lv_iinc (v := y60 + (-1 : Int32)) hx hb dJ23_getChars_44 L (k := 3) rfl rfl (by decide) rfl) ?_
        refine x_up (pc' := 49) (fun _ _ _ _ _ L => lv_iload hx hb dJ23_getChars_47 (lv_at L 0 rfl)) ?_
        refine x_gets (C := "java/lang/Integer") (n := "DigitOnes") (d := "[B") (v := .ref (G.2 3)) X (by simp [x_sts]) q979 (fun _ h => h) dJ23_getChars_49 ?_
        refine x_pc (pc' := 52) rfl ?_
        refine x_up (pc' := 54) (fun _ _ _ _ _ L => lv_iload hx hb dJ23_getChars_52 (lv_at L 2 rfl)) ?_
        refine x_bald X dJ23_getChars_54 hp85 (fun v68 hp86 => ?_)
        refine x_pc (pc' := 55) rfl ?_
        obtain ⟨b69, rfl, hp87⟩ := hp86
        refine x_bast X dJ23_getChars_55 hp87 (fun σ70 hp88 => ?_)
        refine x_pc (pc' := 56) rfl ?_
        refine x_up (pc' := 57) (fun _ _ _ _ _ L => lv_aload_n hx hb dJ23_getChars_56 rfl (lv_at L 4 rfl)) ?_
        refine x_upL (pc' := 60) (lo' := [(5, .int (y60 + (-1 : Int32) + (-1 : Int32))), (0, .int (y59 / (100 : Int32))), (4, .int (((y59 / (100 : Int32)) * (100 : Int32)) - y59)), (3, .int (y59 / (100 : Int32))), (2, .ref b69), (6, .int (1 : Int32))]) (fun _ _ _ _ _ L => lv_iinc (v := y60 + (-1 : Int32) + (-1 : Int32)) hx hb dJ23_getChars_57 L (k := 0) rfl rfl (by decide) rfl) ?_
        refine x_up (pc' := 62) (fun _ _ _ _ _ L => lv_iload hx hb dJ23_getChars_60 (lv_at L 0 rfl)) ?_
        refine x_gets (C := "java/lang/Integer") (n := "DigitTens") (d := "[B") (v := .ref (G.2 4)) X (by simp [x_sts]) q981 (fun _ h => h) dJ23_getChars_62 ?_
        refine x_pc (pc' := 65) rfl ?_
        refine x_up (pc' := 67) (fun _ _ _ _ _ L => lv_iload hx hb dJ23_getChars_65 (lv_at L 2 rfl)) ?_
        refine x_bald X dJ23_getChars_67 hp88 (fun v71 hp89 => ?_)
        refine x_pc (pc' := 68) rfl ?_
        refine x_bast X dJ23_getChars_68 hp89 (fun σ72 hp90 => ?_)
        refine x_pc (pc' := 69) rfl ?_
        refine x_up (pc' := 22) (fun _ _ _ _ _ L => lv_goto (tgt := 22) hx hb dJ23_getChars_69 (by decide)) ?_
        refine x_lo (lo' := [(0, .int (y59 / (100 : Int32))), (5, .int (y60 + (-1 : Int32) + (-1 : Int32))), (2, .ref b69), (6, .int (1 : Int32))]) [1, 0, 4, 5] rfl ?_
        exact hself57 ((y59 / (100 : Int32)), (y60 + (-1 : Int32) + (-1 : Int32))) σ72 hp90
-- J12_append_2
def P_J12_append_2 (κ : Nat → Nat) (a0 : Nat) (x1 : Int32) (σ : xS) (K : Option Nat → xH → Prop) : Prop :=
  xgi σ a0 8 3 fun v1 => xcall (fun τ L => P_J23_stringSize κ x1 τ L) σ fun v2 σ3 => xrc σ3 a0 8 ∧ xcall (fun τ L => P_J12_ensureCapacityInternal κ a0 (v1 + v2) τ L) σ3 fun _ σ4 => xrc σ4 a0 8 ∧ xcall (fun τ L => P_J12_isLatin1 κ a0 τ L) σ4 fun v5 σ6 => ((v5 = 0 → (xgq σ6 a0 8 0 fun v7 => xcall (fun τ L => P_J15_getChars κ x1 v1 (v1 + v2) v7 τ L) σ6 fun v8 σ9 => xpi κ σ9 a0 8 3 (v1 + v2) fun σ10 => K (some a0) σ10.1)) ∧ (¬ v5 = 0 → (xgq σ6 a0 8 0 fun v11 => xcall (fun τ L => P_J23_getChars κ x1 (v1 + v2) v11 τ L) σ6 fun v12 σ13 => xpi κ σ13 a0 8 3 (v1 + v2) fun σ14 => K (some a0) σ14.1)))
theorem mdJ12_append_2 : yJ12_append_2.cls ≠ "java/lang/invoke/MethodHandle" ∧ yJ12_append_2.cls ≠ "java/lang/invoke/VarHandle" ∧ (parseMethodDescriptor yJ12_append_2.desc).map (fun d => d.parameters.length) = some 1 := by decide +kernel
set_option maxHeartbeats 4000000 in
set_option maxRecDepth 100000 in
theorem R_J12_append_2 (l : Launch) (hl : l.stackTraces = false) (G : xG) (hG : G.1.2 = x_cl) (a0 : Nat) (x1 : Int32) (σ : xS) (K : Option Nat → xH → Prop) (hp : P_J12_append_2 G.2 a0 x1 σ K) : xM l yJ12_append_2 cJ12_append_2 4 (Option.some (Jvm.ClassFile.FieldType.object "java/lang/AbstractStringBuilder")) 4 104 G [(.ref a0), .int x1] σ (xlift emQ K) := by
  refine x_entry (by decide) (Nat.le_of_ble_eq_true rfl) ?_
  intro p e s m args below meth c X hr hin
  have X : xX p s m args meth c G cJ12_append_2 4 RJ12 := X
  have hx := X.1
  have hb := X.2.1
  have hts := X.2.2.2.2.1
  have hown := X.2.2.2.1
  unfold P_J12_append_2 at hp
  refine x_same (lo' := [(0, .ref a0), (1, .int x1)]) rfl ?_
  refine x_up (pc' := 1) (fun _ _ _ _ _ L => lv_aload_n hx hb dJ12_append_2_0 rfl (lv_at L 0 rfl)) ?_
  refine x_gi X (kJ13 hG) 3 (by decide) q577 (fun _ h => h) dJ12_append_2_1 hp (fun v1 hp1 => ?_)
  refine x_pc (pc' := 4) rfl ?_
  refine x_upL (pc' := 5) (lo' := [(2, .int v1), (0, .ref a0), (1, .int x1)]) (fun _ _ _ _ _ L => lv_istore_n hx hb dJ12_append_2_4 rfl L (by decide) rfl) ?_
  refine x_up (pc' := 6) (fun _ _ _ _ _ L => lv_iload_n hx hb dJ12_append_2_5 rfl (lv_at L 0 rfl)) ?_
  refine x_up (pc' := 7) (fun _ _ _ _ _ L => lv_iload_n hx hb dJ12_append_2_6 rfl (lv_at L 2 rfl)) ?_
  refine x_callS (em := emI) (fun r st => .int r :: st) (fun _ _ => rfl) 1 X (fun σ' KK h => R_J23_stringSize l hl G hG x1 σ' KK h) (lw_S q973 q974 q128 q975) mdJ23_stringSize ⟨Nat.le_of_ble_eq_true rfl, Nat.le_of_ble_eq_true rfl⟩ rfl rfl (Nat.le_of_ble_eq_true rfl) dJ12_append_2_7 hp1 (fun v2 σ3 hp2 => ?_)
  refine x_pc (pc' := 10) rfl ?_
  refine x_up (pc' := 11) (fun _ _ _ _ _ L => lv_iadd hx hb dJ12_append_2_10) ?_
  refine x_upL (pc' := 12) (lo' := [(3, .int (v1 + v2)), (2, .int v1), (0, .ref a0), (1, .int x1)]) (fun _ _ _ _ _ L => lv_istore_n hx hb dJ12_append_2_11 rfl L (by decide) rfl) ?_
  refine x_up (pc' := 13) (fun _ _ _ _ _ L => lv_aload_n hx hb dJ12_append_2_12 rfl (lv_at L 2 rfl)) ?_
  refine x_up (pc' := 14) (fun _ _ _ _ _ L => lv_iload_n hx hb dJ12_append_2_13 rfl (lv_at L 0 rfl)) ?_
  refine x_callO (x := ⟨"java/lang/AbstractStringBuilder", "ensureCapacityInternal", "(I)V"⟩) (owner := "java/lang/AbstractStringBuilder") (em := emV) (fun r st => st) (fun _ _ => rfl) 1 X (kJ13 hG) (fun σ' KK h => R_J12_ensureCapacityInternal l hl G hG a0 (v1 + v2) σ' KK h) (hts _ q873) (hts _ q3678) (x_dco X q875 q876) (x_selP X (kJ13 hG) (by decide) (by simp [x_dw]) q875 q3678) q875 q115 q876 (by decide +kernel) ⟨Nat.le_of_ble_eq_true rfl, Nat.le_of_ble_eq_true rfl⟩ rfl rfl (Nat.le_of_ble_eq_true rfl) dJ12_append_2_14 hp2.1 hp2.2 (fun _ σ4 hp3 => ?_)
  refine x_pc (pc' := 17) rfl ?_
  refine x_up (pc' := 18) (fun _ _ _ _ _ L => lv_aload_n hx hb dJ12_append_2_17 rfl (lv_at L 2 rfl)) ?_
  refine x_callO (x := ⟨"java/lang/AbstractStringBuilder", "isLatin1", "()Z"⟩) (owner := "java/lang/AbstractStringBuilder") (em := emI) (fun r st => .int r :: st) (fun _ _ => rfl) 0 X (kJ13 hG) (fun σ' KK h => R_J12_isLatin1 l hl G hG a0 σ' KK h) (hts _ q893) (hts _ q895) (x_dco X q894 q897) (hts _ q896) q894 q115 q897 (by decide +kernel) ⟨Nat.le_of_ble_eq_true rfl, Nat.le_of_ble_eq_true rfl⟩ rfl rfl (Nat.le_of_ble_eq_true rfl) dJ12_append_2_18 hp3.1 hp3.2 (fun v5 σ6 hp4 => ?_)
  refine x_pc (pc' := 21) rfl ?_
  refine x_if (C := v5 = 0) (pt := 37) (pc' := 24) (fun _ _ _ _ _ => lv_if_eq (tgt := 37) hx hb dJ12_append_2_21 (by decide)) (fun c21 => ?_) (fun c21 => ?_)
  · have hp5 := hp4.1 c21
    refine x_up (pc' := 38) (fun _ _ _ _ _ L => lv_iload_n hx hb dJ12_append_2_37 rfl (lv_at L 3 rfl)) ?_
    refine x_up (pc' := 39) (fun _ _ _ _ _ L => lv_iload_n hx hb dJ12_append_2_38 rfl (lv_at L 1 rfl)) ?_
    refine x_up (pc' := 40) (fun _ _ _ _ _ L => lv_iload_n hx hb dJ12_append_2_39 rfl (lv_at L 0 rfl)) ?_
    refine x_up (pc' := 41) (fun _ _ _ _ _ L => lv_aload_n hx hb dJ12_append_2_40 rfl (lv_at L 2 rfl)) ?_
    refine x_gq X (kJ13 hG) 0 (by decide) q573 (fun _ h => h) dJ12_append_2_41 hp5 (fun v7 hp6 => ?_)
    refine x_pc (pc' := 44) rfl ?_
    refine x_callS (em := emI) (fun r st => .int r :: st) (fun _ _ => rfl) 4 X (fun σ' KK h => R_J15_getChars l hl G hG x1 v1 (v1 + v2) v7 σ' KK h) (lw_S q983 q984 q118 q985) mdJ15_getChars ⟨Nat.le_of_ble_eq_true rfl, Nat.le_of_ble_eq_true rfl⟩ rfl rfl (Nat.le_of_ble_eq_true rfl) dJ12_append_2_44 hp6 (fun v8 σ9 hp7 => ?_)
    refine x_pc (pc' := 47) rfl ?_
    refine x_up (pc' := 48) (fun _ _ _ _ _ L => lv_pop hx hb dJ12_append_2_47 rfl) ?_
    refine x_up (pc' := 49) (fun _ _ _ _ _ L => lv_aload_n hx hb dJ12_append_2_48 rfl (lv_at L 2 rfl)) ?_
    refine x_up (pc' := 50) (fun _ _ _ _ _ L => lv_iload_n hx hb dJ12_append_2_49 rfl (lv_at L 0 rfl)) ?_
    refine x_pi X (kJ13 hG) 3 (by decide) q577 (fun _ h => h) rfl rfl rfl dJ12_append_2_50 hp7 (fun σ10 hp8 => ?_)
    refine x_pc (pc' := 53) rfl ?_
    refine x_up (pc' := 54) (fun _ _ _ _ _ L => lv_aload_n hx hb dJ12_append_2_53 rfl (lv_at L 2 rfl)) ?_
    exact x_aret X hr (Or.inl ⟨_, rfl⟩) dJ12_append_2_54 (some a0) hp8
  · have hp9 := hp4.2 c21
    refine x_up (pc' := 25) (fun _ _ _ _ _ L => lv_iload_n hx hb dJ12_append_2_24 rfl (lv_at L 3 rfl)) ?_
    refine x_up (pc' := 26) (fun _ _ _ _ _ L => lv_iload_n hx hb dJ12_append_2_25 rfl (lv_at L 0 rfl)) ?_
    refine x_up (pc' := 27) (fun _ _ _ _ _ L => lv_aload_n hx hb dJ12_append_2_26 rfl (lv_at L 2 rfl)) ?_
    refine x_gq X (kJ13 hG) 0 (by decide) q573 (fun _ h => h) dJ12_append_2_27 hp9 (fun v11 hp10 => ?_)
    refine x_pc (pc' := 30) rfl ?_
    refine x_callS (em := emI) (fun r st => .int r :: st) (fun _ _ => rfl) 3 X (fun σ' KK h => R_J23_getChars l hl G hG x1 (v1 + v2) v11 σ' KK h) (lw_S q976 q977 q128 q978) mdJ23_getChars ⟨Nat.le_of_ble_eq_true rfl, Nat.le_of_ble_eq_true rfl⟩ rfl rfl (Nat.le_of_ble_eq_true rfl) dJ12_append_2_30 hp10 (fun v12 σ13 hp11 => ?_)
    refine x_pc (pc' := 33) rfl ?_
    refine x_up (pc' := 34) (fun _ _ _ _ _ L => lv_pop hx hb dJ12_append_2_33 rfl) ?_
    refine x_up (pc' := 48) (fun _ _ _ _ _ L => lv_goto (tgt := 48) hx hb dJ12_append_2_34 (by decide)) ?_
    refine x_up (pc' := 49) (fun _ _ _ _ _ L => lv_aload_n hx hb dJ12_append_2_48 rfl (lv_at L 2 rfl)) ?_
    refine x_up (pc' := 50) (fun _ _ _ _ _ L => lv_iload_n hx hb dJ12_append_2_49 rfl (lv_at L 0 rfl)) ?_
    refine x_pi X (kJ13 hG) 3 (by decide) q577 (fun _ h => h) rfl rfl rfl dJ12_append_2_50 hp11 (fun σ14 hp12 => ?_)
    refine x_pc (pc' := 53) rfl ?_
    refine x_up (pc' := 54) (fun _ _ _ _ _ L => lv_aload_n hx hb dJ12_append_2_53 rfl (lv_at L 2 rfl)) ?_
    exact x_aret X hr (Or.inl ⟨_, rfl⟩) dJ12_append_2_54 (some a0) hp12
-- J13_append_2
def P_J13_append_2 (κ : Nat → Nat) (a0 : Nat) (x1 : Int32) (σ : xS) (K : Option Nat → xH → Prop) : Prop :=
  xrc σ a0 8 ∧ xcall (fun τ L => P_J12_append_2 κ a0 x1 τ L) σ fun v1 σ2 => K (some a0) σ2.1
theorem mdJ13_append_2 : yJ13_append_2.cls ≠ "java/lang/invoke/MethodHandle" ∧ yJ13_append_2.cls ≠ "java/lang/invoke/VarHandle" ∧ (parseMethodDescriptor yJ13_append_2.desc).map (fun d => d.parameters.length) = some 1 := by decide +kernel
set_option maxHeartbeats 4000000 in
set_option maxRecDepth 100000 in
theorem R_J13_append_2 (l : Launch) (hl : l.stackTraces = false) (G : xG) (hG : G.1.2 = x_cl) (a0 : Nat) (x1 : Int32) (σ : xS) (K : Option Nat → xH → Prop) (hp : P_J13_append_2 G.2 a0 x1 σ K) : xM l yJ13_append_2 cJ13_append_2 2 (Option.some (Jvm.ClassFile.FieldType.object "java/lang/StringBuilder")) 5 127 G [(.ref a0), .int x1] σ (xlift emQ K) := by
  refine x_entry (by decide) (Nat.le_of_ble_eq_true rfl) ?_
  intro p e s m args below meth c X hr hin
  have X : xX p s m args meth c G cJ13_append_2 2 RJ13 := X
  have hx := X.1
  have hb := X.2.1
  have hts := X.2.2.2.2.1
  have hown := X.2.2.2.1
  unfold P_J13_append_2 at hp
  refine x_same (lo' := [(0, .ref a0), (1, .int x1)]) rfl ?_
  refine x_up (pc' := 1) (fun _ _ _ _ _ L => lv_aload_n hx hb dJ13_append_2_0 rfl (lv_at L 0 rfl)) ?_
  refine x_up (pc' := 2) (fun _ _ _ _ _ L => lv_iload_n hx hb dJ13_append_2_1 rfl (lv_at L 1 rfl)) ?_
  refine x_callSU (em := emQ) (fun r st => va_rf r :: st) (fun _ _ => rfl) 1 X (kJ13 hG) (fun σ' KK h => R_J12_append_2 l hl G hG a0 x1 σ' KK h) q970 q3683 q586 q971 q115 q972 (by decide +kernel) ⟨Nat.le_of_ble_eq_true rfl, Nat.le_of_ble_eq_true rfl⟩ rfl rfl (Nat.le_of_ble_eq_true rfl) dJ13_append_2_2 hp.1 hp.2 (fun v1 σ2 hp1 => ?_)
  refine x_pc (pc' := 5) rfl ?_
  refine x_up (pc' := 6) (fun _ _ _ _ _ L => lv_pop hx hb dJ13_append_2_5 (x_catq _)) ?_
  refine x_up (pc' := 7) (fun _ _ _ _ _ L => lv_aload_n hx hb dJ13_append_2_6 rfl (lv_at L 0 rfl)) ?_
  exact x_aret X hr (Or.inl ⟨_, rfl⟩) dJ13_append_2_7 (some a0) hp1
-- X3_sign
def B_X3_sign_32 (κ : Nat → Nat) (kx33004 : Unit → xS → Prop) (f0 : Nat) (f1 : Nat) : (Int32 → xS → Prop) → Int32 → xS → Prop := fun self33003 w33001 σ33002 =>
  ((w33001 ≤ 0 → (kx33004 () σ33002)) ∧ (¬ w33001 ≤ 0 → (xrc σ33002 f1 8 ∧ xcall (fun τ L => P_J13_append_3 κ f1 (42 : Int32) τ L) σ33002 fun v33005 σ33006 => self33003 (w33001 + (-1 : Int32)) σ33006)))
def P_X3_sign (κ : Nat → Nat) (a0 : Nat) (σ : xS) (K : Option Nat → xH → Prop) : Prop :=
  xnew κ σ 8 4 [va_rf none, .int 0, .int 0, .int 0] fun q1 σ2 => xcall (fun τ L => P_J13_init κ q1 τ L) σ2 fun _ σ3 => xrc σ3 a0 5 ∧ xcall (fun τ L => P_X3_isEmpty κ a0 τ L) σ3 fun v4 σ5 => ((v4 = 0 → (xgi σ5 a0 5 2 fun v6 => xrc σ5 q1 8 ∧ xcall (fun τ L => P_J13_append_2 κ q1 v6 τ L) σ5 fun v7 σ8 => xrc σ8 a0 5 ∧ xcall (fun τ L => P_X3_dirtyWords κ a0 τ L) σ8 fun v9 σ10 => xwhile (B_X3_sign_32 κ (fun e11 σ12 => xgi σ12 a0 5 4 fun v13 => ((v13 = 0 → (xrc σ12 q1 8 ∧ xcall (fun τ L => P_J13_append κ q1 (some (κ 10)) τ L) σ12 fun v14 σ15 => xnn v14 fun b16 => xrc σ15 b16 8 ∧ xcall (fun τ L => P_J13_toString κ b16 τ L) σ15 fun v17 σ18 => K v17 σ18.1)) ∧ (¬ v13 = 0 → (xrc σ12 q1 8 ∧ xcall (fun τ L => P_J13_append κ q1 (some (κ 24)) τ L) σ12 fun v19 σ20 => xnn v19 fun b21 => xrc σ20 b21 8 ∧ xcall (fun τ L => P_J13_toString κ b21 τ L) σ20 fun v22 σ23 => K v22 σ23.1)))) a0 q1) v9 σ10)) ∧ (¬ v4 = 0 → (K (some (κ 23)) σ5.1)))
theorem mdX3_sign : yX3_sign.cls ≠ "java/lang/invoke/MethodHandle" ∧ yX3_sign.cls ≠ "java/lang/invoke/VarHandle" ∧ (parseMethodDescriptor yX3_sign.desc).map (fun d => d.parameters.length) = some 0 := by decide +kernel
set_option maxHeartbeats 4000000 in
set_option maxRecDepth 100000 in
theorem R_X3_sign (l : Launch) (hl : l.stackTraces = false) (G : xG) (hG : G.1.2 = x_cl) (a0 : Nat) (σ : xS) (K : Option Nat → xH → Prop) (hp : P_X3_sign G.2 a0 σ K) : xM l yX3_sign cX3_sign 3 (Option.some (Jvm.ClassFile.FieldType.object "java/lang/String")) 10 223 G [(.ref a0)] σ (xlift emQ K) := by
  refine x_entry (by decide) (Nat.le_of_ble_eq_true rfl) ?_
  intro p e s m args below meth c X hr hin
  have X : xX p s m args meth c G cX3_sign 3 RX3 := X
  have hx := X.1
  have hb := X.2.1
  have hts := X.2.2.2.2.1
  have hown := X.2.2.2.1
  unfold P_X3_sign at hp
  refine x_same (lo' := [(0, .ref a0)]) rfl ?_
  refine x_new X (kJ13 hG) q3124 q556 q116 (fs := [va_rf none, .int 0, .int 0, .int 0]) x_dflt_J13 dX3_sign_0 hp (fun q1 σ2 hp1 => ?_)
  refine x_pc (pc' := 3) rfl ?_
  refine x_up (pc' := 4) (fun _ _ _ _ _ L => lv_dup hx hb dX3_sign_3 rfl) ?_
  refine x_callI 0 X (fun σ' KK h => R_J13_init l hl G hG q1 σ' KK h) (lw_meth q559) q116 q3125 q558 rfl mdJ13_init ⟨Nat.le_of_ble_eq_true rfl, Nat.le_of_ble_eq_true rfl⟩ rfl rfl (Nat.le_of_ble_eq_true rfl) dX3_sign_4 hp1 (fun σ3 hp2 => ?_)
  refine x_pc (pc' := 7) rfl ?_
  refine x_upL (pc' := 8) (lo' := [(1, .ref q1), (0, .ref a0)]) (fun _ _ _ _ _ L => lv_astore_n hx hb dX3_sign_7 rfl L (by decide) rfl) ?_
  refine x_up (pc' := 9) (fun _ _ _ _ _ L => lv_aload_n hx hb dX3_sign_8 rfl (lv_at L 1 rfl)) ?_
  refine x_callV (em := emI) (fun r st => .int r :: st) (fun _ _ => rfl) 0 X (kX3 hG) (fun σ' KK h => R_X3_isEmpty l hl G hG a0 σ' KK h) (lw_V q2349 q2106 q2107 q108 q2108) ⟨rfl, mdX3_isEmpty⟩ ⟨Nat.le_of_ble_eq_true rfl, Nat.le_of_ble_eq_true rfl⟩ rfl rfl (Nat.le_of_ble_eq_true rfl) dX3_sign_9 hp2.1 hp2.2 (fun v4 σ5 hp3 => ?_)
  refine x_pc (pc' := 12) rfl ?_
  refine x_if (C := v4 = 0) (pt := 18) (pc' := 15) (fun _ _ _ _ _ => lv_if_eq (tgt := 18) hx hb dX3_sign_12 (by decide)) (fun c12 => ?_) (fun c12 => ?_)
  · have hp4 := hp3.1 c12
    refine x_up (pc' := 19) (fun _ _ _ _ _ L => lv_aload_n hx hb dX3_sign_18 rfl (lv_at L 0 rfl)) ?_
    refine x_up (pc' := 20) (fun _ _ _ _ _ L => lv_aload_n hx hb dX3_sign_19 rfl (lv_at L 1 rfl)) ?_
    refine x_gi X (kX3 hG) 2 (by decide) q298 (fun _ h => h) dX3_sign_20 hp4 (fun v6 hp5 => ?_)
    refine x_pc (pc' := 23) rfl ?_
    refine x_callV (em := emQ) (fun r st => va_rf r :: st) (fun _ _ => rfl) 1 X (kJ13 hG) (fun σ' KK h => R_J13_append_2 l hl G hG q1 v6 σ' KK h) (lw_V q3127 q967 q968 q116 q969) ⟨rfl, mdJ13_append_2⟩ ⟨Nat.le_of_ble_eq_true rfl, Nat.le_of_ble_eq_true rfl⟩ rfl rfl (Nat.le_of_ble_eq_true rfl) dX3_sign_23 hp5.1 hp5.2 (fun v7 σ8 hp6 => ?_)
    refine x_pc (pc' := 26) rfl ?_
    refine x_up (pc' := 27) (fun _ _ _ _ _ L => lv_pop hx hb dX3_sign_26 (x_catq _)) ?_
    refine x_up (pc' := 28) (fun _ _ _ _ _ L => lv_aload_n hx hb dX3_sign_27 rfl (lv_at L 1 rfl)) ?_
    refine x_callV (em := emI) (fun r st => .int r :: st) (fun _ _ => rfl) 0 X (kX3 hG) (fun σ' KK h => R_X3_dirtyWords l hl G hG a0 σ' KK h) (lw_V q3128 q1646 q1647 q108 q1648) ⟨rfl, mdX3_dirtyWords⟩ ⟨Nat.le_of_ble_eq_true rfl, Nat.le_of_ble_eq_true rfl⟩ rfl rfl (Nat.le_of_ble_eq_true rfl) dX3_sign_28 hp6.1 hp6.2 (fun v9 σ10 hp7 => ?_)
    refine x_pc (pc' := 31) rfl ?_
    refine x_upL (pc' := 32) (lo' := [(2, .int v9), (1, .ref q1), (0, .ref a0)]) (fun _ _ _ _ _ L => lv_istore_n hx hb dX3_sign_31 rfl L (by decide) rfl) ?_
    refine x_lo (lo' := [(2, .int v9), (0, .ref a0), (1, .ref q1)]) [0, 2, 1] rfl ?_
    refine x_while (v0 := v9) (fun w11 => [(2, .int w11), (0, .ref a0), (1, .ref q1)]) hp7 (fun self12 hself13 => ?_)
    rintro y15 σ14 hp8
    unfold B_X3_sign_32 at hp8
    refine x_same (lo' := [(2, .int y15), (0, .ref a0), (1, .ref q1)]) rfl ?_
    refine x_up (pc' := 33) (fun _ _ _ _ _ L => lv_iload_n hx hb dX3_sign_32 rfl (lv_at L 0 rfl)) ?_
    refine x_if (C := y15 ≤ 0) (pt := 49) (pc' := 36) (fun _ _ _ _ _ => lv_if_le (tgt := 49) hx hb dX3_sign_33 (by decide)) (fun c33 => ?_) (fun c33 => ?_)
    · have hp9 := hp8.1 c33
      refine x_up (pc' := 50) (fun _ _ _ _ _ L => lv_aload_n hx hb dX3_sign_49 rfl (lv_at L 2 rfl)) ?_
      refine x_up (pc' := 51) (fun _ _ _ _ _ L => lv_aload_n hx hb dX3_sign_50 rfl (lv_at L 1 rfl)) ?_
      refine x_gi X (kX3 hG) 4 (by decide) q304 (fun _ h => h) dX3_sign_51 hp9 (fun v16 hp10 => ?_)
      refine x_pc (pc' := 54) rfl ?_
      refine x_if (C := v16 = 0) (pt := 62) (pc' := 57) (fun _ _ _ _ _ => lv_if_eq (tgt := 62) hx hb dX3_sign_54 (by decide)) (fun c54 => ?_) (fun c54 => ?_)
      · have hp11 := hp10.1 c54
        refine x_ldcS (tx := "") (q := G.2 10) X (by simp [x_ss, RX3]) dX3_sign_62 ?_
        refine x_pc (pc' := 64) rfl ?_
        refine x_callV (em := emQ) (fun r st => va_rf r :: st) (fun _ _ => rfl) 1 X (kJ13 hG) (fun σ' KK h => R_J13_append l hl G hG q1 (some (G.2 10)) σ' KK h) (lw_V q3132 q863 q864 q116 q865) ⟨rfl, mdJ13_append⟩ ⟨Nat.le_of_ble_eq_true rfl, Nat.le_of_ble_eq_true rfl⟩ rfl rfl (Nat.le_of_ble_eq_true rfl) dX3_sign_64 hp11.1 hp11.2 (fun v17 σ18 hp12 => ?_)
        refine x_pc (pc' := 67) rfl ?_
        obtain ⟨b19, rfl, hp13⟩ := hp12
        refine x_callV (em := emQ) (fun r st => va_rf r :: st) (fun _ _ => rfl) 0 X (kJ13 hG) (fun σ' KK h => R_J13_toString l hl G hG b19 σ' KK h) (lw_V q3133 q993 q994 q116 q995) ⟨rfl, mdJ13_toString⟩ ⟨Nat.le_of_ble_eq_true rfl, Nat.le_of_ble_eq_true rfl⟩ rfl rfl (Nat.le_of_ble_eq_true rfl) dX3_sign_67 hp13.1 hp13.2 (fun v20 σ21 hp14 => ?_)
        refine x_pc (pc' := 70) rfl ?_
        exact x_aret X hr (Or.inl ⟨_, rfl⟩) dX3_sign_70 v20 hp14
      · have hp15 := hp10.2 c54
        refine x_ldcS (tx := "!") (q := G.2 24) X (by simp [x_ss, RX3]) dX3_sign_57 ?_
        refine x_pc (pc' := 59) rfl ?_
        refine x_up (pc' := 64) (fun _ _ _ _ _ L => lv_goto (tgt := 64) hx hb dX3_sign_59 (by decide)) ?_
        refine x_callV (em := emQ) (fun r st => va_rf r :: st) (fun _ _ => rfl) 1 X (kJ13 hG) (fun σ' KK h => R_J13_append l hl G hG q1 (some (G.2 24)) σ' KK h) (lw_V q3132 q863 q864 q116 q865) ⟨rfl, mdJ13_append⟩ ⟨Nat.le_of_ble_eq_true rfl, Nat.le_of_ble_eq_true rfl⟩ rfl rfl (Nat.le_of_ble_eq_true rfl) dX3_sign_64 hp15.1 hp15.2 (fun v22 σ23 hp16 => ?_)
        refine x_pc (pc' := 67) rfl ?_
        obtain ⟨b24, rfl, hp17⟩ := hp16
        refine x_callV (em := emQ) (fun r st => va_rf r :: st) (fun _ _ => rfl) 0 X (kJ13 hG) (fun σ' KK h => R_J13_toString l hl G hG b24 σ' KK h) (lw_V q3133 q993 q994 q116 q995) ⟨rfl, mdJ13_toString⟩ ⟨Nat.le_of_ble_eq_true rfl, Nat.le_of_ble_eq_true rfl⟩ rfl rfl (Nat.le_of_ble_eq_true rfl) dX3_sign_67 hp17.1 hp17.2 (fun v25 σ26 hp18 => ?_)
        refine x_pc (pc' := 70) rfl ?_
        exact x_aret X hr (Or.inl ⟨_, rfl⟩) dX3_sign_70 v25 hp18
    · have hp19 := hp8.2 c33
      refine x_up (pc' := 37) (fun _ _ _ _ _ L => lv_aload_n hx hb dX3_sign_36 rfl (lv_at L 2 rfl)) ?_
      refine x_up (pc' := 39) (fun _ _ _ _ _ L => lv_bipush (v := (42 : Int32)) hx hb dX3_sign_37 (by decide)) ?_
      refine x_callV (em := emQ) (fun r st => va_rf r :: st) (fun _ _ => rfl) 1 X (kJ13 hG) (fun σ' KK h => R_J13_append_3 l hl G hG q1 (42 : Int32) σ' KK h) (lw_V q3129 q2869 q2870 q116 q2871) ⟨rfl, mdJ13_append_3⟩ ⟨Nat.le_of_ble_eq_true rfl, Nat.le_of_ble_eq_true rfl⟩ rfl rfl (Nat.le_of_ble_eq_true rfl) dX3_sign_39 hp19.1 hp19.2 (fun v27 σ28 hp20 => ?_)
      refine x_pc (pc' := 42) rfl ?_
      refine x_up (pc' := 43) (fun _ _ _ _ _ L => lv_pop hx hb dX3_sign_42 (x_catq _)) ?_
      refine x_upL (pc' := 46) (lo' := [(2, .int (y15 + (-1 : Int32))), (0, .ref a0), (1, .ref q1)]) (fun _ _ _ _ _ L => lv_iinc (v := y15 + (-1 : Int32)) hx hb dX3_sign_43 L (k := 0) rfl rfl (by decide) rfl) ?_
      refine x_up (pc' := 32) (fun _ _ _ _ _ L => lv_goto (tgt := 32) hx hb dX3_sign_46 (by decide)) ?_
      refine x_lo (lo' := [(2, .int (y15 + (-1 : Int32))), (0, .ref a0), (1, .ref q1)]) [0, 1, 2] rfl ?_
      exact hself13 (y15 + (-1 : Int32)) σ28 hp20
  · have hp21 := hp3.2 c12
    refine x_ldcS (tx := "-") (q := G.2 23) X (by simp [x_ss, RX3]) dX3_sign_15 ?_
    refine x_pc (pc' := 17) rfl ?_
    exact x_aret X hr (Or.inl ⟨_, rfl⟩) dX3_sign_17 (some (G.2 23)) hp21
-- X2_tell
def B_X2_tell_27 (κ : Nat → Nat) (K : Option Nat → xH → Prop) (f2 : Nat) (f3 : Option Nat) : (Unit → xS → Prop) → Unit → xS → Prop := fun self28003 w28001 σ28002 =>
  xnn f3 fun b28004 => xrc σ28002 b28004 21 ∧ xcall (fun τ L => P_J35_hasNext κ b28004 τ L) σ28002 fun v28005 σ28006 => ((v28005 = 0 → (xrc σ28006 f2 8 ∧ xcall (fun τ L => P_J13_toString κ f2 τ L) σ28006 fun v28007 σ28008 => K v28007 σ28008.1)) ∧ (¬ v28005 = 0 → (xrc σ28006 b28004 21 ∧ xcall (fun τ L => P_J35_next κ b28004 τ L) σ28006 fun v28009 σ28010 => xnn v28009 fun b28011 => xrc σ28010 b28011 5 ∧ xgi σ28010 b28011 5 0 fun v28012 => ((v28012 = 0 → (xrc σ28010 f2 8 ∧ xcall (fun τ L => P_J13_append κ f2 (some (κ 10)) τ L) σ28010 fun v28013 σ28014 => xrc σ28014 b28011 5 ∧ xcall (fun τ L => P_X3_sign κ b28011 τ L) σ28014 fun v28015 σ28016 => xnn v28013 fun b28017 => xrc σ28016 b28017 8 ∧ xcall (fun τ L => P_J13_append κ b28017 v28015 τ L) σ28016 fun v28018 σ28019 => self28003 () σ28019)) ∧ (¬ v28012 = 0 → (xrc σ28010 f2 8 ∧ xcall (fun τ L => P_J13_append κ f2 (some (κ 20)) τ L) σ28010 fun v28020 σ28021 => xrc σ28021 b28011 5 ∧ xcall (fun τ L => P_X3_sign κ b28011 τ L) σ28021 fun v28022 σ28023 => xnn v28020 fun b28024 => xrc σ28023 b28024 8 ∧ xcall (fun τ L => P_J13_append κ b28024 v28022 τ L) σ28023 fun v28025 σ28026 => self28003 () σ28026))))))
def P_X2_tell (κ : Nat → Nat) (a0 : Nat) (x1 : Int32) (σ : xS) (K : Option Nat → xH → Prop) : Prop :=
  xnew κ σ 8 4 [va_rf none, .int 0, .int 0, .int 0] fun q1 σ2 => xcall (fun τ L => P_J13_init κ q1 τ L) σ2 fun _ σ3 => xgq σ3 a0 1 2 fun v4 => xnn v4 fun b5 => xrc σ3 b5 3 ∧ xcall (fun τ L => P_J4_get κ b5 x1 τ L) σ3 fun v6 σ7 => xnn v6 fun b8 => xrc σ7 b8 3 ∧ xrc σ7 b8 3 ∧ xcall (fun τ L => P_J4_iterator κ b8 τ L) σ7 fun v9 σ10 => xwhile (B_X2_tell_27 κ K q1 v9) () σ10
theorem mdX2_tell : yX2_tell.cls ≠ "java/lang/invoke/MethodHandle" ∧ yX2_tell.cls ≠ "java/lang/invoke/VarHandle" ∧ (parseMethodDescriptor yX2_tell.desc).map (fun d => d.parameters.length) = some 1 := by decide +kernel
set_option maxHeartbeats 4000000 in
set_option maxRecDepth 100000 in
theorem R_X2_tell (l : Launch) (hl : l.stackTraces = false) (G : xG) (hG : G.1.2 = x_cl) (a0 : Nat) (x1 : Int32) (σ : xS) (K : Option Nat → xH → Prop) (hp : P_X2_tell G.2 a0 x1 σ K) : xM l yX2_tell cX2_tell 5 (Option.some (Jvm.ClassFile.FieldType.object "java/lang/String")) 11 245 G [(.ref a0), .int x1] σ (xlift emQ K) := by
  refine x_entry (by decide) (Nat.le_of_ble_eq_true rfl) ?_
  intro p e s m args below meth c X hr hin
  have X : xX p s m args meth c G cX2_tell 5 RX2 := X
  have hx := X.1
  have hb := X.2.1
  have hts := X.2.2.2.2.1
  have hown := X.2.2.2.1
  unfold P_X2_tell at hp
  refine x_same (lo' := [(0, .ref a0), (1, .int x1)]) rfl ?_
  refine x_new X (kJ13 hG) q3115 q556 q116 (fs := [va_rf none, .int 0, .int 0, .int 0]) x_dflt_J13 dX2_tell_0 hp (fun q1 σ2 hp1 => ?_)
  refine x_pc (pc' := 3) rfl ?_
  refine x_up (pc' := 4) (fun _ _ _ _ _ L => lv_dup hx hb dX2_tell_3 rfl) ?_
  refine x_callI 0 X (fun σ' KK h => R_J13_init l hl G hG q1 σ' KK h) (lw_meth q559) q116 q3116 q558 rfl mdJ13_init ⟨Nat.le_of_ble_eq_true rfl, Nat.le_of_ble_eq_true rfl⟩ rfl rfl (Nat.le_of_ble_eq_true rfl) dX2_tell_4 hp1 (fun σ3 hp2 => ?_)
  refine x_pc (pc' := 7) rfl ?_
  refine x_upL (pc' := 8) (lo' := [(2, .ref q1), (0, .ref a0), (1, .int x1)]) (fun _ _ _ _ _ L => lv_astore_n hx hb dX2_tell_7 rfl L (by decide) rfl) ?_
  refine x_up (pc' := 9) (fun _ _ _ _ _ L => lv_aload_n hx hb dX2_tell_8 rfl (lv_at L 1 rfl)) ?_
  refine x_gq X (kX2 hG) 2 (by decide) q462 (fun _ h => h) dX2_tell_9 hp2 (fun v4 hp3 => ?_)
  refine x_pc (pc' := 12) rfl ?_
  refine x_up (pc' := 13) (fun _ _ _ _ _ L => lv_iload_n hx hb dX2_tell_12 rfl (lv_at L 2 rfl)) ?_
  obtain ⟨b5, rfl, hp4⟩ := hp3
  refine x_callF (x := ⟨"java/util/List", "get", "(I)Ljava/lang/Object;"⟩) (em := emQ) (fun r st => va_rf r :: st) (fun _ _ => rfl) 1 X (kJ4 hG) (fun σ' KK h => R_J4_get l hl G hG b5 x1 σ' KK h) q2083 q2086 q784 q105 q785 ⟨⟨q2085, q2084, q2088, q2087, q275⟩, by decide, by decide⟩ (by decide +kernel) ⟨Nat.le_of_ble_eq_true rfl, Nat.le_of_ble_eq_true rfl⟩ rfl rfl (Nat.le_of_ble_eq_true rfl) dX2_tell_13 hp4.1 hp4.2 (fun v6 σ7 hp5 => ?_)
  refine x_pc (pc' := 18) rfl ?_
  obtain ⟨b8, rfl, hp6⟩ := hp5
  refine x_castY X (kJ4 hG) q1814 q275 hp6.1 dX2_tell_18 ?_
  have hp7 := hp6.2
  refine x_pc (pc' := 21) rfl ?_
  refine x_callF (x := ⟨"java/util/List", "iterator", "()Ljava/util/Iterator;"⟩) (em := emQ) (fun r st => va_rf r :: st) (fun _ _ => rfl) 0 X (kJ4 hG) (fun σ' KK h => R_J4_iterator l hl G hG b8 σ' KK h) q1698 q1701 q1703 q105 q1705 ⟨⟨q1700, q1699, q1704, q1702, q275⟩, by decide, by decide⟩ (by decide +kernel) ⟨Nat.le_of_ble_eq_true rfl, Nat.le_of_ble_eq_true rfl⟩ rfl rfl (Nat.le_of_ble_eq_true rfl) dX2_tell_21 hp7.1 hp7.2 (fun v9 σ10 hp8 => ?_)
  refine x_pc (pc' := 26) rfl ?_
  refine x_upL (pc' := 27) (lo' := [(3, va_rf v9), (2, .ref q1), (0, .ref a0), (1, .int x1)]) (fun _ _ _ _ _ L => lv_astoreq_n hx hb dX2_tell_26 rfl L (by decide) rfl) ?_
  refine x_lo (lo' := [(2, .ref q1), (3, va_rf v9)]) [1, 0] rfl ?_
  refine x_while (v0 := ()) (fun _ => [(2, .ref q1), (3, va_rf v9)]) hp8 (fun self12 hself13 => ?_)
  rintro ⟨⟩ σ14 hp9
  unfold B_X2_tell_27 at hp9
  refine x_same (lo' := [(2, .ref q1), (3, va_rf v9)]) rfl ?_
  refine x_up (pc' := 28) (fun _ _ _ _ _ L => lv_aloadq_n hx hb dX2_tell_27 rfl (lv_at L 1 rfl)) ?_
  obtain ⟨b15, rfl, hp10⟩ := hp9
  refine x_callF (x := ⟨"java/util/Iterator", "hasNext", "()Z"⟩) (em := emI) (fun r st => .int r :: st) (fun _ _ => rfl) 0 X (kJ35 hG) (fun σ' KK h => R_J35_hasNext l hl G hG b15 σ' KK h) q1811 q1351 q1353 q141 q1355 ⟨⟨q1331, q1330, q1354, q1352, q1198⟩, by decide, by decide⟩ (by decide +kernel) ⟨Nat.le_of_ble_eq_true rfl, Nat.le_of_ble_eq_true rfl⟩ rfl rfl (Nat.le_of_ble_eq_true rfl) dX2_tell_28 hp10.1 hp10.2 (fun v16 σ17 hp11 => ?_)
  refine x_pc (pc' := 33) rfl ?_
  refine x_if (C := v16 = 0) (pt := 80) (pc' := 36) (fun _ _ _ _ _ => lv_if_eq (tgt := 80) hx hb dX2_tell_33 (by decide)) (fun c33 => ?_) (fun c33 => ?_)
  · have hp12 := hp11.1 c33
    refine x_up (pc' := 81) (fun _ _ _ _ _ L => lv_aload_n hx hb dX2_tell_80 rfl (lv_at L 0 rfl)) ?_
    refine x_callV (em := emQ) (fun r st => va_rf r :: st) (fun _ _ => rfl) 0 X (kJ13 hG) (fun σ' KK h => R_J13_toString l hl G hG q1 σ' KK h) (lw_V q3134 q993 q994 q116 q995) ⟨rfl, mdJ13_toString⟩ ⟨Nat.le_of_ble_eq_true rfl, Nat.le_of_ble_eq_true rfl⟩ rfl rfl (Nat.le_of_ble_eq_true rfl) dX2_tell_81 hp12.1 hp12.2 (fun v18 σ19 hp13 => ?_)
    refine x_pc (pc' := 84) rfl ?_
    exact x_aret X hr (Or.inl ⟨_, rfl⟩) dX2_tell_84 v18 hp13
  · have hp14 := hp11.2 c33
    refine x_up (pc' := 37) (fun _ _ _ _ _ L => lv_aload_n hx hb dX2_tell_36 rfl (lv_at L 1 rfl)) ?_
    refine x_callF (x := ⟨"java/util/Iterator", "next", "()Ljava/lang/Object;"⟩) (em := emQ) (fun r st => va_rf r :: st) (fun _ _ => rfl) 0 X (kJ35 hG) (fun σ' KK h => R_J35_next l hl G hG b15 σ' KK h) q1813 q1199 q1201 q141 q1203 ⟨⟨q768, q767, q1202, q1200, q1198⟩, by decide, by decide⟩ (by decide +kernel) ⟨Nat.le_of_ble_eq_true rfl, Nat.le_of_ble_eq_true rfl⟩ rfl rfl (Nat.le_of_ble_eq_true rfl) dX2_tell_37 hp14.1 hp14.2 (fun v20 σ21 hp15 => ?_)
    refine x_pc (pc' := 42) rfl ?_
    obtain ⟨b22, rfl, hp16⟩ := hp15
    refine x_castS X (kX3 hG) q287 hp16.1 dX2_tell_42 ?_
    have hp17 := hp16.2
    refine x_pc (pc' := 45) rfl ?_
    refine x_upL (pc' := 47) (lo' := [(4, .ref b22), (2, .ref q1), (3, .ref b15)]) (fun _ _ _ _ _ L => lv_astore hx hb dX2_tell_45 L (by decide) rfl) ?_
    refine x_up (pc' := 48) (fun _ _ _ _ _ L => lv_aload_n hx hb dX2_tell_47 rfl (lv_at L 1 rfl)) ?_
    refine x_up (pc' := 50) (fun _ _ _ _ _ L => lv_aload hx hb dX2_tell_48 (lv_at L 0 rfl)) ?_
    refine x_giN X (kX3 hG) 0 (by decide) q294 (fun _ h => h) dX2_tell_50 hp17 (fun v23 hp18 => ?_)
    refine x_pc (pc' := 53) rfl ?_
    refine x_ifn (C := v23 = 0) (pt := 62) (pc' := 56) (fun _ _ _ _ _ => lv_if_ne (tgt := 62) hx hb dX2_tell_53 (by decide)) (fun c53 => ?_) (fun c53 => ?_)
    · have hp19 := hp18.1 c53
      refine x_ldcwS (tx := "") (q := G.2 10) X (by simp [x_ss, RX2]) dX2_tell_56 ?_
      refine x_pc (pc' := 59) rfl ?_
      refine x_up (pc' := 65) (fun _ _ _ _ _ L => lv_goto (tgt := 65) hx hb dX2_tell_59 (by decide)) ?_
      refine x_callV (em := emQ) (fun r st => va_rf r :: st) (fun _ _ => rfl) 1 X (kJ13 hG) (fun σ' KK h => R_J13_append l hl G hG q1 (some (G.2 10)) σ' KK h) (lw_V q3119 q863 q864 q116 q865) ⟨rfl, mdJ13_append⟩ ⟨Nat.le_of_ble_eq_true rfl, Nat.le_of_ble_eq_true rfl⟩ rfl rfl (Nat.le_of_ble_eq_true rfl) dX2_tell_65 hp19.1 hp19.2 (fun v24 σ25 hp20 => ?_)
      refine x_pc (pc' := 68) rfl ?_
      refine x_up (pc' := 70) (fun _ _ _ _ _ L => lv_aload hx hb dX2_tell_68 (lv_at L 0 rfl)) ?_
      refine x_callV (em := emQ) (fun r st => va_rf r :: st) (fun _ _ => rfl) 0 X (kX3 hG) (fun σ' KK h => R_X3_sign l hl G hG b22 σ' KK h) (lw_V q3120 q3121 q3122 q108 q3123) ⟨rfl, mdX3_sign⟩ ⟨Nat.le_of_ble_eq_true rfl, Nat.le_of_ble_eq_true rfl⟩ rfl rfl (by simp only [List.map_cons, List.map_nil, List.sum_cons, List.sum_nil, x_catq, x_cati, x_catr, x_catn] <;> decide) dX2_tell_70 hp20.1 hp20.2 (fun v26 σ27 hp21 => ?_)
      refine x_pc (pc' := 73) rfl ?_
      obtain ⟨b28, rfl, hp22⟩ := hp21
      refine x_callV (em := emQ) (fun r st => va_rf r :: st) (fun _ _ => rfl) 1 X (kJ13 hG) (fun σ' KK h => R_J13_append l hl G hG b28 v26 σ' KK h) (lw_V q3119 q863 q864 q116 q865) ⟨rfl, mdJ13_append⟩ ⟨Nat.le_of_ble_eq_true rfl, Nat.le_of_ble_eq_true rfl⟩ rfl rfl (Nat.le_of_ble_eq_true rfl) dX2_tell_73 hp22.1 hp22.2 (fun v29 σ30 hp23 => ?_)
      refine x_pc (pc' := 76) rfl ?_
      refine x_up (pc' := 77) (fun _ _ _ _ _ L => lv_pop hx hb dX2_tell_76 (x_catq _)) ?_
      refine x_up (pc' := 27) (fun _ _ _ _ _ L => lv_goto (tgt := 27) hx hb dX2_tell_77 (by decide)) ?_
      refine x_lo (lo' := [(2, .ref q1), (3, .ref b15)]) [1, 2] rfl ?_
      exact hself13 () σ30 hp23
    · have hp24 := hp18.2 c53
      refine x_ldcwS (tx := " ") (q := G.2 20) X (by simp [x_ss, RX2]) dX2_tell_62 ?_
      refine x_pc (pc' := 65) rfl ?_
      refine x_callV (em := emQ) (fun r st => va_rf r :: st) (fun _ _ => rfl) 1 X (kJ13 hG) (fun σ' KK h => R_J13_append l hl G hG q1 (some (G.2 20)) σ' KK h) (lw_V q3119 q863 q864 q116 q865) ⟨rfl, mdJ13_append⟩ ⟨Nat.le_of_ble_eq_true rfl, Nat.le_of_ble_eq_true rfl⟩ rfl rfl (Nat.le_of_ble_eq_true rfl) dX2_tell_65 hp24.1 hp24.2 (fun v31 σ32 hp25 => ?_)
      refine x_pc (pc' := 68) rfl ?_
      refine x_up (pc' := 70) (fun _ _ _ _ _ L => lv_aload hx hb dX2_tell_68 (lv_at L 0 rfl)) ?_
      refine x_callV (em := emQ) (fun r st => va_rf r :: st) (fun _ _ => rfl) 0 X (kX3 hG) (fun σ' KK h => R_X3_sign l hl G hG b22 σ' KK h) (lw_V q3120 q3121 q3122 q108 q3123) ⟨rfl, mdX3_sign⟩ ⟨Nat.le_of_ble_eq_true rfl, Nat.le_of_ble_eq_true rfl⟩ rfl rfl (by simp only [List.map_cons, List.map_nil, List.sum_cons, List.sum_nil, x_catq, x_cati, x_catr, x_catn] <;> decide) dX2_tell_70 hp25.1 hp25.2 (fun v33 σ34 hp26 => ?_)
      refine x_pc (pc' := 73) rfl ?_
      obtain ⟨b35, rfl, hp27⟩ := hp26
      refine x_callV (em := emQ) (fun r st => va_rf r :: st) (fun _ _ => rfl) 1 X (kJ13 hG) (fun σ' KK h => R_J13_append l hl G hG b35 v33 σ' KK h) (lw_V q3119 q863 q864 q116 q865) ⟨rfl, mdJ13_append⟩ ⟨Nat.le_of_ble_eq_true rfl, Nat.le_of_ble_eq_true rfl⟩ rfl rfl (Nat.le_of_ble_eq_true rfl) dX2_tell_73 hp27.1 hp27.2 (fun v36 σ37 hp28 => ?_)
      refine x_pc (pc' := 76) rfl ?_
      refine x_up (pc' := 77) (fun _ _ _ _ _ L => lv_pop hx hb dX2_tell_76 (x_catq _)) ?_
      refine x_up (pc' := 27) (fun _ _ _ _ _ L => lv_goto (tgt := 27) hx hb dX2_tell_77 (by decide)) ?_
      refine x_lo (lo' := [(2, .ref q1), (3, .ref b15)]) [1, 2] rfl ?_
      exact hself13 () σ37 hp28
-- X1_tell
def P_X1_tell (κ : Nat → Nat) (a0 : Nat) (x1 : Int32) (σ : xS) (K : Int32 → xH → Prop) (KX : Nat → xH → Prop) : Prop :=
  xrc σ a0 0 ∧ xcallX (fun τ L LX => P_X1_requireSet κ a0 x1 τ L LX) σ (fun _ σ1 => xgq σ1 a0 0 0 fun v4 => xnn v4 fun b5 => xrc σ1 b5 1 ∧ xcall (fun τ L => P_X2_tell κ b5 x1 τ L) σ1 fun v6 σ7 => xpq κ σ7 a0 0 4 v6 fun σ8 => xgq σ8 a0 0 4 fun v9 => xnn v9 fun b10 => xrc σ8 b10 9 ∧ xcall (fun τ L => P_J14_length κ b10 τ L) σ8 fun v11 σ12 => K v11 σ12.1) (fun q2 σ3 => κ 0 ≤ q2 ∧ ((xrc σ3 q2 16 ∧ (KX q2 σ3.1))))
theorem mdX1_tell : yX1_tell.cls ≠ "java/lang/invoke/MethodHandle" ∧ yX1_tell.cls ≠ "java/lang/invoke/VarHandle" ∧ (parseMethodDescriptor yX1_tell.desc).map (fun d => d.parameters.length) = some 1 := by decide +kernel
set_option maxHeartbeats 4000000 in
set_option maxRecDepth 100000 in
theorem R_X1_tell (l : Launch) (hl : l.stackTraces = false) (G : xG) (hG : G.1.2 = x_cl) (a0 : Nat) (x1 : Int32) (σ : xS) (K : Int32 → xH → Prop) (KX : Nat → xH → Prop) (hp : P_X1_tell G.2 a0 x1 σ K KX) : xMX l yX1_tell cX1_tell 2 (Option.some Jvm.ClassFile.FieldType.int) 12 269 G [(.ref a0), .int x1] σ (xlift emI K) KX := by
  refine x_entryX (by decide) (Nat.le_of_ble_eq_true rfl) ?_
  intro p e s m args below meth c X hr hin hno
  have X : xX p s m args meth c G cX1_tell 2 RX1 := X
  have hx := X.1
  have hb := X.2.1
  have hts := X.2.2.2.2.1
  have hown := X.2.2.2.1
  have hout : ∀ pc, ∀ x ∈ c.exceptionTable.toList, covers x pc = false := fun _ x hx => (hno x hx).elim
  unfold P_X1_tell at hp
  refine x_same (lo' := [(0, .ref a0), (1, .int x1)]) rfl ?_
  refine x_up (pc' := 1) (fun _ _ _ _ _ L => lv_aload_n hx hb dX1_tell_0 rfl (lv_at L 0 rfl)) ?_
  refine x_up (pc' := 2) (fun _ _ _ _ _ L => lv_iload_n hx hb dX1_tell_1 rfl (lv_at L 1 rfl)) ?_
  refine x_callVX (em := emV) (fun r st => st) (fun _ _ => rfl) 1 X (kX1 hG) (fun σ' KK KX h => R_X1_requireSet l hl G hG a0 x1 σ' KK KX h) (lw_V q2710 q2712 qs39 q99 q2713) ⟨rfl, mdX1_requireSet⟩ ⟨Nat.le_of_ble_eq_true rfl, Nat.le_of_ble_eq_true rfl⟩ rfl rfl (Nat.le_of_ble_eq_true rfl) dX1_tell_2 hp.1 hp.2 (fun _ σ1 hpA2 => ?_) (fun q2 σ3 hpB2 => ?_)
  · have hp1 := hpA2
    refine x_pc (pc' := 5) rfl ?_
    refine x_up (pc' := 6) (fun _ _ _ _ _ L => lv_aload_n hx hb dX1_tell_5 rfl (lv_at L 0 rfl)) ?_
    refine x_up (pc' := 7) (fun _ _ _ _ _ L => lv_aload_n hx hb dX1_tell_6 rfl (lv_at L 0 rfl)) ?_
    refine x_gq X (kX1 hG) 0 (by decide) q589 (fun _ h => h) dX1_tell_7 hp1 (fun v4 hp2 => ?_)
    refine x_pc (pc' := 10) rfl ?_
    refine x_up (pc' := 11) (fun _ _ _ _ _ L => lv_iload_n hx hb dX1_tell_10 rfl (lv_at L 1 rfl)) ?_
    obtain ⟨b5, rfl, hp3⟩ := hp2
    refine x_callV (em := emQ) (fun r st => va_rf r :: st) (fun _ _ => rfl) 1 X (kX2 hG) (fun σ' KK h => R_X2_tell l hl G hG b5 x1 σ' KK h) (lw_V q3111 q3112 q3113 q100 q3114) ⟨rfl, mdX2_tell⟩ ⟨Nat.le_of_ble_eq_true rfl, Nat.le_of_ble_eq_true rfl⟩ rfl rfl (Nat.le_of_ble_eq_true rfl) dX1_tell_11 hp3.1 hp3.2 (fun v6 σ7 hp4 => ?_)
    refine x_pc (pc' := 14) rfl ?_
    refine x_pq X (kX1 hG) 4 (by decide) q593 (fun _ h => h) rfl v6 (x_nar _ (by decide)) (x_fit _ (by decide)) dX1_tell_14 hp4 (fun σ8 hp5 => ?_)
    refine x_pc (pc' := 17) rfl ?_
    refine x_up (pc' := 18) (fun _ _ _ _ _ L => lv_aload_n hx hb dX1_tell_17 rfl (lv_at L 0 rfl)) ?_
    refine x_gq X (kX1 hG) 4 (by decide) q593 (fun _ h => h) dX1_tell_18 hp5 (fun v9 hp6 => ?_)
    refine x_pc (pc' := 21) rfl ?_
    obtain ⟨b10, rfl, hp7⟩ := hp6
    refine x_callV (em := emI) (fun r st => .int r :: st) (fun _ _ => rfl) 0 X (kJ14 hG) (fun σ' KK h => R_J14_length l hl G hG b10 σ' KK h) (lw_V q3135 q925 q926 q117 q927) ⟨rfl, mdJ14_length⟩ ⟨Nat.le_of_ble_eq_true rfl, Nat.le_of_ble_eq_true rfl⟩ rfl rfl (Nat.le_of_ble_eq_true rfl) dX1_tell_21 hp7.1 hp7.2 (fun v11 σ12 hp8 => ?_)
    refine x_pc (pc' := 24) rfl ?_
    refine x_vx ?_; exact x_iret X hr rfl dX1_tell_24 hp8
  · have hp9 := hpB2
    obtain ⟨hq2, hp10⟩ := hp9
    obtain ⟨hr2, hp11⟩ := hp10
    exact x_out X (kJ28 hG) (hout 2) hr2 hq2 hp11
-- X1_character
def P_X1_character (κ : Nat → Nat) (a0 : Nat) (x1 : Int32) (σ : xS) (K : Int32 → xH → Prop) (KX : Nat → xH → Prop) : Prop :=
  xgq σ a0 0 4 fun v1 => xnn v1 fun b2 => xrc σ b2 9 ∧ xcall (fun τ L => P_J14_length κ b2 τ L) σ fun v3 σ4 => xcall (fun τ L => P_X1_isBetween κ x1 (0 : Int32) (v3 - (1 : Int32)) τ L) σ4 fun v5 σ6 => xcallX (fun τ L LX => P_X1_requireIndex κ v5 τ L LX) σ6 (fun _ σ7 => xgq σ7 a0 0 4 fun v10 => xnn v10 fun b11 => xrc σ7 b11 9 ∧ xcall (fun τ L => P_J14_charAt κ b11 x1 τ L) σ7 fun v12 σ13 => (narrow .char (.int v12) = .int v12 ∧ K v12 σ13.1)) (fun q8 σ9 => κ 0 ≤ q8 ∧ ((xrc σ9 q8 16 ∧ (KX q8 σ9.1))))
theorem mdX1_character : yX1_character.cls ≠ "java/lang/invoke/MethodHandle" ∧ yX1_character.cls ≠ "java/lang/invoke/VarHandle" ∧ (parseMethodDescriptor yX1_character.desc).map (fun d => d.parameters.length) = some 1 := by decide +kernel
set_option maxHeartbeats 4000000 in
set_option maxRecDepth 100000 in
theorem R_X1_character (l : Launch) (hl : l.stackTraces = false) (G : xG) (hG : G.1.2 = x_cl) (a0 : Nat) (x1 : Int32) (σ : xS) (K : Int32 → xH → Prop) (KX : Nat → xH → Prop) (hp : P_X1_character G.2 a0 x1 σ K KX) : xMX l yX1_character cX1_character 2 (Option.some Jvm.ClassFile.FieldType.char) 7 109 G [(.ref a0), .int x1] σ (xlift emI K) KX := by
  refine x_entryX (by decide) (Nat.le_of_ble_eq_true rfl) ?_
  intro p e s m args below meth c X hr hin hno
  have X : xX p s m args meth c G cX1_character 2 RX1 := X
  have hx := X.1
  have hb := X.2.1
  have hts := X.2.2.2.2.1
  have hown := X.2.2.2.1
  have hout : ∀ pc, ∀ x ∈ c.exceptionTable.toList, covers x pc = false := fun _ x hx => (hno x hx).elim
  unfold P_X1_character at hp
  refine x_same (lo' := [(0, .ref a0), (1, .int x1)]) rfl ?_
  refine x_up (pc' := 1) (fun _ _ _ _ _ L => lv_iload_n hx hb dX1_character_0 rfl (lv_at L 1 rfl)) ?_
  refine x_up (pc' := 2) (fun _ _ _ _ _ L => lv_iconst (v := (0 : Int32)) hx hb dX1_character_1 (by decide)) ?_
  refine x_up (pc' := 3) (fun _ _ _ _ _ L => lv_aload_n hx hb dX1_character_2 rfl (lv_at L 0 rfl)) ?_
  refine x_gq X (kX1 hG) 4 (by decide) q593 (fun _ h => h) dX1_character_3 hp (fun v1 hp1 => ?_)
  refine x_pc (pc' := 6) rfl ?_
  obtain ⟨b2, rfl, hp2⟩ := hp1
  refine x_callV (em := emI) (fun r st => .int r :: st) (fun _ _ => rfl) 0 X (kJ14 hG) (fun σ' KK h => R_J14_length l hl G hG b2 σ' KK h) (lw_V q3135 q925 q926 q117 q927) ⟨rfl, mdJ14_length⟩ ⟨Nat.le_of_ble_eq_true rfl, Nat.le_of_ble_eq_true rfl⟩ rfl rfl (Nat.le_of_ble_eq_true rfl) dX1_character_6 hp2.1 hp2.2 (fun v3 σ4 hp3 => ?_)
  refine x_pc (pc' := 9) rfl ?_
  refine x_up (pc' := 10) (fun _ _ _ _ _ L => lv_iconst (v := (1 : Int32)) hx hb dX1_character_9 (by decide)) ?_
  refine x_up (pc' := 11) (fun _ _ _ _ _ L => lv_isub hx hb dX1_character_10) ?_
  refine x_callS (em := emI) (fun r st => .int r :: st) (fun _ _ => rfl) 3 X (fun σ' KK h => R_X1_isBetween l hl G hG x1 (0 : Int32) (v3 - (1 : Int32)) σ' KK h) (lw_S q2235 q2236 q99 q2237) mdX1_isBetween ⟨Nat.le_of_ble_eq_true rfl, Nat.le_of_ble_eq_true rfl⟩ rfl rfl (Nat.le_of_ble_eq_true rfl) dX1_character_11 hp3 (fun v5 σ6 hp4 => ?_)
  refine x_pc (pc' := 14) rfl ?_
  refine x_callSX (em := emV) (fun r st => st) (fun _ _ => rfl) 1 X (fun σ' KK KX h => R_X1_requireIndex l hl G hG v5 σ' KK KX h) (lw_S q2660 q2661 q99 q2662) mdX1_requireIndex ⟨Nat.le_of_ble_eq_true rfl, Nat.le_of_ble_eq_true rfl⟩ rfl rfl (Nat.le_of_ble_eq_true rfl) dX1_character_14 hp4 (fun _ σ7 hpA14 => ?_) (fun q8 σ9 hpB14 => ?_)
  · have hp5 := hpA14
    refine x_pc (pc' := 17) rfl ?_
    refine x_up (pc' := 18) (fun _ _ _ _ _ L => lv_aload_n hx hb dX1_character_17 rfl (lv_at L 0 rfl)) ?_
    refine x_gq X (kX1 hG) 4 (by decide) q593 (fun _ h => h) dX1_character_18 hp5 (fun v10 hp6 => ?_)
    refine x_pc (pc' := 21) rfl ?_
    refine x_up (pc' := 22) (fun _ _ _ _ _ L => lv_iload_n hx hb dX1_character_21 rfl (lv_at L 1 rfl)) ?_
    obtain ⟨b11, rfl, hp7⟩ := hp6
    refine x_callV (em := emI) (fun r st => .int r :: st) (fun _ _ => rfl) 1 X (kJ14 hG) (fun σ' KK h => R_J14_charAt l hl G hG b11 x1 σ' KK h) (lw_V q3143 q2986 q2987 q117 q2988) ⟨rfl, mdJ14_charAt⟩ ⟨Nat.le_of_ble_eq_true rfl, Nat.le_of_ble_eq_true rfl⟩ rfl rfl (Nat.le_of_ble_eq_true rfl) dX1_character_22 hp7.1 hp7.2 (fun v12 σ13 hp8 => ?_)
    refine x_pc (pc' := 25) rfl ?_
    refine x_vx ?_; exact x_iret X hr hp8.1 dX1_character_25 hp8.2
  · have hp9 := hpB14
    obtain ⟨hq14, hp10⟩ := hp9
    obtain ⟨hr14, hp11⟩ := hp10
    exact x_out X (kJ28 hG) (hout 14) hr14 hq14 hp11
-- X1_hitShare
def P_X1_hitShare (κ : Nat → Nat) (a0 : Nat) (σ : xS) (K : UInt32 → xH → Prop) (KX : Nat → xH → Prop) : Prop :=
  xgq σ a0 0 0 fun v1 => xnn v1 fun b2 => xgi σ b2 1 13 fun v3 => xgq σ a0 0 0 fun v4 => xnn v4 fun b5 => xgi σ b5 1 14 fun v6 => (((v3 + v6) = 0 → (xmak κ σ 39 fun q7 σ8 => κ 0 ≤ q7 ∧ xrc σ8 q7 39 ∧ KX q7 σ8.1)) ∧ (¬ (v3 + v6) = 0 → (xgq σ a0 0 0 fun v9 => xnn v9 fun b10 => xgi σ b10 1 15 fun v11 => vf_n32 (FP.fdiv (FP.i2f v11) (FP.i2f (v3 + v6))) ∧ K (FP.fdiv (FP.i2f v11) (FP.i2f (v3 + v6))) σ.1)))
theorem mdX1_hitShare : yX1_hitShare.cls ≠ "java/lang/invoke/MethodHandle" ∧ yX1_hitShare.cls ≠ "java/lang/invoke/VarHandle" ∧ (parseMethodDescriptor yX1_hitShare.desc).map (fun d => d.parameters.length) = some 0 := by decide +kernel
set_option maxHeartbeats 4000000 in
set_option maxRecDepth 100000 in
theorem R_X1_hitShare (l : Launch) (hl : l.stackTraces = false) (G : xG) (hG : G.1.2 = x_cl) (a0 : Nat) (σ : xS) (K : UInt32 → xH → Prop) (KX : Nat → xH → Prop) (hp : P_X1_hitShare G.2 a0 σ K KX) : xMX l yX1_hitShare cX1_hitShare 2 (Option.some Jvm.ClassFile.FieldType.float) 6 89 G [(.ref a0)] σ (xlift emF K) KX := by
  refine x_entryX (by decide) (Nat.le_of_ble_eq_true rfl) ?_
  intro p e s m args below meth c X hr hin hno
  have X : xX p s m args meth c G cX1_hitShare 2 RX1 := X
  have hx := X.1
  have hb := X.2.1
  have hts := X.2.2.2.2.1
  have hown := X.2.2.2.1
  have hout : ∀ pc, ∀ x ∈ c.exceptionTable.toList, covers x pc = false := fun _ x hx => (hno x hx).elim
  unfold P_X1_hitShare at hp
  refine x_same (lo' := [(0, .ref a0)]) rfl ?_
  refine x_up (pc' := 1) (fun _ _ _ _ _ L => lv_aload_n hx hb dX1_hitShare_0 rfl (lv_at L 0 rfl)) ?_
  refine x_gq X (kX1 hG) 0 (by decide) q589 (fun _ h => h) dX1_hitShare_1 hp (fun v1 hp1 => ?_)
  refine x_pc (pc' := 4) rfl ?_
  obtain ⟨b2, rfl, hp2⟩ := hp1
  refine x_giN X (kX2 hG) 13 (by decide) q482 (fun _ h => h) dX1_hitShare_4 hp2 (fun v3 hp3 => ?_)
  refine x_pc (pc' := 7) rfl ?_
  refine x_up (pc' := 8) (fun _ _ _ _ _ L => lv_aload_n hx hb dX1_hitShare_7 rfl (lv_at L 0 rfl)) ?_
  refine x_gq X (kX1 hG) 0 (by decide) q589 (fun _ h => h) dX1_hitShare_8 hp3 (fun v4 hp4 => ?_)
  refine x_pc (pc' := 11) rfl ?_
  obtain ⟨b5, rfl, hp5⟩ := hp4
  refine x_giN X (kX2 hG) 14 (by decide) q484 (fun _ h => h) dX1_hitShare_11 hp5 (fun v6 hp6 => ?_)
  refine x_pc (pc' := 14) rfl ?_
  refine x_up (pc' := 15) (fun _ _ _ _ _ L => lv_iadd hx hb dX1_hitShare_14) ?_
  refine x_upL (pc' := 16) (lo' := [(1, .int (v3 + v6)), (0, .ref a0)]) (fun _ _ _ _ _ L => lv_istore_n hx hb dX1_hitShare_15 rfl L (by decide) rfl) ?_
  refine x_up (pc' := 17) (fun _ _ _ _ _ L => lv_iload_n hx hb dX1_hitShare_16 rfl (lv_at L 0 rfl)) ?_
  refine x_ifn (C := (v3 + v6) = 0) (pt := 28) (pc' := 20) (fun _ _ _ _ _ => lv_if_ne (tgt := 28) hx hb dX1_hitShare_17 (by decide)) (fun c17 => ?_) (fun c17 => ?_)
  · have hp7 := hp6.1 c17
    refine x_make0 (names := ["java/lang/RuntimeException", "java/lang/Exception"]) X hl (kJ46 hG) (by decide +kernel) (by decide +kernel) q3165 q163 xat_X1_340 xal_X1_340 (by decide +kernel) dX1_hitShare_20 dX1_hitShare_23 dX1_hitShare_24 (Nat.le_of_ble_eq_true rfl) (Nat.le_of_ble_eq_true rfl) (Nat.le_of_ble_eq_true rfl) hp7 (fun q7 σ8 hp8 => ?_)
    refine x_pc (pc' := 27) rfl ?_
    obtain ⟨hq27, hr27, hp9⟩ := hp8
    refine x_athrow X dX1_hitShare_27 ?_
    exact x_out X (kJ46 hG) (hout 27) hr27 hq27 hp9
  · have hp10 := hp6.2 c17
    refine x_up (pc' := 29) (fun _ _ _ _ _ L => lv_aload_n hx hb dX1_hitShare_28 rfl (lv_at L 1 rfl)) ?_
    refine x_gq X (kX1 hG) 0 (by decide) q589 (fun _ h => h) dX1_hitShare_29 hp10 (fun v9 hp11 => ?_)
    refine x_pc (pc' := 32) rfl ?_
    obtain ⟨b10, rfl, hp12⟩ := hp11
    refine x_giN X (kX2 hG) 15 (by decide) q486 (fun _ h => h) dX1_hitShare_32 hp12 (fun v11 hp13 => ?_)
    refine x_pc (pc' := 35) rfl ?_
    refine x_up (pc' := 36) (fun _ _ _ _ _ L => lv_i2f hx hb dX1_hitShare_35) ?_
    refine x_up (pc' := 37) (fun _ _ _ _ _ L => lv_iload_n hx hb dX1_hitShare_36 rfl (lv_at L 0 rfl)) ?_
    refine x_up (pc' := 38) (fun _ _ _ _ _ L => lv_i2f hx hb dX1_hitShare_37) ?_
    obtain ⟨hz38, hp14⟩ := hp13
    refine x_up (pc' := 39) (fun _ _ _ _ _ L => lv_fdiv hx hb dX1_hitShare_38 hz38) ?_
    refine x_vx ?_; exact x_fret X hr dX1_hitShare_39 hp14
-- X1_countPinned
def B_X1_countPinned_4 (κ : Nat → Nat) (K : Int32 → xH → Prop) (f0 : Nat) : ((Int32 × Int32) → xS → Prop) → (Int32 × Int32) → xS → Prop := fun self5003 w5001 σ5002 =>
  xgq σ5002 f0 0 0 fun v5004 => xnn v5004 fun b5005 => xgq σ5002 b5005 1 2 fun v5006 => xnn v5006 fun b5007 => xrc σ5002 b5007 3 ∧ xcall (fun τ L => P_J4_size κ b5007 τ L) σ5002 fun v5008 σ5009 => ((v5008 ≤ w5001.2 → (K w5001.1 σ5009.1)) ∧ (¬ v5008 ≤ w5001.2 → (xgq σ5009 f0 0 0 fun v5010 => xnn v5010 fun b5011 => xrc σ5009 b5011 1 ∧ xcall (fun τ L => P_X2_pinned κ b5011 w5001.2 τ L) σ5009 fun v5012 σ5013 => self5003 ((w5001.1 + v5012), (w5001.2 + (1 : Int32))) σ5013)))
def P_X1_countPinned (κ : Nat → Nat) (a0 : Nat) (σ : xS) (K : Int32 → xH → Prop) : Prop :=
  xwhile (B_X1_countPinned_4 κ K a0) ((0 : Int32), (0 : Int32)) σ
theorem mdX1_countPinned : yX1_countPinned.cls ≠ "java/lang/invoke/MethodHandle" ∧ yX1_countPinned.cls ≠ "java/lang/invoke/VarHandle" ∧ (parseMethodDescriptor yX1_countPinned.desc).map (fun d => d.parameters.length) = some 0 := by decide +kernel
set_option maxHeartbeats 4000000 in
set_option maxRecDepth 100000 in
theorem R_X1_countPinned (l : Launch) (hl : l.stackTraces = false) (G : xG) (hG : G.1.2 = x_cl) (a0 : Nat) (σ : xS) (K : Int32 → xH → Prop) (hp : P_X1_countPinned G.2 a0 σ K) : xM l yX1_countPinned cX1_countPinned 3 (Option.some Jvm.ClassFile.FieldType.int) 4 88 G [(.ref a0)] σ (xlift emI K) := by
  refine x_entry (by decide) (Nat.le_of_ble_eq_true rfl) ?_
  intro p e s m args below meth c X hr hin
  have X : xX p s m args meth c G cX1_countPinned 3 RX1 := X
  have hx := X.1
  have hb := X.2.1
  have hts := X.2.2.2.2.1
  have hown := X.2.2.2.1
  unfold P_X1_countPinned at hp
  refine x_same (lo' := [(0, .ref a0)]) rfl ?_
  refine x_up (pc' := 1) (fun _ _ _ _ _ L => lv_iconst (v := (0 : Int32)) hx hb dX1_countPinned_0 (by decide)) ?_
  refine x_upL (pc' := 2) (lo' := [(1, .int (0 : Int32)), (0, .ref a0)]) (fun _ _ _ _ _ L => lv_istore_n hx hb dX1_countPinned_1 rfl L (by decide) rfl) ?_
  refine x_up (pc' := 3) (fun _ _ _ _ _ L => lv_iconst (v := (0 : Int32)) hx hb dX1_countPinned_2 (by decide)) ?_
  refine x_upL (pc' := 4) (lo' := [(2, .int (0 : Int32)), (1, .int (0 : Int32)), (0, .ref a0)]) (fun _ _ _ _ _ L => lv_istore_n hx hb dX1_countPinned_3 rfl L (by decide) rfl) ?_
  refine x_lo (lo' := [(1, .int (0 : Int32)), (2, .int (0 : Int32)), (0, .ref a0)]) [1, 0, 2] rfl ?_
  refine x_while (v0 := ((0 : Int32), (0 : Int32))) (fun w1 => [(1, .int w1.1), (2, .int w1.2), (0, .ref a0)]) hp (fun self2 hself3 => ?_)
  rintro ⟨y5, y6⟩ σ4 hp1
  unfold B_X1_countPinned_4 at hp1
  refine x_same (lo' := [(1, .int y5), (2, .int y6), (0, .ref a0)]) rfl ?_
  refine x_up (pc' := 5) (fun _ _ _ _ _ L => lv_iload_n hx hb dX1_countPinned_4 rfl (lv_at L 1 rfl)) ?_
  refine x_up (pc' := 6) (fun _ _ _ _ _ L => lv_aload_n hx hb dX1_countPinned_5 rfl (lv_at L 2 rfl)) ?_
  refine x_gq X (kX1 hG) 0 (by decide) q589 (fun _ h => h) dX1_countPinned_6 hp1 (fun v7 hp2 => ?_)
  refine x_pc (pc' := 9) rfl ?_
  obtain ⟨b8, rfl, hp3⟩ := hp2
  refine x_gqN X (kX2 hG) 2 (by decide) q463 (fun _ h => h) dX1_countPinned_9 hp3 (fun v9 hp4 => ?_)
  refine x_pc (pc' := 12) rfl ?_
  obtain ⟨b10, rfl, hp5⟩ := hp4
  refine x_callF (x := ⟨"java/util/List", "size", "()I"⟩) (em := emI) (fun r st => .int r :: st) (fun _ _ => rfl) 0 X (kJ4 hG) (fun σ' KK h => R_J4_size l hl G hG b10 σ' KK h) q2715 q2078 q1341 q105 q1342 ⟨⟨q2077, q2076, q2080, q2079, q275⟩, by decide, by decide⟩ (by decide +kernel) ⟨Nat.le_of_ble_eq_true rfl, Nat.le_of_ble_eq_true rfl⟩ rfl rfl (Nat.le_of_ble_eq_true rfl) dX1_countPinned_12 hp5.1 hp5.2 (fun v11 σ12 hp6 => ?_)
  refine x_pc (pc' := 17) rfl ?_
  refine x_if (C := v11 ≤ y6) (pt := 37) (pc' := 20) (fun _ _ _ _ _ => lv_icmp_ge (tgt := 37) hx hb dX1_countPinned_17 (by decide)) (fun c17 => ?_) (fun c17 => ?_)
  · have hp7 := hp6.1 c17
    refine x_up (pc' := 38) (fun _ _ _ _ _ L => lv_iload_n hx hb dX1_countPinned_37 rfl (lv_at L 0 rfl)) ?_
    exact x_iret X hr rfl dX1_countPinned_38 hp7
  · have hp8 := hp6.2 c17
    refine x_up (pc' := 21) (fun _ _ _ _ _ L => lv_iload_n hx hb dX1_countPinned_20 rfl (lv_at L 0 rfl)) ?_
    refine x_up (pc' := 22) (fun _ _ _ _ _ L => lv_aload_n hx hb dX1_countPinned_21 rfl (lv_at L 2 rfl)) ?_
    refine x_gq X (kX1 hG) 0 (by decide) q589 (fun _ h => h) dX1_countPinned_22 hp8 (fun v13 hp9 => ?_)
    refine x_pc (pc' := 25) rfl ?_
    refine x_up (pc' := 26) (fun _ _ _ _ _ L => lv_iload_n hx hb dX1_countPinned_25 rfl (lv_at L 1 rfl)) ?_
    obtain ⟨b14, rfl, hp10⟩ := hp9
    refine x_callV (em := emI) (fun r st => .int r :: st) (fun _ _ => rfl) 1 X (kX2 hG) (fun σ' KK h => R_X2_pinned l hl G hG b14 y6 σ' KK h) (lw_V q3193 q2519 q2520 q100 q2521) ⟨rfl, mdX2_pinned⟩ ⟨Nat.le_of_ble_eq_true rfl, Nat.le_of_ble_eq_true rfl⟩ rfl rfl (Nat.le_of_ble_eq_true rfl) dX1_countPinned_26 hp10.1 hp10.2 (fun v15 σ16 hp11 => ?_)
    refine x_pc (pc' := 29) rfl ?_
    refine x_up (pc' := 30) (fun _ _ _ _ _ L => lv_iadd hx hb dX1_countPinned_29) ?_
    refine x_upL (pc' := 31) (lo' := [(1, .int (y5 + v15)), (2, .int y6), (0, .ref a0)]) (fun _ _ _ _ _ L => lv_istore_n hx hb dX1_countPinned_30 rfl L (by decide) rfl) ?_
    refine x_upL (pc' := 34) (lo' := [(2, .int (y6 + (1 : Int32))), (1, .int (y5 + v15)), (0, .ref a0)]) (fun _ _ _ _ _ L => lv_iinc (v := y6 + (1 : Int32)) hx hb dX1_countPinned_31 L (k := 1) rfl rfl (by decide) rfl) ?_
    refine x_up (pc' := 4) (fun _ _ _ _ _ L => lv_goto (tgt := 4) hx hb dX1_countPinned_34 (by decide)) ?_
    refine x_lo (lo' := [(1, .int (y5 + v15)), (2, .int (y6 + (1 : Int32))), (0, .ref a0)]) [1, 0, 2] rfl ?_
    exact hself3 ((y5 + v15), (y6 + (1 : Int32))) σ16 hp11
-- X1_countHeld
def B_X1_countHeld_15 (κ : Nat → Nat) (K : Int32 → xH → Prop) (f2 : Option Nat) : (Int32 → xS → Prop) → Int32 → xS → Prop := fun self16003 w16001 σ16002 =>
  xnn f2 fun b16004 => xrc σ16002 b16004 21 ∧ xcall (fun τ L => P_J35_hasNext κ b16004 τ L) σ16002 fun v16005 σ16006 => ((v16005 = 0 → (K w16001 σ16006.1)) ∧ (¬ v16005 = 0 → (xrc σ16006 b16004 21 ∧ xcall (fun τ L => P_J35_next κ b16004 τ L) σ16006 fun v16007 σ16008 => xnn v16007 fun b16009 => xrc σ16008 b16009 5 ∧ xrc σ16008 b16009 5 ∧ xcall (fun τ L => P_X3_isEmpty κ b16009 τ L) σ16008 fun v16010 σ16011 => ((v16010 = 0 → (self16003 (w16001 + (1 : Int32)) σ16011)) ∧ (¬ v16010 = 0 → (self16003 (w16001 + (0 : Int32)) σ16011))))))
def P_X1_countHeld (κ : Nat → Nat) (a0 : Nat) (σ : xS) (K : Int32 → xH → Prop) : Prop :=
  xgq σ a0 0 0 fun v1 => xnn v1 fun b2 => xrc σ b2 1 ∧ xcall (fun τ L => P_X2_allLines κ b2 τ L) σ fun v3 σ4 => xnn v3 fun b5 => xrc σ4 b5 3 ∧ xcall (fun τ L => P_J4_iterator κ b5 τ L) σ4 fun v6 σ7 => xwhile (B_X1_countHeld_15 κ K v6) (0 : Int32) σ7
theorem mdX1_countHeld : yX1_countHeld.cls ≠ "java/lang/invoke/MethodHandle" ∧ yX1_countHeld.cls ≠ "java/lang/invoke/VarHandle" ∧ (parseMethodDescriptor yX1_countHeld.desc).map (fun d => d.parameters.length) = some 0 := by decide +kernel
set_option maxHeartbeats 4000000 in
set_option maxRecDepth 100000 in
theorem R_X1_countHeld (l : Launch) (hl : l.stackTraces = false) (G : xG) (hG : G.1.2 = x_cl) (a0 : Nat) (σ : xS) (K : Int32 → xH → Prop) (hp : P_X1_countHeld G.2 a0 σ K) : xM l yX1_countHeld cX1_countHeld 4 (Option.some Jvm.ClassFile.FieldType.int) 6 175 G [(.ref a0)] σ (xlift emI K) := by
  refine x_entry (by decide) (Nat.le_of_ble_eq_true rfl) ?_
  intro p e s m args below meth c X hr hin
  have X : xX p s m args meth c G cX1_countHeld 4 RX1 := X
  have hx := X.1
  have hb := X.2.1
  have hts := X.2.2.2.2.1
  have hown := X.2.2.2.1
  unfold P_X1_countHeld at hp
  refine x_same (lo' := [(0, .ref a0)]) rfl ?_
  refine x_up (pc' := 1) (fun _ _ _ _ _ L => lv_iconst (v := (0 : Int32)) hx hb dX1_countHeld_0 (by decide)) ?_
  refine x_upL (pc' := 2) (lo' := [(1, .int (0 : Int32)), (0, .ref a0)]) (fun _ _ _ _ _ L => lv_istore_n hx hb dX1_countHeld_1 rfl L (by decide) rfl) ?_
  refine x_up (pc' := 3) (fun _ _ _ _ _ L => lv_aload_n hx hb dX1_countHeld_2 rfl (lv_at L 1 rfl)) ?_
  refine x_gq X (kX1 hG) 0 (by decide) q589 (fun _ h => h) dX1_countHeld_3 hp (fun v1 hp1 => ?_)
  refine x_pc (pc' := 6) rfl ?_
  obtain ⟨b2, rfl, hp2⟩ := hp1
  refine x_callV (em := emQ) (fun r st => va_rf r :: st) (fun _ _ => rfl) 0 X (kX2 hG) (fun σ' KK h => R_X2_allLines l hl G hG b2 σ' KK h) (lw_V q3181 q2035 q2036 q100 q2037) ⟨rfl, mdX2_allLines⟩ ⟨Nat.le_of_ble_eq_true rfl, Nat.le_of_ble_eq_true rfl⟩ rfl rfl (Nat.le_of_ble_eq_true rfl) dX1_countHeld_6 hp2.1 hp2.2 (fun v3 σ4 hp3 => ?_)
  refine x_pc (pc' := 9) rfl ?_
  obtain ⟨b5, rfl, hp4⟩ := hp3
  refine x_callF (x := ⟨"java/util/List", "iterator", "()Ljava/util/Iterator;"⟩) (em := emQ) (fun r st => va_rf r :: st) (fun _ _ => rfl) 0 X (kJ4 hG) (fun σ' KK h => R_J4_iterator l hl G hG b5 σ' KK h) q3183 q1701 q1703 q105 q1705 ⟨⟨q1700, q1699, q1704, q1702, q275⟩, by decide, by decide⟩ (by decide +kernel) ⟨Nat.le_of_ble_eq_true rfl, Nat.le_of_ble_eq_true rfl⟩ rfl rfl (Nat.le_of_ble_eq_true rfl) dX1_countHeld_9 hp4.1 hp4.2 (fun v6 σ7 hp5 => ?_)
  refine x_pc (pc' := 14) rfl ?_
  refine x_upL (pc' := 15) (lo' := [(2, va_rf v6), (1, .int (0 : Int32)), (0, .ref a0)]) (fun _ _ _ _ _ L => lv_astoreq_n hx hb dX1_countHeld_14 rfl L (by decide) rfl) ?_
  refine x_lo (lo' := [(1, .int (0 : Int32)), (2, va_rf v6)]) [1, 0] rfl ?_
  refine x_while (v0 := (0 : Int32)) (fun w8 => [(1, .int w8), (2, va_rf v6)]) hp5 (fun self9 hself10 => ?_)
  rintro y12 σ11 hp6
  unfold B_X1_countHeld_15 at hp6
  refine x_same (lo' := [(1, .int y12), (2, va_rf v6)]) rfl ?_
  refine x_up (pc' := 16) (fun _ _ _ _ _ L => lv_aloadq_n hx hb dX1_countHeld_15 rfl (lv_at L 1 rfl)) ?_
  obtain ⟨b13, rfl, hp7⟩ := hp6
  refine x_callF (x := ⟨"java/util/Iterator", "hasNext", "()Z"⟩) (em := emI) (fun r st => .int r :: st) (fun _ _ => rfl) 0 X (kJ35 hG) (fun σ' KK h => R_J35_hasNext l hl G hG b13 σ' KK h) q3185 q1351 q1353 q141 q1355 ⟨⟨q1331, q1330, q1354, q1352, q1198⟩, by decide, by decide⟩ (by decide +kernel) ⟨Nat.le_of_ble_eq_true rfl, Nat.le_of_ble_eq_true rfl⟩ rfl rfl (Nat.le_of_ble_eq_true rfl) dX1_countHeld_16 hp7.1 hp7.2 (fun v14 σ15 hp8 => ?_)
  refine x_pc (pc' := 21) rfl ?_
  refine x_if (C := v14 = 0) (pt := 52) (pc' := 24) (fun _ _ _ _ _ => lv_if_eq (tgt := 52) hx hb dX1_countHeld_21 (by decide)) (fun c21 => ?_) (fun c21 => ?_)
  · have hp9 := hp8.1 c21
    refine x_up (pc' := 53) (fun _ _ _ _ _ L => lv_iload_n hx hb dX1_countHeld_52 rfl (lv_at L 0 rfl)) ?_
    exact x_iret X hr rfl dX1_countHeld_53 hp9
  · have hp10 := hp8.2 c21
    refine x_up (pc' := 25) (fun _ _ _ _ _ L => lv_aload_n hx hb dX1_countHeld_24 rfl (lv_at L 1 rfl)) ?_
    refine x_callF (x := ⟨"java/util/Iterator", "next", "()Ljava/lang/Object;"⟩) (em := emQ) (fun r st => va_rf r :: st) (fun _ _ => rfl) 0 X (kJ35 hG) (fun σ' KK h => R_J35_next l hl G hG b13 σ' KK h) q3187 q1199 q1201 q141 q1203 ⟨⟨q768, q767, q1202, q1200, q1198⟩, by decide, by decide⟩ (by decide +kernel) ⟨Nat.le_of_ble_eq_true rfl, Nat.le_of_ble_eq_true rfl⟩ rfl rfl (Nat.le_of_ble_eq_true rfl) dX1_countHeld_25 hp10.1 hp10.2 (fun v16 σ17 hp11 => ?_)
    refine x_pc (pc' := 30) rfl ?_
    obtain ⟨b18, rfl, hp12⟩ := hp11
    refine x_castS X (kX3 hG) q2719 hp12.1 dX1_countHeld_30 ?_
    have hp13 := hp12.2
    refine x_pc (pc' := 33) rfl ?_
    refine x_upL (pc' := 34) (lo' := [(3, .ref b18), (1, .int y12), (2, .ref b13)]) (fun _ _ _ _ _ L => lv_astore_n hx hb dX1_countHeld_33 rfl L (by decide) rfl) ?_
    refine x_up (pc' := 35) (fun _ _ _ _ _ L => lv_iload_n hx hb dX1_countHeld_34 rfl (lv_at L 1 rfl)) ?_
    refine x_up (pc' := 36) (fun _ _ _ _ _ L => lv_aload_n hx hb dX1_countHeld_35 rfl (lv_at L 0 rfl)) ?_
    refine x_callV (em := emI) (fun r st => .int r :: st) (fun _ _ => rfl) 0 X (kX3 hG) (fun σ' KK h => R_X3_isEmpty l hl G hG b18 σ' KK h) (lw_V q3188 q2106 q2107 q108 q2108) ⟨rfl, mdX3_isEmpty⟩ ⟨Nat.le_of_ble_eq_true rfl, Nat.le_of_ble_eq_true rfl⟩ rfl rfl (Nat.le_of_ble_eq_true rfl) dX1_countHeld_36 hp13.1 hp13.2 (fun v19 σ20 hp14 => ?_)
    refine x_pc (pc' := 39) rfl ?_
    refine x_if (C := v19 = 0) (pt := 46) (pc' := 42) (fun _ _ _ _ _ => lv_if_eq (tgt := 46) hx hb dX1_countHeld_39 (by decide)) (fun c39 => ?_) (fun c39 => ?_)
    · have hp15 := hp14.1 c39
      refine x_up (pc' := 47) (fun _ _ _ _ _ L => lv_iconst (v := (1 : Int32)) hx hb dX1_countHeld_46 (by decide)) ?_
      refine x_up (pc' := 48) (fun _ _ _ _ _ L => lv_iadd hx hb dX1_countHeld_47) ?_
      refine x_upL (pc' := 49) (lo' := [(1, .int (y12 + (1 : Int32))), (3, .ref b18), (2, .ref b13)]) (fun _ _ _ _ _ L => lv_istore_n hx hb dX1_countHeld_48 rfl L (by decide) rfl) ?_
      refine x_up (pc' := 15) (fun _ _ _ _ _ L => lv_goto (tgt := 15) hx hb dX1_countHeld_49 (by decide)) ?_
      refine x_lo (lo' := [(1, .int (y12 + (1 : Int32))), (2, .ref b13)]) [0, 2] rfl ?_
      exact hself10 (y12 + (1 : Int32)) σ20 hp15
    · have hp16 := hp14.2 c39
      refine x_up (pc' := 43) (fun _ _ _ _ _ L => lv_iconst (v := (0 : Int32)) hx hb dX1_countHeld_42 (by decide)) ?_
      refine x_up (pc' := 47) (fun _ _ _ _ _ L => lv_goto (tgt := 47) hx hb dX1_countHeld_43 (by decide)) ?_
      refine x_up (pc' := 48) (fun _ _ _ _ _ L => lv_iadd hx hb dX1_countHeld_47) ?_
      refine x_upL (pc' := 49) (lo' := [(1, .int (y12 + (0 : Int32))), (3, .ref b18), (2, .ref b13)]) (fun _ _ _ _ _ L => lv_istore_n hx hb dX1_countHeld_48 rfl L (by decide) rfl) ?_
      refine x_up (pc' := 15) (fun _ _ _ _ _ L => lv_goto (tgt := 15) hx hb dX1_countHeld_49 (by decide)) ?_
      refine x_lo (lo' := [(1, .int (y12 + (0 : Int32))), (2, .ref b13)]) [0, 2] rfl ?_
      exact hself10 (y12 + (0 : Int32)) σ20 hp16
-- X1_account
def P_X1_account (κ : Nat → Nat) (a0 : Nat) (x1 : Int32) (σ : xS) (K : Int32 → xH → Prop) (KX : Nat → xH → Prop) : Prop :=
  ((x1 = (0 : Int32) → (xgq σ a0 0 0 fun v70 => xnn v70 fun b71 => xgi σ b71 1 10 fun v72 => K v72 σ.1)) ∧ (¬ x1 = (0 : Int32) → ((x1 = (1 : Int32) → (xgq σ a0 0 0 fun v64 => xnn v64 fun b65 => xgq σ b65 1 2 fun v66 => xnn v66 fun b67 => xrc σ b67 3 ∧ xcall (fun τ L => P_J4_size κ b67 τ L) σ fun v68 σ69 => K v68 σ69.1)) ∧ (¬ x1 = (1 : Int32) → ((x1 = (2 : Int32) → (xgq σ a0 0 0 fun v61 => xnn v61 fun b62 => xgi σ b62 1 8 fun v63 => K v63 σ.1)) ∧ (¬ x1 = (2 : Int32) → ((x1 = (3 : Int32) → (xgq σ a0 0 0 fun v58 => xnn v58 fun b59 => xgi σ b59 1 11 fun v60 => K v60 σ.1)) ∧ (¬ x1 = (3 : Int32) → ((x1 = (4 : Int32) → (xgq σ a0 0 0 fun v55 => xnn v55 fun b56 => xgi σ b56 1 12 fun v57 => ((v57 = 0 → (K (0 : Int32) σ.1)) ∧ (¬ v57 = 0 → (K (1 : Int32) σ.1))))) ∧ (¬ x1 = (4 : Int32) → ((x1 = (5 : Int32) → (xrc σ a0 0 ∧ xcall (fun τ L => P_X1_countHeld κ a0 τ L) σ fun v53 σ54 => K v53 σ54.1)) ∧ (¬ x1 = (5 : Int32) → ((x1 = (6 : Int32) → (xrc σ a0 0 ∧ xcall (fun τ L => P_X1_countPinned κ a0 τ L) σ fun v51 σ52 => K v51 σ52.1)) ∧ (¬ x1 = (6 : Int32) → ((x1 = (7 : Int32) → (xgq σ a0 0 0 fun v47 => xnn v47 fun b48 => xrc σ b48 1 ∧ xcall (fun τ L => P_X2_dirtyWords κ b48 τ L) σ fun v49 σ50 => K v49 σ50.1)) ∧ (¬ x1 = (7 : Int32) → ((x1 = (8 : Int32) → (xgq σ a0 0 0 fun v44 => xnn v44 fun b45 => xgi σ b45 1 13 fun v46 => K v46 σ.1)) ∧ (¬ x1 = (8 : Int32) → ((x1 = (9 : Int32) → (xgq σ a0 0 0 fun v41 => xnn v41 fun b42 => xgi σ b42 1 14 fun v43 => K v43 σ.1)) ∧ (¬ x1 = (9 : Int32) → ((x1 = (10 : Int32) → (xgq σ a0 0 0 fun v38 => xnn v38 fun b39 => xgi σ b39 1 15 fun v40 => K v40 σ.1)) ∧ (¬ x1 = (10 : Int32) → ((x1 = (11 : Int32) → (xgq σ a0 0 0 fun v33 => xnn v33 fun b34 => xgq σ b34 1 7 fun v35 => xnn v35 fun b36 => xai .int σ b36 (x1 - (11 : Int32)) fun v37 => K v37 σ.1)) ∧ (¬ x1 = (11 : Int32) → ((x1 = (12 : Int32) → (xgq σ a0 0 0 fun v28 => xnn v28 fun b29 => xgq σ b29 1 7 fun v30 => xnn v30 fun b31 => xai .int σ b31 (x1 - (11 : Int32)) fun v32 => K v32 σ.1)) ∧ (¬ x1 = (12 : Int32) → ((x1 = (13 : Int32) → (xgq σ a0 0 0 fun v23 => xnn v23 fun b24 => xgq σ b24 1 7 fun v25 => xnn v25 fun b26 => xai .int σ b26 (x1 - (11 : Int32)) fun v27 => K v27 σ.1)) ∧ (¬ x1 = (13 : Int32) → ((x1 = (14 : Int32) → (xgq σ a0 0 0 fun v20 => xnn v20 fun b21 => xgi σ b21 1 16 fun v22 => K v22 σ.1)) ∧ (¬ x1 = (14 : Int32) → ((x1 = (15 : Int32) → (xgq σ a0 0 0 fun v17 => xnn v17 fun b18 => xgi σ b18 1 17 fun v19 => K v19 σ.1)) ∧ (¬ x1 = (15 : Int32) → ((x1 = (16 : Int32) → (xgq σ a0 0 0 fun v14 => xnn v14 fun b15 => xgi σ b15 1 18 fun v16 => K v16 σ.1)) ∧ (¬ x1 = (16 : Int32) → ((x1 = (17 : Int32) → (xgq σ a0 0 0 fun v11 => xnn v11 fun b12 => xgi σ b12 1 19 fun v13 => K v13 σ.1)) ∧ (¬ x1 = (17 : Int32) → ((x1 = (18 : Int32) → (xgq σ a0 0 3 fun v7 => xnn v7 fun b8 => xrc σ b8 8 ∧ xcall (fun τ L => P_J13_length κ b8 τ L) σ fun v9 σ10 => K v9 σ10.1)) ∧ (¬ x1 = (18 : Int32) → ((x1 = (19 : Int32) → (xgq σ a0 0 2 fun v3 => xnn v3 fun b4 => xrc σ b4 7 ∧ xcall (fun τ L => P_J11_size κ b4 τ L) σ fun v5 σ6 => K v5 σ6.1)) ∧ (¬ x1 = (19 : Int32) → (xmak κ σ 17 fun q1 σ2 => κ 0 ≤ q1 ∧ xrc σ2 q1 17 ∧ KX q1 σ2.1)))))))))))))))))))))))))))))))))))))))))
theorem mdX1_account : yX1_account.cls ≠ "java/lang/invoke/MethodHandle" ∧ yX1_account.cls ≠ "java/lang/invoke/VarHandle" ∧ (parseMethodDescriptor yX1_account.desc).map (fun d => d.parameters.length) = some 1 := by decide +kernel
set_option maxHeartbeats 4000000 in
set_option maxRecDepth 100000 in
theorem R_X1_account (l : Launch) (hl : l.stackTraces = false) (G : xG) (hG : G.1.2 = x_cl) (a0 : Nat) (x1 : Int32) (σ : xS) (K : Int32 → xH → Prop) (KX : Nat → xH → Prop) (hp : P_X1_account G.2 a0 x1 σ K KX) : xMX l yX1_account cX1_account 2 (Option.some Jvm.ClassFile.FieldType.int) 7 198 G [(.ref a0), .int x1] σ (xlift emI K) KX := by
  refine x_entryX (by decide) (Nat.le_of_ble_eq_true rfl) ?_
  intro p e s m args below meth c X hr hin hno
  have X : xX p s m args meth c G cX1_account 2 RX1 := X
  have hx := X.1
  have hb := X.2.1
  have hts := X.2.2.2.2.1
  have hown := X.2.2.2.1
  have hout : ∀ pc, ∀ x ∈ c.exceptionTable.toList, covers x pc = false := fun _ x hx => (hno x hx).elim
  unfold P_X1_account at hp
  refine x_same (lo' := [(0, .ref a0), (1, .int x1)]) rfl ?_
  refine x_up (pc' := 1) (fun _ _ _ _ _ L => lv_iload_n hx hb dX1_account_0 rfl (lv_at L 1 rfl)) ?_
  by_cases c1_0 : x1 = (0 : Int32)
  · have hp1 := hp.1 c1_0
    refine x_up (pc' := 96) (fun _ _ _ _ _ L => lv_tableIn (off := 95) (tgt := 96) hx hb dX1_account_1 (by rw [c1_0]; decide) (by rw [c1_0]; decide) (by rw [c1_0]; rfl) (by decide)) ?_
    refine x_up (pc' := 97) (fun _ _ _ _ _ L => lv_aload_n hx hb dX1_account_96 rfl (lv_at L 0 rfl)) ?_
    refine x_gq X (kX1 hG) 0 (by decide) q589 (fun _ h => h) dX1_account_97 hp1 (fun v1 hp2 => ?_)
    refine x_pc (pc' := 100) rfl ?_
    obtain ⟨b2, rfl, hp3⟩ := hp2
    refine x_giN X (kX2 hG) 10 (by decide) q476 (fun _ h => h) dX1_account_100 hp3 (fun v3 hp4 => ?_)
    refine x_pc (pc' := 103) rfl ?_
    refine x_vx ?_; exact x_iret X hr rfl dX1_account_103 hp4
  have hp5 := hp.2 c1_0
  by_cases c1_1 : x1 = (1 : Int32)
  · have hp6 := hp5.1 c1_1
    refine x_up (pc' := 104) (fun _ _ _ _ _ L => lv_tableIn (off := 103) (tgt := 104) hx hb dX1_account_1 (by rw [c1_1]; decide) (by rw [c1_1]; decide) (by rw [c1_1]; rfl) (by decide)) ?_
    refine x_up (pc' := 105) (fun _ _ _ _ _ L => lv_aload_n hx hb dX1_account_104 rfl (lv_at L 0 rfl)) ?_
    refine x_gq X (kX1 hG) 0 (by decide) q589 (fun _ h => h) dX1_account_105 hp6 (fun v4 hp7 => ?_)
    refine x_pc (pc' := 108) rfl ?_
    obtain ⟨b5, rfl, hp8⟩ := hp7
    refine x_gqN X (kX2 hG) 2 (by decide) q463 (fun _ h => h) dX1_account_108 hp8 (fun v6 hp9 => ?_)
    refine x_pc (pc' := 111) rfl ?_
    obtain ⟨b7, rfl, hp10⟩ := hp9
    refine x_callF (x := ⟨"java/util/List", "size", "()I"⟩) (em := emI) (fun r st => .int r :: st) (fun _ _ => rfl) 0 X (kJ4 hG) (fun σ' KK h => R_J4_size l hl G hG b7 σ' KK h) q2715 q2078 q1341 q105 q1342 ⟨⟨q2077, q2076, q2080, q2079, q275⟩, by decide, by decide⟩ (by decide +kernel) ⟨Nat.le_of_ble_eq_true rfl, Nat.le_of_ble_eq_true rfl⟩ rfl rfl (Nat.le_of_ble_eq_true rfl) dX1_account_111 hp10.1 hp10.2 (fun v8 σ9 hp11 => ?_)
    refine x_pc (pc' := 116) rfl ?_
    refine x_vx ?_; exact x_iret X hr rfl dX1_account_116 hp11
  have hp12 := hp5.2 c1_1
  by_cases c1_2 : x1 = (2 : Int32)
  · have hp13 := hp12.1 c1_2
    refine x_up (pc' := 117) (fun _ _ _ _ _ L => lv_tableIn (off := 116) (tgt := 117) hx hb dX1_account_1 (by rw [c1_2]; decide) (by rw [c1_2]; decide) (by rw [c1_2]; rfl) (by decide)) ?_
    refine x_up (pc' := 118) (fun _ _ _ _ _ L => lv_aload_n hx hb dX1_account_117 rfl (lv_at L 0 rfl)) ?_
    refine x_gq X (kX1 hG) 0 (by decide) q589 (fun _ h => h) dX1_account_118 hp13 (fun v10 hp14 => ?_)
    refine x_pc (pc' := 121) rfl ?_
    obtain ⟨b11, rfl, hp15⟩ := hp14
    refine x_giN X (kX2 hG) 8 (by decide) q473 (fun _ h => h) dX1_account_121 hp15 (fun v12 hp16 => ?_)
    refine x_pc (pc' := 124) rfl ?_
    refine x_vx ?_; exact x_iret X hr rfl dX1_account_124 hp16
  have hp17 := hp12.2 c1_2
  by_cases c1_3 : x1 = (3 : Int32)
  · have hp18 := hp17.1 c1_3
    refine x_up (pc' := 125) (fun _ _ _ _ _ L => lv_tableIn (off := 124) (tgt := 125) hx hb dX1_account_1 (by rw [c1_3]; decide) (by rw [c1_3]; decide) (by rw [c1_3]; rfl) (by decide)) ?_
    refine x_up (pc' := 126) (fun _ _ _ _ _ L => lv_aload_n hx hb dX1_account_125 rfl (lv_at L 0 rfl)) ?_
    refine x_gq X (kX1 hG) 0 (by decide) q589 (fun _ h => h) dX1_account_126 hp18 (fun v13 hp19 => ?_)
    refine x_pc (pc' := 129) rfl ?_
    obtain ⟨b14, rfl, hp20⟩ := hp19
    refine x_giN X (kX2 hG) 11 (by decide) q478 (fun _ h => h) dX1_account_129 hp20 (fun v15 hp21 => ?_)
    refine x_pc (pc' := 132) rfl ?_
    refine x_vx ?_; exact x_iret X hr rfl dX1_account_132 hp21
  have hp22 := hp17.2 c1_3
  by_cases c1_4 : x1 = (4 : Int32)
  · have hp23 := hp22.1 c1_4
    refine x_up (pc' := 133) (fun _ _ _ _ _ L => lv_tableIn (off := 132) (tgt := 133) hx hb dX1_account_1 (by rw [c1_4]; decide) (by rw [c1_4]; decide) (by rw [c1_4]; rfl) (by decide)) ?_
    refine x_up (pc' := 134) (fun _ _ _ _ _ L => lv_aload_n hx hb dX1_account_133 rfl (lv_at L 0 rfl)) ?_
    refine x_gq X (kX1 hG) 0 (by decide) q589 (fun _ h => h) dX1_account_134 hp23 (fun v16 hp24 => ?_)
    refine x_pc (pc' := 137) rfl ?_
    obtain ⟨b17, rfl, hp25⟩ := hp24
    refine x_giN X (kX2 hG) 12 (by decide) q480 (fun _ h => h) dX1_account_137 hp25 (fun v18 hp26 => ?_)
    refine x_pc (pc' := 140) rfl ?_
    refine x_if (C := v18 = 0) (pt := 147) (pc' := 143) (fun _ _ _ _ _ => lv_if_eq (tgt := 147) hx hb dX1_account_140 (by decide)) (fun c140 => ?_) (fun c140 => ?_)
    · have hp27 := hp26.1 c140
      refine x_up (pc' := 148) (fun _ _ _ _ _ L => lv_iconst (v := (0 : Int32)) hx hb dX1_account_147 (by decide)) ?_
      refine x_vx ?_; exact x_iret X hr rfl dX1_account_148 hp27
    · have hp28 := hp26.2 c140
      refine x_up (pc' := 144) (fun _ _ _ _ _ L => lv_iconst (v := (1 : Int32)) hx hb dX1_account_143 (by decide)) ?_
      refine x_up (pc' := 148) (fun _ _ _ _ _ L => lv_goto (tgt := 148) hx hb dX1_account_144 (by decide)) ?_
      refine x_vx ?_; exact x_iret X hr rfl dX1_account_148 hp28
  have hp29 := hp22.2 c1_4
  by_cases c1_5 : x1 = (5 : Int32)
  · have hp30 := hp29.1 c1_5
    refine x_up (pc' := 149) (fun _ _ _ _ _ L => lv_tableIn (off := 148) (tgt := 149) hx hb dX1_account_1 (by rw [c1_5]; decide) (by rw [c1_5]; decide) (by rw [c1_5]; rfl) (by decide)) ?_
    refine x_up (pc' := 150) (fun _ _ _ _ _ L => lv_aload_n hx hb dX1_account_149 rfl (lv_at L 0 rfl)) ?_
    refine x_callV (em := emI) (fun r st => .int r :: st) (fun _ _ => rfl) 0 X (kX1 hG) (fun σ' KK h => R_X1_countHeld l hl G hG a0 σ' KK h) (lw_V q3177 q3179 qs51 q99 q3180) ⟨rfl, mdX1_countHeld⟩ ⟨Nat.le_of_ble_eq_true rfl, Nat.le_of_ble_eq_true rfl⟩ rfl rfl (Nat.le_of_ble_eq_true rfl) dX1_account_150 hp30.1 hp30.2 (fun v19 σ20 hp31 => ?_)
    refine x_pc (pc' := 153) rfl ?_
    refine x_vx ?_; exact x_iret X hr rfl dX1_account_153 hp31
  have hp32 := hp29.2 c1_5
  by_cases c1_6 : x1 = (6 : Int32)
  · have hp33 := hp32.1 c1_6
    refine x_up (pc' := 154) (fun _ _ _ _ _ L => lv_tableIn (off := 153) (tgt := 154) hx hb dX1_account_1 (by rw [c1_6]; decide) (by rw [c1_6]; decide) (by rw [c1_6]; rfl) (by decide)) ?_
    refine x_up (pc' := 155) (fun _ _ _ _ _ L => lv_aload_n hx hb dX1_account_154 rfl (lv_at L 0 rfl)) ?_
    refine x_callV (em := emI) (fun r st => .int r :: st) (fun _ _ => rfl) 0 X (kX1 hG) (fun σ' KK h => R_X1_countPinned l hl G hG a0 σ' KK h) (lw_V q3189 q3191 qs52 q99 q3192) ⟨rfl, mdX1_countPinned⟩ ⟨Nat.le_of_ble_eq_true rfl, Nat.le_of_ble_eq_true rfl⟩ rfl rfl (Nat.le_of_ble_eq_true rfl) dX1_account_155 hp33.1 hp33.2 (fun v21 σ22 hp34 => ?_)
    refine x_pc (pc' := 158) rfl ?_
    refine x_vx ?_; exact x_iret X hr rfl dX1_account_158 hp34
  have hp35 := hp32.2 c1_6
  by_cases c1_7 : x1 = (7 : Int32)
  · have hp36 := hp35.1 c1_7
    refine x_up (pc' := 159) (fun _ _ _ _ _ L => lv_tableIn (off := 158) (tgt := 159) hx hb dX1_account_1 (by rw [c1_7]; decide) (by rw [c1_7]; decide) (by rw [c1_7]; rfl) (by decide)) ?_
    refine x_up (pc' := 160) (fun _ _ _ _ _ L => lv_aload_n hx hb dX1_account_159 rfl (lv_at L 0 rfl)) ?_
    refine x_gq X (kX1 hG) 0 (by decide) q589 (fun _ h => h) dX1_account_160 hp36 (fun v23 hp37 => ?_)
    refine x_pc (pc' := 163) rfl ?_
    obtain ⟨b24, rfl, hp38⟩ := hp37
    refine x_callV (em := emI) (fun r st => .int r :: st) (fun _ _ => rfl) 0 X (kX2 hG) (fun σ' KK h => R_X2_dirtyWords l hl G hG b24 σ' KK h) (lw_V q2030 q2031 q2032 q100 q2033) ⟨rfl, mdX2_dirtyWords⟩ ⟨Nat.le_of_ble_eq_true rfl, Nat.le_of_ble_eq_true rfl⟩ rfl rfl (Nat.le_of_ble_eq_true rfl) dX1_account_163 hp38.1 hp38.2 (fun v25 σ26 hp39 => ?_)
    refine x_pc (pc' := 166) rfl ?_
    refine x_vx ?_; exact x_iret X hr rfl dX1_account_166 hp39
  have hp40 := hp35.2 c1_7
  by_cases c1_8 : x1 = (8 : Int32)
  · have hp41 := hp40.1 c1_8
    refine x_up (pc' := 167) (fun _ _ _ _ _ L => lv_tableIn (off := 166) (tgt := 167) hx hb dX1_account_1 (by rw [c1_8]; decide) (by rw [c1_8]; decide) (by rw [c1_8]; rfl) (by decide)) ?_
    refine x_up (pc' := 168) (fun _ _ _ _ _ L => lv_aload_n hx hb dX1_account_167 rfl (lv_at L 0 rfl)) ?_
    refine x_gq X (kX1 hG) 0 (by decide) q589 (fun _ h => h) dX1_account_168 hp41 (fun v27 hp42 => ?_)
    refine x_pc (pc' := 171) rfl ?_
    obtain ⟨b28, rfl, hp43⟩ := hp42
    refine x_giN X (kX2 hG) 13 (by decide) q482 (fun _ h => h) dX1_account_171 hp43 (fun v29 hp44 => ?_)
    refine x_pc (pc' := 174) rfl ?_
    refine x_vx ?_; exact x_iret X hr rfl dX1_account_174 hp44
  have hp45 := hp40.2 c1_8
  by_cases c1_9 : x1 = (9 : Int32)
  · have hp46 := hp45.1 c1_9
    refine x_up (pc' := 175) (fun _ _ _ _ _ L => lv_tableIn (off := 174) (tgt := 175) hx hb dX1_account_1 (by rw [c1_9]; decide) (by rw [c1_9]; decide) (by rw [c1_9]; rfl) (by decide)) ?_
    refine x_up (pc' := 176) (fun _ _ _ _ _ L => lv_aload_n hx hb dX1_account_175 rfl (lv_at L 0 rfl)) ?_
    refine x_gq X (kX1 hG) 0 (by decide) q589 (fun _ h => h) dX1_account_176 hp46 (fun v30 hp47 => ?_)
    refine x_pc (pc' := 179) rfl ?_
    obtain ⟨b31, rfl, hp48⟩ := hp47
    refine x_giN X (kX2 hG) 14 (by decide) q484 (fun _ h => h) dX1_account_179 hp48 (fun v32 hp49 => ?_)
    refine x_pc (pc' := 182) rfl ?_
    refine x_vx ?_; exact x_iret X hr rfl dX1_account_182 hp49
  have hp50 := hp45.2 c1_9
  by_cases c1_10 : x1 = (10 : Int32)
  · have hp51 := hp50.1 c1_10
    refine x_up (pc' := 183) (fun _ _ _ _ _ L => lv_tableIn (off := 182) (tgt := 183) hx hb dX1_account_1 (by rw [c1_10]; decide) (by rw [c1_10]; decide) (by rw [c1_10]; rfl) (by decide)) ?_
    refine x_up (pc' := 184) (fun _ _ _ _ _ L => lv_aload_n hx hb dX1_account_183 rfl (lv_at L 0 rfl)) ?_
    refine x_gq X (kX1 hG) 0 (by decide) q589 (fun _ h => h) dX1_account_184 hp51 (fun v33 hp52 => ?_)
    refine x_pc (pc' := 187) rfl ?_
    obtain ⟨b34, rfl, hp53⟩ := hp52
    refine x_giN X (kX2 hG) 15 (by decide) q486 (fun _ h => h) dX1_account_187 hp53 (fun v35 hp54 => ?_)
    refine x_pc (pc' := 190) rfl ?_
    refine x_vx ?_; exact x_iret X hr rfl dX1_account_190 hp54
  have hp55 := hp50.2 c1_10
  by_cases c1_11 : x1 = (11 : Int32)
  · have hp56 := hp55.1 c1_11
    refine x_up (pc' := 191) (fun _ _ _ _ _ L => lv_tableIn (off := 190) (tgt := 191) hx hb dX1_account_1 (by rw [c1_11]; decide) (by rw [c1_11]; decide) (by rw [c1_11]; rfl) (by decide)) ?_
    refine x_up (pc' := 192) (fun _ _ _ _ _ L => lv_aload_n hx hb dX1_account_191 rfl (lv_at L 0 rfl)) ?_
    refine x_gq X (kX1 hG) 0 (by decide) q589 (fun _ h => h) dX1_account_192 hp56 (fun v36 hp57 => ?_)
    refine x_pc (pc' := 195) rfl ?_
    obtain ⟨b37, rfl, hp58⟩ := hp57
    refine x_gqN X (kX2 hG) 7 (by decide) q471 (fun _ h => h) dX1_account_195 hp58 (fun v38 hp59 => ?_)
    refine x_pc (pc' := 198) rfl ?_
    refine x_up (pc' := 199) (fun _ _ _ _ _ L => lv_iload_n hx hb dX1_account_198 rfl (lv_at L 1 rfl)) ?_
    refine x_up (pc' := 201) (fun _ _ _ _ _ L => lv_bipush (v := (11 : Int32)) hx hb dX1_account_199 (by decide)) ?_
    refine x_up (pc' := 202) (fun _ _ _ _ _ L => lv_isub hx hb dX1_account_201) ?_
    obtain ⟨b39, rfl, hp60⟩ := hp59
    refine x_iald X dX1_account_202 hp60 (fun v40 hp61 => ?_)
    refine x_pc (pc' := 203) rfl ?_
    refine x_vx ?_; exact x_iret X hr rfl dX1_account_203 hp61
  have hp62 := hp55.2 c1_11
  by_cases c1_12 : x1 = (12 : Int32)
  · have hp63 := hp62.1 c1_12
    refine x_up (pc' := 191) (fun _ _ _ _ _ L => lv_tableIn (off := 190) (tgt := 191) hx hb dX1_account_1 (by rw [c1_12]; decide) (by rw [c1_12]; decide) (by rw [c1_12]; rfl) (by decide)) ?_
    refine x_up (pc' := 192) (fun _ _ _ _ _ L => lv_aload_n hx hb dX1_account_191 rfl (lv_at L 0 rfl)) ?_
    refine x_gq X (kX1 hG) 0 (by decide) q589 (fun _ h => h) dX1_account_192 hp63 (fun v41 hp64 => ?_)
    refine x_pc (pc' := 195) rfl ?_
    obtain ⟨b42, rfl, hp65⟩ := hp64
    refine x_gqN X (kX2 hG) 7 (by decide) q471 (fun _ h => h) dX1_account_195 hp65 (fun v43 hp66 => ?_)
    refine x_pc (pc' := 198) rfl ?_
    refine x_up (pc' := 199) (fun _ _ _ _ _ L => lv_iload_n hx hb dX1_account_198 rfl (lv_at L 1 rfl)) ?_
    refine x_up (pc' := 201) (fun _ _ _ _ _ L => lv_bipush (v := (11 : Int32)) hx hb dX1_account_199 (by decide)) ?_
    refine x_up (pc' := 202) (fun _ _ _ _ _ L => lv_isub hx hb dX1_account_201) ?_
    obtain ⟨b44, rfl, hp67⟩ := hp66
    refine x_iald X dX1_account_202 hp67 (fun v45 hp68 => ?_)
    refine x_pc (pc' := 203) rfl ?_
    refine x_vx ?_; exact x_iret X hr rfl dX1_account_203 hp68
  have hp69 := hp62.2 c1_12
  by_cases c1_13 : x1 = (13 : Int32)
  · have hp70 := hp69.1 c1_13
    refine x_up (pc' := 191) (fun _ _ _ _ _ L => lv_tableIn (off := 190) (tgt := 191) hx hb dX1_account_1 (by rw [c1_13]; decide) (by rw [c1_13]; decide) (by rw [c1_13]; rfl) (by decide)) ?_
    refine x_up (pc' := 192) (fun _ _ _ _ _ L => lv_aload_n hx hb dX1_account_191 rfl (lv_at L 0 rfl)) ?_
    refine x_gq X (kX1 hG) 0 (by decide) q589 (fun _ h => h) dX1_account_192 hp70 (fun v46 hp71 => ?_)
    refine x_pc (pc' := 195) rfl ?_
    obtain ⟨b47, rfl, hp72⟩ := hp71
    refine x_gqN X (kX2 hG) 7 (by decide) q471 (fun _ h => h) dX1_account_195 hp72 (fun v48 hp73 => ?_)
    refine x_pc (pc' := 198) rfl ?_
    refine x_up (pc' := 199) (fun _ _ _ _ _ L => lv_iload_n hx hb dX1_account_198 rfl (lv_at L 1 rfl)) ?_
    refine x_up (pc' := 201) (fun _ _ _ _ _ L => lv_bipush (v := (11 : Int32)) hx hb dX1_account_199 (by decide)) ?_
    refine x_up (pc' := 202) (fun _ _ _ _ _ L => lv_isub hx hb dX1_account_201) ?_
    obtain ⟨b49, rfl, hp74⟩ := hp73
    refine x_iald X dX1_account_202 hp74 (fun v50 hp75 => ?_)
    refine x_pc (pc' := 203) rfl ?_
    refine x_vx ?_; exact x_iret X hr rfl dX1_account_203 hp75
  have hp76 := hp69.2 c1_13
  by_cases c1_14 : x1 = (14 : Int32)
  · have hp77 := hp76.1 c1_14
    refine x_up (pc' := 204) (fun _ _ _ _ _ L => lv_tableIn (off := 203) (tgt := 204) hx hb dX1_account_1 (by rw [c1_14]; decide) (by rw [c1_14]; decide) (by rw [c1_14]; rfl) (by decide)) ?_
    refine x_up (pc' := 205) (fun _ _ _ _ _ L => lv_aload_n hx hb dX1_account_204 rfl (lv_at L 0 rfl)) ?_
    refine x_gq X (kX1 hG) 0 (by decide) q589 (fun _ h => h) dX1_account_205 hp77 (fun v51 hp78 => ?_)
    refine x_pc (pc' := 208) rfl ?_
    obtain ⟨b52, rfl, hp79⟩ := hp78
    refine x_giN X (kX2 hG) 16 (by decide) q488 (fun _ h => h) dX1_account_208 hp79 (fun v53 hp80 => ?_)
    refine x_pc (pc' := 211) rfl ?_
    refine x_vx ?_; exact x_iret X hr rfl dX1_account_211 hp80
  have hp81 := hp76.2 c1_14
  by_cases c1_15 : x1 = (15 : Int32)
  · have hp82 := hp81.1 c1_15
    refine x_up (pc' := 212) (fun _ _ _ _ _ L => lv_tableIn (off := 211) (tgt := 212) hx hb dX1_account_1 (by rw [c1_15]; decide) (by rw [c1_15]; decide) (by rw [c1_15]; rfl) (by decide)) ?_
    refine x_up (pc' := 213) (fun _ _ _ _ _ L => lv_aload_n hx hb dX1_account_212 rfl (lv_at L 0 rfl)) ?_
    refine x_gq X (kX1 hG) 0 (by decide) q589 (fun _ h => h) dX1_account_213 hp82 (fun v54 hp83 => ?_)
    refine x_pc (pc' := 216) rfl ?_
    obtain ⟨b55, rfl, hp84⟩ := hp83
    refine x_giN X (kX2 hG) 17 (by decide) q490 (fun _ h => h) dX1_account_216 hp84 (fun v56 hp85 => ?_)
    refine x_pc (pc' := 219) rfl ?_
    refine x_vx ?_; exact x_iret X hr rfl dX1_account_219 hp85
  have hp86 := hp81.2 c1_15
  by_cases c1_16 : x1 = (16 : Int32)
  · have hp87 := hp86.1 c1_16
    refine x_up (pc' := 220) (fun _ _ _ _ _ L => lv_tableIn (off := 219) (tgt := 220) hx hb dX1_account_1 (by rw [c1_16]; decide) (by rw [c1_16]; decide) (by rw [c1_16]; rfl) (by decide)) ?_
    refine x_up (pc' := 221) (fun _ _ _ _ _ L => lv_aload_n hx hb dX1_account_220 rfl (lv_at L 0 rfl)) ?_
    refine x_gq X (kX1 hG) 0 (by decide) q589 (fun _ h => h) dX1_account_221 hp87 (fun v57 hp88 => ?_)
    refine x_pc (pc' := 224) rfl ?_
    obtain ⟨b58, rfl, hp89⟩ := hp88
    refine x_giN X (kX2 hG) 18 (by decide) q492 (fun _ h => h) dX1_account_224 hp89 (fun v59 hp90 => ?_)
    refine x_pc (pc' := 227) rfl ?_
    refine x_vx ?_; exact x_iret X hr rfl dX1_account_227 hp90
  have hp91 := hp86.2 c1_16
  by_cases c1_17 : x1 = (17 : Int32)
  · have hp92 := hp91.1 c1_17
    refine x_up (pc' := 228) (fun _ _ _ _ _ L => lv_tableIn (off := 227) (tgt := 228) hx hb dX1_account_1 (by rw [c1_17]; decide) (by rw [c1_17]; decide) (by rw [c1_17]; rfl) (by decide)) ?_
    refine x_up (pc' := 229) (fun _ _ _ _ _ L => lv_aload_n hx hb dX1_account_228 rfl (lv_at L 0 rfl)) ?_
    refine x_gq X (kX1 hG) 0 (by decide) q589 (fun _ h => h) dX1_account_229 hp92 (fun v60 hp93 => ?_)
    refine x_pc (pc' := 232) rfl ?_
    obtain ⟨b61, rfl, hp94⟩ := hp93
    refine x_giN X (kX2 hG) 19 (by decide) q494 (fun _ h => h) dX1_account_232 hp94 (fun v62 hp95 => ?_)
    refine x_pc (pc' := 235) rfl ?_
    refine x_vx ?_; exact x_iret X hr rfl dX1_account_235 hp95
  have hp96 := hp91.2 c1_17
  by_cases c1_18 : x1 = (18 : Int32)
  · have hp97 := hp96.1 c1_18
    refine x_up (pc' := 236) (fun _ _ _ _ _ L => lv_tableIn (off := 235) (tgt := 236) hx hb dX1_account_1 (by rw [c1_18]; decide) (by rw [c1_18]; decide) (by rw [c1_18]; rfl) (by decide)) ?_
    refine x_up (pc' := 237) (fun _ _ _ _ _ L => lv_aload_n hx hb dX1_account_236 rfl (lv_at L 0 rfl)) ?_
    refine x_gq X (kX1 hG) 3 (by decide) q592 (fun _ h => h) dX1_account_237 hp97 (fun v63 hp98 => ?_)
    refine x_pc (pc' := 240) rfl ?_
    obtain ⟨b64, rfl, hp99⟩ := hp98
    refine x_callV (em := emI) (fun r st => .int r :: st) (fun _ _ => rfl) 0 X (kJ13 hG) (fun σ' KK h => R_J13_length l hl G hG b64 σ' KK h) (lw_V q2859 q1014 q3702 q116 q1015) ⟨rfl, mdJ13_length⟩ ⟨Nat.le_of_ble_eq_true rfl, Nat.le_of_ble_eq_true rfl⟩ rfl rfl (Nat.le_of_ble_eq_true rfl) dX1_account_240 hp99.1 hp99.2 (fun v65 σ66 hp100 => ?_)
    refine x_pc (pc' := 243) rfl ?_
    refine x_vx ?_; exact x_iret X hr rfl dX1_account_243 hp100
  have hp101 := hp96.2 c1_18
  by_cases c1_19 : x1 = (19 : Int32)
  · have hp102 := hp101.1 c1_19
    refine x_up (pc' := 244) (fun _ _ _ _ _ L => lv_tableIn (off := 243) (tgt := 244) hx hb dX1_account_1 (by rw [c1_19]; decide) (by rw [c1_19]; decide) (by rw [c1_19]; rfl) (by decide)) ?_
    refine x_up (pc' := 245) (fun _ _ _ _ _ L => lv_aload_n hx hb dX1_account_244 rfl (lv_at L 0 rfl)) ?_
    refine x_gq X (kX1 hG) 2 (by decide) q591 (fun _ h => h) dX1_account_245 hp102 (fun v67 hp103 => ?_)
    refine x_pc (pc' := 248) rfl ?_
    obtain ⟨b68, rfl, hp104⟩ := hp103
    refine x_callF (x := ⟨"java/util/Deque", "size", "()I"⟩) (em := emI) (fun r st => .int r :: st) (fun _ _ => rfl) 0 X (kJ11 hG) (fun σ' KK h => R_J11_size l hl G hG b68 σ' KK h) q1956 q1960 q1874 q114 q1875 ⟨⟨q1958, q1957, q1962, q1961, q1959⟩, by decide, by decide⟩ (by decide +kernel) ⟨Nat.le_of_ble_eq_true rfl, Nat.le_of_ble_eq_true rfl⟩ rfl rfl (Nat.le_of_ble_eq_true rfl) dX1_account_248 hp104.1 hp104.2 (fun v69 σ70 hp105 => ?_)
    refine x_pc (pc' := 253) rfl ?_
    refine x_vx ?_; exact x_iret X hr rfl dX1_account_253 hp105
  have hp106 := hp101.2 c1_19
  refine x_up (pc' := 254) (fun _ _ _ _ _ L => lv_tableOut (tgt := 254) hx hb dX1_account_1 (x_tabOut 0 20 (by decide) (by decide) (by decide) (lt_s (lt_s (lt_s (lt_s (lt_s (lt_s (lt_s (lt_s (lt_s (lt_s (lt_s (lt_s (lt_s (lt_s (lt_s (lt_s (lt_s (lt_s (lt_s (lt_s lt_0 c1_0) c1_1) c1_2) c1_3) c1_4) c1_5) c1_6) c1_7) c1_8) c1_9) c1_10) c1_11) c1_12) c1_13) c1_14) c1_15) c1_16) c1_17) c1_18) c1_19)) (by decide)) ?_
  refine x_make0 (names := ["java/lang/RuntimeException", "java/lang/Exception"]) X hl (kJ29 hG) (by decide +kernel) (by decide +kernel) q2720 q134 xat_X1_223 xal_X1_223 (by decide +kernel) dX1_account_254 dX1_account_257 dX1_account_258 (Nat.le_of_ble_eq_true rfl) (Nat.le_of_ble_eq_true rfl) (Nat.le_of_ble_eq_true rfl) hp106 (fun q71 σ72 hp107 => ?_)
  refine x_pc (pc' := 261) rfl ?_
  obtain ⟨hq261, hr261, hp108⟩ := hp107
  refine x_athrow X dX1_account_261 ?_
  exact x_out X (kJ29 hG) (hout 261) hr261 hq261 hp108
-- J11_isEmpty
def P_J11_isEmpty (κ : Nat → Nat) (a0 : Nat) (σ : xS) (K : Int32 → xH → Prop) : Prop :=
  xgi σ a0 7 1 fun v1 => xgi σ a0 7 2 fun v2 => ((v1 = v2 → (K (1 : Int32) σ.1)) ∧ (¬ v1 = v2 → (K (0 : Int32) σ.1)))
theorem mdJ11_isEmpty : yJ11_isEmpty.cls ≠ "java/lang/invoke/MethodHandle" ∧ yJ11_isEmpty.cls ≠ "java/lang/invoke/VarHandle" ∧ (parseMethodDescriptor yJ11_isEmpty.desc).map (fun d => d.parameters.length) = some 0 := by decide +kernel
set_option maxHeartbeats 4000000 in
set_option maxRecDepth 100000 in
theorem R_J11_isEmpty (l : Launch) (hl : l.stackTraces = false) (G : xG) (hG : G.1.2 = x_cl) (a0 : Nat) (σ : xS) (K : Int32 → xH → Prop) (hp : P_J11_isEmpty G.2 a0 σ K) : xM l yJ11_isEmpty cJ11_isEmpty 1 (Option.some Jvm.ClassFile.FieldType.boolean) 0 0 G [(.ref a0)] σ (xlift emI K) := by
  refine x_entry (by decide) (Nat.le_of_ble_eq_true rfl) ?_
  intro p e s m args below meth c X hr hin
  have X : xX p s m args meth c G cJ11_isEmpty 1 RJ11 := X
  have hx := X.1
  have hb := X.2.1
  have hts := X.2.2.2.2.1
  have hown := X.2.2.2.1
  unfold P_J11_isEmpty at hp
  refine x_same (lo' := [(0, .ref a0)]) rfl ?_
  refine x_up (pc' := 1) (fun _ _ _ _ _ L => lv_aload_n hx hb dJ11_isEmpty_0 rfl (lv_at L 0 rfl)) ?_
  refine x_gi X (kJ11 hG) 1 (by decide) q546 (fun _ h => h) dJ11_isEmpty_1 hp (fun v1 hp1 => ?_)
  refine x_pc (pc' := 4) rfl ?_
  refine x_up (pc' := 5) (fun _ _ _ _ _ L => lv_aload_n hx hb dJ11_isEmpty_4 rfl (lv_at L 0 rfl)) ?_
  refine x_gi X (kJ11 hG) 2 (by decide) q547 (fun _ h => h) dJ11_isEmpty_5 hp1 (fun v2 hp2 => ?_)
  refine x_pc (pc' := 8) rfl ?_
  refine x_ifn (C := v1 = v2) (pt := 15) (pc' := 11) (fun _ _ _ _ _ => lv_icmp_ne (tgt := 15) hx hb dJ11_isEmpty_8 (by decide)) (fun c8 => ?_) (fun c8 => ?_)
  · have hp3 := hp2.1 c8
    refine x_up (pc' := 12) (fun _ _ _ _ _ L => lv_iconst (v := (1 : Int32)) hx hb dJ11_isEmpty_11 (by decide)) ?_
    refine x_up (pc' := 16) (fun _ _ _ _ _ L => lv_goto (tgt := 16) hx hb dJ11_isEmpty_12 (by decide)) ?_
    exact x_iret X hr rfl dJ11_isEmpty_16 hp3
  · have hp4 := hp2.2 c8
    refine x_up (pc' := 16) (fun _ _ _ _ _ L => lv_iconst (v := (0 : Int32)) hx hb dJ11_isEmpty_15 (by decide)) ?_
    exact x_iret X hr rfl dJ11_isEmpty_16 hp4
-- J11_dec
def P_J11_dec (κ : Nat → Nat) (x0 : Int32) (x1 : Int32) (σ : xS) (K : Int32 → xH → Prop) : Prop :=
  ((0 ≤ (x0 + (-1 : Int32)) → (K (x0 + (-1 : Int32)) σ.1)) ∧ (¬ 0 ≤ (x0 + (-1 : Int32)) → (K (x1 - (1 : Int32)) σ.1)))
theorem mdJ11_dec : yJ11_dec.cls ≠ "java/lang/invoke/MethodHandle" ∧ yJ11_dec.cls ≠ "java/lang/invoke/VarHandle" ∧ (parseMethodDescriptor yJ11_dec.desc).map (fun d => d.parameters.length) = some 2 := by decide +kernel
set_option maxHeartbeats 4000000 in
set_option maxRecDepth 100000 in
theorem R_J11_dec (l : Launch) (hl : l.stackTraces = false) (G : xG) (hG : G.1.2 = x_cl) (x0 : Int32) (x1 : Int32) (σ : xS) (K : Int32 → xH → Prop) (hp : P_J11_dec G.2 x0 x1 σ K) : xM l yJ11_dec cJ11_dec 2 (Option.some Jvm.ClassFile.FieldType.int) 0 0 G [.int x0, .int x1] σ (xlift emI K) := by
  refine x_entry (by decide) (Nat.le_of_ble_eq_true rfl) ?_
  intro p e s m args below meth c X hr hin
  have X : xX p s m args meth c G cJ11_dec 2 RJ11 := X
  have hx := X.1
  have hb := X.2.1
  have hts := X.2.2.2.2.1
  have hown := X.2.2.2.1
  unfold P_J11_dec at hp
  refine x_same (lo' := [(0, .int x0), (1, .int x1)]) rfl ?_
  refine x_upL (pc' := 3) (lo' := [(0, .int (x0 + (-1 : Int32))), (1, .int x1)]) (fun _ _ _ _ _ L => lv_iinc (v := x0 + (-1 : Int32)) hx hb dJ11_dec_0 L (k := 0) rfl rfl (by decide) rfl) ?_
  refine x_up (pc' := 4) (fun _ _ _ _ _ L => lv_iload_n hx hb dJ11_dec_3 rfl (lv_at L 0 rfl)) ?_
  refine x_if (C := 0 ≤ (x0 + (-1 : Int32))) (pt := 11) (pc' := 7) (fun _ _ _ _ _ => lv_if_ge (tgt := 11) hx hb dJ11_dec_4 (by decide)) (fun c4 => ?_) (fun c4 => ?_)
  · have hp1 := hp.1 c4
    refine x_up (pc' := 12) (fun _ _ _ _ _ L => lv_iload_n hx hb dJ11_dec_11 rfl (lv_at L 0 rfl)) ?_
    exact x_iret X hr rfl dJ11_dec_12 hp1
  · have hp2 := hp.2 c4
    refine x_up (pc' := 8) (fun _ _ _ _ _ L => lv_iload_n hx hb dJ11_dec_7 rfl (lv_at L 1 rfl)) ?_
    refine x_up (pc' := 9) (fun _ _ _ _ _ L => lv_iconst (v := (1 : Int32)) hx hb dJ11_dec_8 (by decide)) ?_
    refine x_up (pc' := 10) (fun _ _ _ _ _ L => lv_isub hx hb dJ11_dec_9) ?_
    refine x_upL (pc' := 11) (lo' := [(0, .int (x1 - (1 : Int32))), (1, .int x1)]) (fun _ _ _ _ _ L => lv_istore_n hx hb dJ11_dec_10 rfl L (by decide) rfl) ?_
    refine x_up (pc' := 12) (fun _ _ _ _ _ L => lv_iload_n hx hb dJ11_dec_11 rfl (lv_at L 0 rfl)) ?_
    exact x_iret X hr rfl dJ11_dec_12 hp2
-- J11_pollLast
def P_J11_pollLast (κ : Nat → Nat) (a0 : Nat) (σ : xS) (K : Option Nat → xH → Prop) : Prop :=
  xgq σ a0 7 0 fun v1 => xgi σ a0 7 2 fun v2 => xnn v1 fun b3 => xan σ b3 fun v4 => xcall (fun τ L => P_J11_dec κ v2 v4 τ L) σ fun v5 σ6 => xcall (fun τ L => P_J11_elementAt κ (some b3) v5 τ L) σ6 fun v7 σ8 => ((v7 = none → (K none σ8.1)) ∧ (∀ b9 : Nat, v7 = some b9 → (xpi κ σ8 a0 7 2 v5 fun σ10 => xsq κ σ10 b3 v5 none fun σ11 => K (some b9) σ11.1)))
theorem mdJ11_pollLast : yJ11_pollLast.cls ≠ "java/lang/invoke/MethodHandle" ∧ yJ11_pollLast.cls ≠ "java/lang/invoke/VarHandle" ∧ (parseMethodDescriptor yJ11_pollLast.desc).map (fun d => d.parameters.length) = some 0 := by decide +kernel
set_option maxHeartbeats 4000000 in
set_option maxRecDepth 100000 in
theorem R_J11_pollLast (l : Launch) (hl : l.stackTraces = false) (G : xG) (hG : G.1.2 = x_cl) (a0 : Nat) (σ : xS) (K : Option Nat → xH → Prop) (hp : P_J11_pollLast G.2 a0 σ K) : xM l yJ11_pollLast cJ11_pollLast 4 (Option.some (Jvm.ClassFile.FieldType.object "java/lang/Object")) 1 21 G [(.ref a0)] σ (xlift emQ K) := by
  refine x_entry (by decide) (Nat.le_of_ble_eq_true rfl) ?_
  intro p e s m args below meth c X hr hin
  have X : xX p s m args meth c G cJ11_pollLast 4 RJ11 := X
  have hx := X.1
  have hb := X.2.1
  have hts := X.2.2.2.2.1
  have hown := X.2.2.2.1
  unfold P_J11_pollLast at hp
  refine x_same (lo' := [(0, .ref a0)]) rfl ?_
  refine x_up (pc' := 1) (fun _ _ _ _ _ L => lv_aload_n hx hb dJ11_pollLast_0 rfl (lv_at L 0 rfl)) ?_
  refine x_gq X (kJ11 hG) 0 (by decide) q543 (fun _ h => h) dJ11_pollLast_1 hp (fun v1 hp1 => ?_)
  refine x_pc (pc' := 4) rfl ?_
  refine x_up (pc' := 5) (fun _ _ _ _ _ L => lv_dup hx hb dJ11_pollLast_4 (x_catq _)) ?_
  refine x_upL (pc' := 6) (lo' := [(1, va_rf v1), (0, .ref a0)]) (fun _ _ _ _ _ L => lv_astoreq_n hx hb dJ11_pollLast_5 rfl L (by decide) rfl) ?_
  refine x_up (pc' := 7) (fun _ _ _ _ _ L => lv_aload_n hx hb dJ11_pollLast_6 rfl (lv_at L 1 rfl)) ?_
  refine x_gi X (kJ11 hG) 2 (by decide) q547 (fun _ h => h) dJ11_pollLast_7 hp1 (fun v2 hp2 => ?_)
  refine x_pc (pc' := 10) rfl ?_
  refine x_up (pc' := 11) (fun _ _ _ _ _ L => lv_aloadq_n hx hb dJ11_pollLast_10 rfl (lv_at L 0 rfl)) ?_
  obtain ⟨b3, rfl, hp3⟩ := hp2
  refine x_alen X dJ11_pollLast_11 hp3 (fun v4 hp4 => ?_)
  refine x_pc (pc' := 12) rfl ?_
  refine x_callS (em := emI) (fun r st => .int r :: st) (fun _ _ => rfl) 2 X (fun σ' KK h => R_J11_dec l hl G hG v2 v4 σ' KK h) (lw_S q3221 q3222 q114 q3223) mdJ11_dec ⟨Nat.le_of_ble_eq_true rfl, Nat.le_of_ble_eq_true rfl⟩ rfl rfl (Nat.le_of_ble_eq_true rfl) dJ11_pollLast_12 hp4 (fun v5 σ6 hp5 => ?_)
  refine x_pc (pc' := 15) rfl ?_
  refine x_up (pc' := 16) (fun _ _ _ _ _ L => lv_dup hx hb dJ11_pollLast_15 rfl) ?_
  refine x_upL (pc' := 17) (lo' := [(2, .int v5), (1, .ref b3), (0, .ref a0)]) (fun _ _ _ _ _ L => lv_istore_n hx hb dJ11_pollLast_16 rfl L (by decide) rfl) ?_
  refine x_callS (em := emQ) (fun r st => va_rf r :: st) (fun _ _ => rfl) 2 X (fun σ' KK h => R_J11_elementAt l hl G hG (some b3) v5 σ' KK h) (lw_S q1245 q1246 q114 q1247) mdJ11_elementAt ⟨Nat.le_of_ble_eq_true rfl, Nat.le_of_ble_eq_true rfl⟩ rfl rfl (Nat.le_of_ble_eq_true rfl) dJ11_pollLast_17 hp5 (fun v7 σ8 hp6 => ?_)
  refine x_pc (pc' := 20) rfl ?_
  refine x_upL (pc' := 21) (lo' := [(3, va_rf v7), (2, .int v5), (1, .ref b3), (0, .ref a0)]) (fun _ _ _ _ _ L => lv_astoreq_n hx hb dJ11_pollLast_20 rfl L (by decide) rfl) ?_
  refine x_up (pc' := 22) (fun _ _ _ _ _ L => lv_aloadq_n hx hb dJ11_pollLast_21 rfl (lv_at L 0 rfl)) ?_
  rcases v7 with _ | b9
  · have hp7 := hp6.1 rfl
    refine x_up (pc' := 34) (fun _ _ _ _ _ L => lv_ifnullN (tgt := 34) hx hb dJ11_pollLast_22 (by decide)) ?_
    refine x_up (pc' := 35) (fun _ _ _ _ _ L => lv_aload_nN hx hb dJ11_pollLast_34 rfl (lv_at L 0 rfl)) ?_
    exact x_aret X hr (Or.inl ⟨_, rfl⟩) dJ11_pollLast_35 none hp7
  · have hp8 := hp6.2 _ rfl
    refine x_up (pc' := 25) (fun _ _ _ _ _ L => lv_ifnull hx hb dJ11_pollLast_22) ?_
    refine x_up (pc' := 26) (fun _ _ _ _ _ L => lv_aload_n hx hb dJ11_pollLast_25 rfl (lv_at L 2 rfl)) ?_
    refine x_up (pc' := 27) (fun _ _ _ _ _ L => lv_aload_n hx hb dJ11_pollLast_26 rfl (lv_at L 3 rfl)) ?_
    refine x_up (pc' := 28) (fun _ _ _ _ _ L => lv_iload_n hx hb dJ11_pollLast_27 rfl (lv_at L 1 rfl)) ?_
    refine x_up (pc' := 29) (fun _ _ _ _ _ L => lv_dup_x1 hx hb dJ11_pollLast_28 rfl rfl) ?_
    refine x_pi X (kJ11 hG) 2 (by decide) q547 (fun _ h => h) rfl rfl rfl dJ11_pollLast_29 hp8 (fun σ10 hp9 => ?_)
    refine x_pc (pc' := 32) rfl ?_
    refine x_up (pc' := 33) (fun _ _ _ _ _ L => lv_null hx hb dJ11_pollLast_32) ?_
    refine x_aast X hG none dJ11_pollLast_33 hp9 (fun σ11 hp10 => ?_)
    refine x_pc (pc' := 34) rfl ?_
    refine x_up (pc' := 35) (fun _ _ _ _ _ L => lv_aload_n hx hb dJ11_pollLast_34 rfl (lv_at L 0 rfl)) ?_
    exact x_aret X hr (Or.inl ⟨_, rfl⟩) dJ11_pollLast_35 (some b9) hp10
-- J11_removeLast
def P_J11_removeLast (κ : Nat → Nat) (a0 : Nat) (σ : xS) (K : Option Nat → xH → Prop) : Prop :=
  xrc σ a0 7 ∧ xcall (fun τ L => P_J11_pollLast κ a0 τ L) σ fun v1 σ2 => ((v1 = none → (False)) ∧ (∀ b3 : Nat, v1 = some b3 → (K (some b3) σ2.1)))
theorem mdJ11_removeLast : yJ11_removeLast.cls ≠ "java/lang/invoke/MethodHandle" ∧ yJ11_removeLast.cls ≠ "java/lang/invoke/VarHandle" ∧ (parseMethodDescriptor yJ11_removeLast.desc).map (fun d => d.parameters.length) = some 0 := by decide +kernel
set_option maxHeartbeats 4000000 in
set_option maxRecDepth 100000 in
theorem R_J11_removeLast (l : Launch) (hl : l.stackTraces = false) (G : xG) (hG : G.1.2 = x_cl) (a0 : Nat) (σ : xS) (K : Option Nat → xH → Prop) (hp : P_J11_removeLast G.2 a0 σ K) : xM l yJ11_removeLast cJ11_removeLast 2 (Option.some (Jvm.ClassFile.FieldType.object "java/lang/Object")) 2 44 G [(.ref a0)] σ (xlift emQ K) := by
  refine x_entry (by decide) (Nat.le_of_ble_eq_true rfl) ?_
  intro p e s m args below meth c X hr hin
  have X : xX p s m args meth c G cJ11_removeLast 2 RJ11 := X
  have hx := X.1
  have hb := X.2.1
  have hts := X.2.2.2.2.1
  have hown := X.2.2.2.1
  unfold P_J11_removeLast at hp
  refine x_same (lo' := [(0, .ref a0)]) rfl ?_
  refine x_up (pc' := 1) (fun _ _ _ _ _ L => lv_aload_n hx hb dJ11_removeLast_0 rfl (lv_at L 0 rfl)) ?_
  refine x_callV (em := emQ) (fun r st => va_rf r :: st) (fun _ _ => rfl) 0 X (kJ11 hG) (fun σ' KK h => R_J11_pollLast l hl G hG a0 σ' KK h) (lw_V q3217 q3218 q3219 q114 q3220) ⟨rfl, mdJ11_pollLast⟩ ⟨Nat.le_of_ble_eq_true rfl, Nat.le_of_ble_eq_true rfl⟩ rfl rfl (Nat.le_of_ble_eq_true rfl) dJ11_removeLast_1 hp.1 hp.2 (fun v1 σ2 hp1 => ?_)
  refine x_pc (pc' := 4) rfl ?_
  refine x_upL (pc' := 5) (lo' := [(1, va_rf v1), (0, .ref a0)]) (fun _ _ _ _ _ L => lv_astoreq_n hx hb dJ11_removeLast_4 rfl L (by decide) rfl) ?_
  refine x_up (pc' := 6) (fun _ _ _ _ _ L => lv_aloadq_n hx hb dJ11_removeLast_5 rfl (lv_at L 0 rfl)) ?_
  rcases v1 with _ | b3
  · have hp2 := hp1.1 rfl
    refine x_up (pc' := 9) (fun _ _ _ _ _ L => lv_ifnonnullN hx hb dJ11_removeLast_6) ?_
    exact hp2.elim
  · have hp3 := hp1.2 _ rfl
    refine x_up (pc' := 17) (fun _ _ _ _ _ L => lv_ifnonnull (tgt := 17) hx hb dJ11_removeLast_6 (by decide)) ?_
    refine x_up (pc' := 18) (fun _ _ _ _ _ L => lv_aload_n hx hb dJ11_removeLast_17 rfl (lv_at L 0 rfl)) ?_
    exact x_aret X hr (Or.inl ⟨_, rfl⟩) dJ11_removeLast_18 (some b3) hp3
-- X1_undo
def P_X1_undo (κ : Nat → Nat) (a0 : Nat) (σ : xS) (K : Int32 → xH → Prop) (KX : Nat → xH → Prop) : Prop :=
  xgq σ a0 0 2 fun v1 => xnn v1 fun b2 => xrc σ b2 7 ∧ xcall (fun τ L => P_J11_isEmpty κ b2 τ L) σ fun v3 σ4 => ((v3 = 0 → (xcallX (fun τ L LX => P_X1_requireState κ (1 : Int32) τ L LX) σ4 (fun _ σ5 => xgq σ5 a0 0 2 fun v8 => xnn v8 fun b9 => xrc σ5 b9 7 ∧ xcall (fun τ L => P_J11_removeLast κ b9 τ L) σ5 fun v10 σ11 => xnn v10 fun b12 => xrc σ11 b12 1 ∧ xpq κ σ11 a0 0 0 (some b12) fun σ13 => xgq σ13 a0 0 2 fun v14 => xnn v14 fun b15 => xrc σ13 b15 7 ∧ xcall (fun τ L => P_J11_size κ b15 τ L) σ13 fun v16 σ17 => K v16 σ17.1) (fun q6 σ7 => κ 0 ≤ q6 ∧ ((xrc σ7 q6 32 ∧ (KX q6 σ7.1)))))) ∧ (¬ v3 = 0 → (xcallX (fun τ L LX => P_X1_requireState κ (0 : Int32) τ L LX) σ4 (fun _ σ18 => xgq σ18 a0 0 2 fun v21 => xnn v21 fun b22 => xrc σ18 b22 7 ∧ xcall (fun τ L => P_J11_removeLast κ b22 τ L) σ18 fun v23 σ24 => xnn v23 fun b25 => xrc σ24 b25 1 ∧ xpq κ σ24 a0 0 0 (some b25) fun σ26 => xgq σ26 a0 0 2 fun v27 => xnn v27 fun b28 => xrc σ26 b28 7 ∧ xcall (fun τ L => P_J11_size κ b28 τ L) σ26 fun v29 σ30 => K v29 σ30.1) (fun q19 σ20 => κ 0 ≤ q19 ∧ ((xrc σ20 q19 32 ∧ (KX q19 σ20.1)))))))
theorem mdX1_undo : yX1_undo.cls ≠ "java/lang/invoke/MethodHandle" ∧ yX1_undo.cls ≠ "java/lang/invoke/VarHandle" ∧ (parseMethodDescriptor yX1_undo.desc).map (fun d => d.parameters.length) = some 0 := by decide +kernel
set_option maxHeartbeats 4000000 in
set_option maxRecDepth 100000 in
theorem R_X1_undo (l : Launch) (hl : l.stackTraces = false) (G : xG) (hG : G.1.2 = x_cl) (a0 : Nat) (σ : xS) (K : Int32 → xH → Prop) (KX : Nat → xH → Prop) (hp : P_X1_undo G.2 a0 σ K KX) : xMX l yX1_undo cX1_undo 1 (Option.some Jvm.ClassFile.FieldType.int) 7 109 G [(.ref a0)] σ (xlift emI K) KX := by
  refine x_entryX (by decide) (Nat.le_of_ble_eq_true rfl) ?_
  intro p e s m args below meth c X hr hin hno
  have X : xX p s m args meth c G cX1_undo 1 RX1 := X
  have hx := X.1
  have hb := X.2.1
  have hts := X.2.2.2.2.1
  have hown := X.2.2.2.1
  have hout : ∀ pc, ∀ x ∈ c.exceptionTable.toList, covers x pc = false := fun _ x hx => (hno x hx).elim
  unfold P_X1_undo at hp
  refine x_same (lo' := [(0, .ref a0)]) rfl ?_
  refine x_up (pc' := 1) (fun _ _ _ _ _ L => lv_aload_n hx hb dX1_undo_0 rfl (lv_at L 0 rfl)) ?_
  refine x_gq X (kX1 hG) 2 (by decide) q591 (fun _ h => h) dX1_undo_1 hp (fun v1 hp1 => ?_)
  refine x_pc (pc' := 4) rfl ?_
  obtain ⟨b2, rfl, hp2⟩ := hp1
  refine x_callFJ (x := ⟨"java/util/Deque", "isEmpty", "()Z"⟩) (J := "java/util/Collection") (em := emI) (fun r st => .int r :: st) (fun _ _ => rfl) 0 X (kJ11 hG) (fun σ' KK h => R_J11_isEmpty l hl G hG b2 σ' KK h) (by simp [x_dw, RX1, RJ11, yJ11_isEmpty]) (by simp [x_dw, RX1, RJ11, yJ11_isEmpty]) (by simp [x_dw, RX1, RJ11, yJ11_isEmpty]) (by simp [x_df]) (by simp [x_dw, RX1, RJ11, yJ11_isEmpty]) (by simp [x_dw, RX1, RJ11, yJ11_isEmpty]) (by simp [x_dw, RX1, RJ11, yJ11_isEmpty]) q3204 q1367 q114 q1369 (by decide +kernel) (by decide) ⟨Nat.le_of_ble_eq_true rfl, Nat.le_of_ble_eq_true rfl⟩ rfl rfl (Nat.le_of_ble_eq_true rfl) dX1_undo_4 hp2.1 hp2.2 (fun v3 σ4 hp3 => ?_)
  refine x_pc (pc' := 9) rfl ?_
  refine x_ifn (C := v3 = 0) (pt := 16) (pc' := 12) (fun _ _ _ _ _ => lv_if_ne (tgt := 16) hx hb dX1_undo_9 (by decide)) (fun c9 => ?_) (fun c9 => ?_)
  · have hp4 := hp3.1 c9
    refine x_up (pc' := 13) (fun _ _ _ _ _ L => lv_iconst (v := (1 : Int32)) hx hb dX1_undo_12 (by decide)) ?_
    refine x_up (pc' := 17) (fun _ _ _ _ _ L => lv_goto (tgt := 17) hx hb dX1_undo_13 (by decide)) ?_
    refine x_callSX (em := emV) (fun r st => st) (fun _ _ => rfl) 1 X (fun σ' KK KX h => R_X1_requireState l hl G hG (1 : Int32) σ' KK KX h) (lw_S q2860 q2861 q99 q2862) mdX1_requireState ⟨Nat.le_of_ble_eq_true rfl, Nat.le_of_ble_eq_true rfl⟩ rfl rfl (Nat.le_of_ble_eq_true rfl) dX1_undo_17 hp4 (fun _ σ5 hpA17 => ?_) (fun q6 σ7 hpB17 => ?_)
    · have hp5 := hpA17
      refine x_pc (pc' := 20) rfl ?_
      refine x_up (pc' := 21) (fun _ _ _ _ _ L => lv_aload_n hx hb dX1_undo_20 rfl (lv_at L 0 rfl)) ?_
      refine x_up (pc' := 22) (fun _ _ _ _ _ L => lv_aload_n hx hb dX1_undo_21 rfl (lv_at L 0 rfl)) ?_
      refine x_gq X (kX1 hG) 2 (by decide) q591 (fun _ h => h) dX1_undo_22 hp5 (fun v8 hp6 => ?_)
      refine x_pc (pc' := 25) rfl ?_
      obtain ⟨b9, rfl, hp7⟩ := hp6
      refine x_callF (x := ⟨"java/util/Deque", "removeLast", "()Ljava/lang/Object;"⟩) (em := emQ) (fun r st => va_rf r :: st) (fun _ _ => rfl) 0 X (kJ11 hG) (fun σ' KK h => R_J11_removeLast l hl G hG b9 σ' KK h) q3209 q3212 q3214 q114 q3216 ⟨⟨q3211, q3210, q3215, q3213, q1959⟩, by decide, by decide⟩ (by decide +kernel) ⟨Nat.le_of_ble_eq_true rfl, Nat.le_of_ble_eq_true rfl⟩ rfl rfl (Nat.le_of_ble_eq_true rfl) dX1_undo_25 hp7.1 hp7.2 (fun v10 σ11 hp8 => ?_)
      refine x_pc (pc' := 30) rfl ?_
      obtain ⟨b12, rfl, hp9⟩ := hp8
      refine x_castS X (kX2 hG) q172 hp9.1 dX1_undo_30 ?_
      have hp10 := hp9.2
      refine x_pc (pc' := 33) rfl ?_
      refine x_pq X (kX1 hG) 0 (by decide) q589 (fun _ h => h) rfl (some b12) (x_nar _ (by decide)) (x_fit _ (by decide)) dX1_undo_33 hp10 (fun σ13 hp11 => ?_)
      refine x_pc (pc' := 36) rfl ?_
      refine x_up (pc' := 37) (fun _ _ _ _ _ L => lv_aload_n hx hb dX1_undo_36 rfl (lv_at L 0 rfl)) ?_
      refine x_gq X (kX1 hG) 2 (by decide) q591 (fun _ h => h) dX1_undo_37 hp11 (fun v14 hp12 => ?_)
      refine x_pc (pc' := 40) rfl ?_
      obtain ⟨b15, rfl, hp13⟩ := hp12
      refine x_callF (x := ⟨"java/util/Deque", "size", "()I"⟩) (em := emI) (fun r st => .int r :: st) (fun _ _ => rfl) 0 X (kJ11 hG) (fun σ' KK h => R_J11_size l hl G hG b15 σ' KK h) q1956 q1960 q1874 q114 q1875 ⟨⟨q1958, q1957, q1962, q1961, q1959⟩, by decide, by decide⟩ (by decide +kernel) ⟨Nat.le_of_ble_eq_true rfl, Nat.le_of_ble_eq_true rfl⟩ rfl rfl (Nat.le_of_ble_eq_true rfl) dX1_undo_40 hp13.1 hp13.2 (fun v16 σ17 hp14 => ?_)
      refine x_pc (pc' := 45) rfl ?_
      refine x_vx ?_; exact x_iret X hr rfl dX1_undo_45 hp14
    · have hp15 := hpB17
      obtain ⟨hq17, hp16⟩ := hp15
      obtain ⟨hr17, hp17⟩ := hp16
      exact x_out X (kJ43 hG) (hout 17) hr17 hq17 hp17
  · have hp18 := hp3.2 c9
    refine x_up (pc' := 17) (fun _ _ _ _ _ L => lv_iconst (v := (0 : Int32)) hx hb dX1_undo_16 (by decide)) ?_
    refine x_callSX (em := emV) (fun r st => st) (fun _ _ => rfl) 1 X (fun σ' KK KX h => R_X1_requireState l hl G hG (0 : Int32) σ' KK KX h) (lw_S q2860 q2861 q99 q2862) mdX1_requireState ⟨Nat.le_of_ble_eq_true rfl, Nat.le_of_ble_eq_true rfl⟩ rfl rfl (Nat.le_of_ble_eq_true rfl) dX1_undo_17 hp18 (fun _ σ18 hpA17 => ?_) (fun q19 σ20 hpB17 => ?_)
    · have hp19 := hpA17
      refine x_pc (pc' := 20) rfl ?_
      refine x_up (pc' := 21) (fun _ _ _ _ _ L => lv_aload_n hx hb dX1_undo_20 rfl (lv_at L 0 rfl)) ?_
      refine x_up (pc' := 22) (fun _ _ _ _ _ L => lv_aload_n hx hb dX1_undo_21 rfl (lv_at L 0 rfl)) ?_
      refine x_gq X (kX1 hG) 2 (by decide) q591 (fun _ h => h) dX1_undo_22 hp19 (fun v21 hp20 => ?_)
      refine x_pc (pc' := 25) rfl ?_
      obtain ⟨b22, rfl, hp21⟩ := hp20
      refine x_callF (x := ⟨"java/util/Deque", "removeLast", "()Ljava/lang/Object;"⟩) (em := emQ) (fun r st => va_rf r :: st) (fun _ _ => rfl) 0 X (kJ11 hG) (fun σ' KK h => R_J11_removeLast l hl G hG b22 σ' KK h) q3209 q3212 q3214 q114 q3216 ⟨⟨q3211, q3210, q3215, q3213, q1959⟩, by decide, by decide⟩ (by decide +kernel) ⟨Nat.le_of_ble_eq_true rfl, Nat.le_of_ble_eq_true rfl⟩ rfl rfl (Nat.le_of_ble_eq_true rfl) dX1_undo_25 hp21.1 hp21.2 (fun v23 σ24 hp22 => ?_)
      refine x_pc (pc' := 30) rfl ?_
      obtain ⟨b25, rfl, hp23⟩ := hp22
      refine x_castS X (kX2 hG) q172 hp23.1 dX1_undo_30 ?_
      have hp24 := hp23.2
      refine x_pc (pc' := 33) rfl ?_
      refine x_pq X (kX1 hG) 0 (by decide) q589 (fun _ h => h) rfl (some b25) (x_nar _ (by decide)) (x_fit _ (by decide)) dX1_undo_33 hp24 (fun σ26 hp25 => ?_)
      refine x_pc (pc' := 36) rfl ?_
      refine x_up (pc' := 37) (fun _ _ _ _ _ L => lv_aload_n hx hb dX1_undo_36 rfl (lv_at L 0 rfl)) ?_
      refine x_gq X (kX1 hG) 2 (by decide) q591 (fun _ h => h) dX1_undo_37 hp25 (fun v27 hp26 => ?_)
      refine x_pc (pc' := 40) rfl ?_
      obtain ⟨b28, rfl, hp27⟩ := hp26
      refine x_callF (x := ⟨"java/util/Deque", "size", "()I"⟩) (em := emI) (fun r st => .int r :: st) (fun _ _ => rfl) 0 X (kJ11 hG) (fun σ' KK h => R_J11_size l hl G hG b28 σ' KK h) q1956 q1960 q1874 q114 q1875 ⟨⟨q1958, q1957, q1962, q1961, q1959⟩, by decide, by decide⟩ (by decide +kernel) ⟨Nat.le_of_ble_eq_true rfl, Nat.le_of_ble_eq_true rfl⟩ rfl rfl (Nat.le_of_ble_eq_true rfl) dX1_undo_40 hp27.1 hp27.2 (fun v29 σ30 hp28 => ?_)
      refine x_pc (pc' := 45) rfl ?_
      refine x_vx ?_; exact x_iret X hr rfl dX1_undo_45 hp28
    · have hp29 := hpB17
      obtain ⟨hq17, hp30⟩ := hp29
      obtain ⟨hr17, hp31⟩ := hp30
      exact x_out X (kJ43 hG) (hout 17) hr17 hq17 hp31
-- J11_circularClear
def B_J11_circularClear_12 (κ : Nat → Nat) (K : Unit → xH → Prop) (f0 : Nat) (f2 : Int32) : ((Int32 × Int32) → xS → Prop) → (Int32 × Int32) → xS → Prop := fun self13003 w13001 σ13002 =>
  ((w13001.2 ≤ w13001.1 → (((w13001.2 = f2 → (K () σ13002.1)) ∧ (¬ w13001.2 = f2 → (self13003 ((0 : Int32), f2) σ13002))))) ∧ (¬ w13001.2 ≤ w13001.1 → (xsq κ σ13002 f0 w13001.1 none fun σ13004 => self13003 ((w13001.1 + (1 : Int32)), w13001.2) σ13004)))
def B_J11_circularClear_12_1 (κ : Nat → Nat) (K : Unit → xH → Prop) (f0 : Option Nat) (f2 : Int32) : ((Int32 × Int32) → xS → Prop) → (Int32 × Int32) → xS → Prop := fun self13003 w13001 σ13002 =>
  ((w13001.2 ≤ w13001.1 → (((w13001.2 = f2 → (K () σ13002.1)) ∧ (¬ w13001.2 = f2 → (self13003 ((0 : Int32), f2) σ13002))))) ∧ (¬ w13001.2 ≤ w13001.1 → (xnn f0 fun b13004 => xsq κ σ13002 b13004 w13001.1 none fun σ13005 => self13003 ((w13001.1 + (1 : Int32)), w13001.2) σ13005)))
def P_J11_circularClear (κ : Nat → Nat) (x0 : Option Nat) (x1 : Int32) (x2 : Int32) (σ : xS) (K : Unit → xH → Prop) : Prop :=
  ((x2 < x1 → (xnn x0 fun b1 => xan σ b1 fun v2 => xwhile (B_J11_circularClear_12 κ K b1 x2) (x1, v2) σ)) ∧ (¬ x2 < x1 → (xwhile (B_J11_circularClear_12_1 κ K x0 x2) (x1, x2) σ)))
theorem mdJ11_circularClear : yJ11_circularClear.cls ≠ "java/lang/invoke/MethodHandle" ∧ yJ11_circularClear.cls ≠ "java/lang/invoke/VarHandle" ∧ (parseMethodDescriptor yJ11_circularClear.desc).map (fun d => d.parameters.length) = some 3 := by decide +kernel
set_option maxHeartbeats 4000000 in
set_option maxRecDepth 100000 in
theorem R_J11_circularClear (l : Launch) (hl : l.stackTraces = false) (G : xG) (hG : G.1.2 = x_cl) (x0 : Option Nat) (x1 : Int32) (x2 : Int32) (σ : xS) (K : Unit → xH → Prop) (hp : P_J11_circularClear G.2 x0 x1 x2 σ K) : xM l yJ11_circularClear cJ11_circularClear 4 (Option.none : Option Jvm.ClassFile.FieldType) 0 0 G [va_rf x0, .int x1, .int x2] σ (xlift emV K) := by
  refine x_entry (by decide) (by simp [lg_sl, x_catq, x_cati, x_catr, x_catn]) ?_
  intro p e s m args below meth c X hr hin
  have X : xX p s m args meth c G cJ11_circularClear 4 RJ11 := X
  have hx := X.1
  have hb := X.2.1
  have hts := X.2.2.2.2.1
  have hown := X.2.2.2.1
  unfold P_J11_circularClear at hp
  refine x_same (lo' := [(0, va_rf x0), (1, .int x1), (2, .int x2)]) (by simp [lv_args, x_catq, x_cati, x_catr, x_catn]) ?_
  refine x_up (pc' := 1) (fun _ _ _ _ _ L => lv_iload_n hx hb dJ11_circularClear_0 rfl (lv_at L 1 rfl)) ?_
  refine x_up (pc' := 2) (fun _ _ _ _ _ L => lv_iload_n hx hb dJ11_circularClear_1 rfl (lv_at L 2 rfl)) ?_
  refine x_if (C := x2 < x1) (pt := 9) (pc' := 5) (fun _ _ _ _ _ => lv_icmp_gt (tgt := 9) hx hb dJ11_circularClear_2 (by decide)) (fun c2 => ?_) (fun c2 => ?_)
  · have hp1 := hp.1 c2
    refine x_up (pc' := 10) (fun _ _ _ _ _ L => lv_aloadq_n hx hb dJ11_circularClear_9 rfl (lv_at L 0 rfl)) ?_
    obtain ⟨b1, rfl, hp2⟩ := hp1
    refine x_alen X dJ11_circularClear_10 hp2 (fun v2 hp3 => ?_)
    refine x_pc (pc' := 11) rfl ?_
    refine x_upL (pc' := 12) (lo' := [(3, .int v2), (0, .ref b1), (1, .int x1), (2, .int x2)]) (fun _ _ _ _ _ L => lv_istore_n hx hb dJ11_circularClear_11 rfl L (by decide) rfl) ?_
    refine x_lo (lo' := [(1, .int x1), (3, .int v2), (0, .ref b1), (2, .int x2)]) [2, 0, 1, 3] rfl ?_
    refine x_while (v0 := (x1, v2)) (fun w3 => [(1, .int w3.1), (3, .int w3.2), (0, .ref b1), (2, .int x2)]) hp3 (fun self4 hself5 => ?_)
    rintro ⟨y7, y8⟩ σ6 hp4
    unfold B_J11_circularClear_12 at hp4
    refine x_same (lo' := [(1, .int y7), (3, .int y8), (0, .ref b1), (2, .int x2)]) rfl ?_
    refine x_up (pc' := 13) (fun _ _ _ _ _ L => lv_iload_n hx hb dJ11_circularClear_12 rfl (lv_at L 0 rfl)) ?_
    refine x_up (pc' := 14) (fun _ _ _ _ _ L => lv_iload_n hx hb dJ11_circularClear_13 rfl (lv_at L 1 rfl)) ?_
    refine x_if (C := y8 ≤ y7) (pt := 27) (pc' := 17) (fun _ _ _ _ _ => lv_icmp_ge (tgt := 27) hx hb dJ11_circularClear_14 (by decide)) (fun c14 => ?_) (fun c14 => ?_)
    · have hp5 := hp4.1 c14
      refine x_up (pc' := 28) (fun _ _ _ _ _ L => lv_iload_n hx hb dJ11_circularClear_27 rfl (lv_at L 1 rfl)) ?_
      refine x_up (pc' := 29) (fun _ _ _ _ _ L => lv_iload_n hx hb dJ11_circularClear_28 rfl (lv_at L 3 rfl)) ?_
      refine x_ifn (C := y8 = x2) (pt := 35) (pc' := 32) (fun _ _ _ _ _ => lv_icmp_ne (tgt := 35) hx hb dJ11_circularClear_29 (by decide)) (fun c29 => ?_) (fun c29 => ?_)
      · have hp6 := hp5.1 c29
        refine x_up (pc' := 42) (fun _ _ _ _ _ L => lv_goto (tgt := 42) hx hb dJ11_circularClear_32 (by decide)) ?_
        exact x_vret X hr dJ11_circularClear_42 hp6
      · have hp7 := hp5.2 c29
        refine x_up (pc' := 36) (fun _ _ _ _ _ L => lv_iconst (v := (0 : Int32)) hx hb dJ11_circularClear_35 (by decide)) ?_
        refine x_upL (pc' := 37) (lo' := [(1, .int (0 : Int32)), (3, .int y8), (0, .ref b1), (2, .int x2)]) (fun _ _ _ _ _ L => lv_istore_n hx hb dJ11_circularClear_36 rfl L (by decide) rfl) ?_
        refine x_up (pc' := 38) (fun _ _ _ _ _ L => lv_iload_n hx hb dJ11_circularClear_37 rfl (lv_at L 3 rfl)) ?_
        refine x_upL (pc' := 39) (lo' := [(3, .int x2), (1, .int (0 : Int32)), (0, .ref b1), (2, .int x2)]) (fun _ _ _ _ _ L => lv_istore_n hx hb dJ11_circularClear_38 rfl L (by decide) rfl) ?_
        refine x_up (pc' := 12) (fun _ _ _ _ _ L => lv_goto (tgt := 12) hx hb dJ11_circularClear_39 (by decide)) ?_
        refine x_lo (lo' := [(1, .int (0 : Int32)), (3, .int x2), (0, .ref b1), (2, .int x2)]) [1, 0, 2, 3] rfl ?_
        exact hself5 ((0 : Int32), x2) σ6 hp7
    · have hp8 := hp4.2 c14
      refine x_up (pc' := 18) (fun _ _ _ _ _ L => lv_aload_n hx hb dJ11_circularClear_17 rfl (lv_at L 2 rfl)) ?_
      refine x_up (pc' := 19) (fun _ _ _ _ _ L => lv_iload_n hx hb dJ11_circularClear_18 rfl (lv_at L 0 rfl)) ?_
      refine x_up (pc' := 20) (fun _ _ _ _ _ L => lv_null hx hb dJ11_circularClear_19) ?_
      refine x_aast X hG none dJ11_circularClear_20 hp8 (fun σ9 hp9 => ?_)
      refine x_pc (pc' := 21) rfl ?_
      refine x_upL (pc' := 24) (lo' := [(1, .int (y7 + (1 : Int32))), (3, .int y8), (0, .ref b1), (2, .int x2)]) (fun _ _ _ _ _ L => lv_iinc (v := y7 + (1 : Int32)) hx hb dJ11_circularClear_21 L (k := 0) rfl rfl (by decide) rfl) ?_
      refine x_up (pc' := 12) (fun _ _ _ _ _ L => lv_goto (tgt := 12) hx hb dJ11_circularClear_24 (by decide)) ?_
      refine x_lo (lo' := [(1, .int (y7 + (1 : Int32))), (3, .int y8), (0, .ref b1), (2, .int x2)]) [0, 1, 2, 3] rfl ?_
      exact hself5 ((y7 + (1 : Int32)), y8) σ9 hp9
  · have hp10 := hp.2 c2
    refine x_up (pc' := 6) (fun _ _ _ _ _ L => lv_iload_n hx hb dJ11_circularClear_5 rfl (lv_at L 2 rfl)) ?_
    refine x_up (pc' := 11) (fun _ _ _ _ _ L => lv_goto (tgt := 11) hx hb dJ11_circularClear_6 (by decide)) ?_
    refine x_upL (pc' := 12) (lo' := [(3, .int x2), (0, va_rf x0), (1, .int x1), (2, .int x2)]) (fun _ _ _ _ _ L => lv_istore_n hx hb dJ11_circularClear_11 rfl L (by decide) rfl) ?_
    refine x_lo (lo' := [(1, .int x1), (3, .int x2), (0, va_rf x0), (2, .int x2)]) [2, 0, 1, 3] rfl ?_
    refine x_while (v0 := (x1, x2)) (fun w10 => [(1, .int w10.1), (3, .int w10.2), (0, va_rf x0), (2, .int x2)]) hp10 (fun self11 hself12 => ?_)
    rintro ⟨y14, y15⟩ σ13 hp11
    unfold B_J11_circularClear_12_1 at hp11
    refine x_same (lo' := [(1, .int y14), (3, .int y15), (0, va_rf x0), (2, .int x2)]) rfl ?_
    refine x_up (pc' := 13) (fun _ _ _ _ _ L => lv_iload_n hx hb dJ11_circularClear_12 rfl (lv_at L 0 rfl)) ?_
    refine x_up (pc' := 14) (fun _ _ _ _ _ L => lv_iload_n hx hb dJ11_circularClear_13 rfl (lv_at L 1 rfl)) ?_
    refine x_if (C := y15 ≤ y14) (pt := 27) (pc' := 17) (fun _ _ _ _ _ => lv_icmp_ge (tgt := 27) hx hb dJ11_circularClear_14 (by decide)) (fun c14 => ?_) (fun c14 => ?_)
    · have hp12 := hp11.1 c14
      refine x_up (pc' := 28) (fun _ _ _ _ _ L => lv_iload_n hx hb dJ11_circularClear_27 rfl (lv_at L 1 rfl)) ?_
      refine x_up (pc' := 29) (fun _ _ _ _ _ L => lv_iload_n hx hb dJ11_circularClear_28 rfl (lv_at L 3 rfl)) ?_
      refine x_ifn (C := y15 = x2) (pt := 35) (pc' := 32) (fun _ _ _ _ _ => lv_icmp_ne (tgt := 35) hx hb dJ11_circularClear_29 (by decide)) (fun c29 => ?_) (fun c29 => ?_)
      · have hp13 := hp12.1 c29
        refine x_up (pc' := 42) (fun _ _ _ _ _ L => lv_goto (tgt := 42) hx hb dJ11_circularClear_32 (by decide)) ?_
        exact x_vret X hr dJ11_circularClear_42 hp13
      · have hp14 := hp12.2 c29
        refine x_up (pc' := 36) (fun _ _ _ _ _ L => lv_iconst (v := (0 : Int32)) hx hb dJ11_circularClear_35 (by decide)) ?_
        refine x_st (pc' := 37) ([(1, .int (0 : Int32)), (3, .int y15), (0, va_rf x0), (2, .int x2)]) rfl (by simp [x_catq, x_cati, x_catr, x_catn]) (fun _ _ _ _ _ L => lv_istore_n hx hb dJ11_circularClear_36 rfl L (by decide) rfl) ?_
        refine x_up (pc' := 38) (fun _ _ _ _ _ L => lv_iload_n hx hb dJ11_circularClear_37 rfl (lv_at L 3 rfl)) ?_
        refine x_upL (pc' := 39) (lo' := [(3, .int x2), (1, .int (0 : Int32)), (0, va_rf x0), (2, .int x2)]) (fun _ _ _ _ _ L => lv_istore_n hx hb dJ11_circularClear_38 rfl L (by decide) rfl) ?_
        refine x_up (pc' := 12) (fun _ _ _ _ _ L => lv_goto (tgt := 12) hx hb dJ11_circularClear_39 (by decide)) ?_
        refine x_lo (lo' := [(1, .int (0 : Int32)), (3, .int x2), (0, va_rf x0), (2, .int x2)]) [1, 0, 2, 3] rfl ?_
        exact hself12 ((0 : Int32), x2) σ13 hp14
    · have hp15 := hp11.2 c14
      refine x_up (pc' := 18) (fun _ _ _ _ _ L => lv_aloadq_n hx hb dJ11_circularClear_17 rfl (lv_at L 2 rfl)) ?_
      refine x_up (pc' := 19) (fun _ _ _ _ _ L => lv_iload_n hx hb dJ11_circularClear_18 rfl (lv_at L 0 rfl)) ?_
      refine x_up (pc' := 20) (fun _ _ _ _ _ L => lv_null hx hb dJ11_circularClear_19) ?_
      obtain ⟨b16, rfl, hp16⟩ := hp15
      refine x_aast X hG none dJ11_circularClear_20 hp16 (fun σ17 hp17 => ?_)
      refine x_pc (pc' := 21) rfl ?_
      refine x_upL (pc' := 24) (lo' := [(1, .int (y14 + (1 : Int32))), (3, .int y15), (0, .ref b16), (2, .int x2)]) (fun _ _ _ _ _ L => lv_iinc (v := y14 + (1 : Int32)) hx hb dJ11_circularClear_21 L (k := 0) rfl rfl (by decide) rfl) ?_
      refine x_up (pc' := 12) (fun _ _ _ _ _ L => lv_goto (tgt := 12) hx hb dJ11_circularClear_24 (by decide)) ?_
      refine x_lo (lo' := [(1, .int (y14 + (1 : Int32))), (3, .int y15), (0, .ref b16), (2, .int x2)]) [0, 1, 2, 3] rfl ?_
      exact hself12 ((y14 + (1 : Int32)), y15) σ17 hp17
-- J11_clear
def P_J11_clear (κ : Nat → Nat) (a0 : Nat) (σ : xS) (K : Unit → xH → Prop) : Prop :=
  xgq σ a0 7 0 fun v1 => xgi σ a0 7 1 fun v2 => xgi σ a0 7 2 fun v3 => xcall (fun τ L => P_J11_circularClear κ v1 v2 v3 τ L) σ fun _ σ4 => xpi κ σ4 a0 7 2 (0 : Int32) fun σ5 => xpi κ σ5 a0 7 1 (0 : Int32) fun σ6 => K () σ6.1
theorem mdJ11_clear : yJ11_clear.cls ≠ "java/lang/invoke/MethodHandle" ∧ yJ11_clear.cls ≠ "java/lang/invoke/VarHandle" ∧ (parseMethodDescriptor yJ11_clear.desc).map (fun d => d.parameters.length) = some 0 := by decide +kernel
set_option maxHeartbeats 4000000 in
set_option maxRecDepth 100000 in
theorem R_J11_clear (l : Launch) (hl : l.stackTraces = false) (G : xG) (hG : G.1.2 = x_cl) (a0 : Nat) (σ : xS) (K : Unit → xH → Prop) (hp : P_J11_clear G.2 a0 σ K) : xM l yJ11_clear cJ11_clear 1 (Option.none : Option Jvm.ClassFile.FieldType) 1 23 G [(.ref a0)] σ (xlift emV K) := by
  refine x_entry (by decide) (Nat.le_of_ble_eq_true rfl) ?_
  intro p e s m args below meth c X hr hin
  have X : xX p s m args meth c G cJ11_clear 1 RJ11 := X
  have hx := X.1
  have hb := X.2.1
  have hts := X.2.2.2.2.1
  have hown := X.2.2.2.1
  unfold P_J11_clear at hp
  refine x_same (lo' := [(0, .ref a0)]) rfl ?_
  refine x_up (pc' := 1) (fun _ _ _ _ _ L => lv_aload_n hx hb dJ11_clear_0 rfl (lv_at L 0 rfl)) ?_
  refine x_gq X (kJ11 hG) 0 (by decide) q543 (fun _ h => h) dJ11_clear_1 hp (fun v1 hp1 => ?_)
  refine x_pc (pc' := 4) rfl ?_
  refine x_up (pc' := 5) (fun _ _ _ _ _ L => lv_aload_n hx hb dJ11_clear_4 rfl (lv_at L 0 rfl)) ?_
  refine x_gi X (kJ11 hG) 1 (by decide) q546 (fun _ h => h) dJ11_clear_5 hp1 (fun v2 hp2 => ?_)
  refine x_pc (pc' := 8) rfl ?_
  refine x_up (pc' := 9) (fun _ _ _ _ _ L => lv_aload_n hx hb dJ11_clear_8 rfl (lv_at L 0 rfl)) ?_
  refine x_gi X (kJ11 hG) 2 (by decide) q547 (fun _ h => h) dJ11_clear_9 hp2 (fun v3 hp3 => ?_)
  refine x_pc (pc' := 12) rfl ?_
  refine x_callS (em := emV) (fun r st => st) (fun _ _ => rfl) 3 X (fun σ' KK h => R_J11_circularClear l hl G hG v1 v2 v3 σ' KK h) (lw_S q3248 q3249 q114 q3250) mdJ11_circularClear ⟨Nat.le_of_ble_eq_true rfl, Nat.le_of_ble_eq_true rfl⟩ rfl rfl (Nat.le_of_ble_eq_true rfl) dJ11_clear_12 hp3 (fun _ σ4 hp4 => ?_)
  refine x_pc (pc' := 15) rfl ?_
  refine x_up (pc' := 16) (fun _ _ _ _ _ L => lv_aload_n hx hb dJ11_clear_15 rfl (lv_at L 0 rfl)) ?_
  refine x_up (pc' := 17) (fun _ _ _ _ _ L => lv_aload_n hx hb dJ11_clear_16 rfl (lv_at L 0 rfl)) ?_
  refine x_up (pc' := 18) (fun _ _ _ _ _ L => lv_iconst (v := (0 : Int32)) hx hb dJ11_clear_17 (by decide)) ?_
  refine x_up (pc' := 19) (fun _ _ _ _ _ L => lv_dup_x1 hx hb dJ11_clear_18 rfl rfl) ?_
  refine x_pi X (kJ11 hG) 2 (by decide) q547 (fun _ h => h) rfl rfl rfl dJ11_clear_19 hp4 (fun σ5 hp5 => ?_)
  refine x_pc (pc' := 22) rfl ?_
  refine x_pi X (kJ11 hG) 1 (by decide) q546 (fun _ h => h) rfl rfl rfl dJ11_clear_22 hp5 (fun σ6 hp6 => ?_)
  refine x_pc (pc' := 25) rfl ?_
  exact x_vret X hr dJ11_clear_25 hp6
-- X1_restore
def P_X1_restore (κ : Nat → Nat) (a0 : Nat) (σ : xS) (K : Int32 → xH → Prop) (KX : Nat → xH → Prop) : Prop :=
  xgq σ a0 0 1 fun v1 => ((v1 = none → (xcallX (fun τ L LX => P_X1_requireState κ (0 : Int32) τ L LX) σ (fun _ σ3 => xgq σ3 a0 0 1 fun v6 => xpq κ σ3 a0 0 0 v6 fun σ7 => xgq σ7 a0 0 2 fun v8 => xnn v8 fun b9 => xrc σ7 b9 7 ∧ xcall (fun τ L => P_J11_clear κ b9 τ L) σ7 fun _ σ10 => xgq σ10 a0 0 0 fun v11 => xnn v11 fun b12 => xgi σ10 b12 1 10 fun v13 => K v13 σ10.1) (fun q4 σ5 => κ 0 ≤ q4 ∧ ((xrc σ5 q4 32 ∧ (KX q4 σ5.1)))))) ∧ (∀ b2 : Nat, v1 = some b2 → (xcallX (fun τ L LX => P_X1_requireState κ (1 : Int32) τ L LX) σ (fun _ σ14 => xgq σ14 a0 0 1 fun v17 => xpq κ σ14 a0 0 0 v17 fun σ18 => xgq σ18 a0 0 2 fun v19 => xnn v19 fun b20 => xrc σ18 b20 7 ∧ xcall (fun τ L => P_J11_clear κ b20 τ L) σ18 fun _ σ21 => xgq σ21 a0 0 0 fun v22 => xnn v22 fun b23 => xgi σ21 b23 1 10 fun v24 => K v24 σ21.1) (fun q15 σ16 => κ 0 ≤ q15 ∧ ((xrc σ16 q15 32 ∧ (KX q15 σ16.1)))))))
theorem mdX1_restore : yX1_restore.cls ≠ "java/lang/invoke/MethodHandle" ∧ yX1_restore.cls ≠ "java/lang/invoke/VarHandle" ∧ (parseMethodDescriptor yX1_restore.desc).map (fun d => d.parameters.length) = some 0 := by decide +kernel
set_option maxHeartbeats 4000000 in
set_option maxRecDepth 100000 in
theorem R_X1_restore (l : Launch) (hl : l.stackTraces = false) (G : xG) (hG : G.1.2 = x_cl) (a0 : Nat) (σ : xS) (K : Int32 → xH → Prop) (KX : Nat → xH → Prop) (hp : P_X1_restore G.2 a0 σ K KX) : xMX l yX1_restore cX1_restore 1 (Option.some Jvm.ClassFile.FieldType.int) 7 109 G [(.ref a0)] σ (xlift emI K) KX := by
  refine x_entryX (by decide) (Nat.le_of_ble_eq_true rfl) ?_
  intro p e s m args below meth c X hr hin hno
  have X : xX p s m args meth c G cX1_restore 1 RX1 := X
  have hx := X.1
  have hb := X.2.1
  have hts := X.2.2.2.2.1
  have hown := X.2.2.2.1
  have hout : ∀ pc, ∀ x ∈ c.exceptionTable.toList, covers x pc = false := fun _ x hx => (hno x hx).elim
  unfold P_X1_restore at hp
  refine x_same (lo' := [(0, .ref a0)]) rfl ?_
  refine x_up (pc' := 1) (fun _ _ _ _ _ L => lv_aload_n hx hb dX1_restore_0 rfl (lv_at L 0 rfl)) ?_
  refine x_gq X (kX1 hG) 1 (by decide) q590 (fun _ h => h) dX1_restore_1 hp (fun v1 hp1 => ?_)
  refine x_pc (pc' := 4) rfl ?_
  rcases v1 with _ | b2
  · have hp2 := hp1.1 rfl
    refine x_up (pc' := 11) (fun _ _ _ _ _ L => lv_ifnullN (tgt := 11) hx hb dX1_restore_4 (by decide)) ?_
    refine x_up (pc' := 12) (fun _ _ _ _ _ L => lv_iconst (v := (0 : Int32)) hx hb dX1_restore_11 (by decide)) ?_
    refine x_callSX (em := emV) (fun r st => st) (fun _ _ => rfl) 1 X (fun σ' KK KX h => R_X1_requireState l hl G hG (0 : Int32) σ' KK KX h) (lw_S q2860 q2861 q99 q2862) mdX1_requireState ⟨Nat.le_of_ble_eq_true rfl, Nat.le_of_ble_eq_true rfl⟩ rfl rfl (Nat.le_of_ble_eq_true rfl) dX1_restore_12 hp2 (fun _ σ3 hpA12 => ?_) (fun q4 σ5 hpB12 => ?_)
    · have hp3 := hpA12
      refine x_pc (pc' := 15) rfl ?_
      refine x_up (pc' := 16) (fun _ _ _ _ _ L => lv_aload_n hx hb dX1_restore_15 rfl (lv_at L 0 rfl)) ?_
      refine x_up (pc' := 17) (fun _ _ _ _ _ L => lv_aload_n hx hb dX1_restore_16 rfl (lv_at L 0 rfl)) ?_
      refine x_gq X (kX1 hG) 1 (by decide) q590 (fun _ h => h) dX1_restore_17 hp3 (fun v6 hp4 => ?_)
      refine x_pc (pc' := 20) rfl ?_
      refine x_pq X (kX1 hG) 0 (by decide) q589 (fun _ h => h) rfl v6 (x_nar _ (by decide)) (x_fit _ (by decide)) dX1_restore_20 hp4 (fun σ7 hp5 => ?_)
      refine x_pc (pc' := 23) rfl ?_
      refine x_up (pc' := 24) (fun _ _ _ _ _ L => lv_aload_n hx hb dX1_restore_23 rfl (lv_at L 0 rfl)) ?_
      refine x_gq X (kX1 hG) 2 (by decide) q591 (fun _ h => h) dX1_restore_24 hp5 (fun v8 hp6 => ?_)
      refine x_pc (pc' := 27) rfl ?_
      obtain ⟨b9, rfl, hp7⟩ := hp6
      refine x_callFJ (x := ⟨"java/util/Deque", "clear", "()V"⟩) (J := "java/util/Collection") (em := emV) (fun r st => st) (fun _ _ => rfl) 0 X (kJ11 hG) (fun σ' KK h => R_J11_clear l hl G hG b9 σ' KK h) (by simp [x_dw, RX1, RJ11, yJ11_clear]) (by simp [x_dw, RX1, RJ11, yJ11_clear]) (by simp [x_dw, RX1, RJ11, yJ11_clear]) (by simp [x_df]) (by simp [x_dw, RX1, RJ11, yJ11_clear]) (by simp [x_dw, RX1, RJ11, yJ11_clear]) (by simp [x_dw, RX1, RJ11, yJ11_clear]) q3243 q3245 q114 q3247 (by decide +kernel) (by decide) ⟨Nat.le_of_ble_eq_true rfl, Nat.le_of_ble_eq_true rfl⟩ rfl rfl (Nat.le_of_ble_eq_true rfl) dX1_restore_27 hp7.1 hp7.2 (fun _ σ10 hp8 => ?_)
      refine x_pc (pc' := 32) rfl ?_
      refine x_up (pc' := 33) (fun _ _ _ _ _ L => lv_aload_n hx hb dX1_restore_32 rfl (lv_at L 0 rfl)) ?_
      refine x_gq X (kX1 hG) 0 (by decide) q589 (fun _ h => h) dX1_restore_33 hp8 (fun v11 hp9 => ?_)
      refine x_pc (pc' := 36) rfl ?_
      obtain ⟨b12, rfl, hp10⟩ := hp9
      refine x_giN X (kX2 hG) 10 (by decide) q476 (fun _ h => h) dX1_restore_36 hp10 (fun v13 hp11 => ?_)
      refine x_pc (pc' := 39) rfl ?_
      refine x_vx ?_; exact x_iret X hr rfl dX1_restore_39 hp11
    · have hp12 := hpB12
      obtain ⟨hq12, hp13⟩ := hp12
      obtain ⟨hr12, hp14⟩ := hp13
      exact x_out X (kJ43 hG) (hout 12) hr12 hq12 hp14
  · have hp15 := hp1.2 _ rfl
    refine x_up (pc' := 7) (fun _ _ _ _ _ L => lv_ifnull hx hb dX1_restore_4) ?_
    refine x_up (pc' := 8) (fun _ _ _ _ _ L => lv_iconst (v := (1 : Int32)) hx hb dX1_restore_7 (by decide)) ?_
    refine x_up (pc' := 12) (fun _ _ _ _ _ L => lv_goto (tgt := 12) hx hb dX1_restore_8 (by decide)) ?_
    refine x_callSX (em := emV) (fun r st => st) (fun _ _ => rfl) 1 X (fun σ' KK KX h => R_X1_requireState l hl G hG (1 : Int32) σ' KK KX h) (lw_S q2860 q2861 q99 q2862) mdX1_requireState ⟨Nat.le_of_ble_eq_true rfl, Nat.le_of_ble_eq_true rfl⟩ rfl rfl (Nat.le_of_ble_eq_true rfl) dX1_restore_12 hp15 (fun _ σ14 hpA12 => ?_) (fun q15 σ16 hpB12 => ?_)
    · have hp16 := hpA12
      refine x_pc (pc' := 15) rfl ?_
      refine x_up (pc' := 16) (fun _ _ _ _ _ L => lv_aload_n hx hb dX1_restore_15 rfl (lv_at L 0 rfl)) ?_
      refine x_up (pc' := 17) (fun _ _ _ _ _ L => lv_aload_n hx hb dX1_restore_16 rfl (lv_at L 0 rfl)) ?_
      refine x_gq X (kX1 hG) 1 (by decide) q590 (fun _ h => h) dX1_restore_17 hp16 (fun v17 hp17 => ?_)
      refine x_pc (pc' := 20) rfl ?_
      refine x_pq X (kX1 hG) 0 (by decide) q589 (fun _ h => h) rfl v17 (x_nar _ (by decide)) (x_fit _ (by decide)) dX1_restore_20 hp17 (fun σ18 hp18 => ?_)
      refine x_pc (pc' := 23) rfl ?_
      refine x_up (pc' := 24) (fun _ _ _ _ _ L => lv_aload_n hx hb dX1_restore_23 rfl (lv_at L 0 rfl)) ?_
      refine x_gq X (kX1 hG) 2 (by decide) q591 (fun _ h => h) dX1_restore_24 hp18 (fun v19 hp19 => ?_)
      refine x_pc (pc' := 27) rfl ?_
      obtain ⟨b20, rfl, hp20⟩ := hp19
      refine x_callFJ (x := ⟨"java/util/Deque", "clear", "()V"⟩) (J := "java/util/Collection") (em := emV) (fun r st => st) (fun _ _ => rfl) 0 X (kJ11 hG) (fun σ' KK h => R_J11_clear l hl G hG b20 σ' KK h) (by simp [x_dw, RX1, RJ11, yJ11_clear]) (by simp [x_dw, RX1, RJ11, yJ11_clear]) (by simp [x_dw, RX1, RJ11, yJ11_clear]) (by simp [x_df]) (by simp [x_dw, RX1, RJ11, yJ11_clear]) (by simp [x_dw, RX1, RJ11, yJ11_clear]) (by simp [x_dw, RX1, RJ11, yJ11_clear]) q3243 q3245 q114 q3247 (by decide +kernel) (by decide) ⟨Nat.le_of_ble_eq_true rfl, Nat.le_of_ble_eq_true rfl⟩ rfl rfl (Nat.le_of_ble_eq_true rfl) dX1_restore_27 hp20.1 hp20.2 (fun _ σ21 hp21 => ?_)
      refine x_pc (pc' := 32) rfl ?_
      refine x_up (pc' := 33) (fun _ _ _ _ _ L => lv_aload_n hx hb dX1_restore_32 rfl (lv_at L 0 rfl)) ?_
      refine x_gq X (kX1 hG) 0 (by decide) q589 (fun _ h => h) dX1_restore_33 hp21 (fun v22 hp22 => ?_)
      refine x_pc (pc' := 36) rfl ?_
      obtain ⟨b23, rfl, hp23⟩ := hp22
      refine x_giN X (kX2 hG) 10 (by decide) q476 (fun _ h => h) dX1_restore_36 hp23 (fun v24 hp24 => ?_)
      refine x_pc (pc' := 39) rfl ?_
      refine x_vx ?_; exact x_iret X hr rfl dX1_restore_39 hp24
    · have hp25 := hpB12
      obtain ⟨hq12, hp26⟩ := hp25
      obtain ⟨hr12, hp27⟩ := hp26
      exact x_out X (kJ43 hG) (hout 12) hr12 hq12 hp27
-- X0_read
def P_X0_read (κ : Nat → Nat) (x0 : Option Nat) (x1 : Int32) (x2 : Option Nat) (σ : xS) (K : Int32 → xH → Prop) (KX : Nat → xH → Prop) : Prop :=
  xnn x0 fun b1 => xrc σ b1 0 ∧ xcallX (fun τ L LX => P_X1_read κ b1 x1 τ L LX) σ (fun v2 σ3 => xnn x2 fun b6 => xsl κ σ3 b6 (0 : Int32) v2.toInt64 fun σ7 => K (0 : Int32) σ7.1) (fun q4 σ5 => κ 0 ≤ q4 ∧ ((xrc σ5 q4 20 ∧ (K (1 : Int32) σ5.1))))
theorem mdX0_read : yX0_read.cls ≠ "java/lang/invoke/MethodHandle" ∧ yX0_read.cls ≠ "java/lang/invoke/VarHandle" ∧ (parseMethodDescriptor yX0_read.desc).map (fun d => d.parameters.length) = some 3 := by decide +kernel
set_option maxHeartbeats 4000000 in
set_option maxRecDepth 100000 in
theorem R_X0_read (l : Launch) (hl : l.stackTraces = false) (G : xG) (hG : G.1.2 = x_cl) (x0 : Option Nat) (x1 : Int32) (x2 : Option Nat) (σ : xS) (K : Int32 → xH → Prop) (KX : Nat → xH → Prop) (hp : P_X0_read G.2 x0 x1 x2 σ K KX) : xMH l yX0_read cX0_read 4 (Option.some Jvm.ClassFile.FieldType.int) [(0, 9, 12, 13)] 18 497 G [va_rf x0, .int x1, va_rf x2] σ (xlift emI K) KX := by
  refine x_entryH (by decide) (by simp [lg_sl, x_catq, x_cati, x_catr, x_catn]) ?_
  intro p e s m args below meth c X hr hin hE
  have X : xX p s m args meth c G cX0_read 4 RX0 := X
  have hx := X.1
  have hb := X.2.1
  have hts := X.2.2.2.2.1
  have hown := X.2.2.2.1
  unfold P_X0_read at hp
  refine x_same (lo' := [(0, va_rf x0), (1, .int x1), (2, va_rf x2)]) (by simp [lv_args, x_catq, x_cati, x_catr, x_catn]) ?_
  refine x_up (pc' := 1) (fun _ _ _ _ _ L => lv_aloadq_n hx hb dX0_read_0 rfl (lv_at L 2 rfl)) ?_
  refine x_up (pc' := 2) (fun _ _ _ _ _ L => lv_iconst (v := (0 : Int32)) hx hb dX0_read_1 (by decide)) ?_
  refine x_up (pc' := 3) (fun _ _ _ _ _ L => lv_aloadq_n hx hb dX0_read_2 rfl (lv_at L 0 rfl)) ?_
  refine x_up (pc' := 4) (fun _ _ _ _ _ L => lv_iload_n hx hb dX0_read_3 rfl (lv_at L 1 rfl)) ?_
  obtain ⟨b1, rfl, hp1⟩ := hp
  refine x_callVX (em := emI) (fun r st => .int r :: st) (fun _ _ => rfl) 1 X (kX1 hG) (fun σ' KK KX h => R_X1_read l hl G hG b1 x1 σ' KK KX h) (lw_V q2125 q2126 q2127 q99 q2128) ⟨rfl, mdX1_read⟩ ⟨Nat.le_of_ble_eq_true rfl, Nat.le_of_ble_eq_true rfl⟩ rfl rfl (by simp only [List.map_cons, List.map_nil, List.sum_cons, List.sum_nil, x_catq, x_cati, x_catr, x_catn] <;> decide) dX0_read_4 hp1.1 hp1.2 (fun v2 σ3 hpA4 => ?_) (fun q4 σ5 hpB4 => ?_)
  · have hp2 := hpA4
    refine x_pc (pc' := 7) rfl ?_
    refine x_up (pc' := 8) (fun _ _ _ _ _ L => lv_i2l hx hb dX0_read_7 rfl) ?_
    obtain ⟨b6, rfl, hp3⟩ := hp2
    refine x_last X dX0_read_8 hp3 (fun σ7 hp4 => ?_)
    refine x_pc (pc' := 9) rfl ?_
    refine x_up (pc' := 15) (fun _ _ _ _ _ L => lv_goto (tgt := 15) hx hb dX0_read_9 (by decide)) ?_
    refine x_up (pc' := 16) (fun _ _ _ _ _ L => lv_iconst (v := (0 : Int32)) hx hb dX0_read_15 (by decide)) ?_
    refine x_vx ?_; exact x_iret X hr rfl dX0_read_16 hp4
  · have hp5 := hpB4
    obtain ⟨hq4, hp6⟩ := hp5
    obtain ⟨hr4, hp7⟩ := hp6
    refine x_catch X (kJ32 hG) [] ({ startPc := 0, endPc := 9, handlerPc := 12, catchType := 13 } : ExceptionTableEntry) [] (hE.trans rfl) (fun _ h => nomatch h) rfl (by decide) q2124 q2557 hr4 hq4 ?_
    refine x_pc (pc' := 12) rfl ?_
    refine x_st (pc' := 13) ([(3, .ref q4), (0, .ref b1), (1, .int x1), (2, va_rf x2)]) rfl (by simp [x_catq, x_cati, x_catr, x_catn]) (fun _ _ _ _ _ L => lv_astore_n hx hb dX0_read_12 rfl L (by decide) rfl) ?_
    refine x_up (pc' := 14) (fun _ _ _ _ _ L => lv_iconst (v := (1 : Int32)) hx hb dX0_read_13 (by decide)) ?_
    refine x_vx ?_; exact x_iret X hr rfl dX0_read_14 hp7
-- X0_write
def P_X0_write (κ : Nat → Nat) (x0 : Option Nat) (x1 : Int32) (x2 : Int32) (x3 : Option Nat) (σ : xS) (K : Int32 → xH → Prop) (KX : Nat → xH → Prop) : Prop :=
  xnn x0 fun b1 => xrc σ b1 0 ∧ xcallX (fun τ L LX => P_X1_write κ b1 x1 x2 τ L LX) σ (fun v2 σ3 => xnn x3 fun b6 => xsl κ σ3 b6 (0 : Int32) v2.toInt64 fun σ7 => K (0 : Int32) σ7.1) (fun q4 σ5 => κ 0 ≤ q4 ∧ ((xrc σ5 q4 20 ∧ (K (1 : Int32) σ5.1))))
theorem mdX0_write : yX0_write.cls ≠ "java/lang/invoke/MethodHandle" ∧ yX0_write.cls ≠ "java/lang/invoke/VarHandle" ∧ (parseMethodDescriptor yX0_write.desc).map (fun d => d.parameters.length) = some 4 := by decide +kernel
set_option maxHeartbeats 4000000 in
set_option maxRecDepth 100000 in
theorem R_X0_write (l : Launch) (hl : l.stackTraces = false) (G : xG) (hG : G.1.2 = x_cl) (x0 : Option Nat) (x1 : Int32) (x2 : Int32) (x3 : Option Nat) (σ : xS) (K : Int32 → xH → Prop) (KX : Nat → xH → Prop) (hp : P_X0_write G.2 x0 x1 x2 x3 σ K KX) : xMH l yX0_write cX0_write 5 (Option.some Jvm.ClassFile.FieldType.int) [(0, 10, 13, 13)] 18 498 G [va_rf x0, .int x1, .int x2, va_rf x3] σ (xlift emI K) KX := by
  refine x_entryH (by decide) (by simp [lg_sl, x_catq, x_cati, x_catr, x_catn]) ?_
  intro p e s m args below meth c X hr hin hE
  have X : xX p s m args meth c G cX0_write 5 RX0 := X
  have hx := X.1
  have hb := X.2.1
  have hts := X.2.2.2.2.1
  have hown := X.2.2.2.1
  unfold P_X0_write at hp
  refine x_same (lo' := [(0, va_rf x0), (1, .int x1), (2, .int x2), (3, va_rf x3)]) (by simp [lv_args, x_catq, x_cati, x_catr, x_catn]) ?_
  refine x_up (pc' := 1) (fun _ _ _ _ _ L => lv_aloadq_n hx hb dX0_write_0 rfl (lv_at L 3 rfl)) ?_
  refine x_up (pc' := 2) (fun _ _ _ _ _ L => lv_iconst (v := (0 : Int32)) hx hb dX0_write_1 (by decide)) ?_
  refine x_up (pc' := 3) (fun _ _ _ _ _ L => lv_aloadq_n hx hb dX0_write_2 rfl (lv_at L 0 rfl)) ?_
  refine x_up (pc' := 4) (fun _ _ _ _ _ L => lv_iload_n hx hb dX0_write_3 rfl (lv_at L 1 rfl)) ?_
  refine x_up (pc' := 5) (fun _ _ _ _ _ L => lv_iload_n hx hb dX0_write_4 rfl (lv_at L 2 rfl)) ?_
  obtain ⟨b1, rfl, hp1⟩ := hp
  refine x_callVX (em := emI) (fun r st => .int r :: st) (fun _ _ => rfl) 2 X (kX1 hG) (fun σ' KK KX h => R_X1_write l hl G hG b1 x1 x2 σ' KK KX h) (lw_V q2573 q2574 q2575 q99 q2576) ⟨rfl, mdX1_write⟩ ⟨Nat.le_of_ble_eq_true rfl, Nat.le_of_ble_eq_true rfl⟩ rfl rfl (by simp only [List.map_cons, List.map_nil, List.sum_cons, List.sum_nil, x_catq, x_cati, x_catr, x_catn] <;> decide) dX0_write_5 hp1.1 hp1.2 (fun v2 σ3 hpA5 => ?_) (fun q4 σ5 hpB5 => ?_)
  · have hp2 := hpA5
    refine x_pc (pc' := 8) rfl ?_
    refine x_up (pc' := 9) (fun _ _ _ _ _ L => lv_i2l hx hb dX0_write_8 rfl) ?_
    obtain ⟨b6, rfl, hp3⟩ := hp2
    refine x_last X dX0_write_9 hp3 (fun σ7 hp4 => ?_)
    refine x_pc (pc' := 10) rfl ?_
    refine x_up (pc' := 17) (fun _ _ _ _ _ L => lv_goto (tgt := 17) hx hb dX0_write_10 (by decide)) ?_
    refine x_up (pc' := 18) (fun _ _ _ _ _ L => lv_iconst (v := (0 : Int32)) hx hb dX0_write_17 (by decide)) ?_
    refine x_vx ?_; exact x_iret X hr rfl dX0_write_18 hp4
  · have hp5 := hpB5
    obtain ⟨hq5, hp6⟩ := hp5
    obtain ⟨hr5, hp7⟩ := hp6
    refine x_catch X (kJ32 hG) [] ({ startPc := 0, endPc := 10, handlerPc := 13, catchType := 13 } : ExceptionTableEntry) [] (hE.trans rfl) (fun _ h => nomatch h) rfl (by decide) q2124 q2557 hr5 hq5 ?_
    refine x_pc (pc' := 13) rfl ?_
    refine x_st (pc' := 15) ([(4, .ref q4), (0, .ref b1), (1, .int x1), (2, .int x2), (3, va_rf x3)]) rfl (by simp [x_catq, x_cati, x_catr, x_catn]) (fun _ _ _ _ _ L => lv_astore hx hb dX0_write_13 L (by decide) rfl) ?_
    refine x_up (pc' := 16) (fun _ _ _ _ _ L => lv_iconst (v := (1 : Int32)) hx hb dX0_write_15 (by decide)) ?_
    refine x_vx ?_; exact x_iret X hr rfl dX0_write_16 hp7
-- X0_device
def P_X0_device (κ : Nat → Nat) (x0 : Option Nat) (x1 : Int32) (x2 : Int32) (x3 : Option Nat) (σ : xS) (K : Int32 → xH → Prop) (KX : Nat → xH → Prop) : Prop :=
  xnn x0 fun b1 => xrc σ b1 0 ∧ xcallX (fun τ L LX => P_X1_device κ b1 x1 x2 τ L LX) σ (fun v2 σ3 => xnn x3 fun b6 => xsl κ σ3 b6 (0 : Int32) v2.toInt64 fun σ7 => K (0 : Int32) σ7.1) (fun q4 σ5 => κ 0 ≤ q4 ∧ ((xrc σ5 q4 20 ∧ (K (1 : Int32) σ5.1))))
theorem mdX0_device : yX0_device.cls ≠ "java/lang/invoke/MethodHandle" ∧ yX0_device.cls ≠ "java/lang/invoke/VarHandle" ∧ (parseMethodDescriptor yX0_device.desc).map (fun d => d.parameters.length) = some 4 := by decide +kernel
set_option maxHeartbeats 4000000 in
set_option maxRecDepth 100000 in
theorem R_X0_device (l : Launch) (hl : l.stackTraces = false) (G : xG) (hG : G.1.2 = x_cl) (x0 : Option Nat) (x1 : Int32) (x2 : Int32) (x3 : Option Nat) (σ : xS) (K : Int32 → xH → Prop) (KX : Nat → xH → Prop) (hp : P_X0_device G.2 x0 x1 x2 x3 σ K KX) : xMH l yX0_device cX0_device 5 (Option.some Jvm.ClassFile.FieldType.int) [(0, 10, 13, 13)] 18 498 G [va_rf x0, .int x1, .int x2, va_rf x3] σ (xlift emI K) KX := by
  refine x_entryH (by decide) (by simp [lg_sl, x_catq, x_cati, x_catr, x_catn]) ?_
  intro p e s m args below meth c X hr hin hE
  have X : xX p s m args meth c G cX0_device 5 RX0 := X
  have hx := X.1
  have hb := X.2.1
  have hts := X.2.2.2.2.1
  have hown := X.2.2.2.1
  unfold P_X0_device at hp
  refine x_same (lo' := [(0, va_rf x0), (1, .int x1), (2, .int x2), (3, va_rf x3)]) (by simp [lv_args, x_catq, x_cati, x_catr, x_catn]) ?_
  refine x_up (pc' := 1) (fun _ _ _ _ _ L => lv_aloadq_n hx hb dX0_device_0 rfl (lv_at L 3 rfl)) ?_
  refine x_up (pc' := 2) (fun _ _ _ _ _ L => lv_iconst (v := (0 : Int32)) hx hb dX0_device_1 (by decide)) ?_
  refine x_up (pc' := 3) (fun _ _ _ _ _ L => lv_aloadq_n hx hb dX0_device_2 rfl (lv_at L 0 rfl)) ?_
  refine x_up (pc' := 4) (fun _ _ _ _ _ L => lv_iload_n hx hb dX0_device_3 rfl (lv_at L 1 rfl)) ?_
  refine x_up (pc' := 5) (fun _ _ _ _ _ L => lv_iload_n hx hb dX0_device_4 rfl (lv_at L 2 rfl)) ?_
  obtain ⟨b1, rfl, hp1⟩ := hp
  refine x_callVX (em := emI) (fun r st => .int r :: st) (fun _ _ => rfl) 2 X (kX1 hG) (fun σ' KK KX h => R_X1_device l hl G hG b1 x1 x2 σ' KK KX h) (lw_V q2581 q2582 q2583 q99 q2584) ⟨rfl, mdX1_device⟩ ⟨Nat.le_of_ble_eq_true rfl, Nat.le_of_ble_eq_true rfl⟩ rfl rfl (by simp only [List.map_cons, List.map_nil, List.sum_cons, List.sum_nil, x_catq, x_cati, x_catr, x_catn] <;> decide) dX0_device_5 hp1.1 hp1.2 (fun v2 σ3 hpA5 => ?_) (fun q4 σ5 hpB5 => ?_)
  · have hp2 := hpA5
    refine x_pc (pc' := 8) rfl ?_
    refine x_up (pc' := 9) (fun _ _ _ _ _ L => lv_i2l hx hb dX0_device_8 rfl) ?_
    obtain ⟨b6, rfl, hp3⟩ := hp2
    refine x_last X dX0_device_9 hp3 (fun σ7 hp4 => ?_)
    refine x_pc (pc' := 10) rfl ?_
    refine x_up (pc' := 17) (fun _ _ _ _ _ L => lv_goto (tgt := 17) hx hb dX0_device_10 (by decide)) ?_
    refine x_up (pc' := 18) (fun _ _ _ _ _ L => lv_iconst (v := (0 : Int32)) hx hb dX0_device_17 (by decide)) ?_
    refine x_vx ?_; exact x_iret X hr rfl dX0_device_18 hp4
  · have hp5 := hpB5
    obtain ⟨hq5, hp6⟩ := hp5
    obtain ⟨hr5, hp7⟩ := hp6
    refine x_catch X (kJ32 hG) [] ({ startPc := 0, endPc := 10, handlerPc := 13, catchType := 13 } : ExceptionTableEntry) [] (hE.trans rfl) (fun _ h => nomatch h) rfl (by decide) q2124 q2557 hr5 hq5 ?_
    refine x_pc (pc' := 13) rfl ?_
    refine x_st (pc' := 15) ([(4, .ref q4), (0, .ref b1), (1, .int x1), (2, .int x2), (3, va_rf x3)]) rfl (by simp [x_catq, x_cati, x_catr, x_catn]) (fun _ _ _ _ _ L => lv_astore hx hb dX0_device_13 L (by decide) rfl) ?_
    refine x_up (pc' := 16) (fun _ _ _ _ _ L => lv_iconst (v := (1 : Int32)) hx hb dX0_device_15 (by decide)) ?_
    refine x_vx ?_; exact x_iret X hr rfl dX0_device_16 hp7
-- X0_pass
def P_X0_pass (κ : Nat → Nat) (x0 : Option Nat) (x1 : Int32) (x2 : Option Nat) (σ : xS) (K : Int32 → xH → Prop) (KX : Nat → xH → Prop) : Prop :=
  xnn x0 fun b1 => xrc σ b1 0 ∧ xcallX (fun τ L LX => P_X1_pass κ b1 x1 τ L LX) σ (fun v2 σ3 => xnn x2 fun b6 => xsl κ σ3 b6 (0 : Int32) v2.toInt64 fun σ7 => K (0 : Int32) σ7.1) (fun q4 σ5 => κ 0 ≤ q4 ∧ ((xrc σ5 q4 20 ∧ (K (1 : Int32) σ5.1))))
theorem mdX0_pass : yX0_pass.cls ≠ "java/lang/invoke/MethodHandle" ∧ yX0_pass.cls ≠ "java/lang/invoke/VarHandle" ∧ (parseMethodDescriptor yX0_pass.desc).map (fun d => d.parameters.length) = some 3 := by decide +kernel
set_option maxHeartbeats 4000000 in
set_option maxRecDepth 100000 in
theorem R_X0_pass (l : Launch) (hl : l.stackTraces = false) (G : xG) (hG : G.1.2 = x_cl) (x0 : Option Nat) (x1 : Int32) (x2 : Option Nat) (σ : xS) (K : Int32 → xH → Prop) (KX : Nat → xH → Prop) (hp : P_X0_pass G.2 x0 x1 x2 σ K KX) : xMH l yX0_pass cX0_pass 4 (Option.some Jvm.ClassFile.FieldType.int) [(0, 9, 12, 13)] 18 497 G [va_rf x0, .int x1, va_rf x2] σ (xlift emI K) KX := by
  refine x_entryH (by decide) (by simp [lg_sl, x_catq, x_cati, x_catr, x_catn]) ?_
  intro p e s m args below meth c X hr hin hE
  have X : xX p s m args meth c G cX0_pass 4 RX0 := X
  have hx := X.1
  have hb := X.2.1
  have hts := X.2.2.2.2.1
  have hown := X.2.2.2.1
  unfold P_X0_pass at hp
  refine x_same (lo' := [(0, va_rf x0), (1, .int x1), (2, va_rf x2)]) (by simp [lv_args, x_catq, x_cati, x_catr, x_catn]) ?_
  refine x_up (pc' := 1) (fun _ _ _ _ _ L => lv_aloadq_n hx hb dX0_pass_0 rfl (lv_at L 2 rfl)) ?_
  refine x_up (pc' := 2) (fun _ _ _ _ _ L => lv_iconst (v := (0 : Int32)) hx hb dX0_pass_1 (by decide)) ?_
  refine x_up (pc' := 3) (fun _ _ _ _ _ L => lv_aloadq_n hx hb dX0_pass_2 rfl (lv_at L 0 rfl)) ?_
  refine x_up (pc' := 4) (fun _ _ _ _ _ L => lv_iload_n hx hb dX0_pass_3 rfl (lv_at L 1 rfl)) ?_
  obtain ⟨b1, rfl, hp1⟩ := hp
  refine x_callVX (em := emI) (fun r st => .int r :: st) (fun _ _ => rfl) 1 X (kX1 hG) (fun σ' KK KX h => R_X1_pass l hl G hG b1 x1 σ' KK KX h) (lw_V q2589 q2590 q2591 q99 q2592) ⟨rfl, mdX1_pass⟩ ⟨Nat.le_of_ble_eq_true rfl, Nat.le_of_ble_eq_true rfl⟩ rfl rfl (by simp only [List.map_cons, List.map_nil, List.sum_cons, List.sum_nil, x_catq, x_cati, x_catr, x_catn] <;> decide) dX0_pass_4 hp1.1 hp1.2 (fun v2 σ3 hpA4 => ?_) (fun q4 σ5 hpB4 => ?_)
  · have hp2 := hpA4
    refine x_pc (pc' := 7) rfl ?_
    refine x_up (pc' := 8) (fun _ _ _ _ _ L => lv_i2l hx hb dX0_pass_7 rfl) ?_
    obtain ⟨b6, rfl, hp3⟩ := hp2
    refine x_last X dX0_pass_8 hp3 (fun σ7 hp4 => ?_)
    refine x_pc (pc' := 9) rfl ?_
    refine x_up (pc' := 15) (fun _ _ _ _ _ L => lv_goto (tgt := 15) hx hb dX0_pass_9 (by decide)) ?_
    refine x_up (pc' := 16) (fun _ _ _ _ _ L => lv_iconst (v := (0 : Int32)) hx hb dX0_pass_15 (by decide)) ?_
    refine x_vx ?_; exact x_iret X hr rfl dX0_pass_16 hp4
  · have hp5 := hpB4
    obtain ⟨hq4, hp6⟩ := hp5
    obtain ⟨hr4, hp7⟩ := hp6
    refine x_catch X (kJ32 hG) [] ({ startPc := 0, endPc := 9, handlerPc := 12, catchType := 13 } : ExceptionTableEntry) [] (hE.trans rfl) (fun _ h => nomatch h) rfl (by decide) q2124 q2557 hr4 hq4 ?_
    refine x_pc (pc' := 12) rfl ?_
    refine x_st (pc' := 13) ([(3, .ref q4), (0, .ref b1), (1, .int x1), (2, va_rf x2)]) rfl (by simp [x_catq, x_cati, x_catr, x_catn]) (fun _ _ _ _ _ L => lv_astore_n hx hb dX0_pass_12 rfl L (by decide) rfl) ?_
    refine x_up (pc' := 14) (fun _ _ _ _ _ L => lv_iconst (v := (1 : Int32)) hx hb dX0_pass_13 (by decide)) ?_
    refine x_vx ?_; exact x_iret X hr rfl dX0_pass_14 hp7
-- X0_pin
def P_X0_pin (κ : Nat → Nat) (x0 : Option Nat) (x1 : Int32) (x2 : Option Nat) (σ : xS) (K : Int32 → xH → Prop) (KX : Nat → xH → Prop) : Prop :=
  xnn x0 fun b1 => xrc σ b1 0 ∧ xcallX (fun τ L LX => P_X1_pin κ b1 x1 τ L LX) σ (fun v2 σ3 => xnn x2 fun b6 => xsl κ σ3 b6 (0 : Int32) v2.toInt64 fun σ7 => K (0 : Int32) σ7.1) (fun q4 σ5 => κ 0 ≤ q4 ∧ ((xrc σ5 q4 20 ∧ (K (1 : Int32) σ5.1))))
theorem mdX0_pin : yX0_pin.cls ≠ "java/lang/invoke/MethodHandle" ∧ yX0_pin.cls ≠ "java/lang/invoke/VarHandle" ∧ (parseMethodDescriptor yX0_pin.desc).map (fun d => d.parameters.length) = some 3 := by decide +kernel
set_option maxHeartbeats 4000000 in
set_option maxRecDepth 100000 in
theorem R_X0_pin (l : Launch) (hl : l.stackTraces = false) (G : xG) (hG : G.1.2 = x_cl) (x0 : Option Nat) (x1 : Int32) (x2 : Option Nat) (σ : xS) (K : Int32 → xH → Prop) (KX : Nat → xH → Prop) (hp : P_X0_pin G.2 x0 x1 x2 σ K KX) : xMH l yX0_pin cX0_pin 4 (Option.some Jvm.ClassFile.FieldType.int) [(0, 9, 12, 13)] 18 497 G [va_rf x0, .int x1, va_rf x2] σ (xlift emI K) KX := by
  refine x_entryH (by decide) (by simp [lg_sl, x_catq, x_cati, x_catr, x_catn]) ?_
  intro p e s m args below meth c X hr hin hE
  have X : xX p s m args meth c G cX0_pin 4 RX0 := X
  have hx := X.1
  have hb := X.2.1
  have hts := X.2.2.2.2.1
  have hown := X.2.2.2.1
  unfold P_X0_pin at hp
  refine x_same (lo' := [(0, va_rf x0), (1, .int x1), (2, va_rf x2)]) (by simp [lv_args, x_catq, x_cati, x_catr, x_catn]) ?_
  refine x_up (pc' := 1) (fun _ _ _ _ _ L => lv_aloadq_n hx hb dX0_pin_0 rfl (lv_at L 2 rfl)) ?_
  refine x_up (pc' := 2) (fun _ _ _ _ _ L => lv_iconst (v := (0 : Int32)) hx hb dX0_pin_1 (by decide)) ?_
  refine x_up (pc' := 3) (fun _ _ _ _ _ L => lv_aloadq_n hx hb dX0_pin_2 rfl (lv_at L 0 rfl)) ?_
  refine x_up (pc' := 4) (fun _ _ _ _ _ L => lv_iload_n hx hb dX0_pin_3 rfl (lv_at L 1 rfl)) ?_
  obtain ⟨b1, rfl, hp1⟩ := hp
  refine x_callVX (em := emI) (fun r st => .int r :: st) (fun _ _ => rfl) 1 X (kX1 hG) (fun σ' KK KX h => R_X1_pin l hl G hG b1 x1 σ' KK KX h) (lw_V q2597 q2598 q2599 q99 q2600) ⟨rfl, mdX1_pin⟩ ⟨Nat.le_of_ble_eq_true rfl, Nat.le_of_ble_eq_true rfl⟩ rfl rfl (by simp only [List.map_cons, List.map_nil, List.sum_cons, List.sum_nil, x_catq, x_cati, x_catr, x_catn] <;> decide) dX0_pin_4 hp1.1 hp1.2 (fun v2 σ3 hpA4 => ?_) (fun q4 σ5 hpB4 => ?_)
  · have hp2 := hpA4
    refine x_pc (pc' := 7) rfl ?_
    refine x_up (pc' := 8) (fun _ _ _ _ _ L => lv_i2l hx hb dX0_pin_7 rfl) ?_
    obtain ⟨b6, rfl, hp3⟩ := hp2
    refine x_last X dX0_pin_8 hp3 (fun σ7 hp4 => ?_)
    refine x_pc (pc' := 9) rfl ?_
    refine x_up (pc' := 15) (fun _ _ _ _ _ L => lv_goto (tgt := 15) hx hb dX0_pin_9 (by decide)) ?_
    refine x_up (pc' := 16) (fun _ _ _ _ _ L => lv_iconst (v := (0 : Int32)) hx hb dX0_pin_15 (by decide)) ?_
    refine x_vx ?_; exact x_iret X hr rfl dX0_pin_16 hp4
  · have hp5 := hpB4
    obtain ⟨hq4, hp6⟩ := hp5
    obtain ⟨hr4, hp7⟩ := hp6
    refine x_catch X (kJ32 hG) [] ({ startPc := 0, endPc := 9, handlerPc := 12, catchType := 13 } : ExceptionTableEntry) [] (hE.trans rfl) (fun _ h => nomatch h) rfl (by decide) q2124 q2557 hr4 hq4 ?_
    refine x_pc (pc' := 12) rfl ?_
    refine x_st (pc' := 13) ([(3, .ref q4), (0, .ref b1), (1, .int x1), (2, va_rf x2)]) rfl (by simp [x_catq, x_cati, x_catr, x_catn]) (fun _ _ _ _ _ L => lv_astore_n hx hb dX0_pin_12 rfl L (by decide) rfl) ?_
    refine x_up (pc' := 14) (fun _ _ _ _ _ L => lv_iconst (v := (1 : Int32)) hx hb dX0_pin_13 (by decide)) ?_
    refine x_vx ?_; exact x_iret X hr rfl dX0_pin_14 hp7
-- X0_free
def P_X0_free (κ : Nat → Nat) (x0 : Option Nat) (x1 : Int32) (x2 : Option Nat) (σ : xS) (K : Int32 → xH → Prop) (KX : Nat → xH → Prop) : Prop :=
  xnn x0 fun b1 => xrc σ b1 0 ∧ xcallX (fun τ L LX => P_X1_free κ b1 x1 τ L LX) σ (fun v2 σ3 => xnn x2 fun b6 => xsl κ σ3 b6 (0 : Int32) v2.toInt64 fun σ7 => K (0 : Int32) σ7.1) (fun q4 σ5 => κ 0 ≤ q4 ∧ ((xrc σ5 q4 20 ∧ (K (1 : Int32) σ5.1))))
theorem mdX0_free : yX0_free.cls ≠ "java/lang/invoke/MethodHandle" ∧ yX0_free.cls ≠ "java/lang/invoke/VarHandle" ∧ (parseMethodDescriptor yX0_free.desc).map (fun d => d.parameters.length) = some 3 := by decide +kernel
set_option maxHeartbeats 4000000 in
set_option maxRecDepth 100000 in
theorem R_X0_free (l : Launch) (hl : l.stackTraces = false) (G : xG) (hG : G.1.2 = x_cl) (x0 : Option Nat) (x1 : Int32) (x2 : Option Nat) (σ : xS) (K : Int32 → xH → Prop) (KX : Nat → xH → Prop) (hp : P_X0_free G.2 x0 x1 x2 σ K KX) : xMH l yX0_free cX0_free 4 (Option.some Jvm.ClassFile.FieldType.int) [(0, 9, 12, 13)] 18 497 G [va_rf x0, .int x1, va_rf x2] σ (xlift emI K) KX := by
  refine x_entryH (by decide) (by simp [lg_sl, x_catq, x_cati, x_catr, x_catn]) ?_
  intro p e s m args below meth c X hr hin hE
  have X : xX p s m args meth c G cX0_free 4 RX0 := X
  have hx := X.1
  have hb := X.2.1
  have hts := X.2.2.2.2.1
  have hown := X.2.2.2.1
  unfold P_X0_free at hp
  refine x_same (lo' := [(0, va_rf x0), (1, .int x1), (2, va_rf x2)]) (by simp [lv_args, x_catq, x_cati, x_catr, x_catn]) ?_
  refine x_up (pc' := 1) (fun _ _ _ _ _ L => lv_aloadq_n hx hb dX0_free_0 rfl (lv_at L 2 rfl)) ?_
  refine x_up (pc' := 2) (fun _ _ _ _ _ L => lv_iconst (v := (0 : Int32)) hx hb dX0_free_1 (by decide)) ?_
  refine x_up (pc' := 3) (fun _ _ _ _ _ L => lv_aloadq_n hx hb dX0_free_2 rfl (lv_at L 0 rfl)) ?_
  refine x_up (pc' := 4) (fun _ _ _ _ _ L => lv_iload_n hx hb dX0_free_3 rfl (lv_at L 1 rfl)) ?_
  obtain ⟨b1, rfl, hp1⟩ := hp
  refine x_callVX (em := emI) (fun r st => .int r :: st) (fun _ _ => rfl) 1 X (kX1 hG) (fun σ' KK KX h => R_X1_free l hl G hG b1 x1 σ' KK KX h) (lw_V q2605 q2606 q2607 q99 q2608) ⟨rfl, mdX1_free⟩ ⟨Nat.le_of_ble_eq_true rfl, Nat.le_of_ble_eq_true rfl⟩ rfl rfl (by simp only [List.map_cons, List.map_nil, List.sum_cons, List.sum_nil, x_catq, x_cati, x_catr, x_catn] <;> decide) dX0_free_4 hp1.1 hp1.2 (fun v2 σ3 hpA4 => ?_) (fun q4 σ5 hpB4 => ?_)
  · have hp2 := hpA4
    refine x_pc (pc' := 7) rfl ?_
    refine x_up (pc' := 8) (fun _ _ _ _ _ L => lv_i2l hx hb dX0_free_7 rfl) ?_
    obtain ⟨b6, rfl, hp3⟩ := hp2
    refine x_last X dX0_free_8 hp3 (fun σ7 hp4 => ?_)
    refine x_pc (pc' := 9) rfl ?_
    refine x_up (pc' := 15) (fun _ _ _ _ _ L => lv_goto (tgt := 15) hx hb dX0_free_9 (by decide)) ?_
    refine x_up (pc' := 16) (fun _ _ _ _ _ L => lv_iconst (v := (0 : Int32)) hx hb dX0_free_15 (by decide)) ?_
    refine x_vx ?_; exact x_iret X hr rfl dX0_free_16 hp4
  · have hp5 := hpB4
    obtain ⟨hq4, hp6⟩ := hp5
    obtain ⟨hr4, hp7⟩ := hp6
    refine x_catch X (kJ32 hG) [] ({ startPc := 0, endPc := 9, handlerPc := 12, catchType := 13 } : ExceptionTableEntry) [] (hE.trans rfl) (fun _ h => nomatch h) rfl (by decide) q2124 q2557 hr4 hq4 ?_
    refine x_pc (pc' := 12) rfl ?_
    refine x_st (pc' := 13) ([(3, .ref q4), (0, .ref b1), (1, .int x1), (2, va_rf x2)]) rfl (by simp [x_catq, x_cati, x_catr, x_catn]) (fun _ _ _ _ _ L => lv_astore_n hx hb dX0_free_12 rfl L (by decide) rfl) ?_
    refine x_up (pc' := 14) (fun _ _ _ _ _ L => lv_iconst (v := (1 : Int32)) hx hb dX0_free_13 (by decide)) ?_
    refine x_vx ?_; exact x_iret X hr rfl dX0_free_14 hp7
-- X0_flush
def P_X0_flush (κ : Nat → Nat) (x0 : Option Nat) (x1 : Option Nat) (σ : xS) (K : Int32 → xH → Prop) (KX : Nat → xH → Prop) : Prop :=
  xnn x0 fun b1 => xrc σ b1 0 ∧ xcallX (fun τ L LX => P_X1_flush κ b1 τ L LX) σ (fun v2 σ3 => xnn x1 fun b6 => xsl κ σ3 b6 (0 : Int32) v2.toInt64 fun σ7 => K (0 : Int32) σ7.1) (fun q4 σ5 => κ 0 ≤ q4 ∧ ((xrc σ5 q4 20 ∧ (K (1 : Int32) σ5.1))))
theorem mdX0_flush : yX0_flush.cls ≠ "java/lang/invoke/MethodHandle" ∧ yX0_flush.cls ≠ "java/lang/invoke/VarHandle" ∧ (parseMethodDescriptor yX0_flush.desc).map (fun d => d.parameters.length) = some 2 := by decide +kernel
set_option maxHeartbeats 4000000 in
set_option maxRecDepth 100000 in
theorem R_X0_flush (l : Launch) (hl : l.stackTraces = false) (G : xG) (hG : G.1.2 = x_cl) (x0 : Option Nat) (x1 : Option Nat) (σ : xS) (K : Int32 → xH → Prop) (KX : Nat → xH → Prop) (hp : P_X0_flush G.2 x0 x1 σ K KX) : xMH l yX0_flush cX0_flush 3 (Option.some Jvm.ClassFile.FieldType.int) [(0, 8, 11, 13)] 18 496 G [va_rf x0, va_rf x1] σ (xlift emI K) KX := by
  refine x_entryH (by decide) (by simp [lg_sl, x_catq, x_cati, x_catr, x_catn]) ?_
  intro p e s m args below meth c X hr hin hE
  have X : xX p s m args meth c G cX0_flush 3 RX0 := X
  have hx := X.1
  have hb := X.2.1
  have hts := X.2.2.2.2.1
  have hown := X.2.2.2.1
  unfold P_X0_flush at hp
  refine x_same (lo' := [(0, va_rf x0), (1, va_rf x1)]) (by simp [lv_args, x_catq, x_cati, x_catr, x_catn]) ?_
  refine x_up (pc' := 1) (fun _ _ _ _ _ L => lv_aloadq_n hx hb dX0_flush_0 rfl (lv_at L 1 rfl)) ?_
  refine x_up (pc' := 2) (fun _ _ _ _ _ L => lv_iconst (v := (0 : Int32)) hx hb dX0_flush_1 (by decide)) ?_
  refine x_up (pc' := 3) (fun _ _ _ _ _ L => lv_aloadq_n hx hb dX0_flush_2 rfl (lv_at L 0 rfl)) ?_
  obtain ⟨b1, rfl, hp1⟩ := hp
  refine x_callVX (em := emI) (fun r st => .int r :: st) (fun _ _ => rfl) 0 X (kX1 hG) (fun σ' KK KX h => R_X1_flush l hl G hG b1 σ' KK KX h) (lw_V q2613 q2614 q2615 q99 q2616) ⟨rfl, mdX1_flush⟩ ⟨Nat.le_of_ble_eq_true rfl, Nat.le_of_ble_eq_true rfl⟩ rfl rfl (by simp only [List.map_cons, List.map_nil, List.sum_cons, List.sum_nil, x_catq, x_cati, x_catr, x_catn] <;> decide) dX0_flush_3 hp1.1 hp1.2 (fun v2 σ3 hpA3 => ?_) (fun q4 σ5 hpB3 => ?_)
  · have hp2 := hpA3
    refine x_pc (pc' := 6) rfl ?_
    refine x_up (pc' := 7) (fun _ _ _ _ _ L => lv_i2l hx hb dX0_flush_6 rfl) ?_
    obtain ⟨b6, rfl, hp3⟩ := hp2
    refine x_last X dX0_flush_7 hp3 (fun σ7 hp4 => ?_)
    refine x_pc (pc' := 8) rfl ?_
    refine x_up (pc' := 14) (fun _ _ _ _ _ L => lv_goto (tgt := 14) hx hb dX0_flush_8 (by decide)) ?_
    refine x_up (pc' := 15) (fun _ _ _ _ _ L => lv_iconst (v := (0 : Int32)) hx hb dX0_flush_14 (by decide)) ?_
    refine x_vx ?_; exact x_iret X hr rfl dX0_flush_15 hp4
  · have hp5 := hpB3
    obtain ⟨hq3, hp6⟩ := hp5
    obtain ⟨hr3, hp7⟩ := hp6
    refine x_catch X (kJ32 hG) [] ({ startPc := 0, endPc := 8, handlerPc := 11, catchType := 13 } : ExceptionTableEntry) [] (hE.trans rfl) (fun _ h => nomatch h) rfl (by decide) q2124 q2557 hr3 hq3 ?_
    refine x_pc (pc' := 11) rfl ?_
    refine x_st (pc' := 12) ([(2, .ref q4), (0, .ref b1), (1, va_rf x1)]) rfl (by simp [x_catq, x_cati, x_catr, x_catn]) (fun _ _ _ _ _ L => lv_astore_n hx hb dX0_flush_11 rfl L (by decide) rfl) ?_
    refine x_up (pc' := 13) (fun _ _ _ _ _ L => lv_iconst (v := (1 : Int32)) hx hb dX0_flush_12 (by decide)) ?_
    refine x_vx ?_; exact x_iret X hr rfl dX0_flush_13 hp7
-- X0_shape
def P_X0_shape (κ : Nat → Nat) (x0 : Option Nat) (x1 : Int32) (x2 : Int32) (x3 : Option Nat) (σ : xS) (K : Int32 → xH → Prop) (KX : Nat → xH → Prop) : Prop :=
  xnn x0 fun b1 => xrc σ b1 0 ∧ xcallX (fun τ L LX => P_X1_shape κ b1 x1 x2 τ L LX) σ (fun v2 σ3 => xnn x3 fun b6 => xsl κ σ3 b6 (0 : Int32) v2.toInt64 fun σ7 => K (0 : Int32) σ7.1) (fun q4 σ5 => κ 0 ≤ q4 ∧ ((xrc σ5 q4 20 ∧ (K (1 : Int32) σ5.1))))
theorem mdX0_shape : yX0_shape.cls ≠ "java/lang/invoke/MethodHandle" ∧ yX0_shape.cls ≠ "java/lang/invoke/VarHandle" ∧ (parseMethodDescriptor yX0_shape.desc).map (fun d => d.parameters.length) = some 4 := by decide +kernel
set_option maxHeartbeats 4000000 in
set_option maxRecDepth 100000 in
theorem R_X0_shape (l : Launch) (hl : l.stackTraces = false) (G : xG) (hG : G.1.2 = x_cl) (x0 : Option Nat) (x1 : Int32) (x2 : Int32) (x3 : Option Nat) (σ : xS) (K : Int32 → xH → Prop) (KX : Nat → xH → Prop) (hp : P_X0_shape G.2 x0 x1 x2 x3 σ K KX) : xMH l yX0_shape cX0_shape 5 (Option.some Jvm.ClassFile.FieldType.int) [(0, 10, 13, 13)] 18 498 G [va_rf x0, .int x1, .int x2, va_rf x3] σ (xlift emI K) KX := by
  refine x_entryH (by decide) (by simp [lg_sl, x_catq, x_cati, x_catr, x_catn]) ?_
  intro p e s m args below meth c X hr hin hE
  have X : xX p s m args meth c G cX0_shape 5 RX0 := X
  have hx := X.1
  have hb := X.2.1
  have hts := X.2.2.2.2.1
  have hown := X.2.2.2.1
  unfold P_X0_shape at hp
  refine x_same (lo' := [(0, va_rf x0), (1, .int x1), (2, .int x2), (3, va_rf x3)]) (by simp [lv_args, x_catq, x_cati, x_catr, x_catn]) ?_
  refine x_up (pc' := 1) (fun _ _ _ _ _ L => lv_aloadq_n hx hb dX0_shape_0 rfl (lv_at L 3 rfl)) ?_
  refine x_up (pc' := 2) (fun _ _ _ _ _ L => lv_iconst (v := (0 : Int32)) hx hb dX0_shape_1 (by decide)) ?_
  refine x_up (pc' := 3) (fun _ _ _ _ _ L => lv_aloadq_n hx hb dX0_shape_2 rfl (lv_at L 0 rfl)) ?_
  refine x_up (pc' := 4) (fun _ _ _ _ _ L => lv_iload_n hx hb dX0_shape_3 rfl (lv_at L 1 rfl)) ?_
  refine x_up (pc' := 5) (fun _ _ _ _ _ L => lv_iload_n hx hb dX0_shape_4 rfl (lv_at L 2 rfl)) ?_
  obtain ⟨b1, rfl, hp1⟩ := hp
  refine x_callVX (em := emI) (fun r st => .int r :: st) (fun _ _ => rfl) 2 X (kX1 hG) (fun σ' KK KX h => R_X1_shape l hl G hG b1 x1 x2 σ' KK KX h) (lw_V q2621 q2622 q2623 q99 q2624) ⟨rfl, mdX1_shape⟩ ⟨Nat.le_of_ble_eq_true rfl, Nat.le_of_ble_eq_true rfl⟩ rfl rfl (by simp only [List.map_cons, List.map_nil, List.sum_cons, List.sum_nil, x_catq, x_cati, x_catr, x_catn] <;> decide) dX0_shape_5 hp1.1 hp1.2 (fun v2 σ3 hpA5 => ?_) (fun q4 σ5 hpB5 => ?_)
  · have hp2 := hpA5
    refine x_pc (pc' := 8) rfl ?_
    refine x_up (pc' := 9) (fun _ _ _ _ _ L => lv_i2l hx hb dX0_shape_8 rfl) ?_
    obtain ⟨b6, rfl, hp3⟩ := hp2
    refine x_last X dX0_shape_9 hp3 (fun σ7 hp4 => ?_)
    refine x_pc (pc' := 10) rfl ?_
    refine x_up (pc' := 17) (fun _ _ _ _ _ L => lv_goto (tgt := 17) hx hb dX0_shape_10 (by decide)) ?_
    refine x_up (pc' := 18) (fun _ _ _ _ _ L => lv_iconst (v := (0 : Int32)) hx hb dX0_shape_17 (by decide)) ?_
    refine x_vx ?_; exact x_iret X hr rfl dX0_shape_18 hp4
  · have hp5 := hpB5
    obtain ⟨hq5, hp6⟩ := hp5
    obtain ⟨hr5, hp7⟩ := hp6
    refine x_catch X (kJ32 hG) [] ({ startPc := 0, endPc := 10, handlerPc := 13, catchType := 13 } : ExceptionTableEntry) [] (hE.trans rfl) (fun _ h => nomatch h) rfl (by decide) q2124 q2557 hr5 hq5 ?_
    refine x_pc (pc' := 13) rfl ?_
    refine x_st (pc' := 15) ([(4, .ref q4), (0, .ref b1), (1, .int x1), (2, .int x2), (3, va_rf x3)]) rfl (by simp [x_catq, x_cati, x_catr, x_catn]) (fun _ _ _ _ _ L => lv_astore hx hb dX0_shape_13 L (by decide) rfl) ?_
    refine x_up (pc' := 16) (fun _ _ _ _ _ L => lv_iconst (v := (1 : Int32)) hx hb dX0_shape_15 (by decide)) ?_
    refine x_vx ?_; exact x_iret X hr rfl dX0_shape_16 hp7
-- X0_rule
def P_X0_rule (κ : Nat → Nat) (x0 : Option Nat) (x1 : Int32) (x2 : Option Nat) (σ : xS) (K : Int32 → xH → Prop) (KX : Nat → xH → Prop) : Prop :=
  xnn x0 fun b1 => xrc σ b1 0 ∧ xcallX (fun τ L LX => P_X1_rule κ b1 x1 τ L LX) σ (fun v2 σ3 => xnn x2 fun b6 => xsl κ σ3 b6 (0 : Int32) v2.toInt64 fun σ7 => K (0 : Int32) σ7.1) (fun q4 σ5 => κ 0 ≤ q4 ∧ ((xrc σ5 q4 20 ∧ (K (1 : Int32) σ5.1))))
theorem mdX0_rule : yX0_rule.cls ≠ "java/lang/invoke/MethodHandle" ∧ yX0_rule.cls ≠ "java/lang/invoke/VarHandle" ∧ (parseMethodDescriptor yX0_rule.desc).map (fun d => d.parameters.length) = some 3 := by decide +kernel
set_option maxHeartbeats 4000000 in
set_option maxRecDepth 100000 in
theorem R_X0_rule (l : Launch) (hl : l.stackTraces = false) (G : xG) (hG : G.1.2 = x_cl) (x0 : Option Nat) (x1 : Int32) (x2 : Option Nat) (σ : xS) (K : Int32 → xH → Prop) (KX : Nat → xH → Prop) (hp : P_X0_rule G.2 x0 x1 x2 σ K KX) : xMH l yX0_rule cX0_rule 4 (Option.some Jvm.ClassFile.FieldType.int) [(0, 9, 12, 13)] 18 497 G [va_rf x0, .int x1, va_rf x2] σ (xlift emI K) KX := by
  refine x_entryH (by decide) (by simp [lg_sl, x_catq, x_cati, x_catr, x_catn]) ?_
  intro p e s m args below meth c X hr hin hE
  have X : xX p s m args meth c G cX0_rule 4 RX0 := X
  have hx := X.1
  have hb := X.2.1
  have hts := X.2.2.2.2.1
  have hown := X.2.2.2.1
  unfold P_X0_rule at hp
  refine x_same (lo' := [(0, va_rf x0), (1, .int x1), (2, va_rf x2)]) (by simp [lv_args, x_catq, x_cati, x_catr, x_catn]) ?_
  refine x_up (pc' := 1) (fun _ _ _ _ _ L => lv_aloadq_n hx hb dX0_rule_0 rfl (lv_at L 2 rfl)) ?_
  refine x_up (pc' := 2) (fun _ _ _ _ _ L => lv_iconst (v := (0 : Int32)) hx hb dX0_rule_1 (by decide)) ?_
  refine x_up (pc' := 3) (fun _ _ _ _ _ L => lv_aloadq_n hx hb dX0_rule_2 rfl (lv_at L 0 rfl)) ?_
  refine x_up (pc' := 4) (fun _ _ _ _ _ L => lv_iload_n hx hb dX0_rule_3 rfl (lv_at L 1 rfl)) ?_
  obtain ⟨b1, rfl, hp1⟩ := hp
  refine x_callVX (em := emI) (fun r st => .int r :: st) (fun _ _ => rfl) 1 X (kX1 hG) (fun σ' KK KX h => R_X1_rule l hl G hG b1 x1 σ' KK KX h) (lw_V q2629 q2630 q2631 q99 q2632) ⟨rfl, mdX1_rule⟩ ⟨Nat.le_of_ble_eq_true rfl, Nat.le_of_ble_eq_true rfl⟩ rfl rfl (by simp only [List.map_cons, List.map_nil, List.sum_cons, List.sum_nil, x_catq, x_cati, x_catr, x_catn] <;> decide) dX0_rule_4 hp1.1 hp1.2 (fun v2 σ3 hpA4 => ?_) (fun q4 σ5 hpB4 => ?_)
  · have hp2 := hpA4
    refine x_pc (pc' := 7) rfl ?_
    refine x_up (pc' := 8) (fun _ _ _ _ _ L => lv_i2l hx hb dX0_rule_7 rfl) ?_
    obtain ⟨b6, rfl, hp3⟩ := hp2
    refine x_last X dX0_rule_8 hp3 (fun σ7 hp4 => ?_)
    refine x_pc (pc' := 9) rfl ?_
    refine x_up (pc' := 15) (fun _ _ _ _ _ L => lv_goto (tgt := 15) hx hb dX0_rule_9 (by decide)) ?_
    refine x_up (pc' := 16) (fun _ _ _ _ _ L => lv_iconst (v := (0 : Int32)) hx hb dX0_rule_15 (by decide)) ?_
    refine x_vx ?_; exact x_iret X hr rfl dX0_rule_16 hp4
  · have hp5 := hpB4
    obtain ⟨hq4, hp6⟩ := hp5
    obtain ⟨hr4, hp7⟩ := hp6
    refine x_catch X (kJ32 hG) [] ({ startPc := 0, endPc := 9, handlerPc := 12, catchType := 13 } : ExceptionTableEntry) [] (hE.trans rfl) (fun _ h => nomatch h) rfl (by decide) q2124 q2557 hr4 hq4 ?_
    refine x_pc (pc' := 12) rfl ?_
    refine x_st (pc' := 13) ([(3, .ref q4), (0, .ref b1), (1, .int x1), (2, va_rf x2)]) rfl (by simp [x_catq, x_cati, x_catr, x_catn]) (fun _ _ _ _ _ L => lv_astore_n hx hb dX0_rule_12 rfl L (by decide) rfl) ?_
    refine x_up (pc' := 14) (fun _ _ _ _ _ L => lv_iconst (v := (1 : Int32)) hx hb dX0_rule_13 (by decide)) ?_
    refine x_vx ?_; exact x_iret X hr rfl dX0_rule_14 hp7
-- X0_wordAt
def P_X0_wordAt (κ : Nat → Nat) (x0 : Option Nat) (x1 : Int32) (x2 : Option Nat) (σ : xS) (K : Int32 → xH → Prop) (KX : Nat → xH → Prop) : Prop :=
  xnn x0 fun b1 => xrc σ b1 0 ∧ xcallX (fun τ L LX => P_X1_wordAt κ b1 x1 τ L LX) σ (fun v2 σ3 => xnn x2 fun b6 => xsl κ σ3 b6 (0 : Int32) v2.toInt64 fun σ7 => K (0 : Int32) σ7.1) (fun q4 σ5 => κ 0 ≤ q4 ∧ ((xrc σ5 q4 16 ∧ (K (1 : Int32) σ5.1))))
theorem mdX0_wordAt : yX0_wordAt.cls ≠ "java/lang/invoke/MethodHandle" ∧ yX0_wordAt.cls ≠ "java/lang/invoke/VarHandle" ∧ (parseMethodDescriptor yX0_wordAt.desc).map (fun d => d.parameters.length) = some 3 := by decide +kernel
set_option maxHeartbeats 4000000 in
set_option maxRecDepth 100000 in
theorem R_X0_wordAt (l : Launch) (hl : l.stackTraces = false) (G : xG) (hG : G.1.2 = x_cl) (x0 : Option Nat) (x1 : Int32) (x2 : Option Nat) (σ : xS) (K : Int32 → xH → Prop) (KX : Nat → xH → Prop) (hp : P_X0_wordAt G.2 x0 x1 x2 σ K KX) : xMH l yX0_wordAt cX0_wordAt 4 (Option.some Jvm.ClassFile.FieldType.int) [(0, 9, 12, 44)] 9 150 G [va_rf x0, .int x1, va_rf x2] σ (xlift emI K) KX := by
  refine x_entryH (by decide) (by simp [lg_sl, x_catq, x_cati, x_catr, x_catn]) ?_
  intro p e s m args below meth c X hr hin hE
  have X : xX p s m args meth c G cX0_wordAt 4 RX0 := X
  have hx := X.1
  have hb := X.2.1
  have hts := X.2.2.2.2.1
  have hown := X.2.2.2.1
  unfold P_X0_wordAt at hp
  refine x_same (lo' := [(0, va_rf x0), (1, .int x1), (2, va_rf x2)]) (by simp [lv_args, x_catq, x_cati, x_catr, x_catn]) ?_
  refine x_up (pc' := 1) (fun _ _ _ _ _ L => lv_aloadq_n hx hb dX0_wordAt_0 rfl (lv_at L 2 rfl)) ?_
  refine x_up (pc' := 2) (fun _ _ _ _ _ L => lv_iconst (v := (0 : Int32)) hx hb dX0_wordAt_1 (by decide)) ?_
  refine x_up (pc' := 3) (fun _ _ _ _ _ L => lv_aloadq_n hx hb dX0_wordAt_2 rfl (lv_at L 0 rfl)) ?_
  refine x_up (pc' := 4) (fun _ _ _ _ _ L => lv_iload_n hx hb dX0_wordAt_3 rfl (lv_at L 1 rfl)) ?_
  obtain ⟨b1, rfl, hp1⟩ := hp
  refine x_callVX (em := emI) (fun r st => .int r :: st) (fun _ _ => rfl) 1 X (kX1 hG) (fun σ' KK KX h => R_X1_wordAt l hl G hG b1 x1 σ' KK KX h) (lw_V q2653 q2654 q2655 q99 q2656) ⟨rfl, mdX1_wordAt⟩ ⟨Nat.le_of_ble_eq_true rfl, Nat.le_of_ble_eq_true rfl⟩ rfl rfl (by simp only [List.map_cons, List.map_nil, List.sum_cons, List.sum_nil, x_catq, x_cati, x_catr, x_catn] <;> decide) dX0_wordAt_4 hp1.1 hp1.2 (fun v2 σ3 hpA4 => ?_) (fun q4 σ5 hpB4 => ?_)
  · have hp2 := hpA4
    refine x_pc (pc' := 7) rfl ?_
    refine x_up (pc' := 8) (fun _ _ _ _ _ L => lv_i2l hx hb dX0_wordAt_7 rfl) ?_
    obtain ⟨b6, rfl, hp3⟩ := hp2
    refine x_last X dX0_wordAt_8 hp3 (fun σ7 hp4 => ?_)
    refine x_pc (pc' := 9) rfl ?_
    refine x_up (pc' := 15) (fun _ _ _ _ _ L => lv_goto (tgt := 15) hx hb dX0_wordAt_9 (by decide)) ?_
    refine x_up (pc' := 16) (fun _ _ _ _ _ L => lv_iconst (v := (0 : Int32)) hx hb dX0_wordAt_15 (by decide)) ?_
    refine x_vx ?_; exact x_iret X hr rfl dX0_wordAt_16 hp4
  · have hp5 := hpB4
    obtain ⟨hq4, hp6⟩ := hp5
    obtain ⟨hr4, hp7⟩ := hp6
    refine x_catch X (kJ28 hG) [] ({ startPc := 0, endPc := 9, handlerPc := 12, catchType := 44 } : ExceptionTableEntry) [] (hE.trans rfl) (fun _ h => nomatch h) rfl (by decide) q2637 q809 hr4 hq4 ?_
    refine x_pc (pc' := 12) rfl ?_
    refine x_st (pc' := 13) ([(3, .ref q4), (0, .ref b1), (1, .int x1), (2, va_rf x2)]) rfl (by simp [x_catq, x_cati, x_catr, x_catn]) (fun _ _ _ _ _ L => lv_astore_n hx hb dX0_wordAt_12 rfl L (by decide) rfl) ?_
    refine x_up (pc' := 14) (fun _ _ _ _ _ L => lv_iconst (v := (1 : Int32)) hx hb dX0_wordAt_13 (by decide)) ?_
    refine x_vx ?_; exact x_iret X hr rfl dX0_wordAt_14 hp7
-- X0_wordAgain
def P_X0_wordAgain (κ : Nat → Nat) (x0 : Option Nat) (x1 : Int32) (x2 : Option Nat) (σ : xS) (K : Int32 → xH → Prop) (KX : Nat → xH → Prop) : Prop :=
  xnn x0 fun b1 => xrc σ b1 0 ∧ xcallX (fun τ L LX => P_X1_wordAgain κ b1 x1 τ L LX) σ (fun v2 σ3 => xnn x2 fun b6 => xsl κ σ3 b6 (0 : Int32) v2.toInt64 fun σ7 => K (0 : Int32) σ7.1) (fun q4 σ5 => κ 0 ≤ q4 ∧ ((xrc σ5 q4 16 ∧ (K (1 : Int32) σ5.1))))
theorem mdX0_wordAgain : yX0_wordAgain.cls ≠ "java/lang/invoke/MethodHandle" ∧ yX0_wordAgain.cls ≠ "java/lang/invoke/VarHandle" ∧ (parseMethodDescriptor yX0_wordAgain.desc).map (fun d => d.parameters.length) = some 3 := by decide +kernel
set_option maxHeartbeats 4000000 in
set_option maxRecDepth 100000 in
theorem R_X0_wordAgain (l : Launch) (hl : l.stackTraces = false) (G : xG) (hG : G.1.2 = x_cl) (x0 : Option Nat) (x1 : Int32) (x2 : Option Nat) (σ : xS) (K : Int32 → xH → Prop) (KX : Nat → xH → Prop) (hp : P_X0_wordAgain G.2 x0 x1 x2 σ K KX) : xMH l yX0_wordAgain cX0_wordAgain 4 (Option.some Jvm.ClassFile.FieldType.int) [(0, 9, 12, 44)] 9 179 G [va_rf x0, .int x1, va_rf x2] σ (xlift emI K) KX := by
  refine x_entryH (by decide) (by simp [lg_sl, x_catq, x_cati, x_catr, x_catn]) ?_
  intro p e s m args below meth c X hr hin hE
  have X : xX p s m args meth c G cX0_wordAgain 4 RX0 := X
  have hx := X.1
  have hb := X.2.1
  have hts := X.2.2.2.2.1
  have hown := X.2.2.2.1
  unfold P_X0_wordAgain at hp
  refine x_same (lo' := [(0, va_rf x0), (1, .int x1), (2, va_rf x2)]) (by simp [lv_args, x_catq, x_cati, x_catr, x_catn]) ?_
  refine x_up (pc' := 1) (fun _ _ _ _ _ L => lv_aloadq_n hx hb dX0_wordAgain_0 rfl (lv_at L 2 rfl)) ?_
  refine x_up (pc' := 2) (fun _ _ _ _ _ L => lv_iconst (v := (0 : Int32)) hx hb dX0_wordAgain_1 (by decide)) ?_
  refine x_up (pc' := 3) (fun _ _ _ _ _ L => lv_aloadq_n hx hb dX0_wordAgain_2 rfl (lv_at L 0 rfl)) ?_
  refine x_up (pc' := 4) (fun _ _ _ _ _ L => lv_iload_n hx hb dX0_wordAgain_3 rfl (lv_at L 1 rfl)) ?_
  obtain ⟨b1, rfl, hp1⟩ := hp
  refine x_callVX (em := emI) (fun r st => .int r :: st) (fun _ _ => rfl) 1 X (kX1 hG) (fun σ' KK KX h => R_X1_wordAgain l hl G hG b1 x1 σ' KK KX h) (lw_V q2672 q2673 q2674 q99 q2675) ⟨rfl, mdX1_wordAgain⟩ ⟨Nat.le_of_ble_eq_true rfl, Nat.le_of_ble_eq_true rfl⟩ rfl rfl (by simp only [List.map_cons, List.map_nil, List.sum_cons, List.sum_nil, x_catq, x_cati, x_catr, x_catn] <;> decide) dX0_wordAgain_4 hp1.1 hp1.2 (fun v2 σ3 hpA4 => ?_) (fun q4 σ5 hpB4 => ?_)
  · have hp2 := hpA4
    refine x_pc (pc' := 7) rfl ?_
    refine x_up (pc' := 8) (fun _ _ _ _ _ L => lv_i2l hx hb dX0_wordAgain_7 rfl) ?_
    obtain ⟨b6, rfl, hp3⟩ := hp2
    refine x_last X dX0_wordAgain_8 hp3 (fun σ7 hp4 => ?_)
    refine x_pc (pc' := 9) rfl ?_
    refine x_up (pc' := 15) (fun _ _ _ _ _ L => lv_goto (tgt := 15) hx hb dX0_wordAgain_9 (by decide)) ?_
    refine x_up (pc' := 16) (fun _ _ _ _ _ L => lv_iconst (v := (0 : Int32)) hx hb dX0_wordAgain_15 (by decide)) ?_
    refine x_vx ?_; exact x_iret X hr rfl dX0_wordAgain_16 hp4
  · have hp5 := hpB4
    obtain ⟨hq4, hp6⟩ := hp5
    obtain ⟨hr4, hp7⟩ := hp6
    refine x_catch X (kJ28 hG) [] ({ startPc := 0, endPc := 9, handlerPc := 12, catchType := 44 } : ExceptionTableEntry) [] (hE.trans rfl) (fun _ h => nomatch h) rfl (by decide) q2637 q809 hr4 hq4 ?_
    refine x_pc (pc' := 12) rfl ?_
    refine x_st (pc' := 13) ([(3, .ref q4), (0, .ref b1), (1, .int x1), (2, va_rf x2)]) rfl (by simp [x_catq, x_cati, x_catr, x_catn]) (fun _ _ _ _ _ L => lv_astore_n hx hb dX0_wordAgain_12 rfl L (by decide) rfl) ?_
    refine x_up (pc' := 14) (fun _ _ _ _ _ L => lv_iconst (v := (1 : Int32)) hx hb dX0_wordAgain_13 (by decide)) ?_
    refine x_vx ?_; exact x_iret X hr rfl dX0_wordAgain_14 hp7
-- X0_stored
def P_X0_stored (κ : Nat → Nat) (x0 : Option Nat) (x1 : Int32) (x2 : Option Nat) (σ : xS) (K : Int32 → xH → Prop) (KX : Nat → xH → Prop) : Prop :=
  xnn x0 fun b1 => xrc σ b1 0 ∧ xcallX (fun τ L LX => P_X1_stored κ b1 x1 τ L LX) σ (fun v2 σ3 => xnn x2 fun b6 => xsl κ σ3 b6 (0 : Int32) v2.toInt64 fun σ7 => K (0 : Int32) σ7.1) (fun q4 σ5 => κ 0 ≤ q4 ∧ ((xrc σ5 q4 16 ∧ (K (1 : Int32) σ5.1))))
theorem mdX0_stored : yX0_stored.cls ≠ "java/lang/invoke/MethodHandle" ∧ yX0_stored.cls ≠ "java/lang/invoke/VarHandle" ∧ (parseMethodDescriptor yX0_stored.desc).map (fun d => d.parameters.length) = some 3 := by decide +kernel
set_option maxHeartbeats 4000000 in
set_option maxRecDepth 100000 in
theorem R_X0_stored (l : Launch) (hl : l.stackTraces = false) (G : xG) (hG : G.1.2 = x_cl) (x0 : Option Nat) (x1 : Int32) (x2 : Option Nat) (σ : xS) (K : Int32 → xH → Prop) (KX : Nat → xH → Prop) (hp : P_X0_stored G.2 x0 x1 x2 σ K KX) : xMH l yX0_stored cX0_stored 4 (Option.some Jvm.ClassFile.FieldType.int) [(0, 9, 12, 44)] 9 150 G [va_rf x0, .int x1, va_rf x2] σ (xlift emI K) KX := by
  refine x_entryH (by decide) (by simp [lg_sl, x_catq, x_cati, x_catr, x_catn]) ?_
  intro p e s m args below meth c X hr hin hE
  have X : xX p s m args meth c G cX0_stored 4 RX0 := X
  have hx := X.1
  have hb := X.2.1
  have hts := X.2.2.2.2.1
  have hown := X.2.2.2.1
  unfold P_X0_stored at hp
  refine x_same (lo' := [(0, va_rf x0), (1, .int x1), (2, va_rf x2)]) (by simp [lv_args, x_catq, x_cati, x_catr, x_catn]) ?_
  refine x_up (pc' := 1) (fun _ _ _ _ _ L => lv_aloadq_n hx hb dX0_stored_0 rfl (lv_at L 2 rfl)) ?_
  refine x_up (pc' := 2) (fun _ _ _ _ _ L => lv_iconst (v := (0 : Int32)) hx hb dX0_stored_1 (by decide)) ?_
  refine x_up (pc' := 3) (fun _ _ _ _ _ L => lv_aloadq_n hx hb dX0_stored_2 rfl (lv_at L 0 rfl)) ?_
  refine x_up (pc' := 4) (fun _ _ _ _ _ L => lv_iload_n hx hb dX0_stored_3 rfl (lv_at L 1 rfl)) ?_
  obtain ⟨b1, rfl, hp1⟩ := hp
  refine x_callVX (em := emI) (fun r st => .int r :: st) (fun _ _ => rfl) 1 X (kX1 hG) (fun σ' KK KX h => R_X1_stored l hl G hG b1 x1 σ' KK KX h) (lw_V q2698 q2699 q2700 q99 q2701) ⟨rfl, mdX1_stored⟩ ⟨Nat.le_of_ble_eq_true rfl, Nat.le_of_ble_eq_true rfl⟩ rfl rfl (by simp only [List.map_cons, List.map_nil, List.sum_cons, List.sum_nil, x_catq, x_cati, x_catr, x_catn] <;> decide) dX0_stored_4 hp1.1 hp1.2 (fun v2 σ3 hpA4 => ?_) (fun q4 σ5 hpB4 => ?_)
  · have hp2 := hpA4
    refine x_pc (pc' := 7) rfl ?_
    refine x_up (pc' := 8) (fun _ _ _ _ _ L => lv_i2l hx hb dX0_stored_7 rfl) ?_
    obtain ⟨b6, rfl, hp3⟩ := hp2
    refine x_last X dX0_stored_8 hp3 (fun σ7 hp4 => ?_)
    refine x_pc (pc' := 9) rfl ?_
    refine x_up (pc' := 15) (fun _ _ _ _ _ L => lv_goto (tgt := 15) hx hb dX0_stored_9 (by decide)) ?_
    refine x_up (pc' := 16) (fun _ _ _ _ _ L => lv_iconst (v := (0 : Int32)) hx hb dX0_stored_15 (by decide)) ?_
    refine x_vx ?_; exact x_iret X hr rfl dX0_stored_16 hp4
  · have hp5 := hpB4
    obtain ⟨hq4, hp6⟩ := hp5
    obtain ⟨hr4, hp7⟩ := hp6
    refine x_catch X (kJ28 hG) [] ({ startPc := 0, endPc := 9, handlerPc := 12, catchType := 44 } : ExceptionTableEntry) [] (hE.trans rfl) (fun _ h => nomatch h) rfl (by decide) q2637 q809 hr4 hq4 ?_
    refine x_pc (pc' := 12) rfl ?_
    refine x_st (pc' := 13) ([(3, .ref q4), (0, .ref b1), (1, .int x1), (2, va_rf x2)]) rfl (by simp [x_catq, x_cati, x_catr, x_catn]) (fun _ _ _ _ _ L => lv_astore_n hx hb dX0_stored_12 rfl L (by decide) rfl) ?_
    refine x_up (pc' := 14) (fun _ _ _ _ _ L => lv_iconst (v := (1 : Int32)) hx hb dX0_stored_13 (by decide)) ?_
    refine x_vx ?_; exact x_iret X hr rfl dX0_stored_14 hp7
-- X0_lineOf
def P_X0_lineOf (κ : Nat → Nat) (x0 : Option Nat) (x1 : Int32) (x2 : Int32) (x3 : Int32) (x4 : Option Nat) (σ : xS) (K : Int32 → xH → Prop) (KX : Nat → xH → Prop) : Prop :=
  xnn x0 fun b1 => xrc σ b1 0 ∧ xcallX (fun τ L LX => P_X1_lineOf κ b1 x1 x2 x3 τ L LX) σ (fun v2 σ3 => xnn x4 fun b6 => xsl κ σ3 b6 (0 : Int32) v2.toInt64 fun σ7 => K (0 : Int32) σ7.1) (fun q4 σ5 => κ 0 ≤ q4 ∧ ((xrc σ5 q4 16 ∧ (K (1 : Int32) σ5.1)) ∨ (xrc σ5 q4 17 ∧ (K (2 : Int32) σ5.1))))
theorem mdX0_lineOf : yX0_lineOf.cls ≠ "java/lang/invoke/MethodHandle" ∧ yX0_lineOf.cls ≠ "java/lang/invoke/VarHandle" ∧ (parseMethodDescriptor yX0_lineOf.desc).map (fun d => d.parameters.length) = some 5 := by decide +kernel
set_option maxHeartbeats 4000000 in
set_option maxRecDepth 100000 in
theorem R_X0_lineOf (l : Launch) (hl : l.stackTraces = false) (G : xG) (hG : G.1.2 = x_cl) (x0 : Option Nat) (x1 : Int32) (x2 : Int32) (x3 : Int32) (x4 : Option Nat) (σ : xS) (K : Int32 → xH → Prop) (KX : Nat → xH → Prop) (hp : P_X0_lineOf G.2 x0 x1 x2 x3 x4 σ K KX) : xMH l yX0_lineOf cX0_lineOf 6 (Option.some Jvm.ClassFile.FieldType.int) [(0, 12, 15, 44), (0, 12, 19, 56)] 9 154 G [va_rf x0, .int x1, .int x2, .int x3, va_rf x4] σ (xlift emI K) KX := by
  refine x_entryH (by decide) (by simp [lg_sl, x_catq, x_cati, x_catr, x_catn]) ?_
  intro p e s m args below meth c X hr hin hE
  have X : xX p s m args meth c G cX0_lineOf 6 RX0 := X
  have hx := X.1
  have hb := X.2.1
  have hts := X.2.2.2.2.1
  have hown := X.2.2.2.1
  unfold P_X0_lineOf at hp
  refine x_same (lo' := [(0, va_rf x0), (1, .int x1), (2, .int x2), (3, .int x3), (4, va_rf x4)]) (by simp [lv_args, x_catq, x_cati, x_catr, x_catn]) ?_
  refine x_up (pc' := 2) (fun _ _ _ _ _ L => lv_aloadq hx hb dX0_lineOf_0 (lv_at L 4 rfl)) ?_
  refine x_up (pc' := 3) (fun _ _ _ _ _ L => lv_iconst (v := (0 : Int32)) hx hb dX0_lineOf_2 (by decide)) ?_
  refine x_up (pc' := 4) (fun _ _ _ _ _ L => lv_aloadq_n hx hb dX0_lineOf_3 rfl (lv_at L 0 rfl)) ?_
  refine x_up (pc' := 5) (fun _ _ _ _ _ L => lv_iload_n hx hb dX0_lineOf_4 rfl (lv_at L 1 rfl)) ?_
  refine x_up (pc' := 6) (fun _ _ _ _ _ L => lv_iload_n hx hb dX0_lineOf_5 rfl (lv_at L 2 rfl)) ?_
  refine x_up (pc' := 7) (fun _ _ _ _ _ L => lv_iload_n hx hb dX0_lineOf_6 rfl (lv_at L 3 rfl)) ?_
  obtain ⟨b1, rfl, hp1⟩ := hp
  refine x_callVX (em := emI) (fun r st => .int r :: st) (fun _ _ => rfl) 3 X (kX1 hG) (fun σ' KK KX h => R_X1_lineOf l hl G hG b1 x1 x2 x3 σ' KK KX h) (lw_V q2706 q2707 q2708 q99 q2709) ⟨rfl, mdX1_lineOf⟩ ⟨Nat.le_of_ble_eq_true rfl, Nat.le_of_ble_eq_true rfl⟩ rfl rfl (by simp only [List.map_cons, List.map_nil, List.sum_cons, List.sum_nil, x_catq, x_cati, x_catr, x_catn] <;> decide) dX0_lineOf_7 hp1.1 hp1.2 (fun v2 σ3 hpA7 => ?_) (fun q4 σ5 hpB7 => ?_)
  · have hp2 := hpA7
    refine x_pc (pc' := 10) rfl ?_
    refine x_up (pc' := 11) (fun _ _ _ _ _ L => lv_i2l hx hb dX0_lineOf_10 rfl) ?_
    obtain ⟨b6, rfl, hp3⟩ := hp2
    refine x_last X dX0_lineOf_11 hp3 (fun σ7 hp4 => ?_)
    refine x_pc (pc' := 12) rfl ?_
    refine x_up (pc' := 23) (fun _ _ _ _ _ L => lv_goto (tgt := 23) hx hb dX0_lineOf_12 (by decide)) ?_
    refine x_up (pc' := 24) (fun _ _ _ _ _ L => lv_iconst (v := (0 : Int32)) hx hb dX0_lineOf_23 (by decide)) ?_
    refine x_vx ?_; exact x_iret X hr rfl dX0_lineOf_24 hp4
  · have hp5 := hpB7
    obtain ⟨hq7, hp6⟩ := hp5
    rcases hp6 with hpC7 | hpC7
    · have hp7 := hpC7
      obtain ⟨hr7, hp8⟩ := hp7
      refine x_catch X (kJ28 hG) [] ({ startPc := 0, endPc := 12, handlerPc := 15, catchType := 44 } : ExceptionTableEntry) [({ startPc := 0, endPc := 12, handlerPc := 19, catchType := 56 } : ExceptionTableEntry)] (hE.trans rfl) (fun _ h => nomatch h) rfl (by decide) q2637 q809 hr7 hq7 ?_
      refine x_pc (pc' := 15) rfl ?_
      refine x_st (pc' := 17) ([(5, .ref q4), (0, .ref b1), (1, .int x1), (2, .int x2), (3, .int x3), (4, va_rf x4)]) rfl (by simp [x_catq, x_cati, x_catr, x_catn]) (fun _ _ _ _ _ L => lv_astore hx hb dX0_lineOf_15 L (by decide) rfl) ?_
      refine x_up (pc' := 18) (fun _ _ _ _ _ L => lv_iconst (v := (1 : Int32)) hx hb dX0_lineOf_17 (by decide)) ?_
      refine x_vx ?_; exact x_iret X hr rfl dX0_lineOf_18 hp8
    · have hp9 := hpC7
      obtain ⟨hr7, hp10⟩ := hp9
      refine x_catch X (kJ29 hG) [({ startPc := 0, endPc := 12, handlerPc := 15, catchType := 44 } : ExceptionTableEntry)] ({ startPc := 0, endPc := 12, handlerPc := 19, catchType := 56 } : ExceptionTableEntry) [] (hE.trans rfl) (List.forall_mem_cons.mpr ⟨(Or.inr ⟨by decide, "java/lang/IndexOutOfBoundsException", hts _ q2637, x_Nc X (by simp [x_ncs, RJ29])⟩), (fun _ h => nomatch h)⟩) rfl (by decide) q2705 q1030 hr7 hq7 ?_
      refine x_pc (pc' := 19) rfl ?_
      refine x_st (pc' := 21) ([(5, .ref q4), (0, .ref b1), (1, .int x1), (2, .int x2), (3, .int x3), (4, va_rf x4)]) rfl (by simp [x_catq, x_cati, x_catr, x_catn]) (fun _ _ _ _ _ L => lv_astore hx hb dX0_lineOf_19 L (by decide) rfl) ?_
      refine x_up (pc' := 22) (fun _ _ _ _ _ L => lv_iconst (v := (2 : Int32)) hx hb dX0_lineOf_21 (by decide)) ?_
      refine x_vx ?_; exact x_iret X hr rfl dX0_lineOf_22 hp10
-- X0_holder
def P_X0_holder (κ : Nat → Nat) (x0 : Option Nat) (x1 : Int32) (x2 : Option Nat) (σ : xS) (K : Int32 → xH → Prop) (KX : Nat → xH → Prop) : Prop :=
  xnn x0 fun b1 => xrc σ b1 0 ∧ xcallX (fun τ L LX => P_X1_holder κ b1 x1 τ L LX) σ (fun v2 σ3 => xnn x2 fun b6 => xsl κ σ3 b6 (0 : Int32) v2.toInt64 fun σ7 => K (0 : Int32) σ7.1) (fun q4 σ5 => κ 0 ≤ q4 ∧ ((xrc σ5 q4 16 ∧ (K (1 : Int32) σ5.1)) ∨ (xrc σ5 q4 18 ∧ (K (2 : Int32) σ5.1))))
theorem mdX0_holder : yX0_holder.cls ≠ "java/lang/invoke/MethodHandle" ∧ yX0_holder.cls ≠ "java/lang/invoke/VarHandle" ∧ (parseMethodDescriptor yX0_holder.desc).map (fun d => d.parameters.length) = some 3 := by decide +kernel
set_option maxHeartbeats 4000000 in
set_option maxRecDepth 100000 in
theorem R_X0_holder (l : Launch) (hl : l.stackTraces = false) (G : xG) (hG : G.1.2 = x_cl) (x0 : Option Nat) (x1 : Int32) (x2 : Option Nat) (σ : xS) (K : Int32 → xH → Prop) (KX : Nat → xH → Prop) (hp : P_X0_holder G.2 x0 x1 x2 σ K KX) : xMH l yX0_holder cX0_holder 4 (Option.some Jvm.ClassFile.FieldType.int) [(0, 9, 12, 44), (0, 9, 15, 61)] 9 151 G [va_rf x0, .int x1, va_rf x2] σ (xlift emI K) KX := by
  refine x_entryH (by decide) (by simp [lg_sl, x_catq, x_cati, x_catr, x_catn]) ?_
  intro p e s m args below meth c X hr hin hE
  have X : xX p s m args meth c G cX0_holder 4 RX0 := X
  have hx := X.1
  have hb := X.2.1
  have hts := X.2.2.2.2.1
  have hown := X.2.2.2.1
  unfold P_X0_holder at hp
  refine x_same (lo' := [(0, va_rf x0), (1, .int x1), (2, va_rf x2)]) (by simp [lv_args, x_catq, x_cati, x_catr, x_catn]) ?_
  refine x_up (pc' := 1) (fun _ _ _ _ _ L => lv_aloadq_n hx hb dX0_holder_0 rfl (lv_at L 2 rfl)) ?_
  refine x_up (pc' := 2) (fun _ _ _ _ _ L => lv_iconst (v := (0 : Int32)) hx hb dX0_holder_1 (by decide)) ?_
  refine x_up (pc' := 3) (fun _ _ _ _ _ L => lv_aloadq_n hx hb dX0_holder_2 rfl (lv_at L 0 rfl)) ?_
  refine x_up (pc' := 4) (fun _ _ _ _ _ L => lv_iload_n hx hb dX0_holder_3 rfl (lv_at L 1 rfl)) ?_
  obtain ⟨b1, rfl, hp1⟩ := hp
  refine x_callVX (em := emI) (fun r st => .int r :: st) (fun _ _ => rfl) 1 X (kX1 hG) (fun σ' KK KX h => R_X1_holder l hl G hG b1 x1 σ' KK KX h) (lw_V q2726 q2727 q2728 q99 q2729) ⟨rfl, mdX1_holder⟩ ⟨Nat.le_of_ble_eq_true rfl, Nat.le_of_ble_eq_true rfl⟩ rfl rfl (by simp only [List.map_cons, List.map_nil, List.sum_cons, List.sum_nil, x_catq, x_cati, x_catr, x_catn] <;> decide) dX0_holder_4 hp1.1 hp1.2 (fun v2 σ3 hpA4 => ?_) (fun q4 σ5 hpB4 => ?_)
  · have hp2 := hpA4
    refine x_pc (pc' := 7) rfl ?_
    refine x_up (pc' := 8) (fun _ _ _ _ _ L => lv_i2l hx hb dX0_holder_7 rfl) ?_
    obtain ⟨b6, rfl, hp3⟩ := hp2
    refine x_last X dX0_holder_8 hp3 (fun σ7 hp4 => ?_)
    refine x_pc (pc' := 9) rfl ?_
    refine x_up (pc' := 18) (fun _ _ _ _ _ L => lv_goto (tgt := 18) hx hb dX0_holder_9 (by decide)) ?_
    refine x_up (pc' := 19) (fun _ _ _ _ _ L => lv_iconst (v := (0 : Int32)) hx hb dX0_holder_18 (by decide)) ?_
    refine x_vx ?_; exact x_iret X hr rfl dX0_holder_19 hp4
  · have hp5 := hpB4
    obtain ⟨hq4, hp6⟩ := hp5
    rcases hp6 with hpC4 | hpC4
    · have hp7 := hpC4
      obtain ⟨hr4, hp8⟩ := hp7
      refine x_catch X (kJ28 hG) [] ({ startPc := 0, endPc := 9, handlerPc := 12, catchType := 44 } : ExceptionTableEntry) [({ startPc := 0, endPc := 9, handlerPc := 15, catchType := 61 } : ExceptionTableEntry)] (hE.trans rfl) (fun _ h => nomatch h) rfl (by decide) q2637 q809 hr4 hq4 ?_
      refine x_pc (pc' := 12) rfl ?_
      refine x_st (pc' := 13) ([(3, .ref q4), (0, .ref b1), (1, .int x1), (2, va_rf x2)]) rfl (by simp [x_catq, x_cati, x_catr, x_catn]) (fun _ _ _ _ _ L => lv_astore_n hx hb dX0_holder_12 rfl L (by decide) rfl) ?_
      refine x_up (pc' := 14) (fun _ _ _ _ _ L => lv_iconst (v := (1 : Int32)) hx hb dX0_holder_13 (by decide)) ?_
      refine x_vx ?_; exact x_iret X hr rfl dX0_holder_14 hp8
    · have hp9 := hpC4
      obtain ⟨hr4, hp10⟩ := hp9
      refine x_catch X (kJ30 hG) [({ startPc := 0, endPc := 9, handlerPc := 12, catchType := 44 } : ExceptionTableEntry)] ({ startPc := 0, endPc := 9, handlerPc := 15, catchType := 61 } : ExceptionTableEntry) [] (hE.trans rfl) (List.forall_mem_cons.mpr ⟨(Or.inr ⟨by decide, "java/lang/IndexOutOfBoundsException", hts _ q2637, x_Nc X (by simp [x_ncs, RJ30])⟩), (fun _ h => nomatch h)⟩) rfl (by decide) q2725 q1106 hr4 hq4 ?_
      refine x_pc (pc' := 15) rfl ?_
      refine x_st (pc' := 16) ([(3, .ref q4), (0, .ref b1), (1, .int x1), (2, va_rf x2)]) rfl (by simp [x_catq, x_cati, x_catr, x_catn]) (fun _ _ _ _ _ L => lv_astore_n hx hb dX0_holder_15 rfl L (by decide) rfl) ?_
      refine x_up (pc' := 17) (fun _ _ _ _ _ L => lv_iconst (v := (2 : Int32)) hx hb dX0_holder_16 (by decide)) ?_
      refine x_vx ?_; exact x_iret X hr rfl dX0_holder_17 hp10
-- X0_comesTo
def P_X0_comesTo (κ : Nat → Nat) (x0 : Option Nat) (x1 : Int32) (x2 : Option Nat) (σ : xS) (K : Int32 → xH → Prop) (KX : Nat → xH → Prop) : Prop :=
  xnn x0 fun b1 => xrc σ b1 0 ∧ xcallX (fun τ L LX => P_X1_comesTo κ b1 x1 τ L LX) σ (fun v2 σ3 => xnn x2 fun b6 => xsl κ σ3 b6 (0 : Int32) v2.toInt64 fun σ7 => K (0 : Int32) σ7.1) (fun q4 σ5 => κ 0 ≤ q4 ∧ ((xrc σ5 q4 16 ∧ (K (1 : Int32) σ5.1)) ∨ (xrc σ5 q4 18 ∧ (K (2 : Int32) σ5.1))))
theorem mdX0_comesTo : yX0_comesTo.cls ≠ "java/lang/invoke/MethodHandle" ∧ yX0_comesTo.cls ≠ "java/lang/invoke/VarHandle" ∧ (parseMethodDescriptor yX0_comesTo.desc).map (fun d => d.parameters.length) = some 3 := by decide +kernel
set_option maxHeartbeats 4000000 in
set_option maxRecDepth 100000 in
theorem R_X0_comesTo (l : Launch) (hl : l.stackTraces = false) (G : xG) (hG : G.1.2 = x_cl) (x0 : Option Nat) (x1 : Int32) (x2 : Option Nat) (σ : xS) (K : Int32 → xH → Prop) (KX : Nat → xH → Prop) (hp : P_X0_comesTo G.2 x0 x1 x2 σ K KX) : xMH l yX0_comesTo cX0_comesTo 4 (Option.some Jvm.ClassFile.FieldType.int) [(0, 9, 12, 44), (0, 9, 15, 61)] 11 260 G [va_rf x0, .int x1, va_rf x2] σ (xlift emI K) KX := by
  refine x_entryH (by decide) (by simp [lg_sl, x_catq, x_cati, x_catr, x_catn]) ?_
  intro p e s m args below meth c X hr hin hE
  have X : xX p s m args meth c G cX0_comesTo 4 RX0 := X
  have hx := X.1
  have hb := X.2.1
  have hts := X.2.2.2.2.1
  have hown := X.2.2.2.1
  unfold P_X0_comesTo at hp
  refine x_same (lo' := [(0, va_rf x0), (1, .int x1), (2, va_rf x2)]) (by simp [lv_args, x_catq, x_cati, x_catr, x_catn]) ?_
  refine x_up (pc' := 1) (fun _ _ _ _ _ L => lv_aloadq_n hx hb dX0_comesTo_0 rfl (lv_at L 2 rfl)) ?_
  refine x_up (pc' := 2) (fun _ _ _ _ _ L => lv_iconst (v := (0 : Int32)) hx hb dX0_comesTo_1 (by decide)) ?_
  refine x_up (pc' := 3) (fun _ _ _ _ _ L => lv_aloadq_n hx hb dX0_comesTo_2 rfl (lv_at L 0 rfl)) ?_
  refine x_up (pc' := 4) (fun _ _ _ _ _ L => lv_iload_n hx hb dX0_comesTo_3 rfl (lv_at L 1 rfl)) ?_
  obtain ⟨b1, rfl, hp1⟩ := hp
  refine x_callVX (em := emI) (fun r st => .int r :: st) (fun _ _ => rfl) 1 X (kX1 hG) (fun σ' KK KX h => R_X1_comesTo l hl G hG b1 x1 σ' KK KX h) (lw_V q2742 q2743 q2744 q99 q2745) ⟨rfl, mdX1_comesTo⟩ ⟨Nat.le_of_ble_eq_true rfl, Nat.le_of_ble_eq_true rfl⟩ rfl rfl (by simp only [List.map_cons, List.map_nil, List.sum_cons, List.sum_nil, x_catq, x_cati, x_catr, x_catn] <;> decide) dX0_comesTo_4 hp1.1 hp1.2 (fun v2 σ3 hpA4 => ?_) (fun q4 σ5 hpB4 => ?_)
  · have hp2 := hpA4
    refine x_pc (pc' := 7) rfl ?_
    refine x_up (pc' := 8) (fun _ _ _ _ _ L => lv_i2l hx hb dX0_comesTo_7 rfl) ?_
    obtain ⟨b6, rfl, hp3⟩ := hp2
    refine x_last X dX0_comesTo_8 hp3 (fun σ7 hp4 => ?_)
    refine x_pc (pc' := 9) rfl ?_
    refine x_up (pc' := 18) (fun _ _ _ _ _ L => lv_goto (tgt := 18) hx hb dX0_comesTo_9 (by decide)) ?_
    refine x_up (pc' := 19) (fun _ _ _ _ _ L => lv_iconst (v := (0 : Int32)) hx hb dX0_comesTo_18 (by decide)) ?_
    refine x_vx ?_; exact x_iret X hr rfl dX0_comesTo_19 hp4
  · have hp5 := hpB4
    obtain ⟨hq4, hp6⟩ := hp5
    rcases hp6 with hpC4 | hpC4
    · have hp7 := hpC4
      obtain ⟨hr4, hp8⟩ := hp7
      refine x_catch X (kJ28 hG) [] ({ startPc := 0, endPc := 9, handlerPc := 12, catchType := 44 } : ExceptionTableEntry) [({ startPc := 0, endPc := 9, handlerPc := 15, catchType := 61 } : ExceptionTableEntry)] (hE.trans rfl) (fun _ h => nomatch h) rfl (by decide) q2637 q809 hr4 hq4 ?_
      refine x_pc (pc' := 12) rfl ?_
      refine x_st (pc' := 13) ([(3, .ref q4), (0, .ref b1), (1, .int x1), (2, va_rf x2)]) rfl (by simp [x_catq, x_cati, x_catr, x_catn]) (fun _ _ _ _ _ L => lv_astore_n hx hb dX0_comesTo_12 rfl L (by decide) rfl) ?_
      refine x_up (pc' := 14) (fun _ _ _ _ _ L => lv_iconst (v := (1 : Int32)) hx hb dX0_comesTo_13 (by decide)) ?_
      refine x_vx ?_; exact x_iret X hr rfl dX0_comesTo_14 hp8
    · have hp9 := hpC4
      obtain ⟨hr4, hp10⟩ := hp9
      refine x_catch X (kJ30 hG) [({ startPc := 0, endPc := 9, handlerPc := 12, catchType := 44 } : ExceptionTableEntry)] ({ startPc := 0, endPc := 9, handlerPc := 15, catchType := 61 } : ExceptionTableEntry) [] (hE.trans rfl) (List.forall_mem_cons.mpr ⟨(Or.inr ⟨by decide, "java/lang/IndexOutOfBoundsException", hts _ q2637, x_Nc X (by simp [x_ncs, RJ30])⟩), (fun _ h => nomatch h)⟩) rfl (by decide) q2725 q1106 hr4 hq4 ?_
      refine x_pc (pc' := 15) rfl ?_
      refine x_st (pc' := 16) ([(3, .ref q4), (0, .ref b1), (1, .int x1), (2, va_rf x2)]) rfl (by simp [x_catq, x_cati, x_catr, x_catn]) (fun _ _ _ _ _ L => lv_astore_n hx hb dX0_comesTo_15 rfl L (by decide) rfl) ?_
      refine x_up (pc' := 17) (fun _ _ _ _ _ L => lv_iconst (v := (2 : Int32)) hx hb dX0_comesTo_16 (by decide)) ?_
      refine x_vx ?_; exact x_iret X hr rfl dX0_comesTo_17 hp10
-- X0_giving
def P_X0_giving (κ : Nat → Nat) (x0 : Option Nat) (x1 : Int32) (x2 : Int32) (x3 : Option Nat) (σ : xS) (K : Int32 → xH → Prop) (KX : Nat → xH → Prop) : Prop :=
  xnn x0 fun b1 => xrc σ b1 0 ∧ xcallX (fun τ L LX => P_X1_giving κ b1 x1 x2 τ L LX) σ (fun v2 σ3 => xnn x3 fun b6 => xsl κ σ3 b6 (0 : Int32) v2.toInt64 fun σ7 => K (0 : Int32) σ7.1) (fun q4 σ5 => κ 0 ≤ q4 ∧ ((xrc σ5 q4 16 ∧ (K (1 : Int32) σ5.1)) ∨ (xrc σ5 q4 18 ∧ (K (2 : Int32) σ5.1))))
theorem mdX0_giving : yX0_giving.cls ≠ "java/lang/invoke/MethodHandle" ∧ yX0_giving.cls ≠ "java/lang/invoke/VarHandle" ∧ (parseMethodDescriptor yX0_giving.desc).map (fun d => d.parameters.length) = some 4 := by decide +kernel
set_option maxHeartbeats 4000000 in
set_option maxRecDepth 100000 in
theorem R_X0_giving (l : Launch) (hl : l.stackTraces = false) (G : xG) (hG : G.1.2 = x_cl) (x0 : Option Nat) (x1 : Int32) (x2 : Int32) (x3 : Option Nat) (σ : xS) (K : Int32 → xH → Prop) (KX : Nat → xH → Prop) (hp : P_X0_giving G.2 x0 x1 x2 x3 σ K KX) : xMH l yX0_giving cX0_giving 5 (Option.some Jvm.ClassFile.FieldType.int) [(0, 10, 13, 44), (0, 10, 17, 61)] 10 238 G [va_rf x0, .int x1, .int x2, va_rf x3] σ (xlift emI K) KX := by
  refine x_entryH (by decide) (by simp [lg_sl, x_catq, x_cati, x_catr, x_catn]) ?_
  intro p e s m args below meth c X hr hin hE
  have X : xX p s m args meth c G cX0_giving 5 RX0 := X
  have hx := X.1
  have hb := X.2.1
  have hts := X.2.2.2.2.1
  have hown := X.2.2.2.1
  unfold P_X0_giving at hp
  refine x_same (lo' := [(0, va_rf x0), (1, .int x1), (2, .int x2), (3, va_rf x3)]) (by simp [lv_args, x_catq, x_cati, x_catr, x_catn]) ?_
  refine x_up (pc' := 1) (fun _ _ _ _ _ L => lv_aloadq_n hx hb dX0_giving_0 rfl (lv_at L 3 rfl)) ?_
  refine x_up (pc' := 2) (fun _ _ _ _ _ L => lv_iconst (v := (0 : Int32)) hx hb dX0_giving_1 (by decide)) ?_
  refine x_up (pc' := 3) (fun _ _ _ _ _ L => lv_aloadq_n hx hb dX0_giving_2 rfl (lv_at L 0 rfl)) ?_
  refine x_up (pc' := 4) (fun _ _ _ _ _ L => lv_iload_n hx hb dX0_giving_3 rfl (lv_at L 1 rfl)) ?_
  refine x_up (pc' := 5) (fun _ _ _ _ _ L => lv_iload_n hx hb dX0_giving_4 rfl (lv_at L 2 rfl)) ?_
  obtain ⟨b1, rfl, hp1⟩ := hp
  refine x_callVX (em := emI) (fun r st => .int r :: st) (fun _ _ => rfl) 2 X (kX1 hG) (fun σ' KK KX h => R_X1_giving l hl G hG b1 x1 x2 σ' KK KX h) (lw_V q2750 q2751 q2752 q99 q2753) ⟨rfl, mdX1_giving⟩ ⟨Nat.le_of_ble_eq_true rfl, Nat.le_of_ble_eq_true rfl⟩ rfl rfl (by simp only [List.map_cons, List.map_nil, List.sum_cons, List.sum_nil, x_catq, x_cati, x_catr, x_catn] <;> decide) dX0_giving_5 hp1.1 hp1.2 (fun v2 σ3 hpA5 => ?_) (fun q4 σ5 hpB5 => ?_)
  · have hp2 := hpA5
    refine x_pc (pc' := 8) rfl ?_
    refine x_up (pc' := 9) (fun _ _ _ _ _ L => lv_i2l hx hb dX0_giving_8 rfl) ?_
    obtain ⟨b6, rfl, hp3⟩ := hp2
    refine x_last X dX0_giving_9 hp3 (fun σ7 hp4 => ?_)
    refine x_pc (pc' := 10) rfl ?_
    refine x_up (pc' := 21) (fun _ _ _ _ _ L => lv_goto (tgt := 21) hx hb dX0_giving_10 (by decide)) ?_
    refine x_up (pc' := 22) (fun _ _ _ _ _ L => lv_iconst (v := (0 : Int32)) hx hb dX0_giving_21 (by decide)) ?_
    refine x_vx ?_; exact x_iret X hr rfl dX0_giving_22 hp4
  · have hp5 := hpB5
    obtain ⟨hq5, hp6⟩ := hp5
    rcases hp6 with hpC5 | hpC5
    · have hp7 := hpC5
      obtain ⟨hr5, hp8⟩ := hp7
      refine x_catch X (kJ28 hG) [] ({ startPc := 0, endPc := 10, handlerPc := 13, catchType := 44 } : ExceptionTableEntry) [({ startPc := 0, endPc := 10, handlerPc := 17, catchType := 61 } : ExceptionTableEntry)] (hE.trans rfl) (fun _ h => nomatch h) rfl (by decide) q2637 q809 hr5 hq5 ?_
      refine x_pc (pc' := 13) rfl ?_
      refine x_st (pc' := 15) ([(4, .ref q4), (0, .ref b1), (1, .int x1), (2, .int x2), (3, va_rf x3)]) rfl (by simp [x_catq, x_cati, x_catr, x_catn]) (fun _ _ _ _ _ L => lv_astore hx hb dX0_giving_13 L (by decide) rfl) ?_
      refine x_up (pc' := 16) (fun _ _ _ _ _ L => lv_iconst (v := (1 : Int32)) hx hb dX0_giving_15 (by decide)) ?_
      refine x_vx ?_; exact x_iret X hr rfl dX0_giving_16 hp8
    · have hp9 := hpC5
      obtain ⟨hr5, hp10⟩ := hp9
      refine x_catch X (kJ30 hG) [({ startPc := 0, endPc := 10, handlerPc := 13, catchType := 44 } : ExceptionTableEntry)] ({ startPc := 0, endPc := 10, handlerPc := 17, catchType := 61 } : ExceptionTableEntry) [] (hE.trans rfl) (List.forall_mem_cons.mpr ⟨(Or.inr ⟨by decide, "java/lang/IndexOutOfBoundsException", hts _ q2637, x_Nc X (by simp [x_ncs, RJ30])⟩), (fun _ h => nomatch h)⟩) rfl (by decide) q2725 q1106 hr5 hq5 ?_
      refine x_pc (pc' := 17) rfl ?_
      refine x_st (pc' := 19) ([(4, .ref q4), (0, .ref b1), (1, .int x1), (2, .int x2), (3, va_rf x3)]) rfl (by simp [x_catq, x_cati, x_catr, x_catn]) (fun _ _ _ _ _ L => lv_astore hx hb dX0_giving_17 L (by decide) rfl) ?_
      refine x_up (pc' := 20) (fun _ _ _ _ _ L => lv_iconst (v := (2 : Int32)) hx hb dX0_giving_19 (by decide)) ?_
      refine x_vx ?_; exact x_iret X hr rfl dX0_giving_20 hp10
-- X0_wouldTake
def P_X0_wouldTake (κ : Nat → Nat) (x0 : Option Nat) (x1 : Int32) (x2 : Option Nat) (σ : xS) (K : Int32 → xH → Prop) (KX : Nat → xH → Prop) : Prop :=
  xnn x0 fun b1 => xrc σ b1 0 ∧ xcallX (fun τ L LX => P_X1_wouldTake κ b1 x1 τ L LX) σ (fun v2 σ3 => xnn x2 fun b6 => xsl κ σ3 b6 (0 : Int32) v2.toInt64 fun σ7 => K (0 : Int32) σ7.1) (fun q4 σ5 => κ 0 ≤ q4 ∧ ((xrc σ5 q4 16 ∧ (K (1 : Int32) σ5.1)) ∨ (xrc σ5 q4 18 ∧ (K (2 : Int32) σ5.1))))
theorem mdX0_wouldTake : yX0_wouldTake.cls ≠ "java/lang/invoke/MethodHandle" ∧ yX0_wouldTake.cls ≠ "java/lang/invoke/VarHandle" ∧ (parseMethodDescriptor yX0_wouldTake.desc).map (fun d => d.parameters.length) = some 3 := by decide +kernel
set_option maxHeartbeats 4000000 in
set_option maxRecDepth 100000 in
theorem R_X0_wouldTake (l : Launch) (hl : l.stackTraces = false) (G : xG) (hG : G.1.2 = x_cl) (x0 : Option Nat) (x1 : Int32) (x2 : Option Nat) (σ : xS) (K : Int32 → xH → Prop) (KX : Nat → xH → Prop) (hp : P_X0_wouldTake G.2 x0 x1 x2 σ K KX) : xMH l yX0_wouldTake cX0_wouldTake 4 (Option.some Jvm.ClassFile.FieldType.int) [(0, 9, 12, 44), (0, 9, 15, 61)] 18 497 G [va_rf x0, .int x1, va_rf x2] σ (xlift emI K) KX := by
  refine x_entryH (by decide) (by simp [lg_sl, x_catq, x_cati, x_catr, x_catn]) ?_
  intro p e s m args below meth c X hr hin hE
  have X : xX p s m args meth c G cX0_wouldTake 4 RX0 := X
  have hx := X.1
  have hb := X.2.1
  have hts := X.2.2.2.2.1
  have hown := X.2.2.2.1
  unfold P_X0_wouldTake at hp
  refine x_same (lo' := [(0, va_rf x0), (1, .int x1), (2, va_rf x2)]) (by simp [lv_args, x_catq, x_cati, x_catr, x_catn]) ?_
  refine x_up (pc' := 1) (fun _ _ _ _ _ L => lv_aloadq_n hx hb dX0_wouldTake_0 rfl (lv_at L 2 rfl)) ?_
  refine x_up (pc' := 2) (fun _ _ _ _ _ L => lv_iconst (v := (0 : Int32)) hx hb dX0_wouldTake_1 (by decide)) ?_
  refine x_up (pc' := 3) (fun _ _ _ _ _ L => lv_aloadq_n hx hb dX0_wouldTake_2 rfl (lv_at L 0 rfl)) ?_
  refine x_up (pc' := 4) (fun _ _ _ _ _ L => lv_iload_n hx hb dX0_wouldTake_3 rfl (lv_at L 1 rfl)) ?_
  obtain ⟨b1, rfl, hp1⟩ := hp
  refine x_callVX (em := emI) (fun r st => .int r :: st) (fun _ _ => rfl) 1 X (kX1 hG) (fun σ' KK KX h => R_X1_wouldTake l hl G hG b1 x1 σ' KK KX h) (lw_V q2758 q2759 q2760 q99 q2761) ⟨rfl, mdX1_wouldTake⟩ ⟨Nat.le_of_ble_eq_true rfl, Nat.le_of_ble_eq_true rfl⟩ rfl rfl (by simp only [List.map_cons, List.map_nil, List.sum_cons, List.sum_nil, x_catq, x_cati, x_catr, x_catn] <;> decide) dX0_wouldTake_4 hp1.1 hp1.2 (fun v2 σ3 hpA4 => ?_) (fun q4 σ5 hpB4 => ?_)
  · have hp2 := hpA4
    refine x_pc (pc' := 7) rfl ?_
    refine x_up (pc' := 8) (fun _ _ _ _ _ L => lv_i2l hx hb dX0_wouldTake_7 rfl) ?_
    obtain ⟨b6, rfl, hp3⟩ := hp2
    refine x_last X dX0_wouldTake_8 hp3 (fun σ7 hp4 => ?_)
    refine x_pc (pc' := 9) rfl ?_
    refine x_up (pc' := 18) (fun _ _ _ _ _ L => lv_goto (tgt := 18) hx hb dX0_wouldTake_9 (by decide)) ?_
    refine x_up (pc' := 19) (fun _ _ _ _ _ L => lv_iconst (v := (0 : Int32)) hx hb dX0_wouldTake_18 (by decide)) ?_
    refine x_vx ?_; exact x_iret X hr rfl dX0_wouldTake_19 hp4
  · have hp5 := hpB4
    obtain ⟨hq4, hp6⟩ := hp5
    rcases hp6 with hpC4 | hpC4
    · have hp7 := hpC4
      obtain ⟨hr4, hp8⟩ := hp7
      refine x_catch X (kJ28 hG) [] ({ startPc := 0, endPc := 9, handlerPc := 12, catchType := 44 } : ExceptionTableEntry) [({ startPc := 0, endPc := 9, handlerPc := 15, catchType := 61 } : ExceptionTableEntry)] (hE.trans rfl) (fun _ h => nomatch h) rfl (by decide) q2637 q809 hr4 hq4 ?_
      refine x_pc (pc' := 12) rfl ?_
      refine x_st (pc' := 13) ([(3, .ref q4), (0, .ref b1), (1, .int x1), (2, va_rf x2)]) rfl (by simp [x_catq, x_cati, x_catr, x_catn]) (fun _ _ _ _ _ L => lv_astore_n hx hb dX0_wouldTake_12 rfl L (by decide) rfl) ?_
      refine x_up (pc' := 14) (fun _ _ _ _ _ L => lv_iconst (v := (1 : Int32)) hx hb dX0_wouldTake_13 (by decide)) ?_
      refine x_vx ?_; exact x_iret X hr rfl dX0_wouldTake_14 hp8
    · have hp9 := hpC4
      obtain ⟨hr4, hp10⟩ := hp9
      refine x_catch X (kJ30 hG) [({ startPc := 0, endPc := 9, handlerPc := 12, catchType := 44 } : ExceptionTableEntry)] ({ startPc := 0, endPc := 9, handlerPc := 15, catchType := 61 } : ExceptionTableEntry) [] (hE.trans rfl) (List.forall_mem_cons.mpr ⟨(Or.inr ⟨by decide, "java/lang/IndexOutOfBoundsException", hts _ q2637, x_Nc X (by simp [x_ncs, RJ30])⟩), (fun _ h => nomatch h)⟩) rfl (by decide) q2725 q1106 hr4 hq4 ?_
      refine x_pc (pc' := 15) rfl ?_
      refine x_st (pc' := 16) ([(3, .ref q4), (0, .ref b1), (1, .int x1), (2, va_rf x2)]) rfl (by simp [x_catq, x_cati, x_catr, x_catn]) (fun _ _ _ _ _ L => lv_astore_n hx hb dX0_wouldTake_15 rfl L (by decide) rfl) ?_
      refine x_up (pc' := 17) (fun _ _ _ _ _ L => lv_iconst (v := (2 : Int32)) hx hb dX0_wouldTake_16 (by decide)) ?_
      refine x_vx ?_; exact x_iret X hr rfl dX0_wouldTake_17 hp10
-- X0_causeOf
def P_X0_causeOf (κ : Nat → Nat) (x0 : Option Nat) (x1 : Int32) (x2 : Option Nat) (σ : xS) (K : Int32 → xH → Prop) (KX : Nat → xH → Prop) : Prop :=
  xnn x0 fun b1 => xrc σ b1 0 ∧ xcallX (fun τ L LX => P_X1_causeOf κ b1 x1 τ L LX) σ (fun v2 σ3 => xnn x2 fun b6 => xsl κ σ3 b6 (0 : Int32) v2.toInt64 fun σ7 => K (0 : Int32) σ7.1) (fun q4 σ5 => κ 0 ≤ q4 ∧ ((xrc σ5 q4 16 ∧ (K (1 : Int32) σ5.1)) ∨ (xrc σ5 q4 18 ∧ (K (2 : Int32) σ5.1))))
theorem mdX0_causeOf : yX0_causeOf.cls ≠ "java/lang/invoke/MethodHandle" ∧ yX0_causeOf.cls ≠ "java/lang/invoke/VarHandle" ∧ (parseMethodDescriptor yX0_causeOf.desc).map (fun d => d.parameters.length) = some 3 := by decide +kernel
set_option maxHeartbeats 4000000 in
set_option maxRecDepth 100000 in
theorem R_X0_causeOf (l : Launch) (hl : l.stackTraces = false) (G : xG) (hG : G.1.2 = x_cl) (x0 : Option Nat) (x1 : Int32) (x2 : Option Nat) (σ : xS) (K : Int32 → xH → Prop) (KX : Nat → xH → Prop) (hp : P_X0_causeOf G.2 x0 x1 x2 σ K KX) : xMH l yX0_causeOf cX0_causeOf 4 (Option.some Jvm.ClassFile.FieldType.int) [(0, 9, 12, 44), (0, 9, 15, 61)] 9 150 G [va_rf x0, .int x1, va_rf x2] σ (xlift emI K) KX := by
  refine x_entryH (by decide) (by simp [lg_sl, x_catq, x_cati, x_catr, x_catn]) ?_
  intro p e s m args below meth c X hr hin hE
  have X : xX p s m args meth c G cX0_causeOf 4 RX0 := X
  have hx := X.1
  have hb := X.2.1
  have hts := X.2.2.2.2.1
  have hown := X.2.2.2.1
  unfold P_X0_causeOf at hp
  refine x_same (lo' := [(0, va_rf x0), (1, .int x1), (2, va_rf x2)]) (by simp [lv_args, x_catq, x_cati, x_catr, x_catn]) ?_
  refine x_up (pc' := 1) (fun _ _ _ _ _ L => lv_aloadq_n hx hb dX0_causeOf_0 rfl (lv_at L 2 rfl)) ?_
  refine x_up (pc' := 2) (fun _ _ _ _ _ L => lv_iconst (v := (0 : Int32)) hx hb dX0_causeOf_1 (by decide)) ?_
  refine x_up (pc' := 3) (fun _ _ _ _ _ L => lv_aloadq_n hx hb dX0_causeOf_2 rfl (lv_at L 0 rfl)) ?_
  refine x_up (pc' := 4) (fun _ _ _ _ _ L => lv_iload_n hx hb dX0_causeOf_3 rfl (lv_at L 1 rfl)) ?_
  obtain ⟨b1, rfl, hp1⟩ := hp
  refine x_callVX (em := emI) (fun r st => .int r :: st) (fun _ _ => rfl) 1 X (kX1 hG) (fun σ' KK KX h => R_X1_causeOf l hl G hG b1 x1 σ' KK KX h) (lw_V q2776 q2777 q2778 q99 q2779) ⟨rfl, mdX1_causeOf⟩ ⟨Nat.le_of_ble_eq_true rfl, Nat.le_of_ble_eq_true rfl⟩ rfl rfl (by simp only [List.map_cons, List.map_nil, List.sum_cons, List.sum_nil, x_catq, x_cati, x_catr, x_catn] <;> decide) dX0_causeOf_4 hp1.1 hp1.2 (fun v2 σ3 hpA4 => ?_) (fun q4 σ5 hpB4 => ?_)
  · have hp2 := hpA4
    refine x_pc (pc' := 7) rfl ?_
    refine x_up (pc' := 8) (fun _ _ _ _ _ L => lv_i2l hx hb dX0_causeOf_7 rfl) ?_
    obtain ⟨b6, rfl, hp3⟩ := hp2
    refine x_last X dX0_causeOf_8 hp3 (fun σ7 hp4 => ?_)
    refine x_pc (pc' := 9) rfl ?_
    refine x_up (pc' := 18) (fun _ _ _ _ _ L => lv_goto (tgt := 18) hx hb dX0_causeOf_9 (by decide)) ?_
    refine x_up (pc' := 19) (fun _ _ _ _ _ L => lv_iconst (v := (0 : Int32)) hx hb dX0_causeOf_18 (by decide)) ?_
    refine x_vx ?_; exact x_iret X hr rfl dX0_causeOf_19 hp4
  · have hp5 := hpB4
    obtain ⟨hq4, hp6⟩ := hp5
    rcases hp6 with hpC4 | hpC4
    · have hp7 := hpC4
      obtain ⟨hr4, hp8⟩ := hp7
      refine x_catch X (kJ28 hG) [] ({ startPc := 0, endPc := 9, handlerPc := 12, catchType := 44 } : ExceptionTableEntry) [({ startPc := 0, endPc := 9, handlerPc := 15, catchType := 61 } : ExceptionTableEntry)] (hE.trans rfl) (fun _ h => nomatch h) rfl (by decide) q2637 q809 hr4 hq4 ?_
      refine x_pc (pc' := 12) rfl ?_
      refine x_st (pc' := 13) ([(3, .ref q4), (0, .ref b1), (1, .int x1), (2, va_rf x2)]) rfl (by simp [x_catq, x_cati, x_catr, x_catn]) (fun _ _ _ _ _ L => lv_astore_n hx hb dX0_causeOf_12 rfl L (by decide) rfl) ?_
      refine x_up (pc' := 14) (fun _ _ _ _ _ L => lv_iconst (v := (1 : Int32)) hx hb dX0_causeOf_13 (by decide)) ?_
      refine x_vx ?_; exact x_iret X hr rfl dX0_causeOf_14 hp8
    · have hp9 := hpC4
      obtain ⟨hr4, hp10⟩ := hp9
      refine x_catch X (kJ30 hG) [({ startPc := 0, endPc := 9, handlerPc := 12, catchType := 44 } : ExceptionTableEntry)] ({ startPc := 0, endPc := 9, handlerPc := 15, catchType := 61 } : ExceptionTableEntry) [] (hE.trans rfl) (List.forall_mem_cons.mpr ⟨(Or.inr ⟨by decide, "java/lang/IndexOutOfBoundsException", hts _ q2637, x_Nc X (by simp [x_ncs, RJ30])⟩), (fun _ h => nomatch h)⟩) rfl (by decide) q2725 q1106 hr4 hq4 ?_
      refine x_pc (pc' := 15) rfl ?_
      refine x_st (pc' := 16) ([(3, .ref q4), (0, .ref b1), (1, .int x1), (2, va_rf x2)]) rfl (by simp [x_catq, x_cati, x_catr, x_catn]) (fun _ _ _ _ _ L => lv_astore_n hx hb dX0_causeOf_15 rfl L (by decide) rfl) ?_
      refine x_up (pc' := 17) (fun _ _ _ _ _ L => lv_iconst (v := (2 : Int32)) hx hb dX0_causeOf_16 (by decide)) ?_
      refine x_vx ?_; exact x_iret X hr rfl dX0_causeOf_17 hp10
-- X0_freeIn
def P_X0_freeIn (κ : Nat → Nat) (x0 : Option Nat) (x1 : Int32) (x2 : Option Nat) (σ : xS) (K : Int32 → xH → Prop) (KX : Nat → xH → Prop) : Prop :=
  xnn x0 fun b1 => xrc σ b1 0 ∧ xcallX (fun τ L LX => P_X1_freeIn κ b1 x1 τ L LX) σ (fun v2 σ3 => xnn x2 fun b6 => xsl κ σ3 b6 (0 : Int32) v2.toInt64 fun σ7 => K (0 : Int32) σ7.1) (fun q4 σ5 => κ 0 ≤ q4 ∧ ((xrc σ5 q4 16 ∧ (K (1 : Int32) σ5.1))))
theorem mdX0_freeIn : yX0_freeIn.cls ≠ "java/lang/invoke/MethodHandle" ∧ yX0_freeIn.cls ≠ "java/lang/invoke/VarHandle" ∧ (parseMethodDescriptor yX0_freeIn.desc).map (fun d => d.parameters.length) = some 3 := by decide +kernel
set_option maxHeartbeats 4000000 in
set_option maxRecDepth 100000 in
theorem R_X0_freeIn (l : Launch) (hl : l.stackTraces = false) (G : xG) (hG : G.1.2 = x_cl) (x0 : Option Nat) (x1 : Int32) (x2 : Option Nat) (σ : xS) (K : Int32 → xH → Prop) (KX : Nat → xH → Prop) (hp : P_X0_freeIn G.2 x0 x1 x2 σ K KX) : xMH l yX0_freeIn cX0_freeIn 4 (Option.some Jvm.ClassFile.FieldType.int) [(0, 9, 12, 44)] 8 130 G [va_rf x0, .int x1, va_rf x2] σ (xlift emI K) KX := by
  refine x_entryH (by decide) (by simp [lg_sl, x_catq, x_cati, x_catr, x_catn]) ?_
  intro p e s m args below meth c X hr hin hE
  have X : xX p s m args meth c G cX0_freeIn 4 RX0 := X
  have hx := X.1
  have hb := X.2.1
  have hts := X.2.2.2.2.1
  have hown := X.2.2.2.1
  unfold P_X0_freeIn at hp
  refine x_same (lo' := [(0, va_rf x0), (1, .int x1), (2, va_rf x2)]) (by simp [lv_args, x_catq, x_cati, x_catr, x_catn]) ?_
  refine x_up (pc' := 1) (fun _ _ _ _ _ L => lv_aloadq_n hx hb dX0_freeIn_0 rfl (lv_at L 2 rfl)) ?_
  refine x_up (pc' := 2) (fun _ _ _ _ _ L => lv_iconst (v := (0 : Int32)) hx hb dX0_freeIn_1 (by decide)) ?_
  refine x_up (pc' := 3) (fun _ _ _ _ _ L => lv_aloadq_n hx hb dX0_freeIn_2 rfl (lv_at L 0 rfl)) ?_
  refine x_up (pc' := 4) (fun _ _ _ _ _ L => lv_iload_n hx hb dX0_freeIn_3 rfl (lv_at L 1 rfl)) ?_
  obtain ⟨b1, rfl, hp1⟩ := hp
  refine x_callVX (em := emI) (fun r st => .int r :: st) (fun _ _ => rfl) 1 X (kX1 hG) (fun σ' KK KX h => R_X1_freeIn l hl G hG b1 x1 σ' KK KX h) (lw_V q2784 q2785 q2786 q99 q2787) ⟨rfl, mdX1_freeIn⟩ ⟨Nat.le_of_ble_eq_true rfl, Nat.le_of_ble_eq_true rfl⟩ rfl rfl (by simp only [List.map_cons, List.map_nil, List.sum_cons, List.sum_nil, x_catq, x_cati, x_catr, x_catn] <;> decide) dX0_freeIn_4 hp1.1 hp1.2 (fun v2 σ3 hpA4 => ?_) (fun q4 σ5 hpB4 => ?_)
  · have hp2 := hpA4
    refine x_pc (pc' := 7) rfl ?_
    refine x_up (pc' := 8) (fun _ _ _ _ _ L => lv_i2l hx hb dX0_freeIn_7 rfl) ?_
    obtain ⟨b6, rfl, hp3⟩ := hp2
    refine x_last X dX0_freeIn_8 hp3 (fun σ7 hp4 => ?_)
    refine x_pc (pc' := 9) rfl ?_
    refine x_up (pc' := 15) (fun _ _ _ _ _ L => lv_goto (tgt := 15) hx hb dX0_freeIn_9 (by decide)) ?_
    refine x_up (pc' := 16) (fun _ _ _ _ _ L => lv_iconst (v := (0 : Int32)) hx hb dX0_freeIn_15 (by decide)) ?_
    refine x_vx ?_; exact x_iret X hr rfl dX0_freeIn_16 hp4
  · have hp5 := hpB4
    obtain ⟨hq4, hp6⟩ := hp5
    obtain ⟨hr4, hp7⟩ := hp6
    refine x_catch X (kJ28 hG) [] ({ startPc := 0, endPc := 9, handlerPc := 12, catchType := 44 } : ExceptionTableEntry) [] (hE.trans rfl) (fun _ h => nomatch h) rfl (by decide) q2637 q809 hr4 hq4 ?_
    refine x_pc (pc' := 12) rfl ?_
    refine x_st (pc' := 13) ([(3, .ref q4), (0, .ref b1), (1, .int x1), (2, va_rf x2)]) rfl (by simp [x_catq, x_cati, x_catr, x_catn]) (fun _ _ _ _ _ L => lv_astore_n hx hb dX0_freeIn_12 rfl L (by decide) rfl) ?_
    refine x_up (pc' := 14) (fun _ _ _ _ _ L => lv_iconst (v := (1 : Int32)) hx hb dX0_freeIn_13 (by decide)) ?_
    refine x_vx ?_; exact x_iret X hr rfl dX0_freeIn_14 hp7
-- X0_latest
def P_X0_latest (κ : Nat → Nat) (x0 : Option Nat) (x1 : Int32) (x2 : Option Nat) (σ : xS) (K : Int32 → xH → Prop) (KX : Nat → xH → Prop) : Prop :=
  xnn x0 fun b1 => xrc σ b1 0 ∧ xcallX (fun τ L LX => P_X1_latest κ b1 x1 τ L LX) σ (fun v2 σ3 => xnn x2 fun b6 => xsl κ σ3 b6 (0 : Int32) v2.toInt64 fun σ7 => K (0 : Int32) σ7.1) (fun q4 σ5 => κ 0 ≤ q4 ∧ ((xrc σ5 q4 18 ∧ (K (1 : Int32) σ5.1))))
theorem mdX0_latest : yX0_latest.cls ≠ "java/lang/invoke/MethodHandle" ∧ yX0_latest.cls ≠ "java/lang/invoke/VarHandle" ∧ (parseMethodDescriptor yX0_latest.desc).map (fun d => d.parameters.length) = some 3 := by decide +kernel
set_option maxHeartbeats 4000000 in
set_option maxRecDepth 100000 in
theorem R_X0_latest (l : Launch) (hl : l.stackTraces = false) (G : xG) (hG : G.1.2 = x_cl) (x0 : Option Nat) (x1 : Int32) (x2 : Option Nat) (σ : xS) (K : Int32 → xH → Prop) (KX : Nat → xH → Prop) (hp : P_X0_latest G.2 x0 x1 x2 σ K KX) : xMH l yX0_latest cX0_latest 4 (Option.some Jvm.ClassFile.FieldType.int) [(0, 9, 12, 61)] 8 130 G [va_rf x0, .int x1, va_rf x2] σ (xlift emI K) KX := by
  refine x_entryH (by decide) (by simp [lg_sl, x_catq, x_cati, x_catr, x_catn]) ?_
  intro p e s m args below meth c X hr hin hE
  have X : xX p s m args meth c G cX0_latest 4 RX0 := X
  have hx := X.1
  have hb := X.2.1
  have hts := X.2.2.2.2.1
  have hown := X.2.2.2.1
  unfold P_X0_latest at hp
  refine x_same (lo' := [(0, va_rf x0), (1, .int x1), (2, va_rf x2)]) (by simp [lv_args, x_catq, x_cati, x_catr, x_catn]) ?_
  refine x_up (pc' := 1) (fun _ _ _ _ _ L => lv_aloadq_n hx hb dX0_latest_0 rfl (lv_at L 2 rfl)) ?_
  refine x_up (pc' := 2) (fun _ _ _ _ _ L => lv_iconst (v := (0 : Int32)) hx hb dX0_latest_1 (by decide)) ?_
  refine x_up (pc' := 3) (fun _ _ _ _ _ L => lv_aloadq_n hx hb dX0_latest_2 rfl (lv_at L 0 rfl)) ?_
  refine x_up (pc' := 4) (fun _ _ _ _ _ L => lv_iload_n hx hb dX0_latest_3 rfl (lv_at L 1 rfl)) ?_
  obtain ⟨b1, rfl, hp1⟩ := hp
  refine x_callVX (em := emI) (fun r st => .int r :: st) (fun _ _ => rfl) 1 X (kX1 hG) (fun σ' KK KX h => R_X1_latest l hl G hG b1 x1 σ' KK KX h) (lw_V q2792 q2793 q2794 q99 q2795) ⟨rfl, mdX1_latest⟩ ⟨Nat.le_of_ble_eq_true rfl, Nat.le_of_ble_eq_true rfl⟩ rfl rfl (by simp only [List.map_cons, List.map_nil, List.sum_cons, List.sum_nil, x_catq, x_cati, x_catr, x_catn] <;> decide) dX0_latest_4 hp1.1 hp1.2 (fun v2 σ3 hpA4 => ?_) (fun q4 σ5 hpB4 => ?_)
  · have hp2 := hpA4
    refine x_pc (pc' := 7) rfl ?_
    refine x_up (pc' := 8) (fun _ _ _ _ _ L => lv_i2l hx hb dX0_latest_7 rfl) ?_
    obtain ⟨b6, rfl, hp3⟩ := hp2
    refine x_last X dX0_latest_8 hp3 (fun σ7 hp4 => ?_)
    refine x_pc (pc' := 9) rfl ?_
    refine x_up (pc' := 15) (fun _ _ _ _ _ L => lv_goto (tgt := 15) hx hb dX0_latest_9 (by decide)) ?_
    refine x_up (pc' := 16) (fun _ _ _ _ _ L => lv_iconst (v := (0 : Int32)) hx hb dX0_latest_15 (by decide)) ?_
    refine x_vx ?_; exact x_iret X hr rfl dX0_latest_16 hp4
  · have hp5 := hpB4
    obtain ⟨hq4, hp6⟩ := hp5
    obtain ⟨hr4, hp7⟩ := hp6
    refine x_catch X (kJ30 hG) [] ({ startPc := 0, endPc := 9, handlerPc := 12, catchType := 61 } : ExceptionTableEntry) [] (hE.trans rfl) (fun _ h => nomatch h) rfl (by decide) q2725 q1106 hr4 hq4 ?_
    refine x_pc (pc' := 12) rfl ?_
    refine x_st (pc' := 13) ([(3, .ref q4), (0, .ref b1), (1, .int x1), (2, va_rf x2)]) rfl (by simp [x_catq, x_cati, x_catr, x_catn]) (fun _ _ _ _ _ L => lv_astore_n hx hb dX0_latest_12 rfl L (by decide) rfl) ?_
    refine x_up (pc' := 14) (fun _ _ _ _ _ L => lv_iconst (v := (1 : Int32)) hx hb dX0_latest_13 (by decide)) ?_
    refine x_vx ?_; exact x_iret X hr rfl dX0_latest_14 hp7
-- X0_ranked
def P_X0_ranked (κ : Nat → Nat) (x0 : Option Nat) (x1 : Int32) (x2 : Option Nat) (σ : xS) (K : Int32 → xH → Prop) (KX : Nat → xH → Prop) : Prop :=
  xnn x0 fun b1 => xrc σ b1 0 ∧ xcallX (fun τ L LX => P_X1_ranked κ b1 x1 τ L LX) σ (fun v2 σ3 => xnn x2 fun b6 => xsl κ σ3 b6 (0 : Int32) v2.toInt64 fun σ7 => K (0 : Int32) σ7.1) (fun q4 σ5 => κ 0 ≤ q4 ∧ ((xrc σ5 q4 18 ∧ (K (1 : Int32) σ5.1))))
theorem mdX0_ranked : yX0_ranked.cls ≠ "java/lang/invoke/MethodHandle" ∧ yX0_ranked.cls ≠ "java/lang/invoke/VarHandle" ∧ (parseMethodDescriptor yX0_ranked.desc).map (fun d => d.parameters.length) = some 3 := by decide +kernel
set_option maxHeartbeats 4000000 in
set_option maxRecDepth 100000 in
theorem R_X0_ranked (l : Launch) (hl : l.stackTraces = false) (G : xG) (hG : G.1.2 = x_cl) (x0 : Option Nat) (x1 : Int32) (x2 : Option Nat) (σ : xS) (K : Int32 → xH → Prop) (KX : Nat → xH → Prop) (hp : P_X0_ranked G.2 x0 x1 x2 σ K KX) : xMH l yX0_ranked cX0_ranked 4 (Option.some Jvm.ClassFile.FieldType.int) [(0, 9, 12, 61)] 10 222 G [va_rf x0, .int x1, va_rf x2] σ (xlift emI K) KX := by
  refine x_entryH (by decide) (by simp [lg_sl, x_catq, x_cati, x_catr, x_catn]) ?_
  intro p e s m args below meth c X hr hin hE
  have X : xX p s m args meth c G cX0_ranked 4 RX0 := X
  have hx := X.1
  have hb := X.2.1
  have hts := X.2.2.2.2.1
  have hown := X.2.2.2.1
  unfold P_X0_ranked at hp
  refine x_same (lo' := [(0, va_rf x0), (1, .int x1), (2, va_rf x2)]) (by simp [lv_args, x_catq, x_cati, x_catr, x_catn]) ?_
  refine x_up (pc' := 1) (fun _ _ _ _ _ L => lv_aloadq_n hx hb dX0_ranked_0 rfl (lv_at L 2 rfl)) ?_
  refine x_up (pc' := 2) (fun _ _ _ _ _ L => lv_iconst (v := (0 : Int32)) hx hb dX0_ranked_1 (by decide)) ?_
  refine x_up (pc' := 3) (fun _ _ _ _ _ L => lv_aloadq_n hx hb dX0_ranked_2 rfl (lv_at L 0 rfl)) ?_
  refine x_up (pc' := 4) (fun _ _ _ _ _ L => lv_iload_n hx hb dX0_ranked_3 rfl (lv_at L 1 rfl)) ?_
  obtain ⟨b1, rfl, hp1⟩ := hp
  refine x_callVX (em := emI) (fun r st => .int r :: st) (fun _ _ => rfl) 1 X (kX1 hG) (fun σ' KK KX h => R_X1_ranked l hl G hG b1 x1 σ' KK KX h) (lw_V q2801 q2802 q2803 q99 q2804) ⟨rfl, mdX1_ranked⟩ ⟨Nat.le_of_ble_eq_true rfl, Nat.le_of_ble_eq_true rfl⟩ rfl rfl (by simp only [List.map_cons, List.map_nil, List.sum_cons, List.sum_nil, x_catq, x_cati, x_catr, x_catn] <;> decide) dX0_ranked_4 hp1.1 hp1.2 (fun v2 σ3 hpA4 => ?_) (fun q4 σ5 hpB4 => ?_)
  · have hp2 := hpA4
    refine x_pc (pc' := 7) rfl ?_
    refine x_up (pc' := 8) (fun _ _ _ _ _ L => lv_i2l hx hb dX0_ranked_7 rfl) ?_
    obtain ⟨b6, rfl, hp3⟩ := hp2
    refine x_last X dX0_ranked_8 hp3 (fun σ7 hp4 => ?_)
    refine x_pc (pc' := 9) rfl ?_
    refine x_up (pc' := 15) (fun _ _ _ _ _ L => lv_goto (tgt := 15) hx hb dX0_ranked_9 (by decide)) ?_
    refine x_up (pc' := 16) (fun _ _ _ _ _ L => lv_iconst (v := (0 : Int32)) hx hb dX0_ranked_15 (by decide)) ?_
    refine x_vx ?_; exact x_iret X hr rfl dX0_ranked_16 hp4
  · have hp5 := hpB4
    obtain ⟨hq4, hp6⟩ := hp5
    obtain ⟨hr4, hp7⟩ := hp6
    refine x_catch X (kJ30 hG) [] ({ startPc := 0, endPc := 9, handlerPc := 12, catchType := 61 } : ExceptionTableEntry) [] (hE.trans rfl) (fun _ h => nomatch h) rfl (by decide) q2725 q1106 hr4 hq4 ?_
    refine x_pc (pc' := 12) rfl ?_
    refine x_st (pc' := 13) ([(3, .ref q4), (0, .ref b1), (1, .int x1), (2, va_rf x2)]) rfl (by simp [x_catq, x_cati, x_catr, x_catn]) (fun _ _ _ _ _ L => lv_astore_n hx hb dX0_ranked_12 rfl L (by decide) rfl) ?_
    refine x_up (pc' := 14) (fun _ _ _ _ _ L => lv_iconst (v := (1 : Int32)) hx hb dX0_ranked_13 (by decide)) ?_
    refine x_vx ?_; exact x_iret X hr rfl dX0_ranked_14 hp7
-- X0_nextDirty
def P_X0_nextDirty (κ : Nat → Nat) (x0 : Option Nat) (x1 : Int32) (x2 : Option Nat) (σ : xS) (K : Int32 → xH → Prop) (KX : Nat → xH → Prop) : Prop :=
  xnn x0 fun b1 => xrc σ b1 0 ∧ xcallX (fun τ L LX => P_X1_nextDirty κ b1 x1 τ L LX) σ (fun v2 σ3 => xnn x2 fun b6 => xsl κ σ3 b6 (0 : Int32) v2.toInt64 fun σ7 => K (0 : Int32) σ7.1) (fun q4 σ5 => κ 0 ≤ q4 ∧ ((xrc σ5 q4 16 ∧ (K (1 : Int32) σ5.1)) ∨ (xrc σ5 q4 18 ∧ (K (2 : Int32) σ5.1))))
theorem mdX0_nextDirty : yX0_nextDirty.cls ≠ "java/lang/invoke/MethodHandle" ∧ yX0_nextDirty.cls ≠ "java/lang/invoke/VarHandle" ∧ (parseMethodDescriptor yX0_nextDirty.desc).map (fun d => d.parameters.length) = some 3 := by decide +kernel
set_option maxHeartbeats 4000000 in
set_option maxRecDepth 100000 in
theorem R_X0_nextDirty (l : Launch) (hl : l.stackTraces = false) (G : xG) (hG : G.1.2 = x_cl) (x0 : Option Nat) (x1 : Int32) (x2 : Option Nat) (σ : xS) (K : Int32 → xH → Prop) (KX : Nat → xH → Prop) (hp : P_X0_nextDirty G.2 x0 x1 x2 σ K KX) : xMH l yX0_nextDirty cX0_nextDirty 4 (Option.some Jvm.ClassFile.FieldType.int) [(0, 9, 12, 44), (0, 9, 15, 61)] 9 152 G [va_rf x0, .int x1, va_rf x2] σ (xlift emI K) KX := by
  refine x_entryH (by decide) (by simp [lg_sl, x_catq, x_cati, x_catr, x_catn]) ?_
  intro p e s m args below meth c X hr hin hE
  have X : xX p s m args meth c G cX0_nextDirty 4 RX0 := X
  have hx := X.1
  have hb := X.2.1
  have hts := X.2.2.2.2.1
  have hown := X.2.2.2.1
  unfold P_X0_nextDirty at hp
  refine x_same (lo' := [(0, va_rf x0), (1, .int x1), (2, va_rf x2)]) (by simp [lv_args, x_catq, x_cati, x_catr, x_catn]) ?_
  refine x_up (pc' := 1) (fun _ _ _ _ _ L => lv_aloadq_n hx hb dX0_nextDirty_0 rfl (lv_at L 2 rfl)) ?_
  refine x_up (pc' := 2) (fun _ _ _ _ _ L => lv_iconst (v := (0 : Int32)) hx hb dX0_nextDirty_1 (by decide)) ?_
  refine x_up (pc' := 3) (fun _ _ _ _ _ L => lv_aloadq_n hx hb dX0_nextDirty_2 rfl (lv_at L 0 rfl)) ?_
  refine x_up (pc' := 4) (fun _ _ _ _ _ L => lv_iload_n hx hb dX0_nextDirty_3 rfl (lv_at L 1 rfl)) ?_
  obtain ⟨b1, rfl, hp1⟩ := hp
  refine x_callVX (em := emI) (fun r st => .int r :: st) (fun _ _ => rfl) 1 X (kX1 hG) (fun σ' KK KX h => R_X1_nextDirty l hl G hG b1 x1 σ' KK KX h) (lw_V q2839 q2840 q2841 q99 q2842) ⟨rfl, mdX1_nextDirty⟩ ⟨Nat.le_of_ble_eq_true rfl, Nat.le_of_ble_eq_true rfl⟩ rfl rfl (by simp only [List.map_cons, List.map_nil, List.sum_cons, List.sum_nil, x_catq, x_cati, x_catr, x_catn] <;> decide) dX0_nextDirty_4 hp1.1 hp1.2 (fun v2 σ3 hpA4 => ?_) (fun q4 σ5 hpB4 => ?_)
  · have hp2 := hpA4
    refine x_pc (pc' := 7) rfl ?_
    refine x_up (pc' := 8) (fun _ _ _ _ _ L => lv_i2l hx hb dX0_nextDirty_7 rfl) ?_
    obtain ⟨b6, rfl, hp3⟩ := hp2
    refine x_last X dX0_nextDirty_8 hp3 (fun σ7 hp4 => ?_)
    refine x_pc (pc' := 9) rfl ?_
    refine x_up (pc' := 18) (fun _ _ _ _ _ L => lv_goto (tgt := 18) hx hb dX0_nextDirty_9 (by decide)) ?_
    refine x_up (pc' := 19) (fun _ _ _ _ _ L => lv_iconst (v := (0 : Int32)) hx hb dX0_nextDirty_18 (by decide)) ?_
    refine x_vx ?_; exact x_iret X hr rfl dX0_nextDirty_19 hp4
  · have hp5 := hpB4
    obtain ⟨hq4, hp6⟩ := hp5
    rcases hp6 with hpC4 | hpC4
    · have hp7 := hpC4
      obtain ⟨hr4, hp8⟩ := hp7
      refine x_catch X (kJ28 hG) [] ({ startPc := 0, endPc := 9, handlerPc := 12, catchType := 44 } : ExceptionTableEntry) [({ startPc := 0, endPc := 9, handlerPc := 15, catchType := 61 } : ExceptionTableEntry)] (hE.trans rfl) (fun _ h => nomatch h) rfl (by decide) q2637 q809 hr4 hq4 ?_
      refine x_pc (pc' := 12) rfl ?_
      refine x_st (pc' := 13) ([(3, .ref q4), (0, .ref b1), (1, .int x1), (2, va_rf x2)]) rfl (by simp [x_catq, x_cati, x_catr, x_catn]) (fun _ _ _ _ _ L => lv_astore_n hx hb dX0_nextDirty_12 rfl L (by decide) rfl) ?_
      refine x_up (pc' := 14) (fun _ _ _ _ _ L => lv_iconst (v := (1 : Int32)) hx hb dX0_nextDirty_13 (by decide)) ?_
      refine x_vx ?_; exact x_iret X hr rfl dX0_nextDirty_14 hp8
    · have hp9 := hpC4
      obtain ⟨hr4, hp10⟩ := hp9
      refine x_catch X (kJ30 hG) [({ startPc := 0, endPc := 9, handlerPc := 12, catchType := 44 } : ExceptionTableEntry)] ({ startPc := 0, endPc := 9, handlerPc := 15, catchType := 61 } : ExceptionTableEntry) [] (hE.trans rfl) (List.forall_mem_cons.mpr ⟨(Or.inr ⟨by decide, "java/lang/IndexOutOfBoundsException", hts _ q2637, x_Nc X (by simp [x_ncs, RJ30])⟩), (fun _ h => nomatch h)⟩) rfl (by decide) q2725 q1106 hr4 hq4 ?_
      refine x_pc (pc' := 15) rfl ?_
      refine x_st (pc' := 16) ([(3, .ref q4), (0, .ref b1), (1, .int x1), (2, va_rf x2)]) rfl (by simp [x_catq, x_cati, x_catr, x_catn]) (fun _ _ _ _ _ L => lv_astore_n hx hb dX0_nextDirty_15 rfl L (by decide) rfl) ?_
      refine x_up (pc' := 17) (fun _ _ _ _ _ L => lv_iconst (v := (2 : Int32)) hx hb dX0_nextDirty_16 (by decide)) ?_
      refine x_vx ?_; exact x_iret X hr rfl dX0_nextDirty_17 hp10
-- X0_feed
def P_X0_feed (κ : Nat → Nat) (x0 : Option Nat) (x1 : Int32) (x2 : Option Nat) (σ : xS) (K : Int32 → xH → Prop) (KX : Nat → xH → Prop) : Prop :=
  xnn x0 fun b1 => xrc σ b1 0 ∧ xcallX (fun τ L LX => P_X1_feed κ b1 x1 τ L LX) σ (fun v2 σ3 => xnn x2 fun b6 => xsl κ σ3 b6 (0 : Int32) v2.toInt64 fun σ7 => K (0 : Int32) σ7.1) (fun q4 σ5 => κ 0 ≤ q4 ∧ ((xrc σ5 q4 32 ∧ (K (1 : Int32) σ5.1))))
theorem mdX0_feed : yX0_feed.cls ≠ "java/lang/invoke/MethodHandle" ∧ yX0_feed.cls ≠ "java/lang/invoke/VarHandle" ∧ (parseMethodDescriptor yX0_feed.desc).map (fun d => d.parameters.length) = some 3 := by decide +kernel
set_option maxHeartbeats 4000000 in
set_option maxRecDepth 100000 in
theorem R_X0_feed (l : Launch) (hl : l.stackTraces = false) (G : xG) (hG : G.1.2 = x_cl) (x0 : Option Nat) (x1 : Int32) (x2 : Option Nat) (σ : xS) (K : Int32 → xH → Prop) (KX : Nat → xH → Prop) (hp : P_X0_feed G.2 x0 x1 x2 σ K KX) : xMH l yX0_feed cX0_feed 4 (Option.some Jvm.ClassFile.FieldType.int) [(0, 9, 12, 91)] 9 200 G [va_rf x0, .int x1, va_rf x2] σ (xlift emI K) KX := by
  refine x_entryH (by decide) (by simp [lg_sl, x_catq, x_cati, x_catr, x_catn]) ?_
  intro p e s m args below meth c X hr hin hE
  have X : xX p s m args meth c G cX0_feed 4 RX0 := X
  have hx := X.1
  have hb := X.2.1
  have hts := X.2.2.2.2.1
  have hown := X.2.2.2.1
  unfold P_X0_feed at hp
  refine x_same (lo' := [(0, va_rf x0), (1, .int x1), (2, va_rf x2)]) (by simp [lv_args, x_catq, x_cati, x_catr, x_catn]) ?_
  refine x_up (pc' := 1) (fun _ _ _ _ _ L => lv_aloadq_n hx hb dX0_feed_0 rfl (lv_at L 2 rfl)) ?_
  refine x_up (pc' := 2) (fun _ _ _ _ _ L => lv_iconst (v := (0 : Int32)) hx hb dX0_feed_1 (by decide)) ?_
  refine x_up (pc' := 3) (fun _ _ _ _ _ L => lv_aloadq_n hx hb dX0_feed_2 rfl (lv_at L 0 rfl)) ?_
  refine x_up (pc' := 4) (fun _ _ _ _ _ L => lv_iload_n hx hb dX0_feed_3 rfl (lv_at L 1 rfl)) ?_
  obtain ⟨b1, rfl, hp1⟩ := hp
  refine x_callVX (em := emI) (fun r st => .int r :: st) (fun _ _ => rfl) 1 X (kX1 hG) (fun σ' KK KX h => R_X1_feed l hl G hG b1 x1 σ' KK KX h) (lw_V q2855 q2856 q2857 q99 q2858) ⟨rfl, mdX1_feed⟩ ⟨Nat.le_of_ble_eq_true rfl, Nat.le_of_ble_eq_true rfl⟩ rfl rfl (by simp only [List.map_cons, List.map_nil, List.sum_cons, List.sum_nil, x_catq, x_cati, x_catr, x_catn] <;> decide) dX0_feed_4 hp1.1 hp1.2 (fun v2 σ3 hpA4 => ?_) (fun q4 σ5 hpB4 => ?_)
  · have hp2 := hpA4
    refine x_pc (pc' := 7) rfl ?_
    refine x_up (pc' := 8) (fun _ _ _ _ _ L => lv_i2l hx hb dX0_feed_7 rfl) ?_
    obtain ⟨b6, rfl, hp3⟩ := hp2
    refine x_last X dX0_feed_8 hp3 (fun σ7 hp4 => ?_)
    refine x_pc (pc' := 9) rfl ?_
    refine x_up (pc' := 15) (fun _ _ _ _ _ L => lv_goto (tgt := 15) hx hb dX0_feed_9 (by decide)) ?_
    refine x_up (pc' := 16) (fun _ _ _ _ _ L => lv_iconst (v := (0 : Int32)) hx hb dX0_feed_15 (by decide)) ?_
    refine x_vx ?_; exact x_iret X hr rfl dX0_feed_16 hp4
  · have hp5 := hpB4
    obtain ⟨hq4, hp6⟩ := hp5
    obtain ⟨hr4, hp7⟩ := hp6
    refine x_catch X (kJ43 hG) [] ({ startPc := 0, endPc := 9, handlerPc := 12, catchType := 91 } : ExceptionTableEntry) [] (hE.trans rfl) (fun _ h => nomatch h) rfl (by decide) q2854 q2009 hr4 hq4 ?_
    refine x_pc (pc' := 12) rfl ?_
    refine x_st (pc' := 13) ([(3, .ref q4), (0, .ref b1), (1, .int x1), (2, va_rf x2)]) rfl (by simp [x_catq, x_cati, x_catr, x_catn]) (fun _ _ _ _ _ L => lv_astore_n hx hb dX0_feed_12 rfl L (by decide) rfl) ?_
    refine x_up (pc' := 14) (fun _ _ _ _ _ L => lv_iconst (v := (1 : Int32)) hx hb dX0_feed_13 (by decide)) ?_
    refine x_vx ?_; exact x_iret X hr rfl dX0_feed_14 hp7
-- X0_run
def P_X0_run (κ : Nat → Nat) (x0 : Option Nat) (x1 : Option Nat) (σ : xS) (K : Int32 → xH → Prop) (KX : Nat → xH → Prop) : Prop :=
  xnn x0 fun b1 => xrc σ b1 0 ∧ xcallX (fun τ L LX => P_X1_run κ b1 τ L LX) σ (fun v2 σ3 => xnn x1 fun b6 => xsl κ σ3 b6 (0 : Int32) v2.toInt64 fun σ7 => K (0 : Int32) σ7.1) (fun q4 σ5 => κ 0 ≤ q4 ∧ ((xrc σ5 q4 17 ∧ (K (1 : Int32) σ5.1)) ∨ (xrc σ5 q4 20 ∧ (K (2 : Int32) σ5.1))))
theorem mdX0_run : yX0_run.cls ≠ "java/lang/invoke/MethodHandle" ∧ yX0_run.cls ≠ "java/lang/invoke/VarHandle" ∧ (parseMethodDescriptor yX0_run.desc).map (fun d => d.parameters.length) = some 2 := by decide +kernel
set_option maxHeartbeats 4000000 in
set_option maxRecDepth 100000 in
theorem R_X0_run (l : Launch) (hl : l.stackTraces = false) (G : xG) (hG : G.1.2 = x_cl) (x0 : Option Nat) (x1 : Option Nat) (σ : xS) (K : Int32 → xH → Prop) (KX : Nat → xH → Prop) (hp : P_X0_run G.2 x0 x1 σ K KX) : xMH l yX0_run cX0_run 3 (Option.some Jvm.ClassFile.FieldType.int) [(0, 8, 11, 56), (0, 8, 14, 13)] 17 477 G [va_rf x0, va_rf x1] σ (xlift emI K) KX := by
  refine x_entryH (by decide) (by simp [lg_sl, x_catq, x_cati, x_catr, x_catn]) ?_
  intro p e s m args below meth c X hr hin hE
  have X : xX p s m args meth c G cX0_run 3 RX0 := X
  have hx := X.1
  have hb := X.2.1
  have hts := X.2.2.2.2.1
  have hown := X.2.2.2.1
  unfold P_X0_run at hp
  refine x_same (lo' := [(0, va_rf x0), (1, va_rf x1)]) (by simp [lv_args, x_catq, x_cati, x_catr, x_catn]) ?_
  refine x_up (pc' := 1) (fun _ _ _ _ _ L => lv_aloadq_n hx hb dX0_run_0 rfl (lv_at L 1 rfl)) ?_
  refine x_up (pc' := 2) (fun _ _ _ _ _ L => lv_iconst (v := (0 : Int32)) hx hb dX0_run_1 (by decide)) ?_
  refine x_up (pc' := 3) (fun _ _ _ _ _ L => lv_aloadq_n hx hb dX0_run_2 rfl (lv_at L 0 rfl)) ?_
  obtain ⟨b1, rfl, hp1⟩ := hp
  refine x_callVH (em := emI) (fun r st => .int r :: st) (fun _ _ => rfl) 0 X (kX1 hG) (fun σ' KK KX h => R_X1_run l hl G hG b1 σ' KK KX h) (lw_VW q2891 q2892 q2893 q99 q2894) ⟨rfl, mdX1_run⟩ ⟨Nat.le_of_ble_eq_true rfl, Nat.le_of_ble_eq_true rfl⟩ rfl rfl (by simp only [List.map_cons, List.map_nil, List.sum_cons, List.sum_nil, x_catq, x_cati, x_catr, x_catn] <;> decide) dX0_run_3 hp1.1 hp1.2 (fun v2 σ3 hpA3 => ?_) (fun q4 σ5 hpB3 => ?_)
  · have hp2 := hpA3
    refine x_pc (pc' := 6) rfl ?_
    refine x_up (pc' := 7) (fun _ _ _ _ _ L => lv_i2l hx hb dX0_run_6 rfl) ?_
    obtain ⟨b6, rfl, hp3⟩ := hp2
    refine x_last X dX0_run_7 hp3 (fun σ7 hp4 => ?_)
    refine x_pc (pc' := 8) rfl ?_
    refine x_up (pc' := 17) (fun _ _ _ _ _ L => lv_goto (tgt := 17) hx hb dX0_run_8 (by decide)) ?_
    refine x_up (pc' := 18) (fun _ _ _ _ _ L => lv_iconst (v := (0 : Int32)) hx hb dX0_run_17 (by decide)) ?_
    refine x_vx ?_; exact x_iret X hr rfl dX0_run_18 hp4
  · have hp5 := hpB3
    obtain ⟨hq3, hp6⟩ := hp5
    rcases hp6 with hpC3 | hpC3
    · have hp7 := hpC3
      obtain ⟨hr3, hp8⟩ := hp7
      refine x_catch X (kJ29 hG) [] ({ startPc := 0, endPc := 8, handlerPc := 11, catchType := 56 } : ExceptionTableEntry) [({ startPc := 0, endPc := 8, handlerPc := 14, catchType := 13 } : ExceptionTableEntry)] (hE.trans rfl) (fun _ h => nomatch h) rfl (by decide) q2705 q1030 hr3 hq3 ?_
      refine x_pc (pc' := 11) rfl ?_
      refine x_st (pc' := 12) ([(2, .ref q4), (0, .ref b1), (1, va_rf x1)]) rfl (by simp [x_catq, x_cati, x_catr, x_catn]) (fun _ _ _ _ _ L => lv_astore_n hx hb dX0_run_11 rfl L (by decide) rfl) ?_
      refine x_up (pc' := 13) (fun _ _ _ _ _ L => lv_iconst (v := (1 : Int32)) hx hb dX0_run_12 (by decide)) ?_
      refine x_vx ?_; exact x_iret X hr rfl dX0_run_13 hp8
    · have hp9 := hpC3
      obtain ⟨hr3, hp10⟩ := hp9
      refine x_catch X (kJ32 hG) [({ startPc := 0, endPc := 8, handlerPc := 11, catchType := 56 } : ExceptionTableEntry)] ({ startPc := 0, endPc := 8, handlerPc := 14, catchType := 13 } : ExceptionTableEntry) [] (hE.trans rfl) (List.forall_mem_cons.mpr ⟨(Or.inr ⟨by decide, "java/lang/IllegalArgumentException", hts _ q2705, x_Nc X (by simp [x_ncs, RJ32])⟩), (fun _ h => nomatch h)⟩) rfl (by decide) q2124 q2557 hr3 hq3 ?_
      refine x_pc (pc' := 14) rfl ?_
      refine x_st (pc' := 15) ([(2, .ref q4), (0, .ref b1), (1, va_rf x1)]) rfl (by simp [x_catq, x_cati, x_catr, x_catn]) (fun _ _ _ _ _ L => lv_astore_n hx hb dX0_run_14 rfl L (by decide) rfl) ?_
      refine x_up (pc' := 16) (fun _ _ _ _ _ L => lv_iconst (v := (2 : Int32)) hx hb dX0_run_15 (by decide)) ?_
      refine x_vx ?_; exact x_iret X hr rfl dX0_run_16 hp10
-- X0_faultPosition
def P_X0_faultPosition (κ : Nat → Nat) (x0 : Option Nat) (x1 : Option Nat) (σ : xS) (K : Int32 → xH → Prop) (KX : Nat → xH → Prop) : Prop :=
  xnn x0 fun b1 => xrc σ b1 0 ∧ xcallX (fun τ L LX => P_X1_faultPosition κ b1 τ L LX) σ (fun v2 σ3 => xnn x1 fun b6 => xsl κ σ3 b6 (0 : Int32) v2.toInt64 fun σ7 => K (0 : Int32) σ7.1) (fun q4 σ5 => κ 0 ≤ q4 ∧ ((xrc σ5 q4 18 ∧ (K (1 : Int32) σ5.1))))
theorem mdX0_faultPosition : yX0_faultPosition.cls ≠ "java/lang/invoke/MethodHandle" ∧ yX0_faultPosition.cls ≠ "java/lang/invoke/VarHandle" ∧ (parseMethodDescriptor yX0_faultPosition.desc).map (fun d => d.parameters.length) = some 2 := by decide +kernel
set_option maxHeartbeats 4000000 in
set_option maxRecDepth 100000 in
theorem R_X0_faultPosition (l : Launch) (hl : l.stackTraces = false) (G : xG) (hG : G.1.2 = x_cl) (x0 : Option Nat) (x1 : Option Nat) (σ : xS) (K : Int32 → xH → Prop) (KX : Nat → xH → Prop) (hp : P_X0_faultPosition G.2 x0 x1 σ K KX) : xMH l yX0_faultPosition cX0_faultPosition 3 (Option.some Jvm.ClassFile.FieldType.int) [(0, 8, 11, 61)] 9 149 G [va_rf x0, va_rf x1] σ (xlift emI K) KX := by
  refine x_entryH (by decide) (by simp [lg_sl, x_catq, x_cati, x_catr, x_catn]) ?_
  intro p e s m args below meth c X hr hin hE
  have X : xX p s m args meth c G cX0_faultPosition 3 RX0 := X
  have hx := X.1
  have hb := X.2.1
  have hts := X.2.2.2.2.1
  have hown := X.2.2.2.1
  unfold P_X0_faultPosition at hp
  refine x_same (lo' := [(0, va_rf x0), (1, va_rf x1)]) (by simp [lv_args, x_catq, x_cati, x_catr, x_catn]) ?_
  refine x_up (pc' := 1) (fun _ _ _ _ _ L => lv_aloadq_n hx hb dX0_faultPosition_0 rfl (lv_at L 1 rfl)) ?_
  refine x_up (pc' := 2) (fun _ _ _ _ _ L => lv_iconst (v := (0 : Int32)) hx hb dX0_faultPosition_1 (by decide)) ?_
  refine x_up (pc' := 3) (fun _ _ _ _ _ L => lv_aloadq_n hx hb dX0_faultPosition_2 rfl (lv_at L 0 rfl)) ?_
  obtain ⟨b1, rfl, hp1⟩ := hp
  refine x_callVX (em := emI) (fun r st => .int r :: st) (fun _ _ => rfl) 0 X (kX1 hG) (fun σ' KK KX h => R_X1_faultPosition l hl G hG b1 σ' KK KX h) (lw_V q3093 q3094 q3095 q99 q3096) ⟨rfl, mdX1_faultPosition⟩ ⟨Nat.le_of_ble_eq_true rfl, Nat.le_of_ble_eq_true rfl⟩ rfl rfl (by simp only [List.map_cons, List.map_nil, List.sum_cons, List.sum_nil, x_catq, x_cati, x_catr, x_catn] <;> decide) dX0_faultPosition_3 hp1.1 hp1.2 (fun v2 σ3 hpA3 => ?_) (fun q4 σ5 hpB3 => ?_)
  · have hp2 := hpA3
    refine x_pc (pc' := 6) rfl ?_
    refine x_up (pc' := 7) (fun _ _ _ _ _ L => lv_i2l hx hb dX0_faultPosition_6 rfl) ?_
    obtain ⟨b6, rfl, hp3⟩ := hp2
    refine x_last X dX0_faultPosition_7 hp3 (fun σ7 hp4 => ?_)
    refine x_pc (pc' := 8) rfl ?_
    refine x_up (pc' := 14) (fun _ _ _ _ _ L => lv_goto (tgt := 14) hx hb dX0_faultPosition_8 (by decide)) ?_
    refine x_up (pc' := 15) (fun _ _ _ _ _ L => lv_iconst (v := (0 : Int32)) hx hb dX0_faultPosition_14 (by decide)) ?_
    refine x_vx ?_; exact x_iret X hr rfl dX0_faultPosition_15 hp4
  · have hp5 := hpB3
    obtain ⟨hq3, hp6⟩ := hp5
    obtain ⟨hr3, hp7⟩ := hp6
    refine x_catch X (kJ30 hG) [] ({ startPc := 0, endPc := 8, handlerPc := 11, catchType := 61 } : ExceptionTableEntry) [] (hE.trans rfl) (fun _ h => nomatch h) rfl (by decide) q2725 q1106 hr3 hq3 ?_
    refine x_pc (pc' := 11) rfl ?_
    refine x_st (pc' := 12) ([(2, .ref q4), (0, .ref b1), (1, va_rf x1)]) rfl (by simp [x_catq, x_cati, x_catr, x_catn]) (fun _ _ _ _ _ L => lv_astore_n hx hb dX0_faultPosition_11 rfl L (by decide) rfl) ?_
    refine x_up (pc' := 13) (fun _ _ _ _ _ L => lv_iconst (v := (1 : Int32)) hx hb dX0_faultPosition_12 (by decide)) ?_
    refine x_vx ?_; exact x_iret X hr rfl dX0_faultPosition_13 hp7
-- X0_reason
def P_X0_reason (κ : Nat → Nat) (x0 : Option Nat) (x1 : Int32) (x2 : Int32) (x3 : Option Nat) (σ : xS) (K : Int32 → xH → Prop) (KX : Nat → xH → Prop) : Prop :=
  xnn x0 fun b1 => xrc σ b1 0 ∧ xcallX (fun τ L LX => P_X1_reason κ b1 x1 x2 τ L LX) σ (fun v2 σ3 => xnn x3 fun b6 => xsl κ σ3 b6 (0 : Int32) v2.toInt64 fun σ7 => K (0 : Int32) σ7.1) (fun q4 σ5 => κ 0 ≤ q4 ∧ ((xrc σ5 q4 18 ∧ (K (1 : Int32) σ5.1))))
theorem mdX0_reason : yX0_reason.cls ≠ "java/lang/invoke/MethodHandle" ∧ yX0_reason.cls ≠ "java/lang/invoke/VarHandle" ∧ (parseMethodDescriptor yX0_reason.desc).map (fun d => d.parameters.length) = some 4 := by decide +kernel
set_option maxHeartbeats 4000000 in
set_option maxRecDepth 100000 in
theorem R_X0_reason (l : Launch) (hl : l.stackTraces = false) (G : xG) (hG : G.1.2 = x_cl) (x0 : Option Nat) (x1 : Int32) (x2 : Int32) (x3 : Option Nat) (σ : xS) (K : Int32 → xH → Prop) (KX : Nat → xH → Prop) (hp : P_X0_reason G.2 x0 x1 x2 x3 σ K KX) : xMH l yX0_reason cX0_reason 5 (Option.some Jvm.ClassFile.FieldType.int) [(0, 10, 13, 61)] 8 132 G [va_rf x0, .int x1, .int x2, va_rf x3] σ (xlift emI K) KX := by
  refine x_entryH (by decide) (by simp [lg_sl, x_catq, x_cati, x_catr, x_catn]) ?_
  intro p e s m args below meth c X hr hin hE
  have X : xX p s m args meth c G cX0_reason 5 RX0 := X
  have hx := X.1
  have hb := X.2.1
  have hts := X.2.2.2.2.1
  have hown := X.2.2.2.1
  unfold P_X0_reason at hp
  refine x_same (lo' := [(0, va_rf x0), (1, .int x1), (2, .int x2), (3, va_rf x3)]) (by simp [lv_args, x_catq, x_cati, x_catr, x_catn]) ?_
  refine x_up (pc' := 1) (fun _ _ _ _ _ L => lv_aloadq_n hx hb dX0_reason_0 rfl (lv_at L 3 rfl)) ?_
  refine x_up (pc' := 2) (fun _ _ _ _ _ L => lv_iconst (v := (0 : Int32)) hx hb dX0_reason_1 (by decide)) ?_
  refine x_up (pc' := 3) (fun _ _ _ _ _ L => lv_aloadq_n hx hb dX0_reason_2 rfl (lv_at L 0 rfl)) ?_
  refine x_up (pc' := 4) (fun _ _ _ _ _ L => lv_iload_n hx hb dX0_reason_3 rfl (lv_at L 1 rfl)) ?_
  refine x_up (pc' := 5) (fun _ _ _ _ _ L => lv_iload_n hx hb dX0_reason_4 rfl (lv_at L 2 rfl)) ?_
  obtain ⟨b1, rfl, hp1⟩ := hp
  refine x_callVX (em := emI) (fun r st => .int r :: st) (fun _ _ => rfl) 2 X (kX1 hG) (fun σ' KK KX h => R_X1_reason l hl G hG b1 x1 x2 σ' KK KX h) (lw_V q3100 q3101 q3102 q99 q3103) ⟨rfl, mdX1_reason⟩ ⟨Nat.le_of_ble_eq_true rfl, Nat.le_of_ble_eq_true rfl⟩ rfl rfl (by simp only [List.map_cons, List.map_nil, List.sum_cons, List.sum_nil, x_catq, x_cati, x_catr, x_catn] <;> decide) dX0_reason_5 hp1.1 hp1.2 (fun v2 σ3 hpA5 => ?_) (fun q4 σ5 hpB5 => ?_)
  · have hp2 := hpA5
    refine x_pc (pc' := 8) rfl ?_
    refine x_up (pc' := 9) (fun _ _ _ _ _ L => lv_i2l hx hb dX0_reason_8 rfl) ?_
    obtain ⟨b6, rfl, hp3⟩ := hp2
    refine x_last X dX0_reason_9 hp3 (fun σ7 hp4 => ?_)
    refine x_pc (pc' := 10) rfl ?_
    refine x_up (pc' := 17) (fun _ _ _ _ _ L => lv_goto (tgt := 17) hx hb dX0_reason_10 (by decide)) ?_
    refine x_up (pc' := 18) (fun _ _ _ _ _ L => lv_iconst (v := (0 : Int32)) hx hb dX0_reason_17 (by decide)) ?_
    refine x_vx ?_; exact x_iret X hr rfl dX0_reason_18 hp4
  · have hp5 := hpB5
    obtain ⟨hq5, hp6⟩ := hp5
    obtain ⟨hr5, hp7⟩ := hp6
    refine x_catch X (kJ30 hG) [] ({ startPc := 0, endPc := 10, handlerPc := 13, catchType := 61 } : ExceptionTableEntry) [] (hE.trans rfl) (fun _ h => nomatch h) rfl (by decide) q2725 q1106 hr5 hq5 ?_
    refine x_pc (pc' := 13) rfl ?_
    refine x_st (pc' := 15) ([(4, .ref q4), (0, .ref b1), (1, .int x1), (2, .int x2), (3, va_rf x3)]) rfl (by simp [x_catq, x_cati, x_catr, x_catn]) (fun _ _ _ _ _ L => lv_astore hx hb dX0_reason_13 L (by decide) rfl) ?_
    refine x_up (pc' := 16) (fun _ _ _ _ _ L => lv_iconst (v := (1 : Int32)) hx hb dX0_reason_15 (by decide)) ?_
    refine x_vx ?_; exact x_iret X hr rfl dX0_reason_16 hp7
-- X0_tell
def P_X0_tell (κ : Nat → Nat) (x0 : Option Nat) (x1 : Int32) (x2 : Option Nat) (σ : xS) (K : Int32 → xH → Prop) (KX : Nat → xH → Prop) : Prop :=
  xnn x0 fun b1 => xrc σ b1 0 ∧ xcallX (fun τ L LX => P_X1_tell κ b1 x1 τ L LX) σ (fun v2 σ3 => xnn x2 fun b6 => xsl κ σ3 b6 (0 : Int32) v2.toInt64 fun σ7 => K (0 : Int32) σ7.1) (fun q4 σ5 => κ 0 ≤ q4 ∧ ((xrc σ5 q4 16 ∧ (K (1 : Int32) σ5.1))))
theorem mdX0_tell : yX0_tell.cls ≠ "java/lang/invoke/MethodHandle" ∧ yX0_tell.cls ≠ "java/lang/invoke/VarHandle" ∧ (parseMethodDescriptor yX0_tell.desc).map (fun d => d.parameters.length) = some 3 := by decide +kernel
set_option maxHeartbeats 4000000 in
set_option maxRecDepth 100000 in
theorem R_X0_tell (l : Launch) (hl : l.stackTraces = false) (G : xG) (hG : G.1.2 = x_cl) (x0 : Option Nat) (x1 : Int32) (x2 : Option Nat) (σ : xS) (K : Int32 → xH → Prop) (KX : Nat → xH → Prop) (hp : P_X0_tell G.2 x0 x1 x2 σ K KX) : xMH l yX0_tell cX0_tell 4 (Option.some Jvm.ClassFile.FieldType.int) [(0, 9, 12, 44)] 13 290 G [va_rf x0, .int x1, va_rf x2] σ (xlift emI K) KX := by
  refine x_entryH (by decide) (by simp [lg_sl, x_catq, x_cati, x_catr, x_catn]) ?_
  intro p e s m args below meth c X hr hin hE
  have X : xX p s m args meth c G cX0_tell 4 RX0 := X
  have hx := X.1
  have hb := X.2.1
  have hts := X.2.2.2.2.1
  have hown := X.2.2.2.1
  unfold P_X0_tell at hp
  refine x_same (lo' := [(0, va_rf x0), (1, .int x1), (2, va_rf x2)]) (by simp [lv_args, x_catq, x_cati, x_catr, x_catn]) ?_
  refine x_up (pc' := 1) (fun _ _ _ _ _ L => lv_aloadq_n hx hb dX0_tell_0 rfl (lv_at L 2 rfl)) ?_
  refine x_up (pc' := 2) (fun _ _ _ _ _ L => lv_iconst (v := (0 : Int32)) hx hb dX0_tell_1 (by decide)) ?_
  refine x_up (pc' := 3) (fun _ _ _ _ _ L => lv_aloadq_n hx hb dX0_tell_2 rfl (lv_at L 0 rfl)) ?_
  refine x_up (pc' := 4) (fun _ _ _ _ _ L => lv_iload_n hx hb dX0_tell_3 rfl (lv_at L 1 rfl)) ?_
  obtain ⟨b1, rfl, hp1⟩ := hp
  refine x_callVX (em := emI) (fun r st => .int r :: st) (fun _ _ => rfl) 1 X (kX1 hG) (fun σ' KK KX h => R_X1_tell l hl G hG b1 x1 σ' KK KX h) (lw_V q3107 q3108 q3109 q99 q3110) ⟨rfl, mdX1_tell⟩ ⟨Nat.le_of_ble_eq_true rfl, Nat.le_of_ble_eq_true rfl⟩ rfl rfl (by simp only [List.map_cons, List.map_nil, List.sum_cons, List.sum_nil, x_catq, x_cati, x_catr, x_catn] <;> decide) dX0_tell_4 hp1.1 hp1.2 (fun v2 σ3 hpA4 => ?_) (fun q4 σ5 hpB4 => ?_)
  · have hp2 := hpA4
    refine x_pc (pc' := 7) rfl ?_
    refine x_up (pc' := 8) (fun _ _ _ _ _ L => lv_i2l hx hb dX0_tell_7 rfl) ?_
    obtain ⟨b6, rfl, hp3⟩ := hp2
    refine x_last X dX0_tell_8 hp3 (fun σ7 hp4 => ?_)
    refine x_pc (pc' := 9) rfl ?_
    refine x_up (pc' := 15) (fun _ _ _ _ _ L => lv_goto (tgt := 15) hx hb dX0_tell_9 (by decide)) ?_
    refine x_up (pc' := 16) (fun _ _ _ _ _ L => lv_iconst (v := (0 : Int32)) hx hb dX0_tell_15 (by decide)) ?_
    refine x_vx ?_; exact x_iret X hr rfl dX0_tell_16 hp4
  · have hp5 := hpB4
    obtain ⟨hq4, hp6⟩ := hp5
    obtain ⟨hr4, hp7⟩ := hp6
    refine x_catch X (kJ28 hG) [] ({ startPc := 0, endPc := 9, handlerPc := 12, catchType := 44 } : ExceptionTableEntry) [] (hE.trans rfl) (fun _ h => nomatch h) rfl (by decide) q2637 q809 hr4 hq4 ?_
    refine x_pc (pc' := 12) rfl ?_
    refine x_st (pc' := 13) ([(3, .ref q4), (0, .ref b1), (1, .int x1), (2, va_rf x2)]) rfl (by simp [x_catq, x_cati, x_catr, x_catn]) (fun _ _ _ _ _ L => lv_astore_n hx hb dX0_tell_12 rfl L (by decide) rfl) ?_
    refine x_up (pc' := 14) (fun _ _ _ _ _ L => lv_iconst (v := (1 : Int32)) hx hb dX0_tell_13 (by decide)) ?_
    refine x_vx ?_; exact x_iret X hr rfl dX0_tell_14 hp7
-- X0_character
def P_X0_character (κ : Nat → Nat) (x0 : Option Nat) (x1 : Int32) (x2 : Option Nat) (σ : xS) (K : Int32 → xH → Prop) (KX : Nat → xH → Prop) : Prop :=
  xnn x0 fun b1 => xrc σ b1 0 ∧ xcallX (fun τ L LX => P_X1_character κ b1 x1 τ L LX) σ (fun v2 σ3 => xnn x2 fun b6 => xsl κ σ3 b6 (0 : Int32) v2.toInt64 fun σ7 => K (0 : Int32) σ7.1) (fun q4 σ5 => κ 0 ≤ q4 ∧ ((xrc σ5 q4 16 ∧ (K (1 : Int32) σ5.1))))
theorem mdX0_character : yX0_character.cls ≠ "java/lang/invoke/MethodHandle" ∧ yX0_character.cls ≠ "java/lang/invoke/VarHandle" ∧ (parseMethodDescriptor yX0_character.desc).map (fun d => d.parameters.length) = some 3 := by decide +kernel
set_option maxHeartbeats 4000000 in
set_option maxRecDepth 100000 in
theorem R_X0_character (l : Launch) (hl : l.stackTraces = false) (G : xG) (hG : G.1.2 = x_cl) (x0 : Option Nat) (x1 : Int32) (x2 : Option Nat) (σ : xS) (K : Int32 → xH → Prop) (KX : Nat → xH → Prop) (hp : P_X0_character G.2 x0 x1 x2 σ K KX) : xMH l yX0_character cX0_character 4 (Option.some Jvm.ClassFile.FieldType.int) [(0, 9, 12, 44)] 8 130 G [va_rf x0, .int x1, va_rf x2] σ (xlift emI K) KX := by
  refine x_entryH (by decide) (by simp [lg_sl, x_catq, x_cati, x_catr, x_catn]) ?_
  intro p e s m args below meth c X hr hin hE
  have X : xX p s m args meth c G cX0_character 4 RX0 := X
  have hx := X.1
  have hb := X.2.1
  have hts := X.2.2.2.2.1
  have hown := X.2.2.2.1
  unfold P_X0_character at hp
  refine x_same (lo' := [(0, va_rf x0), (1, .int x1), (2, va_rf x2)]) (by simp [lv_args, x_catq, x_cati, x_catr, x_catn]) ?_
  refine x_up (pc' := 1) (fun _ _ _ _ _ L => lv_aloadq_n hx hb dX0_character_0 rfl (lv_at L 2 rfl)) ?_
  refine x_up (pc' := 2) (fun _ _ _ _ _ L => lv_iconst (v := (0 : Int32)) hx hb dX0_character_1 (by decide)) ?_
  refine x_up (pc' := 3) (fun _ _ _ _ _ L => lv_aloadq_n hx hb dX0_character_2 rfl (lv_at L 0 rfl)) ?_
  refine x_up (pc' := 4) (fun _ _ _ _ _ L => lv_iload_n hx hb dX0_character_3 rfl (lv_at L 1 rfl)) ?_
  obtain ⟨b1, rfl, hp1⟩ := hp
  refine x_callVX (em := emI) (fun r st => .int r :: st) (fun _ _ => rfl) 1 X (kX1 hG) (fun σ' KK KX h => R_X1_character l hl G hG b1 x1 σ' KK KX h) (lw_V q3139 q3140 q3141 q99 q3142) ⟨rfl, mdX1_character⟩ ⟨Nat.le_of_ble_eq_true rfl, Nat.le_of_ble_eq_true rfl⟩ rfl rfl (by simp only [List.map_cons, List.map_nil, List.sum_cons, List.sum_nil, x_catq, x_cati, x_catr, x_catn] <;> decide) dX0_character_4 hp1.1 hp1.2 (fun v2 σ3 hpA4 => ?_) (fun q4 σ5 hpB4 => ?_)
  · have hp2 := hpA4
    refine x_pc (pc' := 7) rfl ?_
    refine x_up (pc' := 8) (fun _ _ _ _ _ L => lv_i2l hx hb dX0_character_7 rfl) ?_
    obtain ⟨b6, rfl, hp3⟩ := hp2
    refine x_last X dX0_character_8 hp3 (fun σ7 hp4 => ?_)
    refine x_pc (pc' := 9) rfl ?_
    refine x_up (pc' := 15) (fun _ _ _ _ _ L => lv_goto (tgt := 15) hx hb dX0_character_9 (by decide)) ?_
    refine x_up (pc' := 16) (fun _ _ _ _ _ L => lv_iconst (v := (0 : Int32)) hx hb dX0_character_15 (by decide)) ?_
    refine x_vx ?_; exact x_iret X hr rfl dX0_character_16 hp4
  · have hp5 := hpB4
    obtain ⟨hq4, hp6⟩ := hp5
    obtain ⟨hr4, hp7⟩ := hp6
    refine x_catch X (kJ28 hG) [] ({ startPc := 0, endPc := 9, handlerPc := 12, catchType := 44 } : ExceptionTableEntry) [] (hE.trans rfl) (fun _ h => nomatch h) rfl (by decide) q2637 q809 hr4 hq4 ?_
    refine x_pc (pc' := 12) rfl ?_
    refine x_st (pc' := 13) ([(3, .ref q4), (0, .ref b1), (1, .int x1), (2, va_rf x2)]) rfl (by simp [x_catq, x_cati, x_catr, x_catn]) (fun _ _ _ _ _ L => lv_astore_n hx hb dX0_character_12 rfl L (by decide) rfl) ?_
    refine x_up (pc' := 14) (fun _ _ _ _ _ L => lv_iconst (v := (1 : Int32)) hx hb dX0_character_13 (by decide)) ?_
    refine x_vx ?_; exact x_iret X hr rfl dX0_character_14 hp7
-- X0_hitShare
def P_X0_hitShare (κ : Nat → Nat) (x0 : Option Nat) (x1 : Option Nat) (σ : xS) (K : Int32 → xH → Prop) (KX : Nat → xH → Prop) : Prop :=
  xnn x0 fun b1 => xrc σ b1 0 ∧ xcallX (fun τ L LX => P_X1_hitShare κ b1 τ L LX) σ (fun v2 σ3 => vf_n64 (FP.f2d v2) ∧ xnn x1 fun b6 => xsd κ σ3 b6 (0 : Int32) (FP.f2d v2) fun σ7 => K (0 : Int32) σ7.1) (fun q4 σ5 => κ 0 ≤ q4 ∧ ((xrc σ5 q4 39 ∧ (K (1 : Int32) σ5.1))))
theorem mdX0_hitShare : yX0_hitShare.cls ≠ "java/lang/invoke/MethodHandle" ∧ yX0_hitShare.cls ≠ "java/lang/invoke/VarHandle" ∧ (parseMethodDescriptor yX0_hitShare.desc).map (fun d => d.parameters.length) = some 2 := by decide +kernel
set_option maxHeartbeats 4000000 in
set_option maxRecDepth 100000 in
theorem R_X0_hitShare (l : Launch) (hl : l.stackTraces = false) (G : xG) (hG : G.1.2 = x_cl) (x0 : Option Nat) (x1 : Option Nat) (σ : xS) (K : Int32 → xH → Prop) (KX : Nat → xH → Prop) (hp : P_X0_hitShare G.2 x0 x1 σ K KX) : xMH l yX0_hitShare cX0_hitShare 3 (Option.some Jvm.ClassFile.FieldType.int) [(0, 8, 11, 114)] 7 110 G [va_rf x0, va_rf x1] σ (xlift emI K) KX := by
  refine x_entryH (by decide) (by simp [lg_sl, x_catq, x_cati, x_catr, x_catn]) ?_
  intro p e s m args below meth c X hr hin hE
  have X : xX p s m args meth c G cX0_hitShare 3 RX0 := X
  have hx := X.1
  have hb := X.2.1
  have hts := X.2.2.2.2.1
  have hown := X.2.2.2.1
  unfold P_X0_hitShare at hp
  refine x_same (lo' := [(0, va_rf x0), (1, va_rf x1)]) (by simp [lv_args, x_catq, x_cati, x_catr, x_catn]) ?_
  refine x_up (pc' := 1) (fun _ _ _ _ _ L => lv_aloadq_n hx hb dX0_hitShare_0 rfl (lv_at L 1 rfl)) ?_
  refine x_up (pc' := 2) (fun _ _ _ _ _ L => lv_iconst (v := (0 : Int32)) hx hb dX0_hitShare_1 (by decide)) ?_
  refine x_up (pc' := 3) (fun _ _ _ _ _ L => lv_aloadq_n hx hb dX0_hitShare_2 rfl (lv_at L 0 rfl)) ?_
  obtain ⟨b1, rfl, hp1⟩ := hp
  refine x_callVX (em := emF) (fun r st => .float r :: st) (fun _ _ => rfl) 0 X (kX1 hG) (fun σ' KK KX h => R_X1_hitShare l hl G hG b1 σ' KK KX h) (lw_V q3161 q3162 q3163 q99 q3164) ⟨rfl, mdX1_hitShare⟩ ⟨Nat.le_of_ble_eq_true rfl, Nat.le_of_ble_eq_true rfl⟩ rfl rfl (by simp only [List.map_cons, List.map_nil, List.sum_cons, List.sum_nil, x_catq, x_cati, x_catr, x_catn] <;> decide) dX0_hitShare_3 hp1.1 hp1.2 (fun v2 σ3 hpA3 => ?_) (fun q4 σ5 hpB3 => ?_)
  · have hp2 := hpA3
    refine x_pc (pc' := 6) rfl ?_
    obtain ⟨hz6, hp3⟩ := hp2
    refine x_up (pc' := 7) (fun _ _ _ _ _ L => lv_f2d hx hb dX0_hitShare_6 hz6) ?_
    obtain ⟨b6, rfl, hp4⟩ := hp3
    refine x_dast X dX0_hitShare_7 hp4 (fun σ7 hp5 => ?_)
    refine x_pc (pc' := 8) rfl ?_
    refine x_up (pc' := 14) (fun _ _ _ _ _ L => lv_goto (tgt := 14) hx hb dX0_hitShare_8 (by decide)) ?_
    refine x_up (pc' := 15) (fun _ _ _ _ _ L => lv_iconst (v := (0 : Int32)) hx hb dX0_hitShare_14 (by decide)) ?_
    refine x_vx ?_; exact x_iret X hr rfl dX0_hitShare_15 hp5
  · have hp6 := hpB3
    obtain ⟨hq3, hp7⟩ := hp6
    obtain ⟨hr3, hp8⟩ := hp7
    refine x_catch X (kJ46 hG) [] ({ startPc := 0, endPc := 8, handlerPc := 11, catchType := 114 } : ExceptionTableEntry) [] (hE.trans rfl) (fun _ h => nomatch h) rfl (by decide) q3147 q3159 hr3 hq3 ?_
    refine x_pc (pc' := 11) rfl ?_
    refine x_st (pc' := 12) ([(2, .ref q4), (0, .ref b1), (1, va_rf x1)]) rfl (by simp [x_catq, x_cati, x_catr, x_catn]) (fun _ _ _ _ _ L => lv_astore_n hx hb dX0_hitShare_11 rfl L (by decide) rfl) ?_
    refine x_up (pc' := 13) (fun _ _ _ _ _ L => lv_iconst (v := (1 : Int32)) hx hb dX0_hitShare_12 (by decide)) ?_
    refine x_vx ?_; exact x_iret X hr rfl dX0_hitShare_13 hp8
-- X0_account
def P_X0_account (κ : Nat → Nat) (x0 : Option Nat) (x1 : Int32) (x2 : Option Nat) (σ : xS) (K : Int32 → xH → Prop) (KX : Nat → xH → Prop) : Prop :=
  xnn x0 fun b1 => xrc σ b1 0 ∧ xcallX (fun τ L LX => P_X1_account κ b1 x1 τ L LX) σ (fun v2 σ3 => xnn x2 fun b6 => xsl κ σ3 b6 (0 : Int32) v2.toInt64 fun σ7 => K (0 : Int32) σ7.1) (fun q4 σ5 => κ 0 ≤ q4 ∧ ((xrc σ5 q4 17 ∧ (K (1 : Int32) σ5.1))))
theorem mdX0_account : yX0_account.cls ≠ "java/lang/invoke/MethodHandle" ∧ yX0_account.cls ≠ "java/lang/invoke/VarHandle" ∧ (parseMethodDescriptor yX0_account.desc).map (fun d => d.parameters.length) = some 3 := by decide +kernel
set_option maxHeartbeats 4000000 in
set_option maxRecDepth 100000 in
theorem R_X0_account (l : Launch) (hl : l.stackTraces = false) (G : xG) (hG : G.1.2 = x_cl) (x0 : Option Nat) (x1 : Int32) (x2 : Option Nat) (σ : xS) (K : Int32 → xH → Prop) (KX : Nat → xH → Prop) (hp : P_X0_account G.2 x0 x1 x2 σ K KX) : xMH l yX0_account cX0_account 4 (Option.some Jvm.ClassFile.FieldType.int) [(0, 9, 12, 56)] 8 219 G [va_rf x0, .int x1, va_rf x2] σ (xlift emI K) KX := by
  refine x_entryH (by decide) (by simp [lg_sl, x_catq, x_cati, x_catr, x_catn]) ?_
  intro p e s m args below meth c X hr hin hE
  have X : xX p s m args meth c G cX0_account 4 RX0 := X
  have hx := X.1
  have hb := X.2.1
  have hts := X.2.2.2.2.1
  have hown := X.2.2.2.1
  unfold P_X0_account at hp
  refine x_same (lo' := [(0, va_rf x0), (1, .int x1), (2, va_rf x2)]) (by simp [lv_args, x_catq, x_cati, x_catr, x_catn]) ?_
  refine x_up (pc' := 1) (fun _ _ _ _ _ L => lv_aloadq_n hx hb dX0_account_0 rfl (lv_at L 2 rfl)) ?_
  refine x_up (pc' := 2) (fun _ _ _ _ _ L => lv_iconst (v := (0 : Int32)) hx hb dX0_account_1 (by decide)) ?_
  refine x_up (pc' := 3) (fun _ _ _ _ _ L => lv_aloadq_n hx hb dX0_account_2 rfl (lv_at L 0 rfl)) ?_
  refine x_up (pc' := 4) (fun _ _ _ _ _ L => lv_iload_n hx hb dX0_account_3 rfl (lv_at L 1 rfl)) ?_
  obtain ⟨b1, rfl, hp1⟩ := hp
  refine x_callVX (em := emI) (fun r st => .int r :: st) (fun _ _ => rfl) 1 X (kX1 hG) (fun σ' KK KX h => R_X1_account l hl G hG b1 x1 σ' KK KX h) (lw_V q3173 q3174 q3175 q99 q3176) ⟨rfl, mdX1_account⟩ ⟨Nat.le_of_ble_eq_true rfl, Nat.le_of_ble_eq_true rfl⟩ rfl rfl (by simp only [List.map_cons, List.map_nil, List.sum_cons, List.sum_nil, x_catq, x_cati, x_catr, x_catn] <;> decide) dX0_account_4 hp1.1 hp1.2 (fun v2 σ3 hpA4 => ?_) (fun q4 σ5 hpB4 => ?_)
  · have hp2 := hpA4
    refine x_pc (pc' := 7) rfl ?_
    refine x_up (pc' := 8) (fun _ _ _ _ _ L => lv_i2l hx hb dX0_account_7 rfl) ?_
    obtain ⟨b6, rfl, hp3⟩ := hp2
    refine x_last X dX0_account_8 hp3 (fun σ7 hp4 => ?_)
    refine x_pc (pc' := 9) rfl ?_
    refine x_up (pc' := 15) (fun _ _ _ _ _ L => lv_goto (tgt := 15) hx hb dX0_account_9 (by decide)) ?_
    refine x_up (pc' := 16) (fun _ _ _ _ _ L => lv_iconst (v := (0 : Int32)) hx hb dX0_account_15 (by decide)) ?_
    refine x_vx ?_; exact x_iret X hr rfl dX0_account_16 hp4
  · have hp5 := hpB4
    obtain ⟨hq4, hp6⟩ := hp5
    obtain ⟨hr4, hp7⟩ := hp6
    refine x_catch X (kJ29 hG) [] ({ startPc := 0, endPc := 9, handlerPc := 12, catchType := 56 } : ExceptionTableEntry) [] (hE.trans rfl) (fun _ h => nomatch h) rfl (by decide) q2705 q1030 hr4 hq4 ?_
    refine x_pc (pc' := 12) rfl ?_
    refine x_st (pc' := 13) ([(3, .ref q4), (0, .ref b1), (1, .int x1), (2, va_rf x2)]) rfl (by simp [x_catq, x_cati, x_catr, x_catn]) (fun _ _ _ _ _ L => lv_astore_n hx hb dX0_account_12 rfl L (by decide) rfl) ?_
    refine x_up (pc' := 14) (fun _ _ _ _ _ L => lv_iconst (v := (1 : Int32)) hx hb dX0_account_13 (by decide)) ?_
    refine x_vx ?_; exact x_iret X hr rfl dX0_account_14 hp7
-- X0_undo
def P_X0_undo (κ : Nat → Nat) (x0 : Option Nat) (x1 : Option Nat) (σ : xS) (K : Int32 → xH → Prop) (KX : Nat → xH → Prop) : Prop :=
  xnn x0 fun b1 => xrc σ b1 0 ∧ xcallX (fun τ L LX => P_X1_undo κ b1 τ L LX) σ (fun v2 σ3 => xnn x1 fun b6 => xsl κ σ3 b6 (0 : Int32) v2.toInt64 fun σ7 => K (0 : Int32) σ7.1) (fun q4 σ5 => κ 0 ≤ q4 ∧ ((xrc σ5 q4 32 ∧ (K (1 : Int32) σ5.1))))
theorem mdX0_undo : yX0_undo.cls ≠ "java/lang/invoke/MethodHandle" ∧ yX0_undo.cls ≠ "java/lang/invoke/VarHandle" ∧ (parseMethodDescriptor yX0_undo.desc).map (fun d => d.parameters.length) = some 2 := by decide +kernel
set_option maxHeartbeats 4000000 in
set_option maxRecDepth 100000 in
theorem R_X0_undo (l : Launch) (hl : l.stackTraces = false) (G : xG) (hG : G.1.2 = x_cl) (x0 : Option Nat) (x1 : Option Nat) (σ : xS) (K : Int32 → xH → Prop) (KX : Nat → xH → Prop) (hp : P_X0_undo G.2 x0 x1 σ K KX) : xMH l yX0_undo cX0_undo 3 (Option.some Jvm.ClassFile.FieldType.int) [(0, 8, 11, 91)] 8 129 G [va_rf x0, va_rf x1] σ (xlift emI K) KX := by
  refine x_entryH (by decide) (by simp [lg_sl, x_catq, x_cati, x_catr, x_catn]) ?_
  intro p e s m args below meth c X hr hin hE
  have X : xX p s m args meth c G cX0_undo 3 RX0 := X
  have hx := X.1
  have hb := X.2.1
  have hts := X.2.2.2.2.1
  have hown := X.2.2.2.1
  unfold P_X0_undo at hp
  refine x_same (lo' := [(0, va_rf x0), (1, va_rf x1)]) (by simp [lv_args, x_catq, x_cati, x_catr, x_catn]) ?_
  refine x_up (pc' := 1) (fun _ _ _ _ _ L => lv_aloadq_n hx hb dX0_undo_0 rfl (lv_at L 1 rfl)) ?_
  refine x_up (pc' := 2) (fun _ _ _ _ _ L => lv_iconst (v := (0 : Int32)) hx hb dX0_undo_1 (by decide)) ?_
  refine x_up (pc' := 3) (fun _ _ _ _ _ L => lv_aloadq_n hx hb dX0_undo_2 rfl (lv_at L 0 rfl)) ?_
  obtain ⟨b1, rfl, hp1⟩ := hp
  refine x_callVX (em := emI) (fun r st => .int r :: st) (fun _ _ => rfl) 0 X (kX1 hG) (fun σ' KK KX h => R_X1_undo l hl G hG b1 σ' KK KX h) (lw_V q3197 q3198 q3199 q99 q3200) ⟨rfl, mdX1_undo⟩ ⟨Nat.le_of_ble_eq_true rfl, Nat.le_of_ble_eq_true rfl⟩ rfl rfl (by simp only [List.map_cons, List.map_nil, List.sum_cons, List.sum_nil, x_catq, x_cati, x_catr, x_catn] <;> decide) dX0_undo_3 hp1.1 hp1.2 (fun v2 σ3 hpA3 => ?_) (fun q4 σ5 hpB3 => ?_)
  · have hp2 := hpA3
    refine x_pc (pc' := 6) rfl ?_
    refine x_up (pc' := 7) (fun _ _ _ _ _ L => lv_i2l hx hb dX0_undo_6 rfl) ?_
    obtain ⟨b6, rfl, hp3⟩ := hp2
    refine x_last X dX0_undo_7 hp3 (fun σ7 hp4 => ?_)
    refine x_pc (pc' := 8) rfl ?_
    refine x_up (pc' := 14) (fun _ _ _ _ _ L => lv_goto (tgt := 14) hx hb dX0_undo_8 (by decide)) ?_
    refine x_up (pc' := 15) (fun _ _ _ _ _ L => lv_iconst (v := (0 : Int32)) hx hb dX0_undo_14 (by decide)) ?_
    refine x_vx ?_; exact x_iret X hr rfl dX0_undo_15 hp4
  · have hp5 := hpB3
    obtain ⟨hq3, hp6⟩ := hp5
    obtain ⟨hr3, hp7⟩ := hp6
    refine x_catch X (kJ43 hG) [] ({ startPc := 0, endPc := 8, handlerPc := 11, catchType := 91 } : ExceptionTableEntry) [] (hE.trans rfl) (fun _ h => nomatch h) rfl (by decide) q2854 q2009 hr3 hq3 ?_
    refine x_pc (pc' := 11) rfl ?_
    refine x_st (pc' := 12) ([(2, .ref q4), (0, .ref b1), (1, va_rf x1)]) rfl (by simp [x_catq, x_cati, x_catr, x_catn]) (fun _ _ _ _ _ L => lv_astore_n hx hb dX0_undo_11 rfl L (by decide) rfl) ?_
    refine x_up (pc' := 13) (fun _ _ _ _ _ L => lv_iconst (v := (1 : Int32)) hx hb dX0_undo_12 (by decide)) ?_
    refine x_vx ?_; exact x_iret X hr rfl dX0_undo_13 hp7
-- X0_restore
def P_X0_restore (κ : Nat → Nat) (x0 : Option Nat) (x1 : Option Nat) (σ : xS) (K : Int32 → xH → Prop) (KX : Nat → xH → Prop) : Prop :=
  xnn x0 fun b1 => xrc σ b1 0 ∧ xcallX (fun τ L LX => P_X1_restore κ b1 τ L LX) σ (fun v2 σ3 => xnn x1 fun b6 => xsl κ σ3 b6 (0 : Int32) v2.toInt64 fun σ7 => K (0 : Int32) σ7.1) (fun q4 σ5 => κ 0 ≤ q4 ∧ ((xrc σ5 q4 32 ∧ (K (1 : Int32) σ5.1))))
theorem mdX0_restore : yX0_restore.cls ≠ "java/lang/invoke/MethodHandle" ∧ yX0_restore.cls ≠ "java/lang/invoke/VarHandle" ∧ (parseMethodDescriptor yX0_restore.desc).map (fun d => d.parameters.length) = some 2 := by decide +kernel
set_option maxHeartbeats 4000000 in
set_option maxRecDepth 100000 in
theorem R_X0_restore (l : Launch) (hl : l.stackTraces = false) (G : xG) (hG : G.1.2 = x_cl) (x0 : Option Nat) (x1 : Option Nat) (σ : xS) (K : Int32 → xH → Prop) (KX : Nat → xH → Prop) (hp : P_X0_restore G.2 x0 x1 σ K KX) : xMH l yX0_restore cX0_restore 3 (Option.some Jvm.ClassFile.FieldType.int) [(0, 8, 11, 91)] 8 129 G [va_rf x0, va_rf x1] σ (xlift emI K) KX := by
  refine x_entryH (by decide) (by simp [lg_sl, x_catq, x_cati, x_catr, x_catn]) ?_
  intro p e s m args below meth c X hr hin hE
  have X : xX p s m args meth c G cX0_restore 3 RX0 := X
  have hx := X.1
  have hb := X.2.1
  have hts := X.2.2.2.2.1
  have hown := X.2.2.2.1
  unfold P_X0_restore at hp
  refine x_same (lo' := [(0, va_rf x0), (1, va_rf x1)]) (by simp [lv_args, x_catq, x_cati, x_catr, x_catn]) ?_
  refine x_up (pc' := 1) (fun _ _ _ _ _ L => lv_aloadq_n hx hb dX0_restore_0 rfl (lv_at L 1 rfl)) ?_
  refine x_up (pc' := 2) (fun _ _ _ _ _ L => lv_iconst (v := (0 : Int32)) hx hb dX0_restore_1 (by decide)) ?_
  refine x_up (pc' := 3) (fun _ _ _ _ _ L => lv_aloadq_n hx hb dX0_restore_2 rfl (lv_at L 0 rfl)) ?_
  obtain ⟨b1, rfl, hp1⟩ := hp
  refine x_callVX (em := emI) (fun r st => .int r :: st) (fun _ _ => rfl) 0 X (kX1 hG) (fun σ' KK KX h => R_X1_restore l hl G hG b1 σ' KK KX h) (lw_V q3236 q3237 q3238 q99 q3239) ⟨rfl, mdX1_restore⟩ ⟨Nat.le_of_ble_eq_true rfl, Nat.le_of_ble_eq_true rfl⟩ rfl rfl (by simp only [List.map_cons, List.map_nil, List.sum_cons, List.sum_nil, x_catq, x_cati, x_catr, x_catn] <;> decide) dX0_restore_3 hp1.1 hp1.2 (fun v2 σ3 hpA3 => ?_) (fun q4 σ5 hpB3 => ?_)
  · have hp2 := hpA3
    refine x_pc (pc' := 6) rfl ?_
    refine x_up (pc' := 7) (fun _ _ _ _ _ L => lv_i2l hx hb dX0_restore_6 rfl) ?_
    obtain ⟨b6, rfl, hp3⟩ := hp2
    refine x_last X dX0_restore_7 hp3 (fun σ7 hp4 => ?_)
    refine x_pc (pc' := 8) rfl ?_
    refine x_up (pc' := 14) (fun _ _ _ _ _ L => lv_goto (tgt := 14) hx hb dX0_restore_8 (by decide)) ?_
    refine x_up (pc' := 15) (fun _ _ _ _ _ L => lv_iconst (v := (0 : Int32)) hx hb dX0_restore_14 (by decide)) ?_
    refine x_vx ?_; exact x_iret X hr rfl dX0_restore_15 hp4
  · have hp5 := hpB3
    obtain ⟨hq3, hp6⟩ := hp5
    obtain ⟨hr3, hp7⟩ := hp6
    refine x_catch X (kJ43 hG) [] ({ startPc := 0, endPc := 8, handlerPc := 11, catchType := 91 } : ExceptionTableEntry) [] (hE.trans rfl) (fun _ h => nomatch h) rfl (by decide) q2854 q2009 hr3 hq3 ?_
    refine x_pc (pc' := 11) rfl ?_
    refine x_st (pc' := 12) ([(2, .ref q4), (0, .ref b1), (1, va_rf x1)]) rfl (by simp [x_catq, x_cati, x_catr, x_catn]) (fun _ _ _ _ _ L => lv_astore_n hx hb dX0_restore_11 rfl L (by decide) rfl) ?_
    refine x_up (pc' := 13) (fun _ _ _ _ _ L => lv_iconst (v := (1 : Int32)) hx hb dX0_restore_12 (by decide)) ?_
    refine x_vx ?_; exact x_iret X hr rfl dX0_restore_13 hp7
