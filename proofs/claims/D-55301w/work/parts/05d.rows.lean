-- J6_addAll_2
def B_J6_addAll_2_68 (κ : Nat → Nat) (kx69004 : (Option Nat) → xS → Prop) (f0 : Nat) (f4 : Int32) (f7 : Nat) (f8 : Int32) : ((Option Nat × Int32) → xS → Prop) → (Option Nat × Int32) → xS → Prop := fun self69003 w69001 σ69002 =>
  ((f8 ≤ w69001.2 → (kx69004 w69001.1 σ69002)) ∧ (¬ f8 ≤ w69001.2 → (xaq σ69002 f7 w69001.2 fun v69005 => xnew κ σ69002 6 3 [va_rf none, va_rf none, va_rf none] fun q69006 σ69007 => xcall (fun τ L => P_J10_init κ q69006 w69001.1 v69005 none τ L) σ69007 fun _ σ69008 => ((w69001.1 = none → (xpq κ σ69008 f0 4 2 (some q69006) fun σ69010 => self69003 ((some q69006), (w69001.2 + (1 : Int32))) σ69010)) ∧ (∀ b69009 : Nat, w69001.1 = some b69009 → (xpq κ σ69008 b69009 6 1 (some q69006) fun σ69011 => self69003 ((some q69006), (w69001.2 + (1 : Int32))) σ69011))))))
def B_J6_addAll_2_68_1 (κ : Nat → Nat) (kx69004 : (Option Nat) → xS → Prop) (f0 : Nat) (f4 : Int32) (f6 : Nat) (f7 : Nat) (f8 : Int32) : ((Option Nat × Int32) → xS → Prop) → (Option Nat × Int32) → xS → Prop := fun self69003 w69001 σ69002 =>
  ((f8 ≤ w69001.2 → (kx69004 w69001.1 σ69002)) ∧ (¬ f8 ≤ w69001.2 → (xaq σ69002 f7 w69001.2 fun v69005 => xnew κ σ69002 6 3 [va_rf none, va_rf none, va_rf none] fun q69006 σ69007 => xcall (fun τ L => P_J10_init κ q69006 w69001.1 v69005 none τ L) σ69007 fun _ σ69008 => ((w69001.1 = none → (xpq κ σ69008 f0 4 2 (some q69006) fun σ69010 => self69003 ((some q69006), (w69001.2 + (1 : Int32))) σ69010)) ∧ (∀ b69009 : Nat, w69001.1 = some b69009 → (xpq κ σ69008 b69009 6 1 (some q69006) fun σ69011 => self69003 ((some q69006), (w69001.2 + (1 : Int32))) σ69011))))))
def P_J6_addAll_2 (κ : Nat → Nat) (a0 : Nat) (x1 : Int32) (x2 : Option Nat) (σ : xS) (K : Int32 → xH → Prop) : Prop :=
  xrc σ a0 4 ∧ xcall (fun τ L => P_J6_checkPositionIndex κ a0 x1 τ L) σ fun _ σ1 => xnn x2 fun b2 => xrc σ1 b2 4 ∧ xcall (fun τ L => P_J6_toArray κ b2 τ L) σ1 fun v3 σ4 => xnn v3 fun b5 => xan σ4 b5 fun v6 => ((v6 = 0 → (K (0 : Int32) σ4.1)) ∧ (¬ v6 = 0 → (xgi σ4 a0 4 1 fun v7 => ((x1 = v7 → (xgq σ4 a0 4 3 fun v8 => xan σ4 b5 fun v9 => xwhile (B_J6_addAll_2_68 κ (fun e10 σ11 => xpq κ σ11 a0 4 3 e10 fun σ12 => xgi σ12 a0 4 1 fun v13 => xpi κ σ12 a0 4 1 (v13 + v6) fun σ14 => xgi σ14 a0 4 0 fun v15 => xpi κ σ14 a0 4 0 (v15 + (1 : Int32)) fun σ16 => K (1 : Int32) σ16.1) a0 v6 b5 v9) (v8, (0 : Int32)) σ4)) ∧ (¬ x1 = v7 → (xrc σ4 a0 4 ∧ xcall (fun τ L => P_J6_node κ a0 x1 τ L) σ4 fun v17 σ18 => xnn v17 fun b19 => xgq σ18 b19 6 2 fun v20 => xan σ18 b5 fun v21 => xwhile (B_J6_addAll_2_68_1 κ (fun e22 σ23 => xnn e22 fun b24 => xpq κ σ23 b24 6 1 (some b19) fun σ25 => xpq κ σ25 b19 6 2 (some b24) fun σ26 => xgi σ26 a0 4 1 fun v27 => xpi κ σ26 a0 4 1 (v27 + v6) fun σ28 => xgi σ28 a0 4 0 fun v29 => xpi κ σ28 a0 4 0 (v29 + (1 : Int32)) fun σ30 => K (1 : Int32) σ30.1) a0 v6 b19 b5 v21) (v20, (0 : Int32)) σ18))))))
theorem mdJ6_addAll_2 : yJ6_addAll_2.cls ≠ "java/lang/invoke/MethodHandle" ∧ yJ6_addAll_2.cls ≠ "java/lang/invoke/VarHandle" ∧ (parseMethodDescriptor yJ6_addAll_2.desc).map (fun d => d.parameters.length) = some 2 := by decide +kernel
set_option maxHeartbeats 4000000 in
set_option maxRecDepth 100000 in
theorem R_J6_addAll_2 (l : Launch) (hl : l.stackTraces = false) (G : xG) (hG : G.1.2 = x_cl) (a0 : Nat) (x1 : Int32) (x2 : Option Nat) (σ : xS) (K : Int32 → xH → Prop) (hp : P_J6_addAll_2 G.2 a0 x1 x2 σ K) : xM l yJ6_addAll_2 cJ6_addAll_2 13 (Option.some Jvm.ClassFile.FieldType.boolean) 2 43 G [(.ref a0), .int x1, va_rf x2] σ (xlift emI K) := by
  refine x_entry (by decide) (by simp [lg_sl, x_catq, x_cati, x_catr, x_catn]) ?_
  intro p e s m args below meth c X hr hin
  have X : xX p s m args meth c G cJ6_addAll_2 13 RJ6 := X
  have hx := X.1
  have hb := X.2.1
  have hts := X.2.2.2.2.1
  have hown := X.2.2.2.1
  unfold P_J6_addAll_2 at hp
  refine x_same (lo' := [(0, .ref a0), (1, .int x1), (2, va_rf x2)]) (by simp [lv_args, x_catq, x_cati, x_catr, x_catn]) ?_
  refine x_up (pc' := 1) (fun _ _ _ _ _ L => lv_aload_n hx hb dJ6_addAll_2_0 rfl (lv_at L 0 rfl)) ?_
  refine x_up (pc' := 2) (fun _ _ _ _ _ L => lv_iload_n hx hb dJ6_addAll_2_1 rfl (lv_at L 1 rfl)) ?_
  refine x_callV (em := emV) (fun r st => st) (fun _ _ => rfl) 1 X (kJ6 hG) (fun σ' KK h => R_J6_checkPositionIndex l hl G hG a0 x1 σ' KK h) (lw_V q1778 q1780 qs18 q107 q1781) ⟨rfl, mdJ6_checkPositionIndex⟩ ⟨Nat.le_of_ble_eq_true rfl, Nat.le_of_ble_eq_true rfl⟩ rfl rfl (Nat.le_of_ble_eq_true rfl) dJ6_addAll_2_2 hp.1 hp.2 (fun _ σ1 hp1 => ?_)
  refine x_pc (pc' := 5) rfl ?_
  refine x_up (pc' := 6) (fun _ _ _ _ _ L => lv_aloadq_n hx hb dJ6_addAll_2_5 rfl (lv_at L 2 rfl)) ?_
  obtain ⟨b2, rfl, hp2⟩ := hp1
  refine x_callF (x := ⟨"java/util/Collection", "toArray", "()[Ljava/lang/Object;"⟩) (em := emQ) (fun r st => va_rf r :: st) (fun _ _ => rfl) 0 X (kJ6 hG) (fun σ' KK h => R_J6_toArray l hl G hG b2 σ' KK h) q1829 q1854 q1856 q107 q1858 ⟨⟨q1831, q1830, q1857, q1855, q1853⟩, by decide, by decide⟩ (by decide +kernel) ⟨Nat.le_of_ble_eq_true rfl, Nat.le_of_ble_eq_true rfl⟩ rfl rfl (Nat.le_of_ble_eq_true rfl) dJ6_addAll_2_6 hp2.1 hp2.2 (fun v3 σ4 hp3 => ?_)
  refine x_pc (pc' := 11) rfl ?_
  refine x_upL (pc' := 12) (lo' := [(3, va_rf v3), (0, .ref a0), (1, .int x1), (2, .ref b2)]) (fun _ _ _ _ _ L => lv_astoreq_n hx hb dJ6_addAll_2_11 rfl L (by decide) rfl) ?_
  refine x_up (pc' := 13) (fun _ _ _ _ _ L => lv_aloadq_n hx hb dJ6_addAll_2_12 rfl (lv_at L 0 rfl)) ?_
  obtain ⟨b5, rfl, hp4⟩ := hp3
  refine x_alen X dJ6_addAll_2_13 hp4 (fun v6 hp5 => ?_)
  refine x_pc (pc' := 14) rfl ?_
  refine x_upL (pc' := 16) (lo' := [(4, .int v6), (3, .ref b5), (0, .ref a0), (1, .int x1), (2, .ref b2)]) (fun _ _ _ _ _ L => lv_istore hx hb dJ6_addAll_2_14 L (by decide) rfl) ?_
  refine x_up (pc' := 18) (fun _ _ _ _ _ L => lv_iload hx hb dJ6_addAll_2_16 (lv_at L 0 rfl)) ?_
  refine x_ifn (C := v6 = 0) (pt := 23) (pc' := 21) (fun _ _ _ _ _ => lv_if_ne (tgt := 23) hx hb dJ6_addAll_2_18 (by decide)) (fun c18 => ?_) (fun c18 => ?_)
  · have hp6 := hp5.1 c18
    refine x_up (pc' := 22) (fun _ _ _ _ _ L => lv_iconst (v := (0 : Int32)) hx hb dJ6_addAll_2_21 (by decide)) ?_
    exact x_iret X hr rfl dJ6_addAll_2_22 hp6
  · have hp7 := hp5.2 c18
    refine x_up (pc' := 24) (fun _ _ _ _ _ L => lv_iload_n hx hb dJ6_addAll_2_23 rfl (lv_at L 3 rfl)) ?_
    refine x_up (pc' := 25) (fun _ _ _ _ _ L => lv_aload_n hx hb dJ6_addAll_2_24 rfl (lv_at L 2 rfl)) ?_
    refine x_gi X (kJ6 hG) 1 (by decide) q255 (fun _ h => h) dJ6_addAll_2_25 hp7 (fun v7 hp8 => ?_)
    refine x_pc (pc' := 28) rfl ?_
    refine x_ifn (C := x1 = v7) (pt := 43) (pc' := 31) (fun _ _ _ _ _ => lv_icmp_ne (tgt := 43) hx hb dJ6_addAll_2_28 (by decide)) (fun c28 => ?_) (fun c28 => ?_)
    · have hp9 := hp8.1 c28
      refine x_up (pc' := 32) (fun _ _ _ _ _ L => lv_null hx hb dJ6_addAll_2_31) ?_
      refine x_upL (pc' := 34) (lo' := [(6, .null), (4, .int v6), (3, .ref b5), (0, .ref a0), (1, .int x1), (2, .ref b2)]) (fun _ _ _ _ _ L => lv_astoreN hx hb dJ6_addAll_2_32 L (by decide) rfl) ?_
      refine x_up (pc' := 35) (fun _ _ _ _ _ L => lv_aload_n hx hb dJ6_addAll_2_34 rfl (lv_at L 3 rfl)) ?_
      refine x_gq X (kJ6 hG) 3 (by decide) q258 (fun _ h => h) dJ6_addAll_2_35 hp9 (fun v8 hp10 => ?_)
      refine x_pc (pc' := 38) rfl ?_
      refine x_upL (pc' := 40) (lo' := [(5, va_rf v8), (6, .null), (4, .int v6), (3, .ref b5), (0, .ref a0), (1, .int x1), (2, .ref b2)]) (fun _ _ _ _ _ L => lv_astoreq hx hb dJ6_addAll_2_38 L (by decide) rfl) ?_
      refine x_up (pc' := 57) (fun _ _ _ _ _ L => lv_goto (tgt := 57) hx hb dJ6_addAll_2_40 (by decide)) ?_
      refine x_up (pc' := 58) (fun _ _ _ _ _ L => lv_aload_n hx hb dJ6_addAll_2_57 rfl (lv_at L 3 rfl)) ?_
      refine x_upL (pc' := 60) (lo' := [(7, .ref b5), (5, va_rf v8), (6, .null), (4, .int v6), (3, .ref b5), (0, .ref a0), (1, .int x1), (2, .ref b2)]) (fun _ _ _ _ _ L => lv_astore hx hb dJ6_addAll_2_58 L (by decide) rfl) ?_
      refine x_up (pc' := 62) (fun _ _ _ _ _ L => lv_aload hx hb dJ6_addAll_2_60 (lv_at L 0 rfl)) ?_
      refine x_alen X dJ6_addAll_2_62 hp10 (fun v9 hp11 => ?_)
      refine x_pc (pc' := 63) rfl ?_
      refine x_upL (pc' := 65) (lo' := [(8, .int v9), (7, .ref b5), (5, va_rf v8), (6, .null), (4, .int v6), (3, .ref b5), (0, .ref a0), (1, .int x1), (2, .ref b2)]) (fun _ _ _ _ _ L => lv_istore hx hb dJ6_addAll_2_63 L (by decide) rfl) ?_
      refine x_up (pc' := 66) (fun _ _ _ _ _ L => lv_iconst (v := (0 : Int32)) hx hb dJ6_addAll_2_65 (by decide)) ?_
      refine x_upL (pc' := 68) (lo' := [(9, .int (0 : Int32)), (8, .int v9), (7, .ref b5), (5, va_rf v8), (6, .null), (4, .int v6), (3, .ref b5), (0, .ref a0), (1, .int x1), (2, .ref b2)]) (fun _ _ _ _ _ L => lv_istore hx hb dJ6_addAll_2_66 L (by decide) rfl) ?_
      refine x_lo (lo' := [(5, va_rf v8), (9, .int (0 : Int32)), (0, .ref a0), (4, .int v6), (6, .null), (7, .ref b5), (8, .int v9)]) [3, 0, 7, 5, 4, 2, 1] rfl ?_
      refine x_while (v0 := (v8, (0 : Int32))) (fun w10 => [(5, va_rf w10.1), (9, .int w10.2), (0, .ref a0), (4, .int v6), (6, .null), (7, .ref b5), (8, .int v9)]) hp11 (fun self11 hself12 => ?_)
      rintro ⟨y14, y15⟩ σ13 hp12
      unfold B_J6_addAll_2_68 at hp12
      refine x_same (lo' := [(5, va_rf y14), (9, .int y15), (0, .ref a0), (4, .int v6), (6, .null), (7, .ref b5), (8, .int v9)]) rfl ?_
      refine x_up (pc' := 70) (fun _ _ _ _ _ L => lv_iload hx hb dJ6_addAll_2_68 (lv_at L 1 rfl)) ?_
      refine x_up (pc' := 72) (fun _ _ _ _ _ L => lv_iload hx hb dJ6_addAll_2_70 (lv_at L 6 rfl)) ?_
      refine x_if (C := v9 ≤ y15) (pt := 131) (pc' := 75) (fun _ _ _ _ _ => lv_icmp_ge (tgt := 131) hx hb dJ6_addAll_2_72 (by decide)) (fun c72 => ?_) (fun c72 => ?_)
      · have hp13 := hp12.1 c72
        refine x_up (pc' := 133) (fun _ _ _ _ _ L => lv_aloadN hx hb dJ6_addAll_2_131 (lv_at L 4 rfl)) ?_
        refine x_up (pc' := 136) (fun _ _ _ _ _ L => lv_ifnonnullN hx hb dJ6_addAll_2_133) ?_
        refine x_up (pc' := 137) (fun _ _ _ _ _ L => lv_aload_n hx hb dJ6_addAll_2_136 rfl (lv_at L 2 rfl)) ?_
        refine x_up (pc' := 139) (fun _ _ _ _ _ L => lv_aloadq hx hb dJ6_addAll_2_137 (lv_at L 0 rfl)) ?_
        refine x_pq X (kJ6 hG) 3 (by decide) q258 (fun _ h => h) rfl y14 (x_nar _ (by decide)) (x_fit _ (by decide)) dJ6_addAll_2_139 hp13 (fun σ16 hp14 => ?_)
        refine x_pc (pc' := 142) rfl ?_
        refine x_up (pc' := 159) (fun _ _ _ _ _ L => lv_goto (tgt := 159) hx hb dJ6_addAll_2_142 (by decide)) ?_
        refine x_up (pc' := 160) (fun _ _ _ _ _ L => lv_aload_n hx hb dJ6_addAll_2_159 rfl (lv_at L 2 rfl)) ?_
        refine x_up (pc' := 161) (fun _ _ _ _ _ L => lv_dup hx hb dJ6_addAll_2_160 rfl) ?_
        refine x_gi X (kJ6 hG) 1 (by decide) q255 (fun _ h => h) dJ6_addAll_2_161 hp14 (fun v17 hp15 => ?_)
        refine x_pc (pc' := 164) rfl ?_
        refine x_up (pc' := 166) (fun _ _ _ _ _ L => lv_iload hx hb dJ6_addAll_2_164 (lv_at L 3 rfl)) ?_
        refine x_up (pc' := 167) (fun _ _ _ _ _ L => lv_iadd hx hb dJ6_addAll_2_166) ?_
        refine x_pi X (kJ6 hG) 1 (by decide) q255 (fun _ h => h) rfl rfl rfl dJ6_addAll_2_167 hp15 (fun σ18 hp16 => ?_)
        refine x_pc (pc' := 170) rfl ?_
        refine x_up (pc' := 171) (fun _ _ _ _ _ L => lv_aload_n hx hb dJ6_addAll_2_170 rfl (lv_at L 2 rfl)) ?_
        refine x_up (pc' := 172) (fun _ _ _ _ _ L => lv_dup hx hb dJ6_addAll_2_171 rfl) ?_
        refine x_gi X (kJ6 hG) 0 (by decide) q237 (x_sameF (X.2.2.2.2.1 _ q233)) dJ6_addAll_2_172 hp16 (fun v19 hp17 => ?_)
        refine x_pc (pc' := 175) rfl ?_
        refine x_up (pc' := 176) (fun _ _ _ _ _ L => lv_iconst (v := (1 : Int32)) hx hb dJ6_addAll_2_175 (by decide)) ?_
        refine x_up (pc' := 177) (fun _ _ _ _ _ L => lv_iadd hx hb dJ6_addAll_2_176) ?_
        refine x_pi X (kJ6 hG) 0 (by decide) q237 (x_sameF (X.2.2.2.2.1 _ q233)) rfl rfl rfl dJ6_addAll_2_177 hp17 (fun σ20 hp18 => ?_)
        refine x_pc (pc' := 180) rfl ?_
        refine x_up (pc' := 181) (fun _ _ _ _ _ L => lv_iconst (v := (1 : Int32)) hx hb dJ6_addAll_2_180 (by decide)) ?_
        exact x_iret X hr rfl dJ6_addAll_2_181 hp18
      · have hp19 := hp12.2 c72
        refine x_up (pc' := 77) (fun _ _ _ _ _ L => lv_aload hx hb dJ6_addAll_2_75 (lv_at L 5 rfl)) ?_
        refine x_up (pc' := 79) (fun _ _ _ _ _ L => lv_iload hx hb dJ6_addAll_2_77 (lv_at L 1 rfl)) ?_
        refine x_aald X dJ6_addAll_2_79 hp19 (fun v21 hp20 => ?_)
        refine x_pc (pc' := 80) rfl ?_
        refine x_upL (pc' := 82) (lo' := [(10, va_rf v21), (5, va_rf y14), (9, .int y15), (0, .ref a0), (4, .int v6), (6, .null), (7, .ref b5), (8, .int v9)]) (fun _ _ _ _ _ L => lv_astoreq hx hb dJ6_addAll_2_80 L (by decide) rfl) ?_
        refine x_up (pc' := 84) (fun _ _ _ _ _ L => lv_aloadq hx hb dJ6_addAll_2_82 (lv_at L 0 rfl)) ?_
        refine x_st (pc' := 86) ([(11, va_rf v21), (10, va_rf v21), (5, va_rf y14), (9, .int y15), (0, .ref a0), (4, .int v6), (6, .null), (7, .ref b5), (8, .int v9)]) rfl (by simp [x_catq, x_cati, x_catr, x_catn]) (fun _ _ _ _ _ L => lv_astoreq hx hb dJ6_addAll_2_84 L (by decide) rfl) ?_
        refine x_new X (kJ10 hG) q436 q437 q113 (fs := [va_rf none, va_rf none, va_rf none]) x_dflt_J10 dJ6_addAll_2_86 hp20 (fun q22 σ23 hp21 => ?_)
        refine x_pc (pc' := 89) rfl ?_
        refine x_up (pc' := 90) (fun _ _ _ _ _ L => lv_dup hx hb dJ6_addAll_2_89 rfl) ?_
        refine x_up (pc' := 92) (fun _ _ _ _ _ L => lv_aloadq hx hb dJ6_addAll_2_90 (lv_at L 2 rfl)) ?_
        refine x_up (pc' := 94) (fun _ _ _ _ _ L => lv_aloadq hx hb dJ6_addAll_2_92 (lv_at L 0 rfl)) ?_
        refine x_up (pc' := 95) (fun _ _ _ _ _ L => lv_null hx hb dJ6_addAll_2_94) ?_
        refine x_callI 3 X (fun σ' KK h => R_J10_init l hl G hG q22 y14 v21 none σ' KK h) (lw_meth q440) q113 q438 q439 rfl mdJ10_init ⟨Nat.le_of_ble_eq_true rfl, Nat.le_of_ble_eq_true rfl⟩ rfl rfl (Nat.le_of_ble_eq_true rfl) dJ6_addAll_2_95 hp21 (fun σ24 hp22 => ?_)
        refine x_pc (pc' := 98) rfl ?_
        refine x_st (pc' := 100) ([(12, .ref q22), (11, va_rf v21), (10, va_rf v21), (5, va_rf y14), (9, .int y15), (0, .ref a0), (4, .int v6), (6, .null), (7, .ref b5), (8, .int v9)]) rfl (by simp [x_catq, x_cati, x_catr, x_catn]) (fun _ _ _ _ _ L => lv_astore hx hb dJ6_addAll_2_98 L (by decide) rfl) ?_
        refine x_up (pc' := 102) (fun _ _ _ _ _ L => lv_aloadq hx hb dJ6_addAll_2_100 (lv_at L 3 rfl)) ?_
        rcases y14 with _ | b25
        · have hp23 := hp22.1 rfl
          refine x_up (pc' := 105) (fun _ _ _ _ _ L => lv_ifnonnullN hx hb dJ6_addAll_2_102) ?_
          refine x_up (pc' := 106) (fun _ _ _ _ _ L => lv_aload_n hx hb dJ6_addAll_2_105 rfl (lv_at L 5 rfl)) ?_
          refine x_up (pc' := 108) (fun _ _ _ _ _ L => lv_aload hx hb dJ6_addAll_2_106 (lv_at L 0 rfl)) ?_
          refine x_pq X (kJ6 hG) 2 (by decide) q257 (fun _ h => h) rfl (some q22) (x_nar _ (by decide)) (x_fit _ (by decide)) dJ6_addAll_2_108 hp23 (fun σ26 hp24 => ?_)
          refine x_pc (pc' := 111) rfl ?_
          refine x_up (pc' := 121) (fun _ _ _ _ _ L => lv_goto (tgt := 121) hx hb dJ6_addAll_2_111 (by decide)) ?_
          refine x_up (pc' := 123) (fun _ _ _ _ _ L => lv_aload hx hb dJ6_addAll_2_121 (lv_at L 0 rfl)) ?_
          refine x_upL (pc' := 125) (lo' := [(5, .ref q22), (12, .ref q22), (11, va_rf v21), (10, va_rf v21), (9, .int y15), (0, .ref a0), (4, .int v6), (6, .null), (7, .ref b5), (8, .int v9)]) (fun _ _ _ _ _ L => lv_astore hx hb dJ6_addAll_2_123 L (by decide) rfl) ?_
          refine x_upL (pc' := 128) (lo' := [(9, .int (y15 + (1 : Int32))), (5, .ref q22), (12, .ref q22), (11, va_rf v21), (10, va_rf v21), (0, .ref a0), (4, .int v6), (6, .null), (7, .ref b5), (8, .int v9)]) (fun _ _ _ _ _ L => lv_iinc (v := y15 + (1 : Int32)) hx hb dJ6_addAll_2_125 L (k := 4) rfl rfl (by decide) rfl) ?_
          refine x_up (pc' := 68) (fun _ _ _ _ _ L => lv_goto (tgt := 68) hx hb dJ6_addAll_2_128 (by decide)) ?_
          refine x_lo (lo' := [(5, .ref q22), (9, .int (y15 + (1 : Int32))), (0, .ref a0), (4, .int v6), (6, .null), (7, .ref b5), (8, .int v9)]) [1, 0, 5, 6, 7, 8, 9] rfl ?_
          exact hself12 ((some q22), (y15 + (1 : Int32))) σ26 hp24
        · have hp25 := hp22.2 _ rfl
          refine x_up (pc' := 114) (fun _ _ _ _ _ L => lv_ifnonnull (tgt := 114) hx hb dJ6_addAll_2_102 (by decide)) ?_
          refine x_up (pc' := 116) (fun _ _ _ _ _ L => lv_aload hx hb dJ6_addAll_2_114 (lv_at L 3 rfl)) ?_
          refine x_up (pc' := 118) (fun _ _ _ _ _ L => lv_aload hx hb dJ6_addAll_2_116 (lv_at L 0 rfl)) ?_
          refine x_pq X (kJ10 hG) 1 (by decide) q447 (fun _ h => h) rfl (some q22) (x_nar _ (by decide)) (x_fit _ (by decide)) dJ6_addAll_2_118 hp25 (fun σ27 hp26 => ?_)
          refine x_pc (pc' := 121) rfl ?_
          refine x_up (pc' := 123) (fun _ _ _ _ _ L => lv_aload hx hb dJ6_addAll_2_121 (lv_at L 0 rfl)) ?_
          refine x_upL (pc' := 125) (lo' := [(5, .ref q22), (12, .ref q22), (11, va_rf v21), (10, va_rf v21), (9, .int y15), (0, .ref a0), (4, .int v6), (6, .null), (7, .ref b5), (8, .int v9)]) (fun _ _ _ _ _ L => lv_astore hx hb dJ6_addAll_2_123 L (by decide) rfl) ?_
          refine x_upL (pc' := 128) (lo' := [(9, .int (y15 + (1 : Int32))), (5, .ref q22), (12, .ref q22), (11, va_rf v21), (10, va_rf v21), (0, .ref a0), (4, .int v6), (6, .null), (7, .ref b5), (8, .int v9)]) (fun _ _ _ _ _ L => lv_iinc (v := y15 + (1 : Int32)) hx hb dJ6_addAll_2_125 L (k := 4) rfl rfl (by decide) rfl) ?_
          refine x_up (pc' := 68) (fun _ _ _ _ _ L => lv_goto (tgt := 68) hx hb dJ6_addAll_2_128 (by decide)) ?_
          refine x_lo (lo' := [(5, .ref q22), (9, .int (y15 + (1 : Int32))), (0, .ref a0), (4, .int v6), (6, .null), (7, .ref b5), (8, .int v9)]) [1, 0, 5, 6, 7, 8, 9] rfl ?_
          exact hself12 ((some q22), (y15 + (1 : Int32))) σ27 hp26
    · have hp27 := hp8.2 c28
      refine x_up (pc' := 44) (fun _ _ _ _ _ L => lv_aload_n hx hb dJ6_addAll_2_43 rfl (lv_at L 2 rfl)) ?_
      refine x_up (pc' := 45) (fun _ _ _ _ _ L => lv_iload_n hx hb dJ6_addAll_2_44 rfl (lv_at L 3 rfl)) ?_
      refine x_callV (em := emQ) (fun r st => va_rf r :: st) (fun _ _ => rfl) 1 X (kJ6 hG) (fun σ' KK h => R_J6_node l hl G hG a0 x1 σ' KK h) (lw_V q1100 q1101 q1102 q107 q1103) ⟨rfl, mdJ6_node⟩ ⟨Nat.le_of_ble_eq_true rfl, Nat.le_of_ble_eq_true rfl⟩ rfl rfl (Nat.le_of_ble_eq_true rfl) dJ6_addAll_2_45 hp27.1 hp27.2 (fun v28 σ29 hp28 => ?_)
      refine x_pc (pc' := 48) rfl ?_
      refine x_upL (pc' := 50) (lo' := [(6, va_rf v28), (4, .int v6), (3, .ref b5), (0, .ref a0), (1, .int x1), (2, .ref b2)]) (fun _ _ _ _ _ L => lv_astoreq hx hb dJ6_addAll_2_48 L (by decide) rfl) ?_
      refine x_up (pc' := 52) (fun _ _ _ _ _ L => lv_aloadq hx hb dJ6_addAll_2_50 (lv_at L 0 rfl)) ?_
      obtain ⟨b30, rfl, hp29⟩ := hp28
      refine x_gq X (kJ10 hG) 2 (by decide) q449 (fun _ h => h) dJ6_addAll_2_52 hp29 (fun v31 hp30 => ?_)
      refine x_pc (pc' := 55) rfl ?_
      refine x_upL (pc' := 57) (lo' := [(5, va_rf v31), (6, .ref b30), (4, .int v6), (3, .ref b5), (0, .ref a0), (1, .int x1), (2, .ref b2)]) (fun _ _ _ _ _ L => lv_astoreq hx hb dJ6_addAll_2_55 L (by decide) rfl) ?_
      refine x_up (pc' := 58) (fun _ _ _ _ _ L => lv_aload_n hx hb dJ6_addAll_2_57 rfl (lv_at L 3 rfl)) ?_
      refine x_upL (pc' := 60) (lo' := [(7, .ref b5), (5, va_rf v31), (6, .ref b30), (4, .int v6), (3, .ref b5), (0, .ref a0), (1, .int x1), (2, .ref b2)]) (fun _ _ _ _ _ L => lv_astore hx hb dJ6_addAll_2_58 L (by decide) rfl) ?_
      refine x_up (pc' := 62) (fun _ _ _ _ _ L => lv_aload hx hb dJ6_addAll_2_60 (lv_at L 0 rfl)) ?_
      refine x_alen X dJ6_addAll_2_62 hp30 (fun v32 hp31 => ?_)
      refine x_pc (pc' := 63) rfl ?_
      refine x_upL (pc' := 65) (lo' := [(8, .int v32), (7, .ref b5), (5, va_rf v31), (6, .ref b30), (4, .int v6), (3, .ref b5), (0, .ref a0), (1, .int x1), (2, .ref b2)]) (fun _ _ _ _ _ L => lv_istore hx hb dJ6_addAll_2_63 L (by decide) rfl) ?_
      refine x_up (pc' := 66) (fun _ _ _ _ _ L => lv_iconst (v := (0 : Int32)) hx hb dJ6_addAll_2_65 (by decide)) ?_
      refine x_upL (pc' := 68) (lo' := [(9, .int (0 : Int32)), (8, .int v32), (7, .ref b5), (5, va_rf v31), (6, .ref b30), (4, .int v6), (3, .ref b5), (0, .ref a0), (1, .int x1), (2, .ref b2)]) (fun _ _ _ _ _ L => lv_istore hx hb dJ6_addAll_2_66 L (by decide) rfl) ?_
      refine x_lo (lo' := [(5, va_rf v31), (9, .int (0 : Int32)), (0, .ref a0), (4, .int v6), (6, .ref b30), (7, .ref b5), (8, .int v32)]) [3, 0, 7, 5, 4, 2, 1] rfl ?_
      refine x_while (v0 := (v31, (0 : Int32))) (fun w33 => [(5, va_rf w33.1), (9, .int w33.2), (0, .ref a0), (4, .int v6), (6, .ref b30), (7, .ref b5), (8, .int v32)]) hp31 (fun self34 hself35 => ?_)
      rintro ⟨y37, y38⟩ σ36 hp32
      unfold B_J6_addAll_2_68_1 at hp32
      refine x_same (lo' := [(5, va_rf y37), (9, .int y38), (0, .ref a0), (4, .int v6), (6, .ref b30), (7, .ref b5), (8, .int v32)]) rfl ?_
      refine x_up (pc' := 70) (fun _ _ _ _ _ L => lv_iload hx hb dJ6_addAll_2_68 (lv_at L 1 rfl)) ?_
      refine x_up (pc' := 72) (fun _ _ _ _ _ L => lv_iload hx hb dJ6_addAll_2_70 (lv_at L 6 rfl)) ?_
      refine x_if (C := v32 ≤ y38) (pt := 131) (pc' := 75) (fun _ _ _ _ _ => lv_icmp_ge (tgt := 131) hx hb dJ6_addAll_2_72 (by decide)) (fun c72 => ?_) (fun c72 => ?_)
      · have hp33 := hp32.1 c72
        refine x_up (pc' := 133) (fun _ _ _ _ _ L => lv_aload hx hb dJ6_addAll_2_131 (lv_at L 4 rfl)) ?_
        refine x_up (pc' := 145) (fun _ _ _ _ _ L => lv_ifnonnull (tgt := 145) hx hb dJ6_addAll_2_133 (by decide)) ?_
        refine x_up (pc' := 147) (fun _ _ _ _ _ L => lv_aloadq hx hb dJ6_addAll_2_145 (lv_at L 0 rfl)) ?_
        refine x_up (pc' := 149) (fun _ _ _ _ _ L => lv_aload hx hb dJ6_addAll_2_147 (lv_at L 4 rfl)) ?_
        obtain ⟨b39, rfl, hp34⟩ := hp33
        refine x_pq X (kJ10 hG) 1 (by decide) q447 (fun _ h => h) rfl (some b30) (x_nar _ (by decide)) (x_fit _ (by decide)) dJ6_addAll_2_149 hp34 (fun σ40 hp35 => ?_)
        refine x_pc (pc' := 152) rfl ?_
        refine x_up (pc' := 154) (fun _ _ _ _ _ L => lv_aload hx hb dJ6_addAll_2_152 (lv_at L 4 rfl)) ?_
        refine x_up (pc' := 156) (fun _ _ _ _ _ L => lv_aload hx hb dJ6_addAll_2_154 (lv_at L 0 rfl)) ?_
        refine x_pq X (kJ10 hG) 2 (by decide) q449 (fun _ h => h) rfl (some b39) (x_nar _ (by decide)) (x_fit _ (by decide)) dJ6_addAll_2_156 hp35 (fun σ41 hp36 => ?_)
        refine x_pc (pc' := 159) rfl ?_
        refine x_up (pc' := 160) (fun _ _ _ _ _ L => lv_aload_n hx hb dJ6_addAll_2_159 rfl (lv_at L 2 rfl)) ?_
        refine x_up (pc' := 161) (fun _ _ _ _ _ L => lv_dup hx hb dJ6_addAll_2_160 rfl) ?_
        refine x_gi X (kJ6 hG) 1 (by decide) q255 (fun _ h => h) dJ6_addAll_2_161 hp36 (fun v42 hp37 => ?_)
        refine x_pc (pc' := 164) rfl ?_
        refine x_up (pc' := 166) (fun _ _ _ _ _ L => lv_iload hx hb dJ6_addAll_2_164 (lv_at L 3 rfl)) ?_
        refine x_up (pc' := 167) (fun _ _ _ _ _ L => lv_iadd hx hb dJ6_addAll_2_166) ?_
        refine x_pi X (kJ6 hG) 1 (by decide) q255 (fun _ h => h) rfl rfl rfl dJ6_addAll_2_167 hp37 (fun σ43 hp38 => ?_)
        refine x_pc (pc' := 170) rfl ?_
        refine x_up (pc' := 171) (fun _ _ _ _ _ L => lv_aload_n hx hb dJ6_addAll_2_170 rfl (lv_at L 2 rfl)) ?_
        refine x_up (pc' := 172) (fun _ _ _ _ _ L => lv_dup hx hb dJ6_addAll_2_171 rfl) ?_
        refine x_gi X (kJ6 hG) 0 (by decide) q237 (x_sameF (X.2.2.2.2.1 _ q233)) dJ6_addAll_2_172 hp38 (fun v44 hp39 => ?_)
        refine x_pc (pc' := 175) rfl ?_
        refine x_up (pc' := 176) (fun _ _ _ _ _ L => lv_iconst (v := (1 : Int32)) hx hb dJ6_addAll_2_175 (by decide)) ?_
        refine x_up (pc' := 177) (fun _ _ _ _ _ L => lv_iadd hx hb dJ6_addAll_2_176) ?_
        refine x_pi X (kJ6 hG) 0 (by decide) q237 (x_sameF (X.2.2.2.2.1 _ q233)) rfl rfl rfl dJ6_addAll_2_177 hp39 (fun σ45 hp40 => ?_)
        refine x_pc (pc' := 180) rfl ?_
        refine x_up (pc' := 181) (fun _ _ _ _ _ L => lv_iconst (v := (1 : Int32)) hx hb dJ6_addAll_2_180 (by decide)) ?_
        exact x_iret X hr rfl dJ6_addAll_2_181 hp40
      · have hp41 := hp32.2 c72
        refine x_up (pc' := 77) (fun _ _ _ _ _ L => lv_aload hx hb dJ6_addAll_2_75 (lv_at L 5 rfl)) ?_
        refine x_up (pc' := 79) (fun _ _ _ _ _ L => lv_iload hx hb dJ6_addAll_2_77 (lv_at L 1 rfl)) ?_
        refine x_aald X dJ6_addAll_2_79 hp41 (fun v46 hp42 => ?_)
        refine x_pc (pc' := 80) rfl ?_
        refine x_upL (pc' := 82) (lo' := [(10, va_rf v46), (5, va_rf y37), (9, .int y38), (0, .ref a0), (4, .int v6), (6, .ref b30), (7, .ref b5), (8, .int v32)]) (fun _ _ _ _ _ L => lv_astoreq hx hb dJ6_addAll_2_80 L (by decide) rfl) ?_
        refine x_up (pc' := 84) (fun _ _ _ _ _ L => lv_aloadq hx hb dJ6_addAll_2_82 (lv_at L 0 rfl)) ?_
        refine x_st (pc' := 86) ([(11, va_rf v46), (10, va_rf v46), (5, va_rf y37), (9, .int y38), (0, .ref a0), (4, .int v6), (6, .ref b30), (7, .ref b5), (8, .int v32)]) rfl (by simp [x_catq, x_cati, x_catr, x_catn]) (fun _ _ _ _ _ L => lv_astoreq hx hb dJ6_addAll_2_84 L (by decide) rfl) ?_
        refine x_new X (kJ10 hG) q436 q437 q113 (fs := [va_rf none, va_rf none, va_rf none]) x_dflt_J10 dJ6_addAll_2_86 hp42 (fun q47 σ48 hp43 => ?_)
        refine x_pc (pc' := 89) rfl ?_
        refine x_up (pc' := 90) (fun _ _ _ _ _ L => lv_dup hx hb dJ6_addAll_2_89 rfl) ?_
        refine x_up (pc' := 92) (fun _ _ _ _ _ L => lv_aloadq hx hb dJ6_addAll_2_90 (lv_at L 2 rfl)) ?_
        refine x_up (pc' := 94) (fun _ _ _ _ _ L => lv_aloadq hx hb dJ6_addAll_2_92 (lv_at L 0 rfl)) ?_
        refine x_up (pc' := 95) (fun _ _ _ _ _ L => lv_null hx hb dJ6_addAll_2_94) ?_
        refine x_callI 3 X (fun σ' KK h => R_J10_init l hl G hG q47 y37 v46 none σ' KK h) (lw_meth q440) q113 q438 q439 rfl mdJ10_init ⟨Nat.le_of_ble_eq_true rfl, Nat.le_of_ble_eq_true rfl⟩ rfl rfl (Nat.le_of_ble_eq_true rfl) dJ6_addAll_2_95 hp43 (fun σ49 hp44 => ?_)
        refine x_pc (pc' := 98) rfl ?_
        refine x_st (pc' := 100) ([(12, .ref q47), (11, va_rf v46), (10, va_rf v46), (5, va_rf y37), (9, .int y38), (0, .ref a0), (4, .int v6), (6, .ref b30), (7, .ref b5), (8, .int v32)]) rfl (by simp [x_catq, x_cati, x_catr, x_catn]) (fun _ _ _ _ _ L => lv_astore hx hb dJ6_addAll_2_98 L (by decide) rfl) ?_
        refine x_up (pc' := 102) (fun _ _ _ _ _ L => lv_aloadq hx hb dJ6_addAll_2_100 (lv_at L 3 rfl)) ?_
        rcases y37 with _ | b50
        · have hp45 := hp44.1 rfl
          refine x_up (pc' := 105) (fun _ _ _ _ _ L => lv_ifnonnullN hx hb dJ6_addAll_2_102) ?_
          refine x_up (pc' := 106) (fun _ _ _ _ _ L => lv_aload_n hx hb dJ6_addAll_2_105 rfl (lv_at L 5 rfl)) ?_
          refine x_up (pc' := 108) (fun _ _ _ _ _ L => lv_aload hx hb dJ6_addAll_2_106 (lv_at L 0 rfl)) ?_
          refine x_pq X (kJ6 hG) 2 (by decide) q257 (fun _ h => h) rfl (some q47) (x_nar _ (by decide)) (x_fit _ (by decide)) dJ6_addAll_2_108 hp45 (fun σ51 hp46 => ?_)
          refine x_pc (pc' := 111) rfl ?_
          refine x_up (pc' := 121) (fun _ _ _ _ _ L => lv_goto (tgt := 121) hx hb dJ6_addAll_2_111 (by decide)) ?_
          refine x_up (pc' := 123) (fun _ _ _ _ _ L => lv_aload hx hb dJ6_addAll_2_121 (lv_at L 0 rfl)) ?_
          refine x_upL (pc' := 125) (lo' := [(5, .ref q47), (12, .ref q47), (11, va_rf v46), (10, va_rf v46), (9, .int y38), (0, .ref a0), (4, .int v6), (6, .ref b30), (7, .ref b5), (8, .int v32)]) (fun _ _ _ _ _ L => lv_astore hx hb dJ6_addAll_2_123 L (by decide) rfl) ?_
          refine x_upL (pc' := 128) (lo' := [(9, .int (y38 + (1 : Int32))), (5, .ref q47), (12, .ref q47), (11, va_rf v46), (10, va_rf v46), (0, .ref a0), (4, .int v6), (6, .ref b30), (7, .ref b5), (8, .int v32)]) (fun _ _ _ _ _ L => lv_iinc (v := y38 + (1 : Int32)) hx hb dJ6_addAll_2_125 L (k := 4) rfl rfl (by decide) rfl) ?_
          refine x_up (pc' := 68) (fun _ _ _ _ _ L => lv_goto (tgt := 68) hx hb dJ6_addAll_2_128 (by decide)) ?_
          refine x_lo (lo' := [(5, .ref q47), (9, .int (y38 + (1 : Int32))), (0, .ref a0), (4, .int v6), (6, .ref b30), (7, .ref b5), (8, .int v32)]) [1, 0, 5, 6, 7, 8, 9] rfl ?_
          exact hself35 ((some q47), (y38 + (1 : Int32))) σ51 hp46
        · have hp47 := hp44.2 _ rfl
          refine x_up (pc' := 114) (fun _ _ _ _ _ L => lv_ifnonnull (tgt := 114) hx hb dJ6_addAll_2_102 (by decide)) ?_
          refine x_up (pc' := 116) (fun _ _ _ _ _ L => lv_aload hx hb dJ6_addAll_2_114 (lv_at L 3 rfl)) ?_
          refine x_up (pc' := 118) (fun _ _ _ _ _ L => lv_aload hx hb dJ6_addAll_2_116 (lv_at L 0 rfl)) ?_
          refine x_pq X (kJ10 hG) 1 (by decide) q447 (fun _ h => h) rfl (some q47) (x_nar _ (by decide)) (x_fit _ (by decide)) dJ6_addAll_2_118 hp47 (fun σ52 hp48 => ?_)
          refine x_pc (pc' := 121) rfl ?_
          refine x_up (pc' := 123) (fun _ _ _ _ _ L => lv_aload hx hb dJ6_addAll_2_121 (lv_at L 0 rfl)) ?_
          refine x_upL (pc' := 125) (lo' := [(5, .ref q47), (12, .ref q47), (11, va_rf v46), (10, va_rf v46), (9, .int y38), (0, .ref a0), (4, .int v6), (6, .ref b30), (7, .ref b5), (8, .int v32)]) (fun _ _ _ _ _ L => lv_astore hx hb dJ6_addAll_2_123 L (by decide) rfl) ?_
          refine x_upL (pc' := 128) (lo' := [(9, .int (y38 + (1 : Int32))), (5, .ref q47), (12, .ref q47), (11, va_rf v46), (10, va_rf v46), (0, .ref a0), (4, .int v6), (6, .ref b30), (7, .ref b5), (8, .int v32)]) (fun _ _ _ _ _ L => lv_iinc (v := y38 + (1 : Int32)) hx hb dJ6_addAll_2_125 L (k := 4) rfl rfl (by decide) rfl) ?_
          refine x_up (pc' := 68) (fun _ _ _ _ _ L => lv_goto (tgt := 68) hx hb dJ6_addAll_2_128 (by decide)) ?_
          refine x_lo (lo' := [(5, .ref q47), (9, .int (y38 + (1 : Int32))), (0, .ref a0), (4, .int v6), (6, .ref b30), (7, .ref b5), (8, .int v32)]) [1, 0, 5, 6, 7, 8, 9] rfl ?_
          exact hself35 ((some q47), (y38 + (1 : Int32))) σ52 hp48
-- J6_addAll
def P_J6_addAll (κ : Nat → Nat) (a0 : Nat) (x1 : Option Nat) (σ : xS) (K : Int32 → xH → Prop) : Prop :=
  xgi σ a0 4 1 fun v1 => xrc σ a0 4 ∧ xcall (fun τ L => P_J6_addAll_2 κ a0 v1 x1 τ L) σ fun v2 σ3 => (narrow .boolean (.int v2) = .int v2 ∧ K v2 σ3.1)
theorem mdJ6_addAll : yJ6_addAll.cls ≠ "java/lang/invoke/MethodHandle" ∧ yJ6_addAll.cls ≠ "java/lang/invoke/VarHandle" ∧ (parseMethodDescriptor yJ6_addAll.desc).map (fun d => d.parameters.length) = some 1 := by decide +kernel
set_option maxHeartbeats 4000000 in
set_option maxRecDepth 100000 in
theorem R_J6_addAll (l : Launch) (hl : l.stackTraces = false) (G : xG) (hG : G.1.2 = x_cl) (a0 : Nat) (x1 : Option Nat) (σ : xS) (K : Int32 → xH → Prop) (hp : P_J6_addAll G.2 a0 x1 σ K) : xM l yJ6_addAll cJ6_addAll 2 (Option.some Jvm.ClassFile.FieldType.boolean) 3 75 G [(.ref a0), va_rf x1] σ (xlift emI K) := by
  refine x_entry (by decide) (by simp [lg_sl, x_catq, x_cati, x_catr, x_catn]) ?_
  intro p e s m args below meth c X hr hin
  have X : xX p s m args meth c G cJ6_addAll 2 RJ6 := X
  have hx := X.1
  have hb := X.2.1
  have hts := X.2.2.2.2.1
  have hown := X.2.2.2.1
  unfold P_J6_addAll at hp
  refine x_same (lo' := [(0, .ref a0), (1, va_rf x1)]) (by simp [lv_args, x_catq, x_cati, x_catr, x_catn]) ?_
  refine x_up (pc' := 1) (fun _ _ _ _ _ L => lv_aload_n hx hb dJ6_addAll_0 rfl (lv_at L 0 rfl)) ?_
  refine x_up (pc' := 2) (fun _ _ _ _ _ L => lv_aload_n hx hb dJ6_addAll_1 rfl (lv_at L 0 rfl)) ?_
  refine x_gi X (kJ6 hG) 1 (by decide) q255 (fun _ h => h) dJ6_addAll_2 hp (fun v1 hp1 => ?_)
  refine x_pc (pc' := 5) rfl ?_
  refine x_up (pc' := 6) (fun _ _ _ _ _ L => lv_aloadq_n hx hb dJ6_addAll_5 rfl (lv_at L 1 rfl)) ?_
  refine x_callV (em := emI) (fun r st => .int r :: st) (fun _ _ => rfl) 2 X (kJ6 hG) (fun σ' KK h => R_J6_addAll_2 l hl G hG a0 v1 x1 σ' KK h) (lw_V q1824 q1825 q1826 q107 q1827) ⟨rfl, mdJ6_addAll_2⟩ ⟨Nat.le_of_ble_eq_true rfl, Nat.le_of_ble_eq_true rfl⟩ rfl rfl (Nat.le_of_ble_eq_true rfl) dJ6_addAll_6 hp1.1 hp1.2 (fun v2 σ3 hp2 => ?_)
  refine x_pc (pc' := 9) rfl ?_
  exact x_iret X hr hp2.1 dJ6_addAll_9 hp2.2
-- X2_init_2
def B_X2_init_2_147 (κ : Nat → Nat) (kx148104 : Unit → xS → Prop) (f0 : Nat) (f1 : Nat) (f2 : Nat) (f4 : Nat) (f5 : Option Nat) : (Unit → xS → Prop) → Unit → xS → Prop := fun self148103 w148101 σ148102 =>
  xnn f5 fun b148105 => xrc σ148102 b148105 21 ∧ xcall (fun τ L => P_J35_hasNext κ b148105 τ L) σ148102 fun v148106 σ148107 => ((v148106 = 0 → (kx148104 () σ148107)) ∧ (¬ v148106 = 0 → (xrc σ148107 b148105 21 ∧ xcall (fun τ L => P_J35_next κ b148105 τ L) σ148107 fun v148108 σ148109 => xnn v148108 fun b148110 => xrc σ148109 b148110 5 ∧ xnew κ σ148109 5 8 [.int 0, va_rf none, .int 0, .int 0, .int 0, .int 0, .int 0, .int 0] fun q148111 σ148112 => xcall (fun τ L => P_X3_init_2 κ q148111 (some b148110) τ L) σ148112 fun _ σ148113 => xrc σ148113 f4 3 ∧ xcall (fun τ L => P_J4_add κ f4 (some q148111) τ L) σ148113 fun v148114 σ148115 => self148103 () σ148115)))
def B_X2_init_2_111 (κ : Nat → Nat) (kx112004 : Unit → xS → Prop) (f0 : Nat) (f1 : Nat) (f2 : Option Nat) : (Unit → xS → Prop) → Unit → xS → Prop := fun self112003 w112001 σ112002 =>
  xnn f2 fun b112005 => xrc σ112002 b112005 21 ∧ xcall (fun τ L => P_J35_hasNext κ b112005 τ L) σ112002 fun v112006 σ112007 => ((v112006 = 0 → (kx112004 () σ112007)) ∧ (¬ v112006 = 0 → (xrc σ112007 b112005 21 ∧ xcall (fun τ L => P_J35_next κ b112005 τ L) σ112007 fun v112008 σ112009 => xnn v112008 fun b112010 => xrc σ112009 b112010 3 ∧ xnew κ σ112009 3 3 [.int 0, va_rf none, .int 0] fun q112011 σ112012 => xcall (fun τ L => P_J4_init κ q112011 τ L) σ112012 fun _ σ112013 => xrc σ112013 b112010 3 ∧ xcall (fun τ L => P_J4_iterator κ b112010 τ L) σ112013 fun v112014 σ112015 => xwhile (B_X2_init_2_147 κ (fun e112016 σ112017 => xgq σ112017 f0 1 2 fun v112018 => xnn v112018 fun b112019 => xrc σ112017 b112019 3 ∧ xcall (fun τ L => P_J4_add κ b112019 (some q112011) τ L) σ112017 fun v112020 σ112021 => self112003 () σ112021) f0 f1 b112005 q112011 v112014) () σ112015)))
def P_X2_init_2 (κ : Nat → Nat) (a0 : Nat) (x1 : Option Nat) (σ : xS) (K : Unit → xH → Prop) : Prop :=
  xnea κ σ .int (64 : Int32) (fun N => (N, .inl fun _ => 0)) fun q1 σ2 => xpq κ σ2 a0 1 0 (some q1) fun σ3 => xnew κ σ3 2 9 [va_rf none, va_rf none, va_rf none, va_rf none, .int 0, .int 0, va_rf none, va_rf none, va_rf none] fun q4 σ5 => xcall (fun τ L => P_J1_init κ q4 τ L) σ5 fun _ σ6 => xpq κ σ6 a0 1 1 (some q4) fun σ7 => xnew κ σ7 3 3 [.int 0, va_rf none, .int 0] fun q8 σ9 => xcall (fun τ L => P_J4_init κ q8 τ L) σ9 fun _ σ10 => xpq κ σ10 a0 1 2 (some q8) fun σ11 => xnew κ σ11 4 4 [.int 0, .int 0, va_rf none, va_rf none] fun q12 σ13 => xcall (fun τ L => P_J6_init κ q12 τ L) σ13 fun _ σ14 => xpq κ σ14 a0 1 3 (some q12) fun σ15 => xnea κ σ15 .int (4 : Int32) (fun N => (N, .inl fun _ => 0)) fun q16 σ17 => xpq κ σ17 a0 1 4 (some q16) fun σ18 => xnea κ σ18 .int (16 : Int32) (fun N => (N, .inl fun _ => 0)) fun q19 σ20 => xpq κ σ20 a0 1 5 (some q19) fun σ21 => xnea κ σ21 .int (16 : Int32) (fun N => (N, .inl fun _ => 0)) fun q22 σ23 => xpq κ σ23 a0 1 6 (some q22) fun σ24 => xnea κ σ24 .int (3 : Int32) (fun N => (N, .inl fun _ => 0)) fun q25 σ26 => xpq κ σ26 a0 1 7 (some q25) fun σ27 => xnn x1 fun b28 => xgq σ27 b28 1 0 fun v29 => xgq σ27 a0 1 0 fun v30 => xnn v30 fun b31 => xnn v29 fun b32 => xcpi κ .int σ27 b32 (0 : Int32) b31 (0 : Int32) (64 : Int32) fun σ33 => xgq σ33 a0 1 1 fun v34 => xgq σ33 b28 1 1 fun v35 => xnn v34 fun b36 => xrc σ33 b36 2 ∧ xcallX (fun τ L LX => P_J1_putAll κ b36 v35 τ L LX) σ33 (fun _ σ37 => xgq σ37 b28 1 2 fun v40 => xnn v40 fun b41 => xrc σ37 b41 3 ∧ xcall (fun τ L => P_J4_iterator κ b41 τ L) σ37 fun v42 σ43 => xwhile (B_X2_init_2_111 κ (fun e44 σ45 => xgq σ45 a0 1 3 fun v46 => xgq σ45 b28 1 3 fun v47 => xnn v46 fun b48 => xrc σ45 b48 4 ∧ xcall (fun τ L => P_J6_addAll κ b48 v47 τ L) σ45 fun v49 σ50 => xgq σ50 b28 1 4 fun v51 => xgq σ50 a0 1 4 fun v52 => xnn v52 fun b53 => xnn v51 fun b54 => xcpi κ .int σ50 b54 (0 : Int32) b53 (0 : Int32) (4 : Int32) fun σ55 => xgq σ55 b28 1 5 fun v56 => xgq σ55 a0 1 5 fun v57 => xnn v57 fun b58 => xnn v56 fun b59 => xcpi κ .int σ55 b59 (0 : Int32) b58 (0 : Int32) (16 : Int32) fun σ60 => xgq σ60 b28 1 6 fun v61 => xgq σ60 a0 1 6 fun v62 => xnn v62 fun b63 => xnn v61 fun b64 => xcpi κ .int σ60 b64 (0 : Int32) b63 (0 : Int32) (16 : Int32) fun σ65 => xgq σ65 b28 1 7 fun v66 => xgq σ65 a0 1 7 fun v67 => xnn v67 fun b68 => xnn v66 fun b69 => xcpi κ .int σ65 b69 (0 : Int32) b68 (0 : Int32) (3 : Int32) fun σ70 => xgi σ70 b28 1 8 fun v71 => xpi κ σ70 a0 1 8 v71 fun σ72 => xgi σ72 b28 1 9 fun v73 => xpi κ σ72 a0 1 9 v73 fun σ74 => xgi σ74 b28 1 10 fun v75 => xpi κ σ74 a0 1 10 v75 fun σ76 => xgi σ76 b28 1 11 fun v77 => xpi κ σ76 a0 1 11 v77 fun σ78 => xgi σ78 b28 1 12 fun v79 => narrow .boolean (.int v79) = .int v79 ∧ fits .boolean (.int v79) = true ∧ xpi κ σ78 a0 1 12 v79 fun σ80 => xgi σ80 b28 1 13 fun v81 => xpi κ σ80 a0 1 13 v81 fun σ82 => xgi σ82 b28 1 14 fun v83 => xpi κ σ82 a0 1 14 v83 fun σ84 => xgi σ84 b28 1 15 fun v85 => xpi κ σ84 a0 1 15 v85 fun σ86 => xgi σ86 b28 1 16 fun v87 => xpi κ σ86 a0 1 16 v87 fun σ88 => xgi σ88 b28 1 17 fun v89 => xpi κ σ88 a0 1 17 v89 fun σ90 => xgi σ90 b28 1 18 fun v91 => xpi κ σ90 a0 1 18 v91 fun σ92 => xgi σ92 b28 1 19 fun v93 => xpi κ σ92 a0 1 19 v93 fun σ94 => K () σ94.1) a0 b28 v42) () σ43) (fun _ _ => False)
theorem mdX2_init_2 : yX2_init_2.cls ≠ "java/lang/invoke/MethodHandle" ∧ yX2_init_2.cls ≠ "java/lang/invoke/VarHandle" ∧ (parseMethodDescriptor yX2_init_2.desc).map (fun d => d.parameters.length) = some 1 := by decide +kernel
set_option maxHeartbeats 4000000 in
set_option maxRecDepth 100000 in
theorem R_X2_init_2 (l : Launch) (hl : l.stackTraces = false) (G : xG) (hG : G.1.2 = x_cl) (a0 : Nat) (x1 : Option Nat) (σ : xS) (K : Unit → xH → Prop) (hp : P_X2_init_2 G.2 a0 x1 σ K) : xM l yX2_init_2 cX2_init_2 7 (Option.none : Option Jvm.ClassFile.FieldType) 15 427 G [(.ref a0), va_rf x1] σ (xlift emV K) := by
  refine x_entry (by decide) (by simp [lg_sl, x_catq, x_cati, x_catr, x_catn]) ?_
  intro p e s m args below meth c X hr hin
  have X : xX p s m args meth c G cX2_init_2 7 RX2 := X
  have hx := X.1
  have hb := X.2.1
  have hts := X.2.2.2.2.1
  have hown := X.2.2.2.1
  unfold P_X2_init_2 at hp
  refine x_same (lo' := [(0, .ref a0), (1, va_rf x1)]) (by simp [lv_args, x_catq, x_cati, x_catr, x_catn]) ?_
  refine x_up (pc' := 1) (fun _ _ _ _ _ L => lv_aload_n hx hb dX2_init_2_0 rfl (lv_at L 0 rfl)) ?_
  refine x_objInit X q177 q170 q171 dX2_init_2_1 (Nat.le_of_ble_eq_true rfl) ⟨Nat.le_of_ble_eq_true rfl, Nat.le_of_ble_eq_true rfl⟩ ?_
  refine x_pc (pc' := 4) rfl ?_
  refine x_up (pc' := 5) (fun _ _ _ _ _ L => lv_aload_n hx hb dX2_init_2_4 rfl (lv_at L 0 rfl)) ?_
  refine x_up (pc' := 7) (fun _ _ _ _ _ L => lv_bipush (v := (64 : Int32)) hx hb dX2_init_2_5 (by decide)) ?_
  refine x_nea .int rfl (fun _ h => nomatch h) X q212 (fun N => (N, .inl fun _ => 0)) (fun _ => rfl) (fun _ _ => rfl) (by decide) dX2_init_2_7 hp (fun q1 σ2 hp1 => ?_)
  refine x_pc (pc' := 9) rfl ?_
  refine x_pqF X (kX2 hG) 0 (by decide) q458 (fun _ h => h) rfl hin rfl (some q1) (x_nar _ (by decide)) (x_fit _ (by decide)) dX2_init_2_9 hp1 (fun σ3 hp2 => ?_)
  refine x_pc (pc' := 12) rfl ?_
  refine x_up (pc' := 13) (fun _ _ _ _ _ L => lv_aload_n hx hb dX2_init_2_12 rfl (lv_at L 0 rfl)) ?_
  refine x_new X (kJ1 hG) q178 q179 q102 (fs := [va_rf none, va_rf none, va_rf none, va_rf none, .int 0, .int 0, va_rf none, va_rf none, va_rf none]) x_dflt_J1 dX2_init_2_13 hp2 (fun q4 σ5 hp3 => ?_)
  refine x_pc (pc' := 16) rfl ?_
  refine x_up (pc' := 17) (fun _ _ _ _ _ L => lv_dup hx hb dX2_init_2_16 rfl) ?_
  refine x_callI 0 X (fun σ' KK h => R_J1_init l hl G hG q4 σ' KK h) (lw_meth q182) q102 q180 q181 rfl mdJ1_init ⟨Nat.le_of_ble_eq_true rfl, Nat.le_of_ble_eq_true rfl⟩ rfl rfl (Nat.le_of_ble_eq_true rfl) dX2_init_2_17 hp3 (fun σ6 hp4 => ?_)
  refine x_pc (pc' := 20) rfl ?_
  refine x_pqF X (kX2 hG) 1 (by decide) q460 (fun _ h => h) rfl hin rfl (some q4) (x_nar _ (by decide)) (x_fit _ (by decide)) dX2_init_2_20 hp4 (fun σ7 hp5 => ?_)
  refine x_pc (pc' := 23) rfl ?_
  refine x_up (pc' := 24) (fun _ _ _ _ _ L => lv_aload_n hx hb dX2_init_2_23 rfl (lv_at L 0 rfl)) ?_
  refine x_new X (kJ4 hG) q213 q214 q105 (fs := [.int 0, va_rf none, .int 0]) x_dflt_J4 dX2_init_2_24 hp5 (fun q8 σ9 hp6 => ?_)
  refine x_pc (pc' := 27) rfl ?_
  refine x_up (pc' := 28) (fun _ _ _ _ _ L => lv_dup hx hb dX2_init_2_27 rfl) ?_
  refine x_callI 0 X (fun σ' KK h => R_J4_init l hl G hG q8 σ' KK h) (lw_meth q217) q105 q215 q216 rfl mdJ4_init ⟨Nat.le_of_ble_eq_true rfl, Nat.le_of_ble_eq_true rfl⟩ rfl rfl (Nat.le_of_ble_eq_true rfl) dX2_init_2_28 hp6 (fun σ10 hp7 => ?_)
  refine x_pc (pc' := 31) rfl ?_
  refine x_pqF X (kX2 hG) 2 (by decide) q462 (fun _ h => h) rfl hin rfl (some q8) (x_nar _ (by decide)) (x_fit _ (by decide)) dX2_init_2_31 hp7 (fun σ11 hp8 => ?_)
  refine x_pc (pc' := 34) rfl ?_
  refine x_up (pc' := 35) (fun _ _ _ _ _ L => lv_aload_n hx hb dX2_init_2_34 rfl (lv_at L 0 rfl)) ?_
  refine x_new X (kJ6 hG) q246 q247 q107 (fs := [.int 0, .int 0, va_rf none, va_rf none]) x_dflt_J6 dX2_init_2_35 hp8 (fun q12 σ13 hp9 => ?_)
  refine x_pc (pc' := 38) rfl ?_
  refine x_up (pc' := 39) (fun _ _ _ _ _ L => lv_dup hx hb dX2_init_2_38 rfl) ?_
  refine x_callI 0 X (fun σ' KK h => R_J6_init l hl G hG q12 σ' KK h) (lw_meth q250) q107 q248 q249 rfl mdJ6_init ⟨Nat.le_of_ble_eq_true rfl, Nat.le_of_ble_eq_true rfl⟩ rfl rfl (Nat.le_of_ble_eq_true rfl) dX2_init_2_39 hp9 (fun σ14 hp10 => ?_)
  refine x_pc (pc' := 42) rfl ?_
  refine x_pqF X (kX2 hG) 3 (by decide) q464 (fun _ h => h) rfl hin rfl (some q12) (x_nar _ (by decide)) (x_fit _ (by decide)) dX2_init_2_42 hp10 (fun σ15 hp11 => ?_)
  refine x_pc (pc' := 45) rfl ?_
  refine x_up (pc' := 46) (fun _ _ _ _ _ L => lv_aload_n hx hb dX2_init_2_45 rfl (lv_at L 0 rfl)) ?_
  refine x_up (pc' := 47) (fun _ _ _ _ _ L => lv_iconst (v := (4 : Int32)) hx hb dX2_init_2_46 (by decide)) ?_
  refine x_nea .int rfl (fun _ h => nomatch h) X q212 (fun N => (N, .inl fun _ => 0)) (fun _ => rfl) (fun _ _ => rfl) (by decide) dX2_init_2_47 hp11 (fun q16 σ17 hp12 => ?_)
  refine x_pc (pc' := 49) rfl ?_
  refine x_pqF X (kX2 hG) 4 (by decide) q466 (fun _ h => h) rfl hin rfl (some q16) (x_nar _ (by decide)) (x_fit _ (by decide)) dX2_init_2_49 hp12 (fun σ18 hp13 => ?_)
  refine x_pc (pc' := 52) rfl ?_
  refine x_up (pc' := 53) (fun _ _ _ _ _ L => lv_aload_n hx hb dX2_init_2_52 rfl (lv_at L 0 rfl)) ?_
  refine x_up (pc' := 55) (fun _ _ _ _ _ L => lv_bipush (v := (16 : Int32)) hx hb dX2_init_2_53 (by decide)) ?_
  refine x_nea .int rfl (fun _ h => nomatch h) X q212 (fun N => (N, .inl fun _ => 0)) (fun _ => rfl) (fun _ _ => rfl) (by decide) dX2_init_2_55 hp13 (fun q19 σ20 hp14 => ?_)
  refine x_pc (pc' := 57) rfl ?_
  refine x_pqF X (kX2 hG) 5 (by decide) q468 (fun _ h => h) rfl hin rfl (some q19) (x_nar _ (by decide)) (x_fit _ (by decide)) dX2_init_2_57 hp14 (fun σ21 hp15 => ?_)
  refine x_pc (pc' := 60) rfl ?_
  refine x_up (pc' := 61) (fun _ _ _ _ _ L => lv_aload_n hx hb dX2_init_2_60 rfl (lv_at L 0 rfl)) ?_
  refine x_up (pc' := 63) (fun _ _ _ _ _ L => lv_bipush (v := (16 : Int32)) hx hb dX2_init_2_61 (by decide)) ?_
  refine x_nea .int rfl (fun _ h => nomatch h) X q212 (fun N => (N, .inl fun _ => 0)) (fun _ => rfl) (fun _ _ => rfl) (by decide) dX2_init_2_63 hp15 (fun q22 σ23 hp16 => ?_)
  refine x_pc (pc' := 65) rfl ?_
  refine x_pqF X (kX2 hG) 6 (by decide) q469 (fun _ h => h) rfl hin rfl (some q22) (x_nar _ (by decide)) (x_fit _ (by decide)) dX2_init_2_65 hp16 (fun σ24 hp17 => ?_)
  refine x_pc (pc' := 68) rfl ?_
  refine x_up (pc' := 69) (fun _ _ _ _ _ L => lv_aload_n hx hb dX2_init_2_68 rfl (lv_at L 0 rfl)) ?_
  refine x_up (pc' := 70) (fun _ _ _ _ _ L => lv_iconst (v := (3 : Int32)) hx hb dX2_init_2_69 (by decide)) ?_
  refine x_nea .int rfl (fun _ h => nomatch h) X q212 (fun N => (N, .inl fun _ => 0)) (fun _ => rfl) (fun _ _ => rfl) (by decide) dX2_init_2_70 hp17 (fun q25 σ26 hp18 => ?_)
  refine x_pc (pc' := 72) rfl ?_
  refine x_pqF X (kX2 hG) 7 (by decide) q470 (fun _ h => h) rfl hin rfl (some q25) (x_nar _ (by decide)) (x_fit _ (by decide)) dX2_init_2_72 hp18 (fun σ27 hp19 => ?_)
  refine x_pc (pc' := 75) rfl ?_
  refine x_up (pc' := 76) (fun _ _ _ _ _ L => lv_aloadq_n hx hb dX2_init_2_75 rfl (lv_at L 1 rfl)) ?_
  obtain ⟨b28, rfl, hp20⟩ := hp19
  refine x_gq X (kX2 hG) 0 (by decide) q458 (fun _ h => h) dX2_init_2_76 hp20 (fun v29 hp21 => ?_)
  refine x_pc (pc' := 79) rfl ?_
  refine x_up (pc' := 80) (fun _ _ _ _ _ L => lv_iconst (v := (0 : Int32)) hx hb dX2_init_2_79 (by decide)) ?_
  refine x_up (pc' := 81) (fun _ _ _ _ _ L => lv_aload_n hx hb dX2_init_2_80 rfl (lv_at L 0 rfl)) ?_
  refine x_gq X (kX2 hG) 0 (by decide) q458 (fun _ h => h) dX2_init_2_81 hp21 (fun v30 hp22 => ?_)
  refine x_pc (pc' := 84) rfl ?_
  refine x_up (pc' := 85) (fun _ _ _ _ _ L => lv_iconst (v := (0 : Int32)) hx hb dX2_init_2_84 (by decide)) ?_
  refine x_up (pc' := 87) (fun _ _ _ _ _ L => lv_bipush (v := (64 : Int32)) hx hb dX2_init_2_85 (by decide)) ?_
  obtain ⟨b31, rfl, hp23⟩ := hp22
  obtain ⟨b32, rfl, hp24⟩ := hp23
  refine x_cpi (ty := .int) (fun _ h => nomatch h) X q618 q424 q423 q112 (Nat.le_of_ble_eq_true rfl) ⟨Nat.le_of_ble_eq_true rfl, Nat.le_of_ble_eq_true rfl⟩ dX2_init_2_87 hp24 (fun σ33 hp25 => ?_)
  refine x_pc (pc' := 90) rfl ?_
  refine x_up (pc' := 91) (fun _ _ _ _ _ L => lv_aload_n hx hb dX2_init_2_90 rfl (lv_at L 0 rfl)) ?_
  refine x_gq X (kX2 hG) 1 (by decide) q460 (fun _ h => h) dX2_init_2_91 hp25 (fun v34 hp26 => ?_)
  refine x_pc (pc' := 94) rfl ?_
  refine x_up (pc' := 95) (fun _ _ _ _ _ L => lv_aload_n hx hb dX2_init_2_94 rfl (lv_at L 1 rfl)) ?_
  refine x_gq X (kX2 hG) 1 (by decide) q460 (fun _ h => h) dX2_init_2_95 hp26 (fun v35 hp27 => ?_)
  refine x_pc (pc' := 98) rfl ?_
  obtain ⟨b36, rfl, hp28⟩ := hp27
  refine x_callVH (em := emV) (fun r st => st) (fun _ _ => rfl) 1 X (kJ1 hG) (fun σ' KK KX h => R_J1_putAll l hl G hG b36 v35 σ' KK KX h) (lw_VW q619 q620 q621 q102 q622) ⟨rfl, mdJ1_putAll⟩ ⟨Nat.le_of_ble_eq_true rfl, Nat.le_of_ble_eq_true rfl⟩ rfl rfl (Nat.le_of_ble_eq_true rfl) dX2_init_2_98 hp28.1 hp28.2 (fun _ σ37 hpA98 => ?_) (fun q38 σ39 hpB98 => ?_)
  · have hp29 := hpA98
    refine x_pc (pc' := 101) rfl ?_
    refine x_up (pc' := 102) (fun _ _ _ _ _ L => lv_aload_n hx hb dX2_init_2_101 rfl (lv_at L 1 rfl)) ?_
    refine x_gq X (kX2 hG) 2 (by decide) q462 (fun _ h => h) dX2_init_2_102 hp29 (fun v40 hp30 => ?_)
    refine x_pc (pc' := 105) rfl ?_
    obtain ⟨b41, rfl, hp31⟩ := hp30
    refine x_callF (x := ⟨"java/util/List", "iterator", "()Ljava/util/Iterator;"⟩) (em := emQ) (fun r st => va_rf r :: st) (fun _ _ => rfl) 0 X (kJ4 hG) (fun σ' KK h => R_J4_iterator l hl G hG b41 σ' KK h) q1698 q1701 q1703 q105 q1705 ⟨⟨q1700, q1699, q1704, q1702, q275⟩, by decide, by decide⟩ (by decide +kernel) ⟨Nat.le_of_ble_eq_true rfl, Nat.le_of_ble_eq_true rfl⟩ rfl rfl (Nat.le_of_ble_eq_true rfl) dX2_init_2_105 hp31.1 hp31.2 (fun v42 σ43 hp32 => ?_)
    refine x_pc (pc' := 110) rfl ?_
    refine x_upL (pc' := 111) (lo' := [(2, va_rf v42), (0, .ref a0), (1, .ref b28)]) (fun _ _ _ _ _ L => lv_astoreq_n hx hb dX2_init_2_110 rfl L (by decide) rfl) ?_
    refine x_lo (lo' := [(0, .ref a0), (1, .ref b28), (2, va_rf v42)]) [1, 2, 0] rfl ?_
    refine x_while (v0 := ()) (fun _ => [(0, .ref a0), (1, .ref b28), (2, va_rf v42)]) hp32 (fun self45 hself46 => ?_)
    rintro ⟨⟩ σ47 hp33
    unfold B_X2_init_2_111 at hp33
    refine x_same (lo' := [(0, .ref a0), (1, .ref b28), (2, va_rf v42)]) rfl ?_
    refine x_up (pc' := 112) (fun _ _ _ _ _ L => lv_aloadq_n hx hb dX2_init_2_111 rfl (lv_at L 2 rfl)) ?_
    obtain ⟨b48, rfl, hp34⟩ := hp33
    refine x_callF (x := ⟨"java/util/Iterator", "hasNext", "()Z"⟩) (em := emI) (fun r st => .int r :: st) (fun _ _ => rfl) 0 X (kJ35 hG) (fun σ' KK h => R_J35_hasNext l hl G hG b48 σ' KK h) q1811 q1351 q1353 q141 q1355 ⟨⟨q1331, q1330, q1354, q1352, q1198⟩, by decide, by decide⟩ (by decide +kernel) ⟨Nat.le_of_ble_eq_true rfl, Nat.le_of_ble_eq_true rfl⟩ rfl rfl (Nat.le_of_ble_eq_true rfl) dX2_init_2_112 hp34.1 hp34.2 (fun v49 σ50 hp35 => ?_)
    refine x_pc (pc' := 117) rfl ?_
    refine x_if (C := v49 = 0) (pt := 204) (pc' := 120) (fun _ _ _ _ _ => lv_if_eq (tgt := 204) hx hb dX2_init_2_117 (by decide)) (fun c117 => ?_) (fun c117 => ?_)
    · have hp36 := hp35.1 c117
      refine x_same (lo' := [(0, .ref a0), (1, .ref b28), (2, va_rf (some b48))]) rfl ?_
      refine x_up (pc' := 205) (fun _ _ _ _ _ L => lv_aload_n hx hb dX2_init_2_204 rfl (lv_at L 0 rfl)) ?_
      refine x_gq X (kX2 hG) 3 (by decide) q464 (fun _ h => h) dX2_init_2_205 hp36 (fun v51 hp37 => ?_)
      refine x_pc (pc' := 208) rfl ?_
      refine x_up (pc' := 209) (fun _ _ _ _ _ L => lv_aload_n hx hb dX2_init_2_208 rfl (lv_at L 1 rfl)) ?_
      refine x_gq X (kX2 hG) 3 (by decide) q464 (fun _ h => h) dX2_init_2_209 hp37 (fun v52 hp38 => ?_)
      refine x_pc (pc' := 212) rfl ?_
      obtain ⟨b53, rfl, hp39⟩ := hp38
      refine x_callV (em := emI) (fun r st => .int r :: st) (fun _ _ => rfl) 1 X (kJ6 hG) (fun σ' KK h => R_J6_addAll l hl G hG b53 v52 σ' KK h) (lw_V q1820 q1821 q1822 q107 q1823) ⟨rfl, mdJ6_addAll⟩ ⟨Nat.le_of_ble_eq_true rfl, Nat.le_of_ble_eq_true rfl⟩ rfl rfl (Nat.le_of_ble_eq_true rfl) dX2_init_2_212 hp39.1 hp39.2 (fun v54 σ55 hp40 => ?_)
      refine x_pc (pc' := 215) rfl ?_
      refine x_up (pc' := 216) (fun _ _ _ _ _ L => lv_pop hx hb dX2_init_2_215 rfl) ?_
      refine x_up (pc' := 217) (fun _ _ _ _ _ L => lv_aload_n hx hb dX2_init_2_216 rfl (lv_at L 1 rfl)) ?_
      refine x_gq X (kX2 hG) 4 (by decide) q466 (fun _ h => h) dX2_init_2_217 hp40 (fun v56 hp41 => ?_)
      refine x_pc (pc' := 220) rfl ?_
      refine x_up (pc' := 221) (fun _ _ _ _ _ L => lv_iconst (v := (0 : Int32)) hx hb dX2_init_2_220 (by decide)) ?_
      refine x_up (pc' := 222) (fun _ _ _ _ _ L => lv_aload_n hx hb dX2_init_2_221 rfl (lv_at L 0 rfl)) ?_
      refine x_gq X (kX2 hG) 4 (by decide) q466 (fun _ h => h) dX2_init_2_222 hp41 (fun v57 hp42 => ?_)
      refine x_pc (pc' := 225) rfl ?_
      refine x_up (pc' := 226) (fun _ _ _ _ _ L => lv_iconst (v := (0 : Int32)) hx hb dX2_init_2_225 (by decide)) ?_
      refine x_up (pc' := 227) (fun _ _ _ _ _ L => lv_iconst (v := (4 : Int32)) hx hb dX2_init_2_226 (by decide)) ?_
      obtain ⟨b58, rfl, hp43⟩ := hp42
      obtain ⟨b59, rfl, hp44⟩ := hp43
      refine x_cpi (ty := .int) (fun _ h => nomatch h) X q618 q424 q423 q112 (Nat.le_of_ble_eq_true rfl) ⟨Nat.le_of_ble_eq_true rfl, Nat.le_of_ble_eq_true rfl⟩ dX2_init_2_227 hp44 (fun σ60 hp45 => ?_)
      refine x_pc (pc' := 230) rfl ?_
      refine x_up (pc' := 231) (fun _ _ _ _ _ L => lv_aload_n hx hb dX2_init_2_230 rfl (lv_at L 1 rfl)) ?_
      refine x_gq X (kX2 hG) 5 (by decide) q468 (fun _ h => h) dX2_init_2_231 hp45 (fun v61 hp46 => ?_)
      refine x_pc (pc' := 234) rfl ?_
      refine x_up (pc' := 235) (fun _ _ _ _ _ L => lv_iconst (v := (0 : Int32)) hx hb dX2_init_2_234 (by decide)) ?_
      refine x_up (pc' := 236) (fun _ _ _ _ _ L => lv_aload_n hx hb dX2_init_2_235 rfl (lv_at L 0 rfl)) ?_
      refine x_gq X (kX2 hG) 5 (by decide) q468 (fun _ h => h) dX2_init_2_236 hp46 (fun v62 hp47 => ?_)
      refine x_pc (pc' := 239) rfl ?_
      refine x_up (pc' := 240) (fun _ _ _ _ _ L => lv_iconst (v := (0 : Int32)) hx hb dX2_init_2_239 (by decide)) ?_
      refine x_up (pc' := 242) (fun _ _ _ _ _ L => lv_bipush (v := (16 : Int32)) hx hb dX2_init_2_240 (by decide)) ?_
      obtain ⟨b63, rfl, hp48⟩ := hp47
      obtain ⟨b64, rfl, hp49⟩ := hp48
      refine x_cpi (ty := .int) (fun _ h => nomatch h) X q618 q424 q423 q112 (Nat.le_of_ble_eq_true rfl) ⟨Nat.le_of_ble_eq_true rfl, Nat.le_of_ble_eq_true rfl⟩ dX2_init_2_242 hp49 (fun σ65 hp50 => ?_)
      refine x_pc (pc' := 245) rfl ?_
      refine x_up (pc' := 246) (fun _ _ _ _ _ L => lv_aload_n hx hb dX2_init_2_245 rfl (lv_at L 1 rfl)) ?_
      refine x_gq X (kX2 hG) 6 (by decide) q469 (fun _ h => h) dX2_init_2_246 hp50 (fun v66 hp51 => ?_)
      refine x_pc (pc' := 249) rfl ?_
      refine x_up (pc' := 250) (fun _ _ _ _ _ L => lv_iconst (v := (0 : Int32)) hx hb dX2_init_2_249 (by decide)) ?_
      refine x_up (pc' := 251) (fun _ _ _ _ _ L => lv_aload_n hx hb dX2_init_2_250 rfl (lv_at L 0 rfl)) ?_
      refine x_gq X (kX2 hG) 6 (by decide) q469 (fun _ h => h) dX2_init_2_251 hp51 (fun v67 hp52 => ?_)
      refine x_pc (pc' := 254) rfl ?_
      refine x_up (pc' := 255) (fun _ _ _ _ _ L => lv_iconst (v := (0 : Int32)) hx hb dX2_init_2_254 (by decide)) ?_
      refine x_up (pc' := 257) (fun _ _ _ _ _ L => lv_bipush (v := (16 : Int32)) hx hb dX2_init_2_255 (by decide)) ?_
      obtain ⟨b68, rfl, hp53⟩ := hp52
      obtain ⟨b69, rfl, hp54⟩ := hp53
      refine x_cpi (ty := .int) (fun _ h => nomatch h) X q618 q424 q423 q112 (Nat.le_of_ble_eq_true rfl) ⟨Nat.le_of_ble_eq_true rfl, Nat.le_of_ble_eq_true rfl⟩ dX2_init_2_257 hp54 (fun σ70 hp55 => ?_)
      refine x_pc (pc' := 260) rfl ?_
      refine x_up (pc' := 261) (fun _ _ _ _ _ L => lv_aload_n hx hb dX2_init_2_260 rfl (lv_at L 1 rfl)) ?_
      refine x_gq X (kX2 hG) 7 (by decide) q470 (fun _ h => h) dX2_init_2_261 hp55 (fun v71 hp56 => ?_)
      refine x_pc (pc' := 264) rfl ?_
      refine x_up (pc' := 265) (fun _ _ _ _ _ L => lv_iconst (v := (0 : Int32)) hx hb dX2_init_2_264 (by decide)) ?_
      refine x_up (pc' := 266) (fun _ _ _ _ _ L => lv_aload_n hx hb dX2_init_2_265 rfl (lv_at L 0 rfl)) ?_
      refine x_gq X (kX2 hG) 7 (by decide) q470 (fun _ h => h) dX2_init_2_266 hp56 (fun v72 hp57 => ?_)
      refine x_pc (pc' := 269) rfl ?_
      refine x_up (pc' := 270) (fun _ _ _ _ _ L => lv_iconst (v := (0 : Int32)) hx hb dX2_init_2_269 (by decide)) ?_
      refine x_up (pc' := 271) (fun _ _ _ _ _ L => lv_iconst (v := (3 : Int32)) hx hb dX2_init_2_270 (by decide)) ?_
      obtain ⟨b73, rfl, hp58⟩ := hp57
      obtain ⟨b74, rfl, hp59⟩ := hp58
      refine x_cpi (ty := .int) (fun _ h => nomatch h) X q618 q424 q423 q112 (Nat.le_of_ble_eq_true rfl) ⟨Nat.le_of_ble_eq_true rfl, Nat.le_of_ble_eq_true rfl⟩ dX2_init_2_271 hp59 (fun σ75 hp60 => ?_)
      refine x_pc (pc' := 274) rfl ?_
      refine x_up (pc' := 275) (fun _ _ _ _ _ L => lv_aload_n hx hb dX2_init_2_274 rfl (lv_at L 0 rfl)) ?_
      refine x_up (pc' := 276) (fun _ _ _ _ _ L => lv_aload_n hx hb dX2_init_2_275 rfl (lv_at L 1 rfl)) ?_
      refine x_gi X (kX2 hG) 8 (by decide) q472 (fun _ h => h) dX2_init_2_276 hp60 (fun v76 hp61 => ?_)
      refine x_pc (pc' := 279) rfl ?_
      refine x_pi X (kX2 hG) 8 (by decide) q472 (fun _ h => h) rfl rfl rfl dX2_init_2_279 hp61 (fun σ77 hp62 => ?_)
      refine x_pc (pc' := 282) rfl ?_
      refine x_up (pc' := 283) (fun _ _ _ _ _ L => lv_aload_n hx hb dX2_init_2_282 rfl (lv_at L 0 rfl)) ?_
      refine x_up (pc' := 284) (fun _ _ _ _ _ L => lv_aload_n hx hb dX2_init_2_283 rfl (lv_at L 1 rfl)) ?_
      refine x_gi X (kX2 hG) 9 (by decide) q474 (fun _ h => h) dX2_init_2_284 hp62 (fun v78 hp63 => ?_)
      refine x_pc (pc' := 287) rfl ?_
      refine x_pi X (kX2 hG) 9 (by decide) q474 (fun _ h => h) rfl rfl rfl dX2_init_2_287 hp63 (fun σ79 hp64 => ?_)
      refine x_pc (pc' := 290) rfl ?_
      refine x_up (pc' := 291) (fun _ _ _ _ _ L => lv_aload_n hx hb dX2_init_2_290 rfl (lv_at L 0 rfl)) ?_
      refine x_up (pc' := 292) (fun _ _ _ _ _ L => lv_aload_n hx hb dX2_init_2_291 rfl (lv_at L 1 rfl)) ?_
      refine x_gi X (kX2 hG) 10 (by decide) q475 (fun _ h => h) dX2_init_2_292 hp64 (fun v80 hp65 => ?_)
      refine x_pc (pc' := 295) rfl ?_
      refine x_pi X (kX2 hG) 10 (by decide) q475 (fun _ h => h) rfl rfl rfl dX2_init_2_295 hp65 (fun σ81 hp66 => ?_)
      refine x_pc (pc' := 298) rfl ?_
      refine x_up (pc' := 299) (fun _ _ _ _ _ L => lv_aload_n hx hb dX2_init_2_298 rfl (lv_at L 0 rfl)) ?_
      refine x_up (pc' := 300) (fun _ _ _ _ _ L => lv_aload_n hx hb dX2_init_2_299 rfl (lv_at L 1 rfl)) ?_
      refine x_gi X (kX2 hG) 11 (by decide) q477 (fun _ h => h) dX2_init_2_300 hp66 (fun v82 hp67 => ?_)
      refine x_pc (pc' := 303) rfl ?_
      refine x_pi X (kX2 hG) 11 (by decide) q477 (fun _ h => h) rfl rfl rfl dX2_init_2_303 hp67 (fun σ83 hp68 => ?_)
      refine x_pc (pc' := 306) rfl ?_
      refine x_up (pc' := 307) (fun _ _ _ _ _ L => lv_aload_n hx hb dX2_init_2_306 rfl (lv_at L 0 rfl)) ?_
      refine x_up (pc' := 308) (fun _ _ _ _ _ L => lv_aload_n hx hb dX2_init_2_307 rfl (lv_at L 1 rfl)) ?_
      refine x_gi X (kX2 hG) 12 (by decide) q479 (fun _ h => h) dX2_init_2_308 hp68 (fun v84 hp69 => ?_)
      refine x_pc (pc' := 311) rfl ?_
      obtain ⟨hn311, hf311, hp70⟩ := hp69
      refine x_pi X (kX2 hG) 12 (by decide) q479 (fun _ h => h) rfl hn311 hf311 dX2_init_2_311 hp70 (fun σ85 hp71 => ?_)
      refine x_pc (pc' := 314) rfl ?_
      refine x_up (pc' := 315) (fun _ _ _ _ _ L => lv_aload_n hx hb dX2_init_2_314 rfl (lv_at L 0 rfl)) ?_
      refine x_up (pc' := 316) (fun _ _ _ _ _ L => lv_aload_n hx hb dX2_init_2_315 rfl (lv_at L 1 rfl)) ?_
      refine x_gi X (kX2 hG) 13 (by decide) q481 (fun _ h => h) dX2_init_2_316 hp71 (fun v86 hp72 => ?_)
      refine x_pc (pc' := 319) rfl ?_
      refine x_pi X (kX2 hG) 13 (by decide) q481 (fun _ h => h) rfl rfl rfl dX2_init_2_319 hp72 (fun σ87 hp73 => ?_)
      refine x_pc (pc' := 322) rfl ?_
      refine x_up (pc' := 323) (fun _ _ _ _ _ L => lv_aload_n hx hb dX2_init_2_322 rfl (lv_at L 0 rfl)) ?_
      refine x_up (pc' := 324) (fun _ _ _ _ _ L => lv_aload_n hx hb dX2_init_2_323 rfl (lv_at L 1 rfl)) ?_
      refine x_gi X (kX2 hG) 14 (by decide) q483 (fun _ h => h) dX2_init_2_324 hp73 (fun v88 hp74 => ?_)
      refine x_pc (pc' := 327) rfl ?_
      refine x_pi X (kX2 hG) 14 (by decide) q483 (fun _ h => h) rfl rfl rfl dX2_init_2_327 hp74 (fun σ89 hp75 => ?_)
      refine x_pc (pc' := 330) rfl ?_
      refine x_up (pc' := 331) (fun _ _ _ _ _ L => lv_aload_n hx hb dX2_init_2_330 rfl (lv_at L 0 rfl)) ?_
      refine x_up (pc' := 332) (fun _ _ _ _ _ L => lv_aload_n hx hb dX2_init_2_331 rfl (lv_at L 1 rfl)) ?_
      refine x_gi X (kX2 hG) 15 (by decide) q485 (fun _ h => h) dX2_init_2_332 hp75 (fun v90 hp76 => ?_)
      refine x_pc (pc' := 335) rfl ?_
      refine x_pi X (kX2 hG) 15 (by decide) q485 (fun _ h => h) rfl rfl rfl dX2_init_2_335 hp76 (fun σ91 hp77 => ?_)
      refine x_pc (pc' := 338) rfl ?_
      refine x_up (pc' := 339) (fun _ _ _ _ _ L => lv_aload_n hx hb dX2_init_2_338 rfl (lv_at L 0 rfl)) ?_
      refine x_up (pc' := 340) (fun _ _ _ _ _ L => lv_aload_n hx hb dX2_init_2_339 rfl (lv_at L 1 rfl)) ?_
      refine x_gi X (kX2 hG) 16 (by decide) q487 (fun _ h => h) dX2_init_2_340 hp77 (fun v92 hp78 => ?_)
      refine x_pc (pc' := 343) rfl ?_
      refine x_pi X (kX2 hG) 16 (by decide) q487 (fun _ h => h) rfl rfl rfl dX2_init_2_343 hp78 (fun σ93 hp79 => ?_)
      refine x_pc (pc' := 346) rfl ?_
      refine x_up (pc' := 347) (fun _ _ _ _ _ L => lv_aload_n hx hb dX2_init_2_346 rfl (lv_at L 0 rfl)) ?_
      refine x_up (pc' := 348) (fun _ _ _ _ _ L => lv_aload_n hx hb dX2_init_2_347 rfl (lv_at L 1 rfl)) ?_
      refine x_gi X (kX2 hG) 17 (by decide) q489 (fun _ h => h) dX2_init_2_348 hp79 (fun v94 hp80 => ?_)
      refine x_pc (pc' := 351) rfl ?_
      refine x_pi X (kX2 hG) 17 (by decide) q489 (fun _ h => h) rfl rfl rfl dX2_init_2_351 hp80 (fun σ95 hp81 => ?_)
      refine x_pc (pc' := 354) rfl ?_
      refine x_up (pc' := 355) (fun _ _ _ _ _ L => lv_aload_n hx hb dX2_init_2_354 rfl (lv_at L 0 rfl)) ?_
      refine x_up (pc' := 356) (fun _ _ _ _ _ L => lv_aload_n hx hb dX2_init_2_355 rfl (lv_at L 1 rfl)) ?_
      refine x_gi X (kX2 hG) 18 (by decide) q491 (fun _ h => h) dX2_init_2_356 hp81 (fun v96 hp82 => ?_)
      refine x_pc (pc' := 359) rfl ?_
      refine x_pi X (kX2 hG) 18 (by decide) q491 (fun _ h => h) rfl rfl rfl dX2_init_2_359 hp82 (fun σ97 hp83 => ?_)
      refine x_pc (pc' := 362) rfl ?_
      refine x_up (pc' := 363) (fun _ _ _ _ _ L => lv_aload_n hx hb dX2_init_2_362 rfl (lv_at L 0 rfl)) ?_
      refine x_up (pc' := 364) (fun _ _ _ _ _ L => lv_aload_n hx hb dX2_init_2_363 rfl (lv_at L 1 rfl)) ?_
      refine x_gi X (kX2 hG) 19 (by decide) q493 (fun _ h => h) dX2_init_2_364 hp83 (fun v98 hp84 => ?_)
      refine x_pc (pc' := 367) rfl ?_
      refine x_pi X (kX2 hG) 19 (by decide) q493 (fun _ h => h) rfl rfl rfl dX2_init_2_367 hp84 (fun σ99 hp85 => ?_)
      refine x_pc (pc' := 370) rfl ?_
      exact x_vret X hr dX2_init_2_370 hp85
    · have hp86 := hp35.2 c117
      refine x_up (pc' := 121) (fun _ _ _ _ _ L => lv_aload_n hx hb dX2_init_2_120 rfl (lv_at L 2 rfl)) ?_
      refine x_callF (x := ⟨"java/util/Iterator", "next", "()Ljava/lang/Object;"⟩) (em := emQ) (fun r st => va_rf r :: st) (fun _ _ => rfl) 0 X (kJ35 hG) (fun σ' KK h => R_J35_next l hl G hG b48 σ' KK h) q1813 q1199 q1201 q141 q1203 ⟨⟨q768, q767, q1202, q1200, q1198⟩, by decide, by decide⟩ (by decide +kernel) ⟨Nat.le_of_ble_eq_true rfl, Nat.le_of_ble_eq_true rfl⟩ rfl rfl (Nat.le_of_ble_eq_true rfl) dX2_init_2_121 hp86.1 hp86.2 (fun v100 σ101 hp87 => ?_)
      refine x_pc (pc' := 126) rfl ?_
      obtain ⟨b102, rfl, hp88⟩ := hp87
      refine x_castY X (kJ4 hG) q1814 q275 hp88.1 dX2_init_2_126 ?_
      have hp89 := hp88.2
      refine x_pc (pc' := 129) rfl ?_
      refine x_upL (pc' := 130) (lo' := [(3, .ref b102), (0, .ref a0), (1, .ref b28), (2, .ref b48)]) (fun _ _ _ _ _ L => lv_astore_n hx hb dX2_init_2_129 rfl L (by decide) rfl) ?_
      refine x_new X (kJ4 hG) q213 q214 q105 (fs := [.int 0, va_rf none, .int 0]) x_dflt_J4 dX2_init_2_130 hp89 (fun q103 σ104 hp90 => ?_)
      refine x_pc (pc' := 133) rfl ?_
      refine x_up (pc' := 134) (fun _ _ _ _ _ L => lv_dup hx hb dX2_init_2_133 rfl) ?_
      refine x_callI 0 X (fun σ' KK h => R_J4_init l hl G hG q103 σ' KK h) (lw_meth q217) q105 q215 q216 rfl mdJ4_init ⟨Nat.le_of_ble_eq_true rfl, Nat.le_of_ble_eq_true rfl⟩ rfl rfl (Nat.le_of_ble_eq_true rfl) dX2_init_2_134 hp90 (fun σ105 hp91 => ?_)
      refine x_pc (pc' := 137) rfl ?_
      refine x_upL (pc' := 139) (lo' := [(4, .ref q103), (3, .ref b102), (0, .ref a0), (1, .ref b28), (2, .ref b48)]) (fun _ _ _ _ _ L => lv_astore hx hb dX2_init_2_137 L (by decide) rfl) ?_
      refine x_up (pc' := 140) (fun _ _ _ _ _ L => lv_aload_n hx hb dX2_init_2_139 rfl (lv_at L 1 rfl)) ?_
      refine x_callF (x := ⟨"java/util/List", "iterator", "()Ljava/util/Iterator;"⟩) (em := emQ) (fun r st => va_rf r :: st) (fun _ _ => rfl) 0 X (kJ4 hG) (fun σ' KK h => R_J4_iterator l hl G hG b102 σ' KK h) q1698 q1701 q1703 q105 q1705 ⟨⟨q1700, q1699, q1704, q1702, q275⟩, by decide, by decide⟩ (by decide +kernel) ⟨Nat.le_of_ble_eq_true rfl, Nat.le_of_ble_eq_true rfl⟩ rfl rfl (Nat.le_of_ble_eq_true rfl) dX2_init_2_140 hp91.1 hp91.2 (fun v106 σ107 hp92 => ?_)
      refine x_pc (pc' := 145) rfl ?_
      refine x_upL (pc' := 147) (lo' := [(5, va_rf v106), (4, .ref q103), (3, .ref b102), (0, .ref a0), (1, .ref b28), (2, .ref b48)]) (fun _ _ _ _ _ L => lv_astoreq hx hb dX2_init_2_145 L (by decide) rfl) ?_
      refine x_lo (lo' := [(0, .ref a0), (1, .ref b28), (2, .ref b48), (4, .ref q103), (5, va_rf v106)]) [3, 4, 5, 1, 0] rfl ?_
      refine x_while (v0 := ()) (fun _ => [(0, .ref a0), (1, .ref b28), (2, .ref b48), (4, .ref q103), (5, va_rf v106)]) hp92 (fun self109 hself110 => ?_)
      rintro ⟨⟩ σ111 hp93
      unfold B_X2_init_2_147 at hp93
      refine x_same (lo' := [(0, .ref a0), (1, .ref b28), (2, .ref b48), (4, .ref q103), (5, va_rf v106)]) rfl ?_
      refine x_up (pc' := 149) (fun _ _ _ _ _ L => lv_aloadq hx hb dX2_init_2_147 (lv_at L 4 rfl)) ?_
      obtain ⟨b112, rfl, hp94⟩ := hp93
      refine x_callF (x := ⟨"java/util/Iterator", "hasNext", "()Z"⟩) (em := emI) (fun r st => .int r :: st) (fun _ _ => rfl) 0 X (kJ35 hG) (fun σ' KK h => R_J35_hasNext l hl G hG b112 σ' KK h) q1811 q1351 q1353 q141 q1355 ⟨⟨q1331, q1330, q1354, q1352, q1198⟩, by decide, by decide⟩ (by decide +kernel) ⟨Nat.le_of_ble_eq_true rfl, Nat.le_of_ble_eq_true rfl⟩ rfl rfl (Nat.le_of_ble_eq_true rfl) dX2_init_2_149 hp94.1 hp94.2 (fun v113 σ114 hp95 => ?_)
      refine x_pc (pc' := 154) rfl ?_
      refine x_if (C := v113 = 0) (pt := 189) (pc' := 157) (fun _ _ _ _ _ => lv_if_eq (tgt := 189) hx hb dX2_init_2_154 (by decide)) (fun c154 => ?_) (fun c154 => ?_)
      · have hp96 := hp95.1 c154
        refine x_same (lo' := [(0, .ref a0), (1, .ref b28), (2, .ref b48), (4, .ref q103), (5, va_rf (some b112))]) rfl ?_
        refine x_up (pc' := 190) (fun _ _ _ _ _ L => lv_aload_n hx hb dX2_init_2_189 rfl (lv_at L 0 rfl)) ?_
        refine x_gq X (kX2 hG) 2 (by decide) q462 (fun _ h => h) dX2_init_2_190 hp96 (fun v115 hp97 => ?_)
        refine x_pc (pc' := 193) rfl ?_
        refine x_up (pc' := 195) (fun _ _ _ _ _ L => lv_aload hx hb dX2_init_2_193 (lv_at L 3 rfl)) ?_
        obtain ⟨b116, rfl, hp98⟩ := hp97
        refine x_callF (x := ⟨"java/util/List", "add", "(Ljava/lang/Object;)Z"⟩) (em := emI) (fun r st => .int r :: st) (fun _ _ => rfl) 1 X (kJ4 hG) (fun σ' KK h => R_J4_add l hl G hG b116 (some q103) σ' KK h) q334 q337 q339 q105 q341 ⟨⟨q336, q335, q340, q338, q275⟩, by decide, by decide⟩ (by decide +kernel) ⟨Nat.le_of_ble_eq_true rfl, Nat.le_of_ble_eq_true rfl⟩ rfl rfl (Nat.le_of_ble_eq_true rfl) dX2_init_2_195 hp98.1 hp98.2 (fun v117 σ118 hp99 => ?_)
        refine x_pc (pc' := 200) rfl ?_
        refine x_up (pc' := 201) (fun _ _ _ _ _ L => lv_pop hx hb dX2_init_2_200 rfl) ?_
        refine x_up (pc' := 111) (fun _ _ _ _ _ L => lv_goto (tgt := 111) hx hb dX2_init_2_201 (by decide)) ?_
        refine x_lo (lo' := [(0, .ref a0), (1, .ref b28), (2, .ref b48)]) [0, 1, 2] rfl ?_
        exact hself46 () σ118 hp99
      · have hp100 := hp95.2 c154
        refine x_up (pc' := 159) (fun _ _ _ _ _ L => lv_aload hx hb dX2_init_2_157 (lv_at L 4 rfl)) ?_
        refine x_callF (x := ⟨"java/util/Iterator", "next", "()Ljava/lang/Object;"⟩) (em := emQ) (fun r st => va_rf r :: st) (fun _ _ => rfl) 0 X (kJ35 hG) (fun σ' KK h => R_J35_next l hl G hG b112 σ' KK h) q1813 q1199 q1201 q141 q1203 ⟨⟨q768, q767, q1202, q1200, q1198⟩, by decide, by decide⟩ (by decide +kernel) ⟨Nat.le_of_ble_eq_true rfl, Nat.le_of_ble_eq_true rfl⟩ rfl rfl (Nat.le_of_ble_eq_true rfl) dX2_init_2_159 hp100.1 hp100.2 (fun v119 σ120 hp101 => ?_)
        refine x_pc (pc' := 164) rfl ?_
        obtain ⟨b121, rfl, hp102⟩ := hp101
        refine x_castS X (kX3 hG) q287 hp102.1 dX2_init_2_164 ?_
        have hp103 := hp102.2
        refine x_pc (pc' := 167) rfl ?_
        refine x_upL (pc' := 169) (lo' := [(6, .ref b121), (0, .ref a0), (1, .ref b28), (2, .ref b48), (4, .ref q103), (5, .ref b112)]) (fun _ _ _ _ _ L => lv_astore hx hb dX2_init_2_167 L (by decide) rfl) ?_
        refine x_up (pc' := 171) (fun _ _ _ _ _ L => lv_aload hx hb dX2_init_2_169 (lv_at L 4 rfl)) ?_
        refine x_new X (kX3 hG) q287 q288 q108 (fs := [.int 0, va_rf none, .int 0, .int 0, .int 0, .int 0, .int 0, .int 0]) x_dflt_X3 dX2_init_2_171 hp103 (fun q122 σ123 hp104 => ?_)
        refine x_pc (pc' := 174) rfl ?_
        refine x_up (pc' := 175) (fun _ _ _ _ _ L => lv_dup hx hb dX2_init_2_174 rfl) ?_
        refine x_up (pc' := 177) (fun _ _ _ _ _ L => lv_aload hx hb dX2_init_2_175 (lv_at L 0 rfl)) ?_
        refine x_callI 1 X (fun σ' KK h => R_X3_init_2 l hl G hG q122 (some b121) σ' KK h) (lw_meth q1817) q108 q1815 q1816 rfl mdX3_init_2 ⟨Nat.le_of_ble_eq_true rfl, Nat.le_of_ble_eq_true rfl⟩ rfl rfl (Nat.le_of_ble_eq_true rfl) dX2_init_2_177 hp104 (fun σ124 hp105 => ?_)
        refine x_pc (pc' := 180) rfl ?_
        refine x_callF (x := ⟨"java/util/List", "add", "(Ljava/lang/Object;)Z"⟩) (em := emI) (fun r st => .int r :: st) (fun _ _ => rfl) 1 X (kJ4 hG) (fun σ' KK h => R_J4_add l hl G hG q103 (some q122) σ' KK h) q334 q337 q339 q105 q341 ⟨⟨q336, q335, q340, q338, q275⟩, by decide, by decide⟩ (by decide +kernel) ⟨Nat.le_of_ble_eq_true rfl, Nat.le_of_ble_eq_true rfl⟩ rfl rfl (Nat.le_of_ble_eq_true rfl) dX2_init_2_180 hp105.1 hp105.2 (fun v125 σ126 hp106 => ?_)
        refine x_pc (pc' := 185) rfl ?_
        refine x_up (pc' := 186) (fun _ _ _ _ _ L => lv_pop hx hb dX2_init_2_185 rfl) ?_
        refine x_up (pc' := 147) (fun _ _ _ _ _ L => lv_goto (tgt := 147) hx hb dX2_init_2_186 (by decide)) ?_
        refine x_lo (lo' := [(0, .ref a0), (1, .ref b28), (2, .ref b48), (4, .ref q103), (5, .ref b112)]) [1, 2, 3, 4, 5] rfl ?_
        exact hself110 () σ126 hp106
  · exact hpB98.elim
-- J11_sub
def P_J11_sub (κ : Nat → Nat) (x0 : Int32) (x1 : Int32) (x2 : Int32) (σ : xS) (K : Int32 → xH → Prop) : Prop :=
  ((0 ≤ (x0 - x1) → (K (x0 - x1) σ.1)) ∧ (¬ 0 ≤ (x0 - x1) → (K ((x0 - x1) + x2) σ.1)))
theorem mdJ11_sub : yJ11_sub.cls ≠ "java/lang/invoke/MethodHandle" ∧ yJ11_sub.cls ≠ "java/lang/invoke/VarHandle" ∧ (parseMethodDescriptor yJ11_sub.desc).map (fun d => d.parameters.length) = some 3 := by decide +kernel
set_option maxHeartbeats 4000000 in
set_option maxRecDepth 100000 in
theorem R_J11_sub (l : Launch) (hl : l.stackTraces = false) (G : xG) (hG : G.1.2 = x_cl) (x0 : Int32) (x1 : Int32) (x2 : Int32) (σ : xS) (K : Int32 → xH → Prop) (hp : P_J11_sub G.2 x0 x1 x2 σ K) : xM l yJ11_sub cJ11_sub 3 (Option.some Jvm.ClassFile.FieldType.int) 0 0 G [.int x0, .int x1, .int x2] σ (xlift emI K) := by
  refine x_entry (by decide) (Nat.le_of_ble_eq_true rfl) ?_
  intro p e s m args below meth c X hr hin
  have X : xX p s m args meth c G cJ11_sub 3 RJ11 := X
  have hx := X.1
  have hb := X.2.1
  have hts := X.2.2.2.2.1
  have hown := X.2.2.2.1
  unfold P_J11_sub at hp
  refine x_same (lo' := [(0, .int x0), (1, .int x1), (2, .int x2)]) rfl ?_
  refine x_up (pc' := 1) (fun _ _ _ _ _ L => lv_iload_n hx hb dJ11_sub_0 rfl (lv_at L 0 rfl)) ?_
  refine x_up (pc' := 2) (fun _ _ _ _ _ L => lv_iload_n hx hb dJ11_sub_1 rfl (lv_at L 1 rfl)) ?_
  refine x_up (pc' := 3) (fun _ _ _ _ _ L => lv_isub hx hb dJ11_sub_2) ?_
  refine x_up (pc' := 4) (fun _ _ _ _ _ L => lv_dup hx hb dJ11_sub_3 rfl) ?_
  refine x_upL (pc' := 5) (lo' := [(0, .int (x0 - x1)), (1, .int x1), (2, .int x2)]) (fun _ _ _ _ _ L => lv_istore_n hx hb dJ11_sub_4 rfl L (by decide) rfl) ?_
  refine x_if (C := 0 ≤ (x0 - x1)) (pt := 12) (pc' := 8) (fun _ _ _ _ _ => lv_if_ge (tgt := 12) hx hb dJ11_sub_5 (by decide)) (fun c5 => ?_) (fun c5 => ?_)
  · have hp1 := hp.1 c5
    refine x_up (pc' := 13) (fun _ _ _ _ _ L => lv_iload_n hx hb dJ11_sub_12 rfl (lv_at L 0 rfl)) ?_
    exact x_iret X hr rfl dJ11_sub_13 hp1
  · have hp2 := hp.2 c5
    refine x_up (pc' := 9) (fun _ _ _ _ _ L => lv_iload_n hx hb dJ11_sub_8 rfl (lv_at L 0 rfl)) ?_
    refine x_up (pc' := 10) (fun _ _ _ _ _ L => lv_iload_n hx hb dJ11_sub_9 rfl (lv_at L 2 rfl)) ?_
    refine x_up (pc' := 11) (fun _ _ _ _ _ L => lv_iadd hx hb dJ11_sub_10) ?_
    refine x_upL (pc' := 12) (lo' := [(0, .int ((x0 - x1) + x2)), (1, .int x1), (2, .int x2)]) (fun _ _ _ _ _ L => lv_istore_n hx hb dJ11_sub_11 rfl L (by decide) rfl) ?_
    refine x_up (pc' := 13) (fun _ _ _ _ _ L => lv_iload_n hx hb dJ11_sub_12 rfl (lv_at L 0 rfl)) ?_
    exact x_iret X hr rfl dJ11_sub_13 hp2
-- J11_size
def P_J11_size (κ : Nat → Nat) (a0 : Nat) (σ : xS) (K : Int32 → xH → Prop) : Prop :=
  xgi σ a0 7 2 fun v1 => xgi σ a0 7 1 fun v2 => xgq σ a0 7 0 fun v3 => xnn v3 fun b4 => xan σ b4 fun v5 => xcall (fun τ L => P_J11_sub κ v1 v2 v5 τ L) σ fun v6 σ7 => K v6 σ7.1
theorem mdJ11_size : yJ11_size.cls ≠ "java/lang/invoke/MethodHandle" ∧ yJ11_size.cls ≠ "java/lang/invoke/VarHandle" ∧ (parseMethodDescriptor yJ11_size.desc).map (fun d => d.parameters.length) = some 0 := by decide +kernel
set_option maxHeartbeats 4000000 in
set_option maxRecDepth 100000 in
theorem R_J11_size (l : Launch) (hl : l.stackTraces = false) (G : xG) (hG : G.1.2 = x_cl) (a0 : Nat) (σ : xS) (K : Int32 → xH → Prop) (hp : P_J11_size G.2 a0 σ K) : xM l yJ11_size cJ11_size 1 (Option.some Jvm.ClassFile.FieldType.int) 1 22 G [(.ref a0)] σ (xlift emI K) := by
  refine x_entry (by decide) (Nat.le_of_ble_eq_true rfl) ?_
  intro p e s m args below meth c X hr hin
  have X : xX p s m args meth c G cJ11_size 1 RJ11 := X
  have hx := X.1
  have hb := X.2.1
  have hts := X.2.2.2.2.1
  have hown := X.2.2.2.1
  unfold P_J11_size at hp
  refine x_same (lo' := [(0, .ref a0)]) rfl ?_
  refine x_up (pc' := 1) (fun _ _ _ _ _ L => lv_aload_n hx hb dJ11_size_0 rfl (lv_at L 0 rfl)) ?_
  refine x_gi X (kJ11 hG) 2 (by decide) q547 (fun _ h => h) dJ11_size_1 hp (fun v1 hp1 => ?_)
  refine x_pc (pc' := 4) rfl ?_
  refine x_up (pc' := 5) (fun _ _ _ _ _ L => lv_aload_n hx hb dJ11_size_4 rfl (lv_at L 0 rfl)) ?_
  refine x_gi X (kJ11 hG) 1 (by decide) q546 (fun _ h => h) dJ11_size_5 hp1 (fun v2 hp2 => ?_)
  refine x_pc (pc' := 8) rfl ?_
  refine x_up (pc' := 9) (fun _ _ _ _ _ L => lv_aload_n hx hb dJ11_size_8 rfl (lv_at L 0 rfl)) ?_
  refine x_gq X (kJ11 hG) 0 (by decide) q543 (fun _ h => h) dJ11_size_9 hp2 (fun v3 hp3 => ?_)
  refine x_pc (pc' := 12) rfl ?_
  obtain ⟨b4, rfl, hp4⟩ := hp3
  refine x_alen X dJ11_size_12 hp4 (fun v5 hp5 => ?_)
  refine x_pc (pc' := 13) rfl ?_
  refine x_callS (em := emI) (fun r st => .int r :: st) (fun _ _ => rfl) 3 X (fun σ' KK h => R_J11_sub l hl G hG v1 v2 v5 σ' KK h) (lw_S q1876 q1877 q114 q1878) mdJ11_sub ⟨Nat.le_of_ble_eq_true rfl, Nat.le_of_ble_eq_true rfl⟩ rfl rfl (Nat.le_of_ble_eq_true rfl) dJ11_size_13 hp5 (fun v6 σ7 hp6 => ?_)
  refine x_pc (pc' := 16) rfl ?_
  exact x_iret X hr rfl dJ11_size_16 hp6
-- J11_elementAt
def P_J11_elementAt (κ : Nat → Nat) (x0 : Option Nat) (x1 : Int32) (σ : xS) (K : Option Nat → xH → Prop) : Prop :=
  xnn x0 fun b1 => xaq σ b1 x1 fun v2 => K v2 σ.1
theorem mdJ11_elementAt : yJ11_elementAt.cls ≠ "java/lang/invoke/MethodHandle" ∧ yJ11_elementAt.cls ≠ "java/lang/invoke/VarHandle" ∧ (parseMethodDescriptor yJ11_elementAt.desc).map (fun d => d.parameters.length) = some 2 := by decide +kernel
set_option maxHeartbeats 4000000 in
set_option maxRecDepth 100000 in
theorem R_J11_elementAt (l : Launch) (hl : l.stackTraces = false) (G : xG) (hG : G.1.2 = x_cl) (x0 : Option Nat) (x1 : Int32) (σ : xS) (K : Option Nat → xH → Prop) (hp : P_J11_elementAt G.2 x0 x1 σ K) : xM l yJ11_elementAt cJ11_elementAt 2 (Option.some (Jvm.ClassFile.FieldType.object "java/lang/Object")) 0 0 G [va_rf x0, .int x1] σ (xlift emQ K) := by
  refine x_entry (by decide) (by simp [lg_sl, x_catq, x_cati, x_catr, x_catn]) ?_
  intro p e s m args below meth c X hr hin
  have X : xX p s m args meth c G cJ11_elementAt 2 RJ11 := X
  have hx := X.1
  have hb := X.2.1
  have hts := X.2.2.2.2.1
  have hown := X.2.2.2.1
  unfold P_J11_elementAt at hp
  refine x_same (lo' := [(0, va_rf x0), (1, .int x1)]) (by simp [lv_args, x_catq, x_cati, x_catr, x_catn]) ?_
  refine x_up (pc' := 1) (fun _ _ _ _ _ L => lv_aloadq_n hx hb dJ11_elementAt_0 rfl (lv_at L 0 rfl)) ?_
  refine x_up (pc' := 2) (fun _ _ _ _ _ L => lv_iload_n hx hb dJ11_elementAt_1 rfl (lv_at L 1 rfl)) ?_
  obtain ⟨b1, rfl, hp1⟩ := hp
  refine x_aald X dJ11_elementAt_2 hp1 (fun v2 hp2 => ?_)
  refine x_pc (pc' := 3) rfl ?_
  exact x_aret X hr (Or.inl ⟨_, rfl⟩) dJ11_elementAt_3 v2 hp2
-- J11_inc
def P_J11_inc (κ : Nat → Nat) (x0 : Int32) (x1 : Int32) (σ : xS) (K : Int32 → xH → Prop) : Prop :=
  (((x0 + (1 : Int32)) < x1 → (K (x0 + (1 : Int32)) σ.1)) ∧ (¬ (x0 + (1 : Int32)) < x1 → (K (0 : Int32) σ.1)))
theorem mdJ11_inc : yJ11_inc.cls ≠ "java/lang/invoke/MethodHandle" ∧ yJ11_inc.cls ≠ "java/lang/invoke/VarHandle" ∧ (parseMethodDescriptor yJ11_inc.desc).map (fun d => d.parameters.length) = some 2 := by decide +kernel
set_option maxHeartbeats 4000000 in
set_option maxRecDepth 100000 in
theorem R_J11_inc (l : Launch) (hl : l.stackTraces = false) (G : xG) (hG : G.1.2 = x_cl) (x0 : Int32) (x1 : Int32) (σ : xS) (K : Int32 → xH → Prop) (hp : P_J11_inc G.2 x0 x1 σ K) : xM l yJ11_inc cJ11_inc 2 (Option.some Jvm.ClassFile.FieldType.int) 0 0 G [.int x0, .int x1] σ (xlift emI K) := by
  refine x_entry (by decide) (Nat.le_of_ble_eq_true rfl) ?_
  intro p e s m args below meth c X hr hin
  have X : xX p s m args meth c G cJ11_inc 2 RJ11 := X
  have hx := X.1
  have hb := X.2.1
  have hts := X.2.2.2.2.1
  have hown := X.2.2.2.1
  unfold P_J11_inc at hp
  refine x_same (lo' := [(0, .int x0), (1, .int x1)]) rfl ?_
  refine x_upL (pc' := 3) (lo' := [(0, .int (x0 + (1 : Int32))), (1, .int x1)]) (fun _ _ _ _ _ L => lv_iinc (v := x0 + (1 : Int32)) hx hb dJ11_inc_0 L (k := 0) rfl rfl (by decide) rfl) ?_
  refine x_up (pc' := 4) (fun _ _ _ _ _ L => lv_iload_n hx hb dJ11_inc_3 rfl (lv_at L 0 rfl)) ?_
  refine x_up (pc' := 5) (fun _ _ _ _ _ L => lv_iload_n hx hb dJ11_inc_4 rfl (lv_at L 1 rfl)) ?_
  refine x_if (C := (x0 + (1 : Int32)) < x1) (pt := 10) (pc' := 8) (fun _ _ _ _ _ => lv_icmp_lt (tgt := 10) hx hb dJ11_inc_5 (by decide)) (fun c5 => ?_) (fun c5 => ?_)
  · have hp1 := hp.1 c5
    refine x_up (pc' := 11) (fun _ _ _ _ _ L => lv_iload_n hx hb dJ11_inc_10 rfl (lv_at L 0 rfl)) ?_
    exact x_iret X hr rfl dJ11_inc_11 hp1
  · have hp2 := hp.2 c5
    refine x_up (pc' := 9) (fun _ _ _ _ _ L => lv_iconst (v := (0 : Int32)) hx hb dJ11_inc_8 (by decide)) ?_
    refine x_upL (pc' := 10) (lo' := [(0, .int (0 : Int32)), (1, .int x1)]) (fun _ _ _ _ _ L => lv_istore_n hx hb dJ11_inc_9 rfl L (by decide) rfl) ?_
    refine x_up (pc' := 11) (fun _ _ _ _ _ L => lv_iload_n hx hb dJ11_inc_10 rfl (lv_at L 0 rfl)) ?_
    exact x_iret X hr rfl dJ11_inc_11 hp2
-- J11_pollFirst
def P_J11_pollFirst (κ : Nat → Nat) (a0 : Nat) (σ : xS) (K : Option Nat → xH → Prop) : Prop :=
  xgq σ a0 7 0 fun v1 => xgi σ a0 7 1 fun v2 => xcall (fun τ L => P_J11_elementAt κ v1 v2 τ L) σ fun v3 σ4 => ((v3 = none → (K none σ4.1)) ∧ (∀ b5 : Nat, v3 = some b5 → (xnn v1 fun b6 => xsq κ σ4 b6 v2 none fun σ7 => xan σ7 b6 fun v8 => xcall (fun τ L => P_J11_inc κ v2 v8 τ L) σ7 fun v9 σ10 => xpi κ σ10 a0 7 1 v9 fun σ11 => K (some b5) σ11.1)))
theorem mdJ11_pollFirst : yJ11_pollFirst.cls ≠ "java/lang/invoke/MethodHandle" ∧ yJ11_pollFirst.cls ≠ "java/lang/invoke/VarHandle" ∧ (parseMethodDescriptor yJ11_pollFirst.desc).map (fun d => d.parameters.length) = some 0 := by decide +kernel
set_option maxHeartbeats 4000000 in
set_option maxRecDepth 100000 in
theorem R_J11_pollFirst (l : Launch) (hl : l.stackTraces = false) (G : xG) (hG : G.1.2 = x_cl) (a0 : Nat) (σ : xS) (K : Option Nat → xH → Prop) (hp : P_J11_pollFirst G.2 a0 σ K) : xM l yJ11_pollFirst cJ11_pollFirst 4 (Option.some (Jvm.ClassFile.FieldType.object "java/lang/Object")) 1 21 G [(.ref a0)] σ (xlift emQ K) := by
  refine x_entry (by decide) (Nat.le_of_ble_eq_true rfl) ?_
  intro p e s m args below meth c X hr hin
  have X : xX p s m args meth c G cJ11_pollFirst 4 RJ11 := X
  have hx := X.1
  have hb := X.2.1
  have hts := X.2.2.2.2.1
  have hown := X.2.2.2.1
  unfold P_J11_pollFirst at hp
  refine x_same (lo' := [(0, .ref a0)]) rfl ?_
  refine x_up (pc' := 1) (fun _ _ _ _ _ L => lv_aload_n hx hb dJ11_pollFirst_0 rfl (lv_at L 0 rfl)) ?_
  refine x_gq X (kJ11 hG) 0 (by decide) q543 (fun _ h => h) dJ11_pollFirst_1 hp (fun v1 hp1 => ?_)
  refine x_pc (pc' := 4) rfl ?_
  refine x_up (pc' := 5) (fun _ _ _ _ _ L => lv_dup hx hb dJ11_pollFirst_4 (x_catq _)) ?_
  refine x_upL (pc' := 6) (lo' := [(1, va_rf v1), (0, .ref a0)]) (fun _ _ _ _ _ L => lv_astoreq_n hx hb dJ11_pollFirst_5 rfl L (by decide) rfl) ?_
  refine x_up (pc' := 7) (fun _ _ _ _ _ L => lv_aload_n hx hb dJ11_pollFirst_6 rfl (lv_at L 1 rfl)) ?_
  refine x_gi X (kJ11 hG) 1 (by decide) q546 (fun _ h => h) dJ11_pollFirst_7 hp1 (fun v2 hp2 => ?_)
  refine x_pc (pc' := 10) rfl ?_
  refine x_up (pc' := 11) (fun _ _ _ _ _ L => lv_dup hx hb dJ11_pollFirst_10 rfl) ?_
  refine x_st (pc' := 12) ([(2, .int v2), (1, va_rf v1), (0, .ref a0)]) rfl (by simp [x_catq, x_cati, x_catr, x_catn]) (fun _ _ _ _ _ L => lv_istore_n hx hb dJ11_pollFirst_11 rfl L (by decide) rfl) ?_
  refine x_callS (em := emQ) (fun r st => va_rf r :: st) (fun _ _ => rfl) 2 X (fun σ' KK h => R_J11_elementAt l hl G hG v1 v2 σ' KK h) (lw_S q1245 q1246 q114 q1247) mdJ11_elementAt ⟨Nat.le_of_ble_eq_true rfl, Nat.le_of_ble_eq_true rfl⟩ rfl rfl (Nat.le_of_ble_eq_true rfl) dJ11_pollFirst_12 hp2 (fun v3 σ4 hp3 => ?_)
  refine x_pc (pc' := 15) rfl ?_
  refine x_upL (pc' := 16) (lo' := [(3, va_rf v3), (2, .int v2), (1, va_rf v1), (0, .ref a0)]) (fun _ _ _ _ _ L => lv_astoreq_n hx hb dJ11_pollFirst_15 rfl L (by decide) rfl) ?_
  refine x_up (pc' := 17) (fun _ _ _ _ _ L => lv_aloadq_n hx hb dJ11_pollFirst_16 rfl (lv_at L 0 rfl)) ?_
  rcases v3 with _ | b5
  · have hp4 := hp3.1 rfl
    refine x_up (pc' := 34) (fun _ _ _ _ _ L => lv_ifnullN (tgt := 34) hx hb dJ11_pollFirst_17 (by decide)) ?_
    refine x_up (pc' := 35) (fun _ _ _ _ _ L => lv_aload_nN hx hb dJ11_pollFirst_34 rfl (lv_at L 0 rfl)) ?_
    exact x_aret X hr (Or.inl ⟨_, rfl⟩) dJ11_pollFirst_35 none hp4
  · have hp5 := hp3.2 _ rfl
    refine x_up (pc' := 20) (fun _ _ _ _ _ L => lv_ifnull hx hb dJ11_pollFirst_17) ?_
    refine x_up (pc' := 21) (fun _ _ _ _ _ L => lv_aloadq_n hx hb dJ11_pollFirst_20 rfl (lv_at L 2 rfl)) ?_
    refine x_up (pc' := 22) (fun _ _ _ _ _ L => lv_iload_n hx hb dJ11_pollFirst_21 rfl (lv_at L 1 rfl)) ?_
    refine x_up (pc' := 23) (fun _ _ _ _ _ L => lv_null hx hb dJ11_pollFirst_22) ?_
    obtain ⟨b6, rfl, hp6⟩ := hp5
    refine x_aast X hG none dJ11_pollFirst_23 hp6 (fun σ7 hp7 => ?_)
    refine x_pc (pc' := 24) rfl ?_
    refine x_up (pc' := 25) (fun _ _ _ _ _ L => lv_aload_n hx hb dJ11_pollFirst_24 rfl (lv_at L 3 rfl)) ?_
    refine x_up (pc' := 26) (fun _ _ _ _ _ L => lv_iload_n hx hb dJ11_pollFirst_25 rfl (lv_at L 1 rfl)) ?_
    refine x_up (pc' := 27) (fun _ _ _ _ _ L => lv_aload_n hx hb dJ11_pollFirst_26 rfl (lv_at L 2 rfl)) ?_
    refine x_alen X dJ11_pollFirst_27 hp7 (fun v8 hp8 => ?_)
    refine x_pc (pc' := 28) rfl ?_
    refine x_callS (em := emI) (fun r st => .int r :: st) (fun _ _ => rfl) 2 X (fun σ' KK h => R_J11_inc l hl G hG v2 v8 σ' KK h) (lw_S q1248 q1196 q114 q1197) mdJ11_inc ⟨Nat.le_of_ble_eq_true rfl, Nat.le_of_ble_eq_true rfl⟩ rfl rfl (Nat.le_of_ble_eq_true rfl) dJ11_pollFirst_28 hp8 (fun v9 σ10 hp9 => ?_)
    refine x_pc (pc' := 31) rfl ?_
    refine x_pi X (kJ11 hG) 1 (by decide) q546 (fun _ h => h) rfl rfl rfl dJ11_pollFirst_31 hp9 (fun σ11 hp10 => ?_)
    refine x_pc (pc' := 34) rfl ?_
    refine x_up (pc' := 35) (fun _ _ _ _ _ L => lv_aload_n hx hb dJ11_pollFirst_34 rfl (lv_at L 0 rfl)) ?_
    exact x_aret X hr (Or.inl ⟨_, rfl⟩) dJ11_pollFirst_35 (some b5) hp10
-- J11_removeFirst
def P_J11_removeFirst (κ : Nat → Nat) (a0 : Nat) (σ : xS) (K : Option Nat → xH → Prop) : Prop :=
  xrc σ a0 7 ∧ xcall (fun τ L => P_J11_pollFirst κ a0 τ L) σ fun v1 σ2 => ((v1 = none → (False)) ∧ (∀ b3 : Nat, v1 = some b3 → (K (some b3) σ2.1)))
theorem mdJ11_removeFirst : yJ11_removeFirst.cls ≠ "java/lang/invoke/MethodHandle" ∧ yJ11_removeFirst.cls ≠ "java/lang/invoke/VarHandle" ∧ (parseMethodDescriptor yJ11_removeFirst.desc).map (fun d => d.parameters.length) = some 0 := by decide +kernel
set_option maxHeartbeats 4000000 in
set_option maxRecDepth 100000 in
theorem R_J11_removeFirst (l : Launch) (hl : l.stackTraces = false) (G : xG) (hG : G.1.2 = x_cl) (a0 : Nat) (σ : xS) (K : Option Nat → xH → Prop) (hp : P_J11_removeFirst G.2 a0 σ K) : xM l yJ11_removeFirst cJ11_removeFirst 2 (Option.some (Jvm.ClassFile.FieldType.object "java/lang/Object")) 2 44 G [(.ref a0)] σ (xlift emQ K) := by
  refine x_entry (by decide) (Nat.le_of_ble_eq_true rfl) ?_
  intro p e s m args below meth c X hr hin
  have X : xX p s m args meth c G cJ11_removeFirst 2 RJ11 := X
  have hx := X.1
  have hb := X.2.1
  have hts := X.2.2.2.2.1
  have hown := X.2.2.2.1
  unfold P_J11_removeFirst at hp
  refine x_same (lo' := [(0, .ref a0)]) rfl ?_
  refine x_up (pc' := 1) (fun _ _ _ _ _ L => lv_aload_n hx hb dJ11_removeFirst_0 rfl (lv_at L 0 rfl)) ?_
  refine x_callV (em := emQ) (fun r st => va_rf r :: st) (fun _ _ => rfl) 0 X (kJ11 hG) (fun σ' KK h => R_J11_pollFirst l hl G hG a0 σ' KK h) (lw_V q1241 q1242 q1243 q114 q1244) ⟨rfl, mdJ11_pollFirst⟩ ⟨Nat.le_of_ble_eq_true rfl, Nat.le_of_ble_eq_true rfl⟩ rfl rfl (Nat.le_of_ble_eq_true rfl) dJ11_removeFirst_1 hp.1 hp.2 (fun v1 σ2 hp1 => ?_)
  refine x_pc (pc' := 4) rfl ?_
  refine x_upL (pc' := 5) (lo' := [(1, va_rf v1), (0, .ref a0)]) (fun _ _ _ _ _ L => lv_astoreq_n hx hb dJ11_removeFirst_4 rfl L (by decide) rfl) ?_
  refine x_up (pc' := 6) (fun _ _ _ _ _ L => lv_aloadq_n hx hb dJ11_removeFirst_5 rfl (lv_at L 0 rfl)) ?_
  rcases v1 with _ | b3
  · have hp2 := hp1.1 rfl
    refine x_up (pc' := 9) (fun _ _ _ _ _ L => lv_ifnonnullN hx hb dJ11_removeFirst_6) ?_
    exact hp2.elim
  · have hp3 := hp1.2 _ rfl
    refine x_up (pc' := 17) (fun _ _ _ _ _ L => lv_ifnonnull (tgt := 17) hx hb dJ11_removeFirst_6 (by decide)) ?_
    refine x_up (pc' := 18) (fun _ _ _ _ _ L => lv_aload_n hx hb dJ11_removeFirst_17 rfl (lv_at L 0 rfl)) ?_
    exact x_aret X hr (Or.inl ⟨_, rfl⟩) dJ11_removeFirst_18 (some b3) hp3
-- J11_newCapacity
def P_J11_newCapacity (κ : Nat → Nat) (a0 : Nat) (x1 : Int32) (x2 : Int32) (σ : xS) (K : Int32 → xH → Prop) : Prop :=
  xgq σ a0 7 0 fun v1 => xnn v1 fun b2 => xan σ b2 fun v3 => ((((v3 + x1) - (2147483639 : Int32)) ≤ 0 → (((x1 ≤ x2 → (((0 ≤ ((v3 + x2) - (2147483639 : Int32)) → (K (2147483639 : Int32) σ.1)) ∧ (¬ 0 ≤ ((v3 + x2) - (2147483639 : Int32)) → (K (v3 + x2) σ.1))))) ∧ (¬ x1 ≤ x2 → (K (v3 + x1) σ.1))))) ∧ (¬ ((v3 + x1) - (2147483639 : Int32)) ≤ 0 → (((0 ≤ (v3 + x1) → (K (2147483647 : Int32) σ.1)) ∧ (¬ 0 ≤ (v3 + x1) → (False))))))
theorem mdJ11_newCapacity : yJ11_newCapacity.cls ≠ "java/lang/invoke/MethodHandle" ∧ yJ11_newCapacity.cls ≠ "java/lang/invoke/VarHandle" ∧ (parseMethodDescriptor yJ11_newCapacity.desc).map (fun d => d.parameters.length) = some 2 := by decide +kernel
set_option maxHeartbeats 4000000 in
set_option maxRecDepth 100000 in
theorem R_J11_newCapacity (l : Launch) (hl : l.stackTraces = false) (G : xG) (hG : G.1.2 = x_cl) (a0 : Nat) (x1 : Int32) (x2 : Int32) (σ : xS) (K : Int32 → xH → Prop) (hp : P_J11_newCapacity G.2 a0 x1 x2 σ K) : xM l yJ11_newCapacity cJ11_newCapacity 5 (Option.some Jvm.ClassFile.FieldType.int) 0 0 G [(.ref a0), .int x1, .int x2] σ (xlift emI K) := by
  refine x_entry (by decide) (Nat.le_of_ble_eq_true rfl) ?_
  intro p e s m args below meth c X hr hin
  have X : xX p s m args meth c G cJ11_newCapacity 5 RJ11 := X
  have hx := X.1
  have hb := X.2.1
  have hts := X.2.2.2.2.1
  have hown := X.2.2.2.1
  unfold P_J11_newCapacity at hp
  refine x_same (lo' := [(0, .ref a0), (1, .int x1), (2, .int x2)]) rfl ?_
  refine x_up (pc' := 1) (fun _ _ _ _ _ L => lv_aload_n hx hb dJ11_newCapacity_0 rfl (lv_at L 0 rfl)) ?_
  refine x_gq X (kJ11 hG) 0 (by decide) q543 (fun _ h => h) dJ11_newCapacity_1 hp (fun v1 hp1 => ?_)
  refine x_pc (pc' := 4) rfl ?_
  obtain ⟨b2, rfl, hp2⟩ := hp1
  refine x_alen X dJ11_newCapacity_4 hp2 (fun v3 hp3 => ?_)
  refine x_pc (pc' := 5) rfl ?_
  refine x_upL (pc' := 6) (lo' := [(3, .int v3), (0, .ref a0), (1, .int x1), (2, .int x2)]) (fun _ _ _ _ _ L => lv_istore_n hx hb dJ11_newCapacity_5 rfl L (by decide) rfl) ?_
  refine x_up (pc' := 7) (fun _ _ _ _ _ L => lv_iload_n hx hb dJ11_newCapacity_6 rfl (lv_at L 0 rfl)) ?_
  refine x_up (pc' := 8) (fun _ _ _ _ _ L => lv_iload_n hx hb dJ11_newCapacity_7 rfl (lv_at L 2 rfl)) ?_
  refine x_up (pc' := 9) (fun _ _ _ _ _ L => lv_iadd hx hb dJ11_newCapacity_8) ?_
  refine x_up (pc' := 10) (fun _ _ _ _ _ L => lv_dup hx hb dJ11_newCapacity_9 rfl) ?_
  refine x_upL (pc' := 12) (lo' := [(4, .int (v3 + x1)), (3, .int v3), (0, .ref a0), (1, .int x1), (2, .int x2)]) (fun _ _ _ _ _ L => lv_istore hx hb dJ11_newCapacity_10 L (by decide) rfl) ?_
  refine x_up (pc' := 14) (fun _ _ _ _ _ L => lv_ldc (v := 2147483639) hx hb hown (hts _ q2002) dJ11_newCapacity_12) ?_
  refine x_up (pc' := 15) (fun _ _ _ _ _ L => lv_isub hx hb dJ11_newCapacity_14) ?_
  refine x_if (C := ((v3 + x1) - (2147483639 : Int32)) ≤ 0) (pt := 36) (pc' := 18) (fun _ _ _ _ _ => lv_if_le (tgt := 36) hx hb dJ11_newCapacity_15 (by decide)) (fun c15 => ?_) (fun c15 => ?_)
  · have hp4 := hp3.1 c15
    refine x_up (pc' := 37) (fun _ _ _ _ _ L => lv_iload_n hx hb dJ11_newCapacity_36 rfl (lv_at L 3 rfl)) ?_
    refine x_up (pc' := 38) (fun _ _ _ _ _ L => lv_iload_n hx hb dJ11_newCapacity_37 rfl (lv_at L 4 rfl)) ?_
    refine x_if (C := x1 ≤ x2) (pt := 44) (pc' := 41) (fun _ _ _ _ _ => lv_icmp_le (tgt := 44) hx hb dJ11_newCapacity_38 (by decide)) (fun c38 => ?_) (fun c38 => ?_)
    · have hp5 := hp4.1 c38
      refine x_up (pc' := 45) (fun _ _ _ _ _ L => lv_iload_n hx hb dJ11_newCapacity_44 rfl (lv_at L 1 rfl)) ?_
      refine x_up (pc' := 46) (fun _ _ _ _ _ L => lv_iload_n hx hb dJ11_newCapacity_45 rfl (lv_at L 4 rfl)) ?_
      refine x_up (pc' := 47) (fun _ _ _ _ _ L => lv_iadd hx hb dJ11_newCapacity_46) ?_
      refine x_up (pc' := 49) (fun _ _ _ _ _ L => lv_ldc (v := 2147483639) hx hb hown (hts _ q2002) dJ11_newCapacity_47) ?_
      refine x_up (pc' := 50) (fun _ _ _ _ _ L => lv_isub hx hb dJ11_newCapacity_49) ?_
      refine x_if (C := 0 ≤ ((v3 + x2) - (2147483639 : Int32))) (pt := 59) (pc' := 53) (fun _ _ _ _ _ => lv_if_ge (tgt := 59) hx hb dJ11_newCapacity_50 (by decide)) (fun c50 => ?_) (fun c50 => ?_)
      · have hp6 := hp5.1 c50
        refine x_up (pc' := 61) (fun _ _ _ _ _ L => lv_ldc (v := 2147483639) hx hb hown (hts _ q2002) dJ11_newCapacity_59) ?_
        exact x_iret X hr rfl dJ11_newCapacity_61 hp6
      · have hp7 := hp5.2 c50
        refine x_up (pc' := 54) (fun _ _ _ _ _ L => lv_iload_n hx hb dJ11_newCapacity_53 rfl (lv_at L 1 rfl)) ?_
        refine x_up (pc' := 55) (fun _ _ _ _ _ L => lv_iload_n hx hb dJ11_newCapacity_54 rfl (lv_at L 4 rfl)) ?_
        refine x_up (pc' := 56) (fun _ _ _ _ _ L => lv_iadd hx hb dJ11_newCapacity_55) ?_
        refine x_up (pc' := 61) (fun _ _ _ _ _ L => lv_goto (tgt := 61) hx hb dJ11_newCapacity_56 (by decide)) ?_
        exact x_iret X hr rfl dJ11_newCapacity_61 hp7
    · have hp8 := hp4.2 c38
      refine x_up (pc' := 43) (fun _ _ _ _ _ L => lv_iload hx hb dJ11_newCapacity_41 (lv_at L 0 rfl)) ?_
      exact x_iret X hr rfl dJ11_newCapacity_43 hp8
  · have hp9 := hp3.2 c15
    refine x_up (pc' := 20) (fun _ _ _ _ _ L => lv_iload hx hb dJ11_newCapacity_18 (lv_at L 0 rfl)) ?_
    refine x_if (C := 0 ≤ (v3 + x1)) (pt := 33) (pc' := 23) (fun _ _ _ _ _ => lv_if_ge (tgt := 33) hx hb dJ11_newCapacity_20 (by decide)) (fun c20 => ?_) (fun c20 => ?_)
    · have hp10 := hp9.1 c20
      refine x_up (pc' := 35) (fun _ _ _ _ _ L => lv_ldc (v := 2147483647) hx hb hown (hts _ q2023) dJ11_newCapacity_33) ?_
      exact x_iret X hr rfl dJ11_newCapacity_35 hp10
    · have hp11 := hp9.2 c20
      exact hp11.elim
-- J11_grow
def B_J11_grow_145 (κ : Nat → Nat) (K : Unit → xH → Prop) (f5 : Nat) (f8 : Int32) : (Int32 → xS → Prop) → Int32 → xS → Prop := fun self146003 w146001 σ146002 =>
  ((f8 ≤ w146001 → (K () σ146002.1)) ∧ (¬ f8 ≤ w146001 → (xsq κ σ146002 f5 w146001 none fun σ146004 => self146003 (w146001 + (1 : Int32)) σ146004)))
def P_J11_grow (κ : Nat → Nat) (a0 : Nat) (x1 : Int32) (σ : xS) (K : Unit → xH → Prop) : Prop :=
  xgq σ a0 7 0 fun v1 => xnn v1 fun b2 => xan σ b2 fun v3 => (((64 : Int32) ≤ v3 → ((((v3 >>> ((1 : Int32) &&& 31)) < x1 → (xrc σ a0 7 ∧ xcall (fun τ L => P_J11_newCapacity κ a0 x1 (v3 >>> ((1 : Int32) &&& 31)) τ L) σ fun v4 σ5 => xgq σ5 a0 7 0 fun v6 => xcall (fun τ L => P_J9_copyOf κ v6 v4 τ L) σ5 fun v7 σ8 => xpq κ σ8 a0 7 0 v7 fun σ9 => xgi σ9 a0 7 2 fun v10 => xgi σ9 a0 7 1 fun v11 => ((v10 < v11 → (xgi σ9 a0 7 1 fun v12 => xgi σ9 a0 7 1 fun v13 => xgi σ9 a0 7 1 fun v14 => xnn v7 fun b15 => xcpq κ σ9 b15 v12 b15 (v13 + (v4 - v3)) (v3 - v14) fun σ16 => xgi σ16 a0 7 1 fun v17 => xgi σ16 a0 7 1 fun v18 => xpi κ σ16 a0 7 1 (v18 + (v4 - v3)) fun σ19 => xwhile (B_J11_grow_145 κ K b15 (v18 + (v4 - v3))) v17 σ19)) ∧ (¬ v10 < v11 → (xgi σ9 a0 7 2 fun v20 => xgi σ9 a0 7 1 fun v21 => ((v20 = v21 → (xgi σ9 a0 7 1 fun v22 => xnn v7 fun b23 => xaq σ9 b23 v22 fun v24 => ((v24 = none → (K () σ9.1)) ∧ (∀ b25 : Nat, v24 = some b25 → (xgi σ9 a0 7 1 fun v26 => xgi σ9 a0 7 1 fun v27 => xgi σ9 a0 7 1 fun v28 => xcpq κ σ9 b23 v26 b23 (v27 + (v4 - v3)) (v3 - v28) fun σ29 => xgi σ29 a0 7 1 fun v30 => xgi σ29 a0 7 1 fun v31 => xpi κ σ29 a0 7 1 (v31 + (v4 - v3)) fun σ32 => xwhile (B_J11_grow_145 κ K b23 (v31 + (v4 - v3))) v30 σ32))))) ∧ (¬ v20 = v21 → (K () σ9.1)))))))) ∧ (¬ (v3 >>> ((1 : Int32) &&& 31)) < x1 → (((((v3 + (v3 >>> ((1 : Int32) &&& 31))) - (2147483639 : Int32)) ≤ 0 → (xgq σ a0 7 0 fun v33 => xcall (fun τ L => P_J9_copyOf κ v33 (v3 + (v3 >>> ((1 : Int32) &&& 31))) τ L) σ fun v34 σ35 => xpq κ σ35 a0 7 0 v34 fun σ36 => xgi σ36 a0 7 2 fun v37 => xgi σ36 a0 7 1 fun v38 => ((v37 < v38 → (xgi σ36 a0 7 1 fun v39 => xgi σ36 a0 7 1 fun v40 => xgi σ36 a0 7 1 fun v41 => xnn v34 fun b42 => xcpq κ σ36 b42 v39 b42 (v40 + ((v3 + (v3 >>> ((1 : Int32) &&& 31))) - v3)) (v3 - v41) fun σ43 => xgi σ43 a0 7 1 fun v44 => xgi σ43 a0 7 1 fun v45 => xpi κ σ43 a0 7 1 (v45 + ((v3 + (v3 >>> ((1 : Int32) &&& 31))) - v3)) fun σ46 => xwhile (B_J11_grow_145 κ K b42 (v45 + ((v3 + (v3 >>> ((1 : Int32) &&& 31))) - v3))) v44 σ46)) ∧ (¬ v37 < v38 → (xgi σ36 a0 7 2 fun v47 => xgi σ36 a0 7 1 fun v48 => ((v47 = v48 → (xgi σ36 a0 7 1 fun v49 => xnn v34 fun b50 => xaq σ36 b50 v49 fun v51 => ((v51 = none → (K () σ36.1)) ∧ (∀ b52 : Nat, v51 = some b52 → (xgi σ36 a0 7 1 fun v53 => xgi σ36 a0 7 1 fun v54 => xgi σ36 a0 7 1 fun v55 => xcpq κ σ36 b50 v53 b50 (v54 + ((v3 + (v3 >>> ((1 : Int32) &&& 31))) - v3)) (v3 - v55) fun σ56 => xgi σ56 a0 7 1 fun v57 => xgi σ56 a0 7 1 fun v58 => xpi κ σ56 a0 7 1 (v58 + ((v3 + (v3 >>> ((1 : Int32) &&& 31))) - v3)) fun σ59 => xwhile (B_J11_grow_145 κ K b50 (v58 + ((v3 + (v3 >>> ((1 : Int32) &&& 31))) - v3))) v57 σ59))))) ∧ (¬ v47 = v48 → (K () σ36.1)))))))) ∧ (¬ ((v3 + (v3 >>> ((1 : Int32) &&& 31))) - (2147483639 : Int32)) ≤ 0 → (xrc σ a0 7 ∧ xcall (fun τ L => P_J11_newCapacity κ a0 x1 (v3 >>> ((1 : Int32) &&& 31)) τ L) σ fun v60 σ61 => xgq σ61 a0 7 0 fun v62 => xcall (fun τ L => P_J9_copyOf κ v62 v60 τ L) σ61 fun v63 σ64 => xpq κ σ64 a0 7 0 v63 fun σ65 => xgi σ65 a0 7 2 fun v66 => xgi σ65 a0 7 1 fun v67 => ((v66 < v67 → (xgi σ65 a0 7 1 fun v68 => xgi σ65 a0 7 1 fun v69 => xgi σ65 a0 7 1 fun v70 => xnn v63 fun b71 => xcpq κ σ65 b71 v68 b71 (v69 + (v60 - v3)) (v3 - v70) fun σ72 => xgi σ72 a0 7 1 fun v73 => xgi σ72 a0 7 1 fun v74 => xpi κ σ72 a0 7 1 (v74 + (v60 - v3)) fun σ75 => xwhile (B_J11_grow_145 κ K b71 (v74 + (v60 - v3))) v73 σ75)) ∧ (¬ v66 < v67 → (xgi σ65 a0 7 2 fun v76 => xgi σ65 a0 7 1 fun v77 => ((v76 = v77 → (xgi σ65 a0 7 1 fun v78 => xnn v63 fun b79 => xaq σ65 b79 v78 fun v80 => ((v80 = none → (K () σ65.1)) ∧ (∀ b81 : Nat, v80 = some b81 → (xgi σ65 a0 7 1 fun v82 => xgi σ65 a0 7 1 fun v83 => xgi σ65 a0 7 1 fun v84 => xcpq κ σ65 b79 v82 b79 (v83 + (v60 - v3)) (v3 - v84) fun σ85 => xgi σ85 a0 7 1 fun v86 => xgi σ85 a0 7 1 fun v87 => xpi κ σ85 a0 7 1 (v87 + (v60 - v3)) fun σ88 => xwhile (B_J11_grow_145 κ K b79 (v87 + (v60 - v3))) v86 σ88))))) ∧ (¬ v76 = v77 → (K () σ65.1)))))))))))))) ∧ (¬ (64 : Int32) ≤ v3 → ((((v3 + (2 : Int32)) < x1 → (xrc σ a0 7 ∧ xcall (fun τ L => P_J11_newCapacity κ a0 x1 (v3 + (2 : Int32)) τ L) σ fun v89 σ90 => xgq σ90 a0 7 0 fun v91 => xcall (fun τ L => P_J9_copyOf κ v91 v89 τ L) σ90 fun v92 σ93 => xpq κ σ93 a0 7 0 v92 fun σ94 => xgi σ94 a0 7 2 fun v95 => xgi σ94 a0 7 1 fun v96 => ((v95 < v96 → (xgi σ94 a0 7 1 fun v97 => xgi σ94 a0 7 1 fun v98 => xgi σ94 a0 7 1 fun v99 => xnn v92 fun b100 => xcpq κ σ94 b100 v97 b100 (v98 + (v89 - v3)) (v3 - v99) fun σ101 => xgi σ101 a0 7 1 fun v102 => xgi σ101 a0 7 1 fun v103 => xpi κ σ101 a0 7 1 (v103 + (v89 - v3)) fun σ104 => xwhile (B_J11_grow_145 κ K b100 (v103 + (v89 - v3))) v102 σ104)) ∧ (¬ v95 < v96 → (xgi σ94 a0 7 2 fun v105 => xgi σ94 a0 7 1 fun v106 => ((v105 = v106 → (xgi σ94 a0 7 1 fun v107 => xnn v92 fun b108 => xaq σ94 b108 v107 fun v109 => ((v109 = none → (K () σ94.1)) ∧ (∀ b110 : Nat, v109 = some b110 → (xgi σ94 a0 7 1 fun v111 => xgi σ94 a0 7 1 fun v112 => xgi σ94 a0 7 1 fun v113 => xcpq κ σ94 b108 v111 b108 (v112 + (v89 - v3)) (v3 - v113) fun σ114 => xgi σ114 a0 7 1 fun v115 => xgi σ114 a0 7 1 fun v116 => xpi κ σ114 a0 7 1 (v116 + (v89 - v3)) fun σ117 => xwhile (B_J11_grow_145 κ K b108 (v116 + (v89 - v3))) v115 σ117))))) ∧ (¬ v105 = v106 → (K () σ94.1)))))))) ∧ (¬ (v3 + (2 : Int32)) < x1 → (((((v3 + (v3 + (2 : Int32))) - (2147483639 : Int32)) ≤ 0 → (xgq σ a0 7 0 fun v118 => xcall (fun τ L => P_J9_copyOf κ v118 (v3 + (v3 + (2 : Int32))) τ L) σ fun v119 σ120 => xpq κ σ120 a0 7 0 v119 fun σ121 => xgi σ121 a0 7 2 fun v122 => xgi σ121 a0 7 1 fun v123 => ((v122 < v123 → (xgi σ121 a0 7 1 fun v124 => xgi σ121 a0 7 1 fun v125 => xgi σ121 a0 7 1 fun v126 => xnn v119 fun b127 => xcpq κ σ121 b127 v124 b127 (v125 + ((v3 + (v3 + (2 : Int32))) - v3)) (v3 - v126) fun σ128 => xgi σ128 a0 7 1 fun v129 => xgi σ128 a0 7 1 fun v130 => xpi κ σ128 a0 7 1 (v130 + ((v3 + (v3 + (2 : Int32))) - v3)) fun σ131 => xwhile (B_J11_grow_145 κ K b127 (v130 + ((v3 + (v3 + (2 : Int32))) - v3))) v129 σ131)) ∧ (¬ v122 < v123 → (xgi σ121 a0 7 2 fun v132 => xgi σ121 a0 7 1 fun v133 => ((v132 = v133 → (xgi σ121 a0 7 1 fun v134 => xnn v119 fun b135 => xaq σ121 b135 v134 fun v136 => ((v136 = none → (K () σ121.1)) ∧ (∀ b137 : Nat, v136 = some b137 → (xgi σ121 a0 7 1 fun v138 => xgi σ121 a0 7 1 fun v139 => xgi σ121 a0 7 1 fun v140 => xcpq κ σ121 b135 v138 b135 (v139 + ((v3 + (v3 + (2 : Int32))) - v3)) (v3 - v140) fun σ141 => xgi σ141 a0 7 1 fun v142 => xgi σ141 a0 7 1 fun v143 => xpi κ σ141 a0 7 1 (v143 + ((v3 + (v3 + (2 : Int32))) - v3)) fun σ144 => xwhile (B_J11_grow_145 κ K b135 (v143 + ((v3 + (v3 + (2 : Int32))) - v3))) v142 σ144))))) ∧ (¬ v132 = v133 → (K () σ121.1)))))))) ∧ (¬ ((v3 + (v3 + (2 : Int32))) - (2147483639 : Int32)) ≤ 0 → (xrc σ a0 7 ∧ xcall (fun τ L => P_J11_newCapacity κ a0 x1 (v3 + (2 : Int32)) τ L) σ fun v145 σ146 => xgq σ146 a0 7 0 fun v147 => xcall (fun τ L => P_J9_copyOf κ v147 v145 τ L) σ146 fun v148 σ149 => xpq κ σ149 a0 7 0 v148 fun σ150 => xgi σ150 a0 7 2 fun v151 => xgi σ150 a0 7 1 fun v152 => ((v151 < v152 → (xgi σ150 a0 7 1 fun v153 => xgi σ150 a0 7 1 fun v154 => xgi σ150 a0 7 1 fun v155 => xnn v148 fun b156 => xcpq κ σ150 b156 v153 b156 (v154 + (v145 - v3)) (v3 - v155) fun σ157 => xgi σ157 a0 7 1 fun v158 => xgi σ157 a0 7 1 fun v159 => xpi κ σ157 a0 7 1 (v159 + (v145 - v3)) fun σ160 => xwhile (B_J11_grow_145 κ K b156 (v159 + (v145 - v3))) v158 σ160)) ∧ (¬ v151 < v152 → (xgi σ150 a0 7 2 fun v161 => xgi σ150 a0 7 1 fun v162 => ((v161 = v162 → (xgi σ150 a0 7 1 fun v163 => xnn v148 fun b164 => xaq σ150 b164 v163 fun v165 => ((v165 = none → (K () σ150.1)) ∧ (∀ b166 : Nat, v165 = some b166 → (xgi σ150 a0 7 1 fun v167 => xgi σ150 a0 7 1 fun v168 => xgi σ150 a0 7 1 fun v169 => xcpq κ σ150 b164 v167 b164 (v168 + (v145 - v3)) (v3 - v169) fun σ170 => xgi σ170 a0 7 1 fun v171 => xgi σ170 a0 7 1 fun v172 => xpi κ σ170 a0 7 1 (v172 + (v145 - v3)) fun σ173 => xwhile (B_J11_grow_145 κ K b164 (v172 + (v145 - v3))) v171 σ173))))) ∧ (¬ v161 = v162 → (K () σ150.1)))))))))))))))
theorem mdJ11_grow : yJ11_grow.cls ≠ "java/lang/invoke/MethodHandle" ∧ yJ11_grow.cls ≠ "java/lang/invoke/VarHandle" ∧ (parseMethodDescriptor yJ11_grow.desc).map (fun d => d.parameters.length) = some 1 := by decide +kernel
set_option maxHeartbeats 4000000 in
set_option maxRecDepth 100000 in
theorem R_J11_grow (l : Launch) (hl : l.stackTraces = false) (G : xG) (hG : G.1.2 = x_cl) (a0 : Nat) (x1 : Int32) (σ : xS) (K : Unit → xH → Prop) (hp : P_J11_grow G.2 a0 x1 σ K) : xM l yJ11_grow cJ11_grow 9 (Option.none : Option Jvm.ClassFile.FieldType) 3 104 G [(.ref a0), .int x1] σ (xlift emV K) := by
  refine x_entry (by decide) (Nat.le_of_ble_eq_true rfl) ?_
  intro p e s m args below meth c X hr hin
  have X : xX p s m args meth c G cJ11_grow 9 RJ11 := X
  have hx := X.1
  have hb := X.2.1
  have hts := X.2.2.2.2.1
  have hown := X.2.2.2.1
  unfold P_J11_grow at hp
  refine x_same (lo' := [(0, .ref a0), (1, .int x1)]) rfl ?_
  refine x_up (pc' := 1) (fun _ _ _ _ _ L => lv_aload_n hx hb dJ11_grow_0 rfl (lv_at L 0 rfl)) ?_
  refine x_gq X (kJ11 hG) 0 (by decide) q543 (fun _ h => h) dJ11_grow_1 hp (fun v1 hp1 => ?_)
  refine x_pc (pc' := 4) rfl ?_
  obtain ⟨b2, rfl, hp2⟩ := hp1
  refine x_alen X dJ11_grow_4 hp2 (fun v3 hp3 => ?_)
  refine x_pc (pc' := 5) rfl ?_
  refine x_upL (pc' := 6) (lo' := [(2, .int v3), (0, .ref a0), (1, .int x1)]) (fun _ _ _ _ _ L => lv_istore_n hx hb dJ11_grow_5 rfl L (by decide) rfl) ?_
  refine x_up (pc' := 7) (fun _ _ _ _ _ L => lv_iload_n hx hb dJ11_grow_6 rfl (lv_at L 0 rfl)) ?_
  refine x_up (pc' := 9) (fun _ _ _ _ _ L => lv_bipush (v := (64 : Int32)) hx hb dJ11_grow_7 (by decide)) ?_
  refine x_if (C := (64 : Int32) ≤ v3) (pt := 18) (pc' := 12) (fun _ _ _ _ _ => lv_icmp_ge (tgt := 18) hx hb dJ11_grow_9 (by decide)) (fun c9 => ?_) (fun c9 => ?_)
  · have hp4 := hp3.1 c9
    refine x_up (pc' := 19) (fun _ _ _ _ _ L => lv_iload_n hx hb dJ11_grow_18 rfl (lv_at L 0 rfl)) ?_
    refine x_up (pc' := 20) (fun _ _ _ _ _ L => lv_iconst (v := (1 : Int32)) hx hb dJ11_grow_19 (by decide)) ?_
    refine x_up (pc' := 21) (fun _ _ _ _ _ L => lv_ishr hx hb dJ11_grow_20) ?_
    refine x_upL (pc' := 23) (lo' := [(4, .int (v3 >>> ((1 : Int32) &&& 31))), (2, .int v3), (0, .ref a0), (1, .int x1)]) (fun _ _ _ _ _ L => lv_istore hx hb dJ11_grow_21 L (by decide) rfl) ?_
    refine x_up (pc' := 25) (fun _ _ _ _ _ L => lv_iload hx hb dJ11_grow_23 (lv_at L 0 rfl)) ?_
    refine x_up (pc' := 26) (fun _ _ _ _ _ L => lv_iload_n hx hb dJ11_grow_25 rfl (lv_at L 3 rfl)) ?_
    refine x_if (C := (v3 >>> ((1 : Int32) &&& 31)) < x1) (pt := 41) (pc' := 29) (fun _ _ _ _ _ => lv_icmp_lt (tgt := 41) hx hb dJ11_grow_26 (by decide)) (fun c26 => ?_) (fun c26 => ?_)
    · have hp5 := hp4.1 c26
      refine x_up (pc' := 42) (fun _ _ _ _ _ L => lv_aload_n hx hb dJ11_grow_41 rfl (lv_at L 2 rfl)) ?_
      refine x_up (pc' := 43) (fun _ _ _ _ _ L => lv_iload_n hx hb dJ11_grow_42 rfl (lv_at L 3 rfl)) ?_
      refine x_up (pc' := 45) (fun _ _ _ _ _ L => lv_iload hx hb dJ11_grow_43 (lv_at L 0 rfl)) ?_
      refine x_callV (em := emI) (fun r st => .int r :: st) (fun _ _ => rfl) 2 X (kJ11 hG) (fun σ' KK h => R_J11_newCapacity l hl G hG a0 x1 (v3 >>> ((1 : Int32) &&& 31)) σ' KK h) (lw_V q2003 q2005 qs24 q114 q2006) ⟨rfl, mdJ11_newCapacity⟩ ⟨Nat.le_of_ble_eq_true rfl, Nat.le_of_ble_eq_true rfl⟩ rfl rfl (Nat.le_of_ble_eq_true rfl) dJ11_grow_45 hp5.1 hp5.2 (fun v4 σ5 hp6 => ?_)
      refine x_pc (pc' := 48) rfl ?_
      refine x_upL (pc' := 49) (lo' := [(3, .int v4), (4, .int (v3 >>> ((1 : Int32) &&& 31))), (2, .int v3), (0, .ref a0), (1, .int x1)]) (fun _ _ _ _ _ L => lv_istore_n hx hb dJ11_grow_48 rfl L (by decide) rfl) ?_
      refine x_up (pc' := 50) (fun _ _ _ _ _ L => lv_aload_n hx hb dJ11_grow_49 rfl (lv_at L 3 rfl)) ?_
      refine x_up (pc' := 51) (fun _ _ _ _ _ L => lv_aload_n hx hb dJ11_grow_50 rfl (lv_at L 3 rfl)) ?_
      refine x_gq X (kJ11 hG) 0 (by decide) q543 (fun _ h => h) dJ11_grow_51 hp6 (fun v6 hp7 => ?_)
      refine x_pc (pc' := 54) rfl ?_
      refine x_up (pc' := 55) (fun _ _ _ _ _ L => lv_iload_n hx hb dJ11_grow_54 rfl (lv_at L 0 rfl)) ?_
      refine x_callS (em := emQ) (fun r st => va_rf r :: st) (fun _ _ => rfl) 2 X (fun σ' KK h => R_J9_copyOf l hl G hG v6 v4 σ' KK h) (lw_S q2024 q365 q111 q366) mdJ9_copyOf ⟨Nat.le_of_ble_eq_true rfl, Nat.le_of_ble_eq_true rfl⟩ rfl rfl (Nat.le_of_ble_eq_true rfl) dJ11_grow_55 hp7 (fun v7 σ8 hp8 => ?_)
      refine x_pc (pc' := 58) rfl ?_
      refine x_up (pc' := 59) (fun _ _ _ _ _ L => lv_dup_x1 hx hb dJ11_grow_58 (x_catq _) rfl) ?_
      refine x_pq X (kJ11 hG) 0 (by decide) q543 (fun _ h => h) rfl v7 (x_nar _ (by decide)) (x_fit _ (by decide)) dJ11_grow_59 hp8 (fun σ9 hp9 => ?_)
      refine x_pc (pc' := 62) rfl ?_
      refine x_upL (pc' := 64) (lo' := [(5, va_rf v7), (3, .int v4), (4, .int (v3 >>> ((1 : Int32) &&& 31))), (2, .int v3), (0, .ref a0), (1, .int x1)]) (fun _ _ _ _ _ L => lv_astoreq hx hb dJ11_grow_62 L (by decide) rfl) ?_
      refine x_up (pc' := 65) (fun _ _ _ _ _ L => lv_aload_n hx hb dJ11_grow_64 rfl (lv_at L 4 rfl)) ?_
      refine x_gi X (kJ11 hG) 2 (by decide) q547 (fun _ h => h) dJ11_grow_65 hp9 (fun v10 hp10 => ?_)
      refine x_pc (pc' := 68) rfl ?_
      refine x_up (pc' := 69) (fun _ _ _ _ _ L => lv_aload_n hx hb dJ11_grow_68 rfl (lv_at L 4 rfl)) ?_
      refine x_gi X (kJ11 hG) 1 (by decide) q546 (fun _ h => h) dJ11_grow_69 hp10 (fun v11 hp11 => ?_)
      refine x_pc (pc' := 72) rfl ?_
      refine x_if (C := v10 < v11) (pt := 96) (pc' := 75) (fun _ _ _ _ _ => lv_icmp_lt (tgt := 96) hx hb dJ11_grow_72 (by decide)) (fun c72 => ?_) (fun c72 => ?_)
      · have hp12 := hp11.1 c72
        refine x_up (pc' := 97) (fun _ _ _ _ _ L => lv_iload_n hx hb dJ11_grow_96 rfl (lv_at L 1 rfl)) ?_
        refine x_up (pc' := 98) (fun _ _ _ _ _ L => lv_iload_n hx hb dJ11_grow_97 rfl (lv_at L 3 rfl)) ?_
        refine x_up (pc' := 99) (fun _ _ _ _ _ L => lv_isub hx hb dJ11_grow_98) ?_
        refine x_st (pc' := 101) ([(6, .int (v4 - v3)), (5, va_rf v7), (3, .int v4), (4, .int (v3 >>> ((1 : Int32) &&& 31))), (2, .int v3), (0, .ref a0), (1, .int x1)]) rfl (by simp [x_catq, x_cati, x_catr, x_catn]) (fun _ _ _ _ _ L => lv_istore hx hb dJ11_grow_99 L (by decide) rfl) ?_
        refine x_up (pc' := 103) (fun _ _ _ _ _ L => lv_aloadq hx hb dJ11_grow_101 (lv_at L 1 rfl)) ?_
        refine x_up (pc' := 104) (fun _ _ _ _ _ L => lv_aload_n hx hb dJ11_grow_103 rfl (lv_at L 5 rfl)) ?_
        refine x_gi X (kJ11 hG) 1 (by decide) q546 (fun _ h => h) dJ11_grow_104 hp12 (fun v12 hp13 => ?_)
        refine x_pc (pc' := 107) rfl ?_
        refine x_up (pc' := 109) (fun _ _ _ _ _ L => lv_aloadq hx hb dJ11_grow_107 (lv_at L 1 rfl)) ?_
        refine x_up (pc' := 110) (fun _ _ _ _ _ L => lv_aload_n hx hb dJ11_grow_109 rfl (lv_at L 5 rfl)) ?_
        refine x_gi X (kJ11 hG) 1 (by decide) q546 (fun _ h => h) dJ11_grow_110 hp13 (fun v13 hp14 => ?_)
        refine x_pc (pc' := 113) rfl ?_
        refine x_up (pc' := 115) (fun _ _ _ _ _ L => lv_iload hx hb dJ11_grow_113 (lv_at L 0 rfl)) ?_
        refine x_up (pc' := 116) (fun _ _ _ _ _ L => lv_iadd hx hb dJ11_grow_115) ?_
        refine x_up (pc' := 117) (fun _ _ _ _ _ L => lv_iload_n hx hb dJ11_grow_116 rfl (lv_at L 4 rfl)) ?_
        refine x_up (pc' := 118) (fun _ _ _ _ _ L => lv_aload_n hx hb dJ11_grow_117 rfl (lv_at L 5 rfl)) ?_
        refine x_gi X (kJ11 hG) 1 (by decide) q546 (fun _ h => h) dJ11_grow_118 hp14 (fun v14 hp15 => ?_)
        refine x_pc (pc' := 121) rfl ?_
        refine x_up (pc' := 122) (fun _ _ _ _ _ L => lv_isub hx hb dJ11_grow_121) ?_
        obtain ⟨b15, rfl, hp16⟩ := hp15
        refine x_cpq X hG q1846 q424 q423 q112 (Nat.le_of_ble_eq_true rfl) ⟨Nat.le_of_ble_eq_true rfl, Nat.le_of_ble_eq_true rfl⟩ dJ11_grow_122 hp16 (fun σ16 hp17 => ?_)
        refine x_pc (pc' := 125) rfl ?_
        refine x_up (pc' := 126) (fun _ _ _ _ _ L => lv_aload_n hx hb dJ11_grow_125 rfl (lv_at L 5 rfl)) ?_
        refine x_gi X (kJ11 hG) 1 (by decide) q546 (fun _ h => h) dJ11_grow_126 hp17 (fun v17 hp18 => ?_)
        refine x_pc (pc' := 129) rfl ?_
        refine x_upL (pc' := 131) (lo' := [(7, .int v17), (6, .int (v4 - v3)), (5, .ref b15), (3, .int v4), (4, .int (v3 >>> ((1 : Int32) &&& 31))), (2, .int v3), (0, .ref a0), (1, .int x1)]) (fun _ _ _ _ _ L => lv_istore hx hb dJ11_grow_129 L (by decide) rfl) ?_
        refine x_up (pc' := 132) (fun _ _ _ _ _ L => lv_aload_n hx hb dJ11_grow_131 rfl (lv_at L 6 rfl)) ?_
        refine x_up (pc' := 133) (fun _ _ _ _ _ L => lv_dup hx hb dJ11_grow_132 rfl) ?_
        refine x_gi X (kJ11 hG) 1 (by decide) q546 (fun _ h => h) dJ11_grow_133 hp18 (fun v18 hp19 => ?_)
        refine x_pc (pc' := 136) rfl ?_
        refine x_up (pc' := 138) (fun _ _ _ _ _ L => lv_iload hx hb dJ11_grow_136 (lv_at L 1 rfl)) ?_
        refine x_up (pc' := 139) (fun _ _ _ _ _ L => lv_iadd hx hb dJ11_grow_138) ?_
        refine x_up (pc' := 140) (fun _ _ _ _ _ L => lv_dup_x1 hx hb dJ11_grow_139 rfl rfl) ?_
        refine x_pi X (kJ11 hG) 1 (by decide) q546 (fun _ h => h) rfl rfl rfl dJ11_grow_140 hp19 (fun σ19 hp20 => ?_)
        refine x_pc (pc' := 143) rfl ?_
        refine x_upL (pc' := 145) (lo' := [(8, .int (v18 + (v4 - v3))), (7, .int v17), (6, .int (v4 - v3)), (5, .ref b15), (3, .int v4), (4, .int (v3 >>> ((1 : Int32) &&& 31))), (2, .int v3), (0, .ref a0), (1, .int x1)]) (fun _ _ _ _ _ L => lv_istore hx hb dJ11_grow_143 L (by decide) rfl) ?_
        refine x_lo (lo' := [(7, .int v17), (5, .ref b15), (8, .int (v18 + (v4 - v3)))]) [1, 3, 0] rfl ?_
        refine x_while (v0 := v17) (fun w20 => [(7, .int w20), (5, .ref b15), (8, .int (v18 + (v4 - v3)))]) hp20 (fun self21 hself22 => ?_)
        rintro y24 σ23 hp21
        unfold B_J11_grow_145 at hp21
        refine x_same (lo' := [(7, .int y24), (5, .ref b15), (8, .int (v18 + (v4 - v3)))]) rfl ?_
        refine x_up (pc' := 147) (fun _ _ _ _ _ L => lv_iload hx hb dJ11_grow_145 (lv_at L 0 rfl)) ?_
        refine x_up (pc' := 149) (fun _ _ _ _ _ L => lv_iload hx hb dJ11_grow_147 (lv_at L 2 rfl)) ?_
        refine x_if (C := (v18 + (v4 - v3)) ≤ y24) (pt := 164) (pc' := 152) (fun _ _ _ _ _ => lv_icmp_ge (tgt := 164) hx hb dJ11_grow_149 (by decide)) (fun c149 => ?_) (fun c149 => ?_)
        · have hp22 := hp21.1 c149
          exact x_vret X hr dJ11_grow_164 hp22
        · have hp23 := hp21.2 c149
          refine x_up (pc' := 154) (fun _ _ _ _ _ L => lv_aload hx hb dJ11_grow_152 (lv_at L 1 rfl)) ?_
          refine x_up (pc' := 156) (fun _ _ _ _ _ L => lv_iload hx hb dJ11_grow_154 (lv_at L 0 rfl)) ?_
          refine x_up (pc' := 157) (fun _ _ _ _ _ L => lv_null hx hb dJ11_grow_156) ?_
          refine x_aast X hG none dJ11_grow_157 hp23 (fun σ25 hp24 => ?_)
          refine x_pc (pc' := 158) rfl ?_
          refine x_upL (pc' := 161) (lo' := [(7, .int (y24 + (1 : Int32))), (5, .ref b15), (8, .int (v18 + (v4 - v3)))]) (fun _ _ _ _ _ L => lv_iinc (v := y24 + (1 : Int32)) hx hb dJ11_grow_158 L (k := 0) rfl rfl (by decide) rfl) ?_
          refine x_up (pc' := 145) (fun _ _ _ _ _ L => lv_goto (tgt := 145) hx hb dJ11_grow_161 (by decide)) ?_
          refine x_lo (lo' := [(7, .int (y24 + (1 : Int32))), (5, .ref b15), (8, .int (v18 + (v4 - v3)))]) [0, 1, 2] rfl ?_
          exact hself22 (y24 + (1 : Int32)) σ25 hp24
      · have hp25 := hp11.2 c72
        refine x_up (pc' := 76) (fun _ _ _ _ _ L => lv_aload_n hx hb dJ11_grow_75 rfl (lv_at L 4 rfl)) ?_
        refine x_gi X (kJ11 hG) 2 (by decide) q547 (fun _ h => h) dJ11_grow_76 hp25 (fun v26 hp26 => ?_)
        refine x_pc (pc' := 79) rfl ?_
        refine x_up (pc' := 80) (fun _ _ _ _ _ L => lv_aload_n hx hb dJ11_grow_79 rfl (lv_at L 4 rfl)) ?_
        refine x_gi X (kJ11 hG) 1 (by decide) q546 (fun _ h => h) dJ11_grow_80 hp26 (fun v27 hp27 => ?_)
        refine x_pc (pc' := 83) rfl ?_
        refine x_ifn (C := v26 = v27) (pt := 164) (pc' := 86) (fun _ _ _ _ _ => lv_icmp_ne (tgt := 164) hx hb dJ11_grow_83 (by decide)) (fun c83 => ?_) (fun c83 => ?_)
        · have hp28 := hp27.1 c83
          refine x_up (pc' := 88) (fun _ _ _ _ _ L => lv_aloadq hx hb dJ11_grow_86 (lv_at L 0 rfl)) ?_
          refine x_up (pc' := 89) (fun _ _ _ _ _ L => lv_aload_n hx hb dJ11_grow_88 rfl (lv_at L 4 rfl)) ?_
          refine x_gi X (kJ11 hG) 1 (by decide) q546 (fun _ h => h) dJ11_grow_89 hp28 (fun v28 hp29 => ?_)
          refine x_pc (pc' := 92) rfl ?_
          obtain ⟨b29, rfl, hp30⟩ := hp29
          refine x_aald X dJ11_grow_92 hp30 (fun v30 hp31 => ?_)
          refine x_pc (pc' := 93) rfl ?_
          rcases v30 with _ | b31
          · have hp32 := hp31.1 rfl
            refine x_up (pc' := 164) (fun _ _ _ _ _ L => lv_ifnullN (tgt := 164) hx hb dJ11_grow_93 (by decide)) ?_
            exact x_vret X hr dJ11_grow_164 hp32
          · have hp33 := hp31.2 _ rfl
            refine x_up (pc' := 96) (fun _ _ _ _ _ L => lv_ifnull hx hb dJ11_grow_93) ?_
            refine x_up (pc' := 97) (fun _ _ _ _ _ L => lv_iload_n hx hb dJ11_grow_96 rfl (lv_at L 1 rfl)) ?_
            refine x_up (pc' := 98) (fun _ _ _ _ _ L => lv_iload_n hx hb dJ11_grow_97 rfl (lv_at L 3 rfl)) ?_
            refine x_up (pc' := 99) (fun _ _ _ _ _ L => lv_isub hx hb dJ11_grow_98) ?_
            refine x_upL (pc' := 101) (lo' := [(6, .int (v4 - v3)), (5, .ref b29), (3, .int v4), (4, .int (v3 >>> ((1 : Int32) &&& 31))), (2, .int v3), (0, .ref a0), (1, .int x1)]) (fun _ _ _ _ _ L => lv_istore hx hb dJ11_grow_99 L (by decide) rfl) ?_
            refine x_up (pc' := 103) (fun _ _ _ _ _ L => lv_aload hx hb dJ11_grow_101 (lv_at L 1 rfl)) ?_
            refine x_up (pc' := 104) (fun _ _ _ _ _ L => lv_aload_n hx hb dJ11_grow_103 rfl (lv_at L 5 rfl)) ?_
            refine x_gi X (kJ11 hG) 1 (by decide) q546 (fun _ h => h) dJ11_grow_104 hp33 (fun v32 hp34 => ?_)
            refine x_pc (pc' := 107) rfl ?_
            refine x_up (pc' := 109) (fun _ _ _ _ _ L => lv_aload hx hb dJ11_grow_107 (lv_at L 1 rfl)) ?_
            refine x_up (pc' := 110) (fun _ _ _ _ _ L => lv_aload_n hx hb dJ11_grow_109 rfl (lv_at L 5 rfl)) ?_
            refine x_gi X (kJ11 hG) 1 (by decide) q546 (fun _ h => h) dJ11_grow_110 hp34 (fun v33 hp35 => ?_)
            refine x_pc (pc' := 113) rfl ?_
            refine x_up (pc' := 115) (fun _ _ _ _ _ L => lv_iload hx hb dJ11_grow_113 (lv_at L 0 rfl)) ?_
            refine x_up (pc' := 116) (fun _ _ _ _ _ L => lv_iadd hx hb dJ11_grow_115) ?_
            refine x_up (pc' := 117) (fun _ _ _ _ _ L => lv_iload_n hx hb dJ11_grow_116 rfl (lv_at L 4 rfl)) ?_
            refine x_up (pc' := 118) (fun _ _ _ _ _ L => lv_aload_n hx hb dJ11_grow_117 rfl (lv_at L 5 rfl)) ?_
            refine x_gi X (kJ11 hG) 1 (by decide) q546 (fun _ h => h) dJ11_grow_118 hp35 (fun v34 hp36 => ?_)
            refine x_pc (pc' := 121) rfl ?_
            refine x_up (pc' := 122) (fun _ _ _ _ _ L => lv_isub hx hb dJ11_grow_121) ?_
            refine x_cpq X hG q1846 q424 q423 q112 (Nat.le_of_ble_eq_true rfl) ⟨Nat.le_of_ble_eq_true rfl, Nat.le_of_ble_eq_true rfl⟩ dJ11_grow_122 hp36 (fun σ35 hp37 => ?_)
            refine x_pc (pc' := 125) rfl ?_
            refine x_up (pc' := 126) (fun _ _ _ _ _ L => lv_aload_n hx hb dJ11_grow_125 rfl (lv_at L 5 rfl)) ?_
            refine x_gi X (kJ11 hG) 1 (by decide) q546 (fun _ h => h) dJ11_grow_126 hp37 (fun v36 hp38 => ?_)
            refine x_pc (pc' := 129) rfl ?_
            refine x_upL (pc' := 131) (lo' := [(7, .int v36), (6, .int (v4 - v3)), (5, .ref b29), (3, .int v4), (4, .int (v3 >>> ((1 : Int32) &&& 31))), (2, .int v3), (0, .ref a0), (1, .int x1)]) (fun _ _ _ _ _ L => lv_istore hx hb dJ11_grow_129 L (by decide) rfl) ?_
            refine x_up (pc' := 132) (fun _ _ _ _ _ L => lv_aload_n hx hb dJ11_grow_131 rfl (lv_at L 6 rfl)) ?_
            refine x_up (pc' := 133) (fun _ _ _ _ _ L => lv_dup hx hb dJ11_grow_132 rfl) ?_
            refine x_gi X (kJ11 hG) 1 (by decide) q546 (fun _ h => h) dJ11_grow_133 hp38 (fun v37 hp39 => ?_)
            refine x_pc (pc' := 136) rfl ?_
            refine x_up (pc' := 138) (fun _ _ _ _ _ L => lv_iload hx hb dJ11_grow_136 (lv_at L 1 rfl)) ?_
            refine x_up (pc' := 139) (fun _ _ _ _ _ L => lv_iadd hx hb dJ11_grow_138) ?_
            refine x_up (pc' := 140) (fun _ _ _ _ _ L => lv_dup_x1 hx hb dJ11_grow_139 rfl rfl) ?_
            refine x_pi X (kJ11 hG) 1 (by decide) q546 (fun _ h => h) rfl rfl rfl dJ11_grow_140 hp39 (fun σ38 hp40 => ?_)
            refine x_pc (pc' := 143) rfl ?_
            refine x_upL (pc' := 145) (lo' := [(8, .int (v37 + (v4 - v3))), (7, .int v36), (6, .int (v4 - v3)), (5, .ref b29), (3, .int v4), (4, .int (v3 >>> ((1 : Int32) &&& 31))), (2, .int v3), (0, .ref a0), (1, .int x1)]) (fun _ _ _ _ _ L => lv_istore hx hb dJ11_grow_143 L (by decide) rfl) ?_
            refine x_lo (lo' := [(7, .int v36), (5, .ref b29), (8, .int (v37 + (v4 - v3)))]) [1, 3, 0] rfl ?_
            refine x_while (v0 := v36) (fun w39 => [(7, .int w39), (5, .ref b29), (8, .int (v37 + (v4 - v3)))]) hp40 (fun self40 hself41 => ?_)
            rintro y43 σ42 hp41
            unfold B_J11_grow_145 at hp41
            refine x_same (lo' := [(7, .int y43), (5, .ref b29), (8, .int (v37 + (v4 - v3)))]) rfl ?_
            refine x_up (pc' := 147) (fun _ _ _ _ _ L => lv_iload hx hb dJ11_grow_145 (lv_at L 0 rfl)) ?_
            refine x_up (pc' := 149) (fun _ _ _ _ _ L => lv_iload hx hb dJ11_grow_147 (lv_at L 2 rfl)) ?_
            refine x_if (C := (v37 + (v4 - v3)) ≤ y43) (pt := 164) (pc' := 152) (fun _ _ _ _ _ => lv_icmp_ge (tgt := 164) hx hb dJ11_grow_149 (by decide)) (fun c149 => ?_) (fun c149 => ?_)
            · have hp42 := hp41.1 c149
              exact x_vret X hr dJ11_grow_164 hp42
            · have hp43 := hp41.2 c149
              refine x_up (pc' := 154) (fun _ _ _ _ _ L => lv_aload hx hb dJ11_grow_152 (lv_at L 1 rfl)) ?_
              refine x_up (pc' := 156) (fun _ _ _ _ _ L => lv_iload hx hb dJ11_grow_154 (lv_at L 0 rfl)) ?_
              refine x_up (pc' := 157) (fun _ _ _ _ _ L => lv_null hx hb dJ11_grow_156) ?_
              refine x_aast X hG none dJ11_grow_157 hp43 (fun σ44 hp44 => ?_)
              refine x_pc (pc' := 158) rfl ?_
              refine x_upL (pc' := 161) (lo' := [(7, .int (y43 + (1 : Int32))), (5, .ref b29), (8, .int (v37 + (v4 - v3)))]) (fun _ _ _ _ _ L => lv_iinc (v := y43 + (1 : Int32)) hx hb dJ11_grow_158 L (k := 0) rfl rfl (by decide) rfl) ?_
              refine x_up (pc' := 145) (fun _ _ _ _ _ L => lv_goto (tgt := 145) hx hb dJ11_grow_161 (by decide)) ?_
              refine x_lo (lo' := [(7, .int (y43 + (1 : Int32))), (5, .ref b29), (8, .int (v37 + (v4 - v3)))]) [0, 1, 2] rfl ?_
              exact hself41 (y43 + (1 : Int32)) σ44 hp44
        · have hp45 := hp27.2 c83
          exact x_vret X hr dJ11_grow_164 hp45
    · have hp46 := hp4.2 c26
      refine x_up (pc' := 30) (fun _ _ _ _ _ L => lv_iload_n hx hb dJ11_grow_29 rfl (lv_at L 1 rfl)) ?_
      refine x_up (pc' := 32) (fun _ _ _ _ _ L => lv_iload hx hb dJ11_grow_30 (lv_at L 0 rfl)) ?_
      refine x_up (pc' := 33) (fun _ _ _ _ _ L => lv_iadd hx hb dJ11_grow_32) ?_
      refine x_up (pc' := 34) (fun _ _ _ _ _ L => lv_dup hx hb dJ11_grow_33 rfl) ?_
      refine x_upL (pc' := 35) (lo' := [(3, .int (v3 + (v3 >>> ((1 : Int32) &&& 31)))), (4, .int (v3 >>> ((1 : Int32) &&& 31))), (2, .int v3), (0, .ref a0), (1, .int x1)]) (fun _ _ _ _ _ L => lv_istore_n hx hb dJ11_grow_34 rfl L (by decide) rfl) ?_
      refine x_up (pc' := 37) (fun _ _ _ _ _ L => lv_ldc (v := 2147483639) hx hb hown (hts _ q2002) dJ11_grow_35) ?_
      refine x_up (pc' := 38) (fun _ _ _ _ _ L => lv_isub hx hb dJ11_grow_37) ?_
      refine x_if (C := ((v3 + (v3 >>> ((1 : Int32) &&& 31))) - (2147483639 : Int32)) ≤ 0) (pt := 49) (pc' := 41) (fun _ _ _ _ _ => lv_if_le (tgt := 49) hx hb dJ11_grow_38 (by decide)) (fun c38 => ?_) (fun c38 => ?_)
      · have hp47 := hp46.1 c38
        refine x_up (pc' := 50) (fun _ _ _ _ _ L => lv_aload_n hx hb dJ11_grow_49 rfl (lv_at L 3 rfl)) ?_
        refine x_up (pc' := 51) (fun _ _ _ _ _ L => lv_aload_n hx hb dJ11_grow_50 rfl (lv_at L 3 rfl)) ?_
        refine x_gq X (kJ11 hG) 0 (by decide) q543 (fun _ h => h) dJ11_grow_51 hp47 (fun v45 hp48 => ?_)
        refine x_pc (pc' := 54) rfl ?_
        refine x_up (pc' := 55) (fun _ _ _ _ _ L => lv_iload_n hx hb dJ11_grow_54 rfl (lv_at L 0 rfl)) ?_
        refine x_callS (em := emQ) (fun r st => va_rf r :: st) (fun _ _ => rfl) 2 X (fun σ' KK h => R_J9_copyOf l hl G hG v45 (v3 + (v3 >>> ((1 : Int32) &&& 31))) σ' KK h) (lw_S q2024 q365 q111 q366) mdJ9_copyOf ⟨Nat.le_of_ble_eq_true rfl, Nat.le_of_ble_eq_true rfl⟩ rfl rfl (Nat.le_of_ble_eq_true rfl) dJ11_grow_55 hp48 (fun v46 σ47 hp49 => ?_)
        refine x_pc (pc' := 58) rfl ?_
        refine x_up (pc' := 59) (fun _ _ _ _ _ L => lv_dup_x1 hx hb dJ11_grow_58 (x_catq _) rfl) ?_
        refine x_pq X (kJ11 hG) 0 (by decide) q543 (fun _ h => h) rfl v46 (x_nar _ (by decide)) (x_fit _ (by decide)) dJ11_grow_59 hp49 (fun σ48 hp50 => ?_)
        refine x_pc (pc' := 62) rfl ?_
        refine x_upL (pc' := 64) (lo' := [(5, va_rf v46), (3, .int (v3 + (v3 >>> ((1 : Int32) &&& 31)))), (4, .int (v3 >>> ((1 : Int32) &&& 31))), (2, .int v3), (0, .ref a0), (1, .int x1)]) (fun _ _ _ _ _ L => lv_astoreq hx hb dJ11_grow_62 L (by decide) rfl) ?_
        refine x_up (pc' := 65) (fun _ _ _ _ _ L => lv_aload_n hx hb dJ11_grow_64 rfl (lv_at L 4 rfl)) ?_
        refine x_gi X (kJ11 hG) 2 (by decide) q547 (fun _ h => h) dJ11_grow_65 hp50 (fun v49 hp51 => ?_)
        refine x_pc (pc' := 68) rfl ?_
        refine x_up (pc' := 69) (fun _ _ _ _ _ L => lv_aload_n hx hb dJ11_grow_68 rfl (lv_at L 4 rfl)) ?_
        refine x_gi X (kJ11 hG) 1 (by decide) q546 (fun _ h => h) dJ11_grow_69 hp51 (fun v50 hp52 => ?_)
        refine x_pc (pc' := 72) rfl ?_
        refine x_if (C := v49 < v50) (pt := 96) (pc' := 75) (fun _ _ _ _ _ => lv_icmp_lt (tgt := 96) hx hb dJ11_grow_72 (by decide)) (fun c72 => ?_) (fun c72 => ?_)
        · have hp53 := hp52.1 c72
          refine x_up (pc' := 97) (fun _ _ _ _ _ L => lv_iload_n hx hb dJ11_grow_96 rfl (lv_at L 1 rfl)) ?_
          refine x_up (pc' := 98) (fun _ _ _ _ _ L => lv_iload_n hx hb dJ11_grow_97 rfl (lv_at L 3 rfl)) ?_
          refine x_up (pc' := 99) (fun _ _ _ _ _ L => lv_isub hx hb dJ11_grow_98) ?_
          refine x_st (pc' := 101) ([(6, .int ((v3 + (v3 >>> ((1 : Int32) &&& 31))) - v3)), (5, va_rf v46), (3, .int (v3 + (v3 >>> ((1 : Int32) &&& 31)))), (4, .int (v3 >>> ((1 : Int32) &&& 31))), (2, .int v3), (0, .ref a0), (1, .int x1)]) rfl (by simp [x_catq, x_cati, x_catr, x_catn]) (fun _ _ _ _ _ L => lv_istore hx hb dJ11_grow_99 L (by decide) rfl) ?_
          refine x_up (pc' := 103) (fun _ _ _ _ _ L => lv_aloadq hx hb dJ11_grow_101 (lv_at L 1 rfl)) ?_
          refine x_up (pc' := 104) (fun _ _ _ _ _ L => lv_aload_n hx hb dJ11_grow_103 rfl (lv_at L 5 rfl)) ?_
          refine x_gi X (kJ11 hG) 1 (by decide) q546 (fun _ h => h) dJ11_grow_104 hp53 (fun v51 hp54 => ?_)
          refine x_pc (pc' := 107) rfl ?_
          refine x_up (pc' := 109) (fun _ _ _ _ _ L => lv_aloadq hx hb dJ11_grow_107 (lv_at L 1 rfl)) ?_
          refine x_up (pc' := 110) (fun _ _ _ _ _ L => lv_aload_n hx hb dJ11_grow_109 rfl (lv_at L 5 rfl)) ?_
          refine x_gi X (kJ11 hG) 1 (by decide) q546 (fun _ h => h) dJ11_grow_110 hp54 (fun v52 hp55 => ?_)
          refine x_pc (pc' := 113) rfl ?_
          refine x_up (pc' := 115) (fun _ _ _ _ _ L => lv_iload hx hb dJ11_grow_113 (lv_at L 0 rfl)) ?_
          refine x_up (pc' := 116) (fun _ _ _ _ _ L => lv_iadd hx hb dJ11_grow_115) ?_
          refine x_up (pc' := 117) (fun _ _ _ _ _ L => lv_iload_n hx hb dJ11_grow_116 rfl (lv_at L 4 rfl)) ?_
          refine x_up (pc' := 118) (fun _ _ _ _ _ L => lv_aload_n hx hb dJ11_grow_117 rfl (lv_at L 5 rfl)) ?_
          refine x_gi X (kJ11 hG) 1 (by decide) q546 (fun _ h => h) dJ11_grow_118 hp55 (fun v53 hp56 => ?_)
          refine x_pc (pc' := 121) rfl ?_
          refine x_up (pc' := 122) (fun _ _ _ _ _ L => lv_isub hx hb dJ11_grow_121) ?_
          obtain ⟨b54, rfl, hp57⟩ := hp56
          refine x_cpq X hG q1846 q424 q423 q112 (Nat.le_of_ble_eq_true rfl) ⟨Nat.le_of_ble_eq_true rfl, Nat.le_of_ble_eq_true rfl⟩ dJ11_grow_122 hp57 (fun σ55 hp58 => ?_)
          refine x_pc (pc' := 125) rfl ?_
          refine x_up (pc' := 126) (fun _ _ _ _ _ L => lv_aload_n hx hb dJ11_grow_125 rfl (lv_at L 5 rfl)) ?_
          refine x_gi X (kJ11 hG) 1 (by decide) q546 (fun _ h => h) dJ11_grow_126 hp58 (fun v56 hp59 => ?_)
          refine x_pc (pc' := 129) rfl ?_
          refine x_upL (pc' := 131) (lo' := [(7, .int v56), (6, .int ((v3 + (v3 >>> ((1 : Int32) &&& 31))) - v3)), (5, .ref b54), (3, .int (v3 + (v3 >>> ((1 : Int32) &&& 31)))), (4, .int (v3 >>> ((1 : Int32) &&& 31))), (2, .int v3), (0, .ref a0), (1, .int x1)]) (fun _ _ _ _ _ L => lv_istore hx hb dJ11_grow_129 L (by decide) rfl) ?_
          refine x_up (pc' := 132) (fun _ _ _ _ _ L => lv_aload_n hx hb dJ11_grow_131 rfl (lv_at L 6 rfl)) ?_
          refine x_up (pc' := 133) (fun _ _ _ _ _ L => lv_dup hx hb dJ11_grow_132 rfl) ?_
          refine x_gi X (kJ11 hG) 1 (by decide) q546 (fun _ h => h) dJ11_grow_133 hp59 (fun v57 hp60 => ?_)
          refine x_pc (pc' := 136) rfl ?_
          refine x_up (pc' := 138) (fun _ _ _ _ _ L => lv_iload hx hb dJ11_grow_136 (lv_at L 1 rfl)) ?_
          refine x_up (pc' := 139) (fun _ _ _ _ _ L => lv_iadd hx hb dJ11_grow_138) ?_
          refine x_up (pc' := 140) (fun _ _ _ _ _ L => lv_dup_x1 hx hb dJ11_grow_139 rfl rfl) ?_
          refine x_pi X (kJ11 hG) 1 (by decide) q546 (fun _ h => h) rfl rfl rfl dJ11_grow_140 hp60 (fun σ58 hp61 => ?_)
          refine x_pc (pc' := 143) rfl ?_
          refine x_upL (pc' := 145) (lo' := [(8, .int (v57 + ((v3 + (v3 >>> ((1 : Int32) &&& 31))) - v3))), (7, .int v56), (6, .int ((v3 + (v3 >>> ((1 : Int32) &&& 31))) - v3)), (5, .ref b54), (3, .int (v3 + (v3 >>> ((1 : Int32) &&& 31)))), (4, .int (v3 >>> ((1 : Int32) &&& 31))), (2, .int v3), (0, .ref a0), (1, .int x1)]) (fun _ _ _ _ _ L => lv_istore hx hb dJ11_grow_143 L (by decide) rfl) ?_
          refine x_lo (lo' := [(7, .int v56), (5, .ref b54), (8, .int (v57 + ((v3 + (v3 >>> ((1 : Int32) &&& 31))) - v3)))]) [1, 3, 0] rfl ?_
          refine x_while (v0 := v56) (fun w59 => [(7, .int w59), (5, .ref b54), (8, .int (v57 + ((v3 + (v3 >>> ((1 : Int32) &&& 31))) - v3)))]) hp61 (fun self60 hself61 => ?_)
          rintro y63 σ62 hp62
          unfold B_J11_grow_145 at hp62
          refine x_same (lo' := [(7, .int y63), (5, .ref b54), (8, .int (v57 + ((v3 + (v3 >>> ((1 : Int32) &&& 31))) - v3)))]) rfl ?_
          refine x_up (pc' := 147) (fun _ _ _ _ _ L => lv_iload hx hb dJ11_grow_145 (lv_at L 0 rfl)) ?_
          refine x_up (pc' := 149) (fun _ _ _ _ _ L => lv_iload hx hb dJ11_grow_147 (lv_at L 2 rfl)) ?_
          refine x_if (C := (v57 + ((v3 + (v3 >>> ((1 : Int32) &&& 31))) - v3)) ≤ y63) (pt := 164) (pc' := 152) (fun _ _ _ _ _ => lv_icmp_ge (tgt := 164) hx hb dJ11_grow_149 (by decide)) (fun c149 => ?_) (fun c149 => ?_)
          · have hp63 := hp62.1 c149
            exact x_vret X hr dJ11_grow_164 hp63
          · have hp64 := hp62.2 c149
            refine x_up (pc' := 154) (fun _ _ _ _ _ L => lv_aload hx hb dJ11_grow_152 (lv_at L 1 rfl)) ?_
            refine x_up (pc' := 156) (fun _ _ _ _ _ L => lv_iload hx hb dJ11_grow_154 (lv_at L 0 rfl)) ?_
            refine x_up (pc' := 157) (fun _ _ _ _ _ L => lv_null hx hb dJ11_grow_156) ?_
            refine x_aast X hG none dJ11_grow_157 hp64 (fun σ64 hp65 => ?_)
            refine x_pc (pc' := 158) rfl ?_
            refine x_upL (pc' := 161) (lo' := [(7, .int (y63 + (1 : Int32))), (5, .ref b54), (8, .int (v57 + ((v3 + (v3 >>> ((1 : Int32) &&& 31))) - v3)))]) (fun _ _ _ _ _ L => lv_iinc (v := y63 + (1 : Int32)) hx hb dJ11_grow_158 L (k := 0) rfl rfl (by decide) rfl) ?_
            refine x_up (pc' := 145) (fun _ _ _ _ _ L => lv_goto (tgt := 145) hx hb dJ11_grow_161 (by decide)) ?_
            refine x_lo (lo' := [(7, .int (y63 + (1 : Int32))), (5, .ref b54), (8, .int (v57 + ((v3 + (v3 >>> ((1 : Int32) &&& 31))) - v3)))]) [0, 1, 2] rfl ?_
            exact hself61 (y63 + (1 : Int32)) σ64 hp65
        · have hp66 := hp52.2 c72
          refine x_up (pc' := 76) (fun _ _ _ _ _ L => lv_aload_n hx hb dJ11_grow_75 rfl (lv_at L 4 rfl)) ?_
          refine x_gi X (kJ11 hG) 2 (by decide) q547 (fun _ h => h) dJ11_grow_76 hp66 (fun v65 hp67 => ?_)
          refine x_pc (pc' := 79) rfl ?_
          refine x_up (pc' := 80) (fun _ _ _ _ _ L => lv_aload_n hx hb dJ11_grow_79 rfl (lv_at L 4 rfl)) ?_
          refine x_gi X (kJ11 hG) 1 (by decide) q546 (fun _ h => h) dJ11_grow_80 hp67 (fun v66 hp68 => ?_)
          refine x_pc (pc' := 83) rfl ?_
          refine x_ifn (C := v65 = v66) (pt := 164) (pc' := 86) (fun _ _ _ _ _ => lv_icmp_ne (tgt := 164) hx hb dJ11_grow_83 (by decide)) (fun c83 => ?_) (fun c83 => ?_)
          · have hp69 := hp68.1 c83
            refine x_up (pc' := 88) (fun _ _ _ _ _ L => lv_aloadq hx hb dJ11_grow_86 (lv_at L 0 rfl)) ?_
            refine x_up (pc' := 89) (fun _ _ _ _ _ L => lv_aload_n hx hb dJ11_grow_88 rfl (lv_at L 4 rfl)) ?_
            refine x_gi X (kJ11 hG) 1 (by decide) q546 (fun _ h => h) dJ11_grow_89 hp69 (fun v67 hp70 => ?_)
            refine x_pc (pc' := 92) rfl ?_
            obtain ⟨b68, rfl, hp71⟩ := hp70
            refine x_aald X dJ11_grow_92 hp71 (fun v69 hp72 => ?_)
            refine x_pc (pc' := 93) rfl ?_
            rcases v69 with _ | b70
            · have hp73 := hp72.1 rfl
              refine x_up (pc' := 164) (fun _ _ _ _ _ L => lv_ifnullN (tgt := 164) hx hb dJ11_grow_93 (by decide)) ?_
              exact x_vret X hr dJ11_grow_164 hp73
            · have hp74 := hp72.2 _ rfl
              refine x_up (pc' := 96) (fun _ _ _ _ _ L => lv_ifnull hx hb dJ11_grow_93) ?_
              refine x_up (pc' := 97) (fun _ _ _ _ _ L => lv_iload_n hx hb dJ11_grow_96 rfl (lv_at L 1 rfl)) ?_
              refine x_up (pc' := 98) (fun _ _ _ _ _ L => lv_iload_n hx hb dJ11_grow_97 rfl (lv_at L 3 rfl)) ?_
              refine x_up (pc' := 99) (fun _ _ _ _ _ L => lv_isub hx hb dJ11_grow_98) ?_
              refine x_upL (pc' := 101) (lo' := [(6, .int ((v3 + (v3 >>> ((1 : Int32) &&& 31))) - v3)), (5, .ref b68), (3, .int (v3 + (v3 >>> ((1 : Int32) &&& 31)))), (4, .int (v3 >>> ((1 : Int32) &&& 31))), (2, .int v3), (0, .ref a0), (1, .int x1)]) (fun _ _ _ _ _ L => lv_istore hx hb dJ11_grow_99 L (by decide) rfl) ?_
              refine x_up (pc' := 103) (fun _ _ _ _ _ L => lv_aload hx hb dJ11_grow_101 (lv_at L 1 rfl)) ?_
              refine x_up (pc' := 104) (fun _ _ _ _ _ L => lv_aload_n hx hb dJ11_grow_103 rfl (lv_at L 5 rfl)) ?_
              refine x_gi X (kJ11 hG) 1 (by decide) q546 (fun _ h => h) dJ11_grow_104 hp74 (fun v71 hp75 => ?_)
              refine x_pc (pc' := 107) rfl ?_
              refine x_up (pc' := 109) (fun _ _ _ _ _ L => lv_aload hx hb dJ11_grow_107 (lv_at L 1 rfl)) ?_
              refine x_up (pc' := 110) (fun _ _ _ _ _ L => lv_aload_n hx hb dJ11_grow_109 rfl (lv_at L 5 rfl)) ?_
              refine x_gi X (kJ11 hG) 1 (by decide) q546 (fun _ h => h) dJ11_grow_110 hp75 (fun v72 hp76 => ?_)
              refine x_pc (pc' := 113) rfl ?_
              refine x_up (pc' := 115) (fun _ _ _ _ _ L => lv_iload hx hb dJ11_grow_113 (lv_at L 0 rfl)) ?_
              refine x_up (pc' := 116) (fun _ _ _ _ _ L => lv_iadd hx hb dJ11_grow_115) ?_
              refine x_up (pc' := 117) (fun _ _ _ _ _ L => lv_iload_n hx hb dJ11_grow_116 rfl (lv_at L 4 rfl)) ?_
              refine x_up (pc' := 118) (fun _ _ _ _ _ L => lv_aload_n hx hb dJ11_grow_117 rfl (lv_at L 5 rfl)) ?_
              refine x_gi X (kJ11 hG) 1 (by decide) q546 (fun _ h => h) dJ11_grow_118 hp76 (fun v73 hp77 => ?_)
              refine x_pc (pc' := 121) rfl ?_
              refine x_up (pc' := 122) (fun _ _ _ _ _ L => lv_isub hx hb dJ11_grow_121) ?_
              refine x_cpq X hG q1846 q424 q423 q112 (Nat.le_of_ble_eq_true rfl) ⟨Nat.le_of_ble_eq_true rfl, Nat.le_of_ble_eq_true rfl⟩ dJ11_grow_122 hp77 (fun σ74 hp78 => ?_)
              refine x_pc (pc' := 125) rfl ?_
              refine x_up (pc' := 126) (fun _ _ _ _ _ L => lv_aload_n hx hb dJ11_grow_125 rfl (lv_at L 5 rfl)) ?_
              refine x_gi X (kJ11 hG) 1 (by decide) q546 (fun _ h => h) dJ11_grow_126 hp78 (fun v75 hp79 => ?_)
              refine x_pc (pc' := 129) rfl ?_
              refine x_upL (pc' := 131) (lo' := [(7, .int v75), (6, .int ((v3 + (v3 >>> ((1 : Int32) &&& 31))) - v3)), (5, .ref b68), (3, .int (v3 + (v3 >>> ((1 : Int32) &&& 31)))), (4, .int (v3 >>> ((1 : Int32) &&& 31))), (2, .int v3), (0, .ref a0), (1, .int x1)]) (fun _ _ _ _ _ L => lv_istore hx hb dJ11_grow_129 L (by decide) rfl) ?_
              refine x_up (pc' := 132) (fun _ _ _ _ _ L => lv_aload_n hx hb dJ11_grow_131 rfl (lv_at L 6 rfl)) ?_
              refine x_up (pc' := 133) (fun _ _ _ _ _ L => lv_dup hx hb dJ11_grow_132 rfl) ?_
              refine x_gi X (kJ11 hG) 1 (by decide) q546 (fun _ h => h) dJ11_grow_133 hp79 (fun v76 hp80 => ?_)
              refine x_pc (pc' := 136) rfl ?_
              refine x_up (pc' := 138) (fun _ _ _ _ _ L => lv_iload hx hb dJ11_grow_136 (lv_at L 1 rfl)) ?_
              refine x_up (pc' := 139) (fun _ _ _ _ _ L => lv_iadd hx hb dJ11_grow_138) ?_
              refine x_up (pc' := 140) (fun _ _ _ _ _ L => lv_dup_x1 hx hb dJ11_grow_139 rfl rfl) ?_
              refine x_pi X (kJ11 hG) 1 (by decide) q546 (fun _ h => h) rfl rfl rfl dJ11_grow_140 hp80 (fun σ77 hp81 => ?_)
              refine x_pc (pc' := 143) rfl ?_
              refine x_upL (pc' := 145) (lo' := [(8, .int (v76 + ((v3 + (v3 >>> ((1 : Int32) &&& 31))) - v3))), (7, .int v75), (6, .int ((v3 + (v3 >>> ((1 : Int32) &&& 31))) - v3)), (5, .ref b68), (3, .int (v3 + (v3 >>> ((1 : Int32) &&& 31)))), (4, .int (v3 >>> ((1 : Int32) &&& 31))), (2, .int v3), (0, .ref a0), (1, .int x1)]) (fun _ _ _ _ _ L => lv_istore hx hb dJ11_grow_143 L (by decide) rfl) ?_
              refine x_lo (lo' := [(7, .int v75), (5, .ref b68), (8, .int (v76 + ((v3 + (v3 >>> ((1 : Int32) &&& 31))) - v3)))]) [1, 3, 0] rfl ?_
              refine x_while (v0 := v75) (fun w78 => [(7, .int w78), (5, .ref b68), (8, .int (v76 + ((v3 + (v3 >>> ((1 : Int32) &&& 31))) - v3)))]) hp81 (fun self79 hself80 => ?_)
              rintro y82 σ81 hp82
              unfold B_J11_grow_145 at hp82
              refine x_same (lo' := [(7, .int y82), (5, .ref b68), (8, .int (v76 + ((v3 + (v3 >>> ((1 : Int32) &&& 31))) - v3)))]) rfl ?_
              refine x_up (pc' := 147) (fun _ _ _ _ _ L => lv_iload hx hb dJ11_grow_145 (lv_at L 0 rfl)) ?_
              refine x_up (pc' := 149) (fun _ _ _ _ _ L => lv_iload hx hb dJ11_grow_147 (lv_at L 2 rfl)) ?_
              refine x_if (C := (v76 + ((v3 + (v3 >>> ((1 : Int32) &&& 31))) - v3)) ≤ y82) (pt := 164) (pc' := 152) (fun _ _ _ _ _ => lv_icmp_ge (tgt := 164) hx hb dJ11_grow_149 (by decide)) (fun c149 => ?_) (fun c149 => ?_)
              · have hp83 := hp82.1 c149
                exact x_vret X hr dJ11_grow_164 hp83
              · have hp84 := hp82.2 c149
                refine x_up (pc' := 154) (fun _ _ _ _ _ L => lv_aload hx hb dJ11_grow_152 (lv_at L 1 rfl)) ?_
                refine x_up (pc' := 156) (fun _ _ _ _ _ L => lv_iload hx hb dJ11_grow_154 (lv_at L 0 rfl)) ?_
                refine x_up (pc' := 157) (fun _ _ _ _ _ L => lv_null hx hb dJ11_grow_156) ?_
                refine x_aast X hG none dJ11_grow_157 hp84 (fun σ83 hp85 => ?_)
                refine x_pc (pc' := 158) rfl ?_
                refine x_upL (pc' := 161) (lo' := [(7, .int (y82 + (1 : Int32))), (5, .ref b68), (8, .int (v76 + ((v3 + (v3 >>> ((1 : Int32) &&& 31))) - v3)))]) (fun _ _ _ _ _ L => lv_iinc (v := y82 + (1 : Int32)) hx hb dJ11_grow_158 L (k := 0) rfl rfl (by decide) rfl) ?_
                refine x_up (pc' := 145) (fun _ _ _ _ _ L => lv_goto (tgt := 145) hx hb dJ11_grow_161 (by decide)) ?_
                refine x_lo (lo' := [(7, .int (y82 + (1 : Int32))), (5, .ref b68), (8, .int (v76 + ((v3 + (v3 >>> ((1 : Int32) &&& 31))) - v3)))]) [0, 1, 2] rfl ?_
                exact hself80 (y82 + (1 : Int32)) σ83 hp85
          · have hp86 := hp68.2 c83
            exact x_vret X hr dJ11_grow_164 hp86
      · have hp87 := hp46.2 c38
        refine x_up (pc' := 42) (fun _ _ _ _ _ L => lv_aload_n hx hb dJ11_grow_41 rfl (lv_at L 3 rfl)) ?_
        refine x_up (pc' := 43) (fun _ _ _ _ _ L => lv_iload_n hx hb dJ11_grow_42 rfl (lv_at L 4 rfl)) ?_
        refine x_up (pc' := 45) (fun _ _ _ _ _ L => lv_iload hx hb dJ11_grow_43 (lv_at L 1 rfl)) ?_
        refine x_callV (em := emI) (fun r st => .int r :: st) (fun _ _ => rfl) 2 X (kJ11 hG) (fun σ' KK h => R_J11_newCapacity l hl G hG a0 x1 (v3 >>> ((1 : Int32) &&& 31)) σ' KK h) (lw_V q2003 q2005 qs24 q114 q2006) ⟨rfl, mdJ11_newCapacity⟩ ⟨Nat.le_of_ble_eq_true rfl, Nat.le_of_ble_eq_true rfl⟩ rfl rfl (Nat.le_of_ble_eq_true rfl) dJ11_grow_45 hp87.1 hp87.2 (fun v84 σ85 hp88 => ?_)
        refine x_pc (pc' := 48) rfl ?_
        refine x_upL (pc' := 49) (lo' := [(3, .int v84), (4, .int (v3 >>> ((1 : Int32) &&& 31))), (2, .int v3), (0, .ref a0), (1, .int x1)]) (fun _ _ _ _ _ L => lv_istore_n hx hb dJ11_grow_48 rfl L (by decide) rfl) ?_
        refine x_up (pc' := 50) (fun _ _ _ _ _ L => lv_aload_n hx hb dJ11_grow_49 rfl (lv_at L 3 rfl)) ?_
        refine x_up (pc' := 51) (fun _ _ _ _ _ L => lv_aload_n hx hb dJ11_grow_50 rfl (lv_at L 3 rfl)) ?_
        refine x_gq X (kJ11 hG) 0 (by decide) q543 (fun _ h => h) dJ11_grow_51 hp88 (fun v86 hp89 => ?_)
        refine x_pc (pc' := 54) rfl ?_
        refine x_up (pc' := 55) (fun _ _ _ _ _ L => lv_iload_n hx hb dJ11_grow_54 rfl (lv_at L 0 rfl)) ?_
        refine x_callS (em := emQ) (fun r st => va_rf r :: st) (fun _ _ => rfl) 2 X (fun σ' KK h => R_J9_copyOf l hl G hG v86 v84 σ' KK h) (lw_S q2024 q365 q111 q366) mdJ9_copyOf ⟨Nat.le_of_ble_eq_true rfl, Nat.le_of_ble_eq_true rfl⟩ rfl rfl (Nat.le_of_ble_eq_true rfl) dJ11_grow_55 hp89 (fun v87 σ88 hp90 => ?_)
        refine x_pc (pc' := 58) rfl ?_
        refine x_up (pc' := 59) (fun _ _ _ _ _ L => lv_dup_x1 hx hb dJ11_grow_58 (x_catq _) rfl) ?_
        refine x_pq X (kJ11 hG) 0 (by decide) q543 (fun _ h => h) rfl v87 (x_nar _ (by decide)) (x_fit _ (by decide)) dJ11_grow_59 hp90 (fun σ89 hp91 => ?_)
        refine x_pc (pc' := 62) rfl ?_
        refine x_upL (pc' := 64) (lo' := [(5, va_rf v87), (3, .int v84), (4, .int (v3 >>> ((1 : Int32) &&& 31))), (2, .int v3), (0, .ref a0), (1, .int x1)]) (fun _ _ _ _ _ L => lv_astoreq hx hb dJ11_grow_62 L (by decide) rfl) ?_
        refine x_up (pc' := 65) (fun _ _ _ _ _ L => lv_aload_n hx hb dJ11_grow_64 rfl (lv_at L 4 rfl)) ?_
        refine x_gi X (kJ11 hG) 2 (by decide) q547 (fun _ h => h) dJ11_grow_65 hp91 (fun v90 hp92 => ?_)
        refine x_pc (pc' := 68) rfl ?_
        refine x_up (pc' := 69) (fun _ _ _ _ _ L => lv_aload_n hx hb dJ11_grow_68 rfl (lv_at L 4 rfl)) ?_
        refine x_gi X (kJ11 hG) 1 (by decide) q546 (fun _ h => h) dJ11_grow_69 hp92 (fun v91 hp93 => ?_)
        refine x_pc (pc' := 72) rfl ?_
        refine x_if (C := v90 < v91) (pt := 96) (pc' := 75) (fun _ _ _ _ _ => lv_icmp_lt (tgt := 96) hx hb dJ11_grow_72 (by decide)) (fun c72 => ?_) (fun c72 => ?_)
        · have hp94 := hp93.1 c72
          refine x_up (pc' := 97) (fun _ _ _ _ _ L => lv_iload_n hx hb dJ11_grow_96 rfl (lv_at L 1 rfl)) ?_
          refine x_up (pc' := 98) (fun _ _ _ _ _ L => lv_iload_n hx hb dJ11_grow_97 rfl (lv_at L 3 rfl)) ?_
          refine x_up (pc' := 99) (fun _ _ _ _ _ L => lv_isub hx hb dJ11_grow_98) ?_
          refine x_st (pc' := 101) ([(6, .int (v84 - v3)), (5, va_rf v87), (3, .int v84), (4, .int (v3 >>> ((1 : Int32) &&& 31))), (2, .int v3), (0, .ref a0), (1, .int x1)]) rfl (by simp [x_catq, x_cati, x_catr, x_catn]) (fun _ _ _ _ _ L => lv_istore hx hb dJ11_grow_99 L (by decide) rfl) ?_
          refine x_up (pc' := 103) (fun _ _ _ _ _ L => lv_aloadq hx hb dJ11_grow_101 (lv_at L 1 rfl)) ?_
          refine x_up (pc' := 104) (fun _ _ _ _ _ L => lv_aload_n hx hb dJ11_grow_103 rfl (lv_at L 5 rfl)) ?_
          refine x_gi X (kJ11 hG) 1 (by decide) q546 (fun _ h => h) dJ11_grow_104 hp94 (fun v92 hp95 => ?_)
          refine x_pc (pc' := 107) rfl ?_
          refine x_up (pc' := 109) (fun _ _ _ _ _ L => lv_aloadq hx hb dJ11_grow_107 (lv_at L 1 rfl)) ?_
          refine x_up (pc' := 110) (fun _ _ _ _ _ L => lv_aload_n hx hb dJ11_grow_109 rfl (lv_at L 5 rfl)) ?_
          refine x_gi X (kJ11 hG) 1 (by decide) q546 (fun _ h => h) dJ11_grow_110 hp95 (fun v93 hp96 => ?_)
          refine x_pc (pc' := 113) rfl ?_
          refine x_up (pc' := 115) (fun _ _ _ _ _ L => lv_iload hx hb dJ11_grow_113 (lv_at L 0 rfl)) ?_
          refine x_up (pc' := 116) (fun _ _ _ _ _ L => lv_iadd hx hb dJ11_grow_115) ?_
          refine x_up (pc' := 117) (fun _ _ _ _ _ L => lv_iload_n hx hb dJ11_grow_116 rfl (lv_at L 4 rfl)) ?_
          refine x_up (pc' := 118) (fun _ _ _ _ _ L => lv_aload_n hx hb dJ11_grow_117 rfl (lv_at L 5 rfl)) ?_
          refine x_gi X (kJ11 hG) 1 (by decide) q546 (fun _ h => h) dJ11_grow_118 hp96 (fun v94 hp97 => ?_)
          refine x_pc (pc' := 121) rfl ?_
          refine x_up (pc' := 122) (fun _ _ _ _ _ L => lv_isub hx hb dJ11_grow_121) ?_
          obtain ⟨b95, rfl, hp98⟩ := hp97
          refine x_cpq X hG q1846 q424 q423 q112 (Nat.le_of_ble_eq_true rfl) ⟨Nat.le_of_ble_eq_true rfl, Nat.le_of_ble_eq_true rfl⟩ dJ11_grow_122 hp98 (fun σ96 hp99 => ?_)
          refine x_pc (pc' := 125) rfl ?_
          refine x_up (pc' := 126) (fun _ _ _ _ _ L => lv_aload_n hx hb dJ11_grow_125 rfl (lv_at L 5 rfl)) ?_
          refine x_gi X (kJ11 hG) 1 (by decide) q546 (fun _ h => h) dJ11_grow_126 hp99 (fun v97 hp100 => ?_)
          refine x_pc (pc' := 129) rfl ?_
          refine x_upL (pc' := 131) (lo' := [(7, .int v97), (6, .int (v84 - v3)), (5, .ref b95), (3, .int v84), (4, .int (v3 >>> ((1 : Int32) &&& 31))), (2, .int v3), (0, .ref a0), (1, .int x1)]) (fun _ _ _ _ _ L => lv_istore hx hb dJ11_grow_129 L (by decide) rfl) ?_
          refine x_up (pc' := 132) (fun _ _ _ _ _ L => lv_aload_n hx hb dJ11_grow_131 rfl (lv_at L 6 rfl)) ?_
          refine x_up (pc' := 133) (fun _ _ _ _ _ L => lv_dup hx hb dJ11_grow_132 rfl) ?_
          refine x_gi X (kJ11 hG) 1 (by decide) q546 (fun _ h => h) dJ11_grow_133 hp100 (fun v98 hp101 => ?_)
          refine x_pc (pc' := 136) rfl ?_
          refine x_up (pc' := 138) (fun _ _ _ _ _ L => lv_iload hx hb dJ11_grow_136 (lv_at L 1 rfl)) ?_
          refine x_up (pc' := 139) (fun _ _ _ _ _ L => lv_iadd hx hb dJ11_grow_138) ?_
          refine x_up (pc' := 140) (fun _ _ _ _ _ L => lv_dup_x1 hx hb dJ11_grow_139 rfl rfl) ?_
          refine x_pi X (kJ11 hG) 1 (by decide) q546 (fun _ h => h) rfl rfl rfl dJ11_grow_140 hp101 (fun σ99 hp102 => ?_)
          refine x_pc (pc' := 143) rfl ?_
          refine x_upL (pc' := 145) (lo' := [(8, .int (v98 + (v84 - v3))), (7, .int v97), (6, .int (v84 - v3)), (5, .ref b95), (3, .int v84), (4, .int (v3 >>> ((1 : Int32) &&& 31))), (2, .int v3), (0, .ref a0), (1, .int x1)]) (fun _ _ _ _ _ L => lv_istore hx hb dJ11_grow_143 L (by decide) rfl) ?_
          refine x_lo (lo' := [(7, .int v97), (5, .ref b95), (8, .int (v98 + (v84 - v3)))]) [1, 3, 0] rfl ?_
          refine x_while (v0 := v97) (fun w100 => [(7, .int w100), (5, .ref b95), (8, .int (v98 + (v84 - v3)))]) hp102 (fun self101 hself102 => ?_)
          rintro y104 σ103 hp103
          unfold B_J11_grow_145 at hp103
          refine x_same (lo' := [(7, .int y104), (5, .ref b95), (8, .int (v98 + (v84 - v3)))]) rfl ?_
          refine x_up (pc' := 147) (fun _ _ _ _ _ L => lv_iload hx hb dJ11_grow_145 (lv_at L 0 rfl)) ?_
          refine x_up (pc' := 149) (fun _ _ _ _ _ L => lv_iload hx hb dJ11_grow_147 (lv_at L 2 rfl)) ?_
          refine x_if (C := (v98 + (v84 - v3)) ≤ y104) (pt := 164) (pc' := 152) (fun _ _ _ _ _ => lv_icmp_ge (tgt := 164) hx hb dJ11_grow_149 (by decide)) (fun c149 => ?_) (fun c149 => ?_)
          · have hp104 := hp103.1 c149
            exact x_vret X hr dJ11_grow_164 hp104
          · have hp105 := hp103.2 c149
            refine x_up (pc' := 154) (fun _ _ _ _ _ L => lv_aload hx hb dJ11_grow_152 (lv_at L 1 rfl)) ?_
            refine x_up (pc' := 156) (fun _ _ _ _ _ L => lv_iload hx hb dJ11_grow_154 (lv_at L 0 rfl)) ?_
            refine x_up (pc' := 157) (fun _ _ _ _ _ L => lv_null hx hb dJ11_grow_156) ?_
            refine x_aast X hG none dJ11_grow_157 hp105 (fun σ105 hp106 => ?_)
            refine x_pc (pc' := 158) rfl ?_
            refine x_upL (pc' := 161) (lo' := [(7, .int (y104 + (1 : Int32))), (5, .ref b95), (8, .int (v98 + (v84 - v3)))]) (fun _ _ _ _ _ L => lv_iinc (v := y104 + (1 : Int32)) hx hb dJ11_grow_158 L (k := 0) rfl rfl (by decide) rfl) ?_
            refine x_up (pc' := 145) (fun _ _ _ _ _ L => lv_goto (tgt := 145) hx hb dJ11_grow_161 (by decide)) ?_
            refine x_lo (lo' := [(7, .int (y104 + (1 : Int32))), (5, .ref b95), (8, .int (v98 + (v84 - v3)))]) [0, 1, 2] rfl ?_
            exact hself102 (y104 + (1 : Int32)) σ105 hp106
        · have hp107 := hp93.2 c72
          refine x_up (pc' := 76) (fun _ _ _ _ _ L => lv_aload_n hx hb dJ11_grow_75 rfl (lv_at L 4 rfl)) ?_
          refine x_gi X (kJ11 hG) 2 (by decide) q547 (fun _ h => h) dJ11_grow_76 hp107 (fun v106 hp108 => ?_)
          refine x_pc (pc' := 79) rfl ?_
          refine x_up (pc' := 80) (fun _ _ _ _ _ L => lv_aload_n hx hb dJ11_grow_79 rfl (lv_at L 4 rfl)) ?_
          refine x_gi X (kJ11 hG) 1 (by decide) q546 (fun _ h => h) dJ11_grow_80 hp108 (fun v107 hp109 => ?_)
          refine x_pc (pc' := 83) rfl ?_
          refine x_ifn (C := v106 = v107) (pt := 164) (pc' := 86) (fun _ _ _ _ _ => lv_icmp_ne (tgt := 164) hx hb dJ11_grow_83 (by decide)) (fun c83 => ?_) (fun c83 => ?_)
          · have hp110 := hp109.1 c83
            refine x_up (pc' := 88) (fun _ _ _ _ _ L => lv_aloadq hx hb dJ11_grow_86 (lv_at L 0 rfl)) ?_
            refine x_up (pc' := 89) (fun _ _ _ _ _ L => lv_aload_n hx hb dJ11_grow_88 rfl (lv_at L 4 rfl)) ?_
            refine x_gi X (kJ11 hG) 1 (by decide) q546 (fun _ h => h) dJ11_grow_89 hp110 (fun v108 hp111 => ?_)
            refine x_pc (pc' := 92) rfl ?_
            obtain ⟨b109, rfl, hp112⟩ := hp111
            refine x_aald X dJ11_grow_92 hp112 (fun v110 hp113 => ?_)
            refine x_pc (pc' := 93) rfl ?_
            rcases v110 with _ | b111
            · have hp114 := hp113.1 rfl
              refine x_up (pc' := 164) (fun _ _ _ _ _ L => lv_ifnullN (tgt := 164) hx hb dJ11_grow_93 (by decide)) ?_
              exact x_vret X hr dJ11_grow_164 hp114
            · have hp115 := hp113.2 _ rfl
              refine x_up (pc' := 96) (fun _ _ _ _ _ L => lv_ifnull hx hb dJ11_grow_93) ?_
              refine x_up (pc' := 97) (fun _ _ _ _ _ L => lv_iload_n hx hb dJ11_grow_96 rfl (lv_at L 1 rfl)) ?_
              refine x_up (pc' := 98) (fun _ _ _ _ _ L => lv_iload_n hx hb dJ11_grow_97 rfl (lv_at L 3 rfl)) ?_
              refine x_up (pc' := 99) (fun _ _ _ _ _ L => lv_isub hx hb dJ11_grow_98) ?_
              refine x_upL (pc' := 101) (lo' := [(6, .int (v84 - v3)), (5, .ref b109), (3, .int v84), (4, .int (v3 >>> ((1 : Int32) &&& 31))), (2, .int v3), (0, .ref a0), (1, .int x1)]) (fun _ _ _ _ _ L => lv_istore hx hb dJ11_grow_99 L (by decide) rfl) ?_
              refine x_up (pc' := 103) (fun _ _ _ _ _ L => lv_aload hx hb dJ11_grow_101 (lv_at L 1 rfl)) ?_
              refine x_up (pc' := 104) (fun _ _ _ _ _ L => lv_aload_n hx hb dJ11_grow_103 rfl (lv_at L 5 rfl)) ?_
              refine x_gi X (kJ11 hG) 1 (by decide) q546 (fun _ h => h) dJ11_grow_104 hp115 (fun v112 hp116 => ?_)
              refine x_pc (pc' := 107) rfl ?_
              refine x_up (pc' := 109) (fun _ _ _ _ _ L => lv_aload hx hb dJ11_grow_107 (lv_at L 1 rfl)) ?_
              refine x_up (pc' := 110) (fun _ _ _ _ _ L => lv_aload_n hx hb dJ11_grow_109 rfl (lv_at L 5 rfl)) ?_
              refine x_gi X (kJ11 hG) 1 (by decide) q546 (fun _ h => h) dJ11_grow_110 hp116 (fun v113 hp117 => ?_)
              refine x_pc (pc' := 113) rfl ?_
              refine x_up (pc' := 115) (fun _ _ _ _ _ L => lv_iload hx hb dJ11_grow_113 (lv_at L 0 rfl)) ?_
              refine x_up (pc' := 116) (fun _ _ _ _ _ L => lv_iadd hx hb dJ11_grow_115) ?_
              refine x_up (pc' := 117) (fun _ _ _ _ _ L => lv_iload_n hx hb dJ11_grow_116 rfl (lv_at L 4 rfl)) ?_
              refine x_up (pc' := 118) (fun _ _ _ _ _ L => lv_aload_n hx hb dJ11_grow_117 rfl (lv_at L 5 rfl)) ?_
              refine x_gi X (kJ11 hG) 1 (by decide) q546 (fun _ h => h) dJ11_grow_118 hp117 (fun v114 hp118 => ?_)
              refine x_pc (pc' := 121) rfl ?_
              refine x_up (pc' := 122) (fun _ _ _ _ _ L => lv_isub hx hb dJ11_grow_121) ?_
              refine x_cpq X hG q1846 q424 q423 q112 (Nat.le_of_ble_eq_true rfl) ⟨Nat.le_of_ble_eq_true rfl, Nat.le_of_ble_eq_true rfl⟩ dJ11_grow_122 hp118 (fun σ115 hp119 => ?_)
              refine x_pc (pc' := 125) rfl ?_
              refine x_up (pc' := 126) (fun _ _ _ _ _ L => lv_aload_n hx hb dJ11_grow_125 rfl (lv_at L 5 rfl)) ?_
              refine x_gi X (kJ11 hG) 1 (by decide) q546 (fun _ h => h) dJ11_grow_126 hp119 (fun v116 hp120 => ?_)
              refine x_pc (pc' := 129) rfl ?_
              refine x_upL (pc' := 131) (lo' := [(7, .int v116), (6, .int (v84 - v3)), (5, .ref b109), (3, .int v84), (4, .int (v3 >>> ((1 : Int32) &&& 31))), (2, .int v3), (0, .ref a0), (1, .int x1)]) (fun _ _ _ _ _ L => lv_istore hx hb dJ11_grow_129 L (by decide) rfl) ?_
              refine x_up (pc' := 132) (fun _ _ _ _ _ L => lv_aload_n hx hb dJ11_grow_131 rfl (lv_at L 6 rfl)) ?_
              refine x_up (pc' := 133) (fun _ _ _ _ _ L => lv_dup hx hb dJ11_grow_132 rfl) ?_
              refine x_gi X (kJ11 hG) 1 (by decide) q546 (fun _ h => h) dJ11_grow_133 hp120 (fun v117 hp121 => ?_)
              refine x_pc (pc' := 136) rfl ?_
              refine x_up (pc' := 138) (fun _ _ _ _ _ L => lv_iload hx hb dJ11_grow_136 (lv_at L 1 rfl)) ?_
              refine x_up (pc' := 139) (fun _ _ _ _ _ L => lv_iadd hx hb dJ11_grow_138) ?_
              refine x_up (pc' := 140) (fun _ _ _ _ _ L => lv_dup_x1 hx hb dJ11_grow_139 rfl rfl) ?_
              refine x_pi X (kJ11 hG) 1 (by decide) q546 (fun _ h => h) rfl rfl rfl dJ11_grow_140 hp121 (fun σ118 hp122 => ?_)
              refine x_pc (pc' := 143) rfl ?_
              refine x_upL (pc' := 145) (lo' := [(8, .int (v117 + (v84 - v3))), (7, .int v116), (6, .int (v84 - v3)), (5, .ref b109), (3, .int v84), (4, .int (v3 >>> ((1 : Int32) &&& 31))), (2, .int v3), (0, .ref a0), (1, .int x1)]) (fun _ _ _ _ _ L => lv_istore hx hb dJ11_grow_143 L (by decide) rfl) ?_
              refine x_lo (lo' := [(7, .int v116), (5, .ref b109), (8, .int (v117 + (v84 - v3)))]) [1, 3, 0] rfl ?_
              refine x_while (v0 := v116) (fun w119 => [(7, .int w119), (5, .ref b109), (8, .int (v117 + (v84 - v3)))]) hp122 (fun self120 hself121 => ?_)
              rintro y123 σ122 hp123
              unfold B_J11_grow_145 at hp123
              refine x_same (lo' := [(7, .int y123), (5, .ref b109), (8, .int (v117 + (v84 - v3)))]) rfl ?_
              refine x_up (pc' := 147) (fun _ _ _ _ _ L => lv_iload hx hb dJ11_grow_145 (lv_at L 0 rfl)) ?_
              refine x_up (pc' := 149) (fun _ _ _ _ _ L => lv_iload hx hb dJ11_grow_147 (lv_at L 2 rfl)) ?_
              refine x_if (C := (v117 + (v84 - v3)) ≤ y123) (pt := 164) (pc' := 152) (fun _ _ _ _ _ => lv_icmp_ge (tgt := 164) hx hb dJ11_grow_149 (by decide)) (fun c149 => ?_) (fun c149 => ?_)
              · have hp124 := hp123.1 c149
                exact x_vret X hr dJ11_grow_164 hp124
              · have hp125 := hp123.2 c149
                refine x_up (pc' := 154) (fun _ _ _ _ _ L => lv_aload hx hb dJ11_grow_152 (lv_at L 1 rfl)) ?_
                refine x_up (pc' := 156) (fun _ _ _ _ _ L => lv_iload hx hb dJ11_grow_154 (lv_at L 0 rfl)) ?_
                refine x_up (pc' := 157) (fun _ _ _ _ _ L => lv_null hx hb dJ11_grow_156) ?_
                refine x_aast X hG none dJ11_grow_157 hp125 (fun σ124 hp126 => ?_)
                refine x_pc (pc' := 158) rfl ?_
                refine x_upL (pc' := 161) (lo' := [(7, .int (y123 + (1 : Int32))), (5, .ref b109), (8, .int (v117 + (v84 - v3)))]) (fun _ _ _ _ _ L => lv_iinc (v := y123 + (1 : Int32)) hx hb dJ11_grow_158 L (k := 0) rfl rfl (by decide) rfl) ?_
                refine x_up (pc' := 145) (fun _ _ _ _ _ L => lv_goto (tgt := 145) hx hb dJ11_grow_161 (by decide)) ?_
                refine x_lo (lo' := [(7, .int (y123 + (1 : Int32))), (5, .ref b109), (8, .int (v117 + (v84 - v3)))]) [0, 1, 2] rfl ?_
                exact hself121 (y123 + (1 : Int32)) σ124 hp126
          · have hp127 := hp109.2 c83
            exact x_vret X hr dJ11_grow_164 hp127
  · have hp128 := hp3.2 c9
    refine x_up (pc' := 13) (fun _ _ _ _ _ L => lv_iload_n hx hb dJ11_grow_12 rfl (lv_at L 0 rfl)) ?_
    refine x_up (pc' := 14) (fun _ _ _ _ _ L => lv_iconst (v := (2 : Int32)) hx hb dJ11_grow_13 (by decide)) ?_
    refine x_up (pc' := 15) (fun _ _ _ _ _ L => lv_iadd hx hb dJ11_grow_14) ?_
    refine x_up (pc' := 21) (fun _ _ _ _ _ L => lv_goto (tgt := 21) hx hb dJ11_grow_15 (by decide)) ?_
    refine x_upL (pc' := 23) (lo' := [(4, .int (v3 + (2 : Int32))), (2, .int v3), (0, .ref a0), (1, .int x1)]) (fun _ _ _ _ _ L => lv_istore hx hb dJ11_grow_21 L (by decide) rfl) ?_
    refine x_up (pc' := 25) (fun _ _ _ _ _ L => lv_iload hx hb dJ11_grow_23 (lv_at L 0 rfl)) ?_
    refine x_up (pc' := 26) (fun _ _ _ _ _ L => lv_iload_n hx hb dJ11_grow_25 rfl (lv_at L 3 rfl)) ?_
    refine x_if (C := (v3 + (2 : Int32)) < x1) (pt := 41) (pc' := 29) (fun _ _ _ _ _ => lv_icmp_lt (tgt := 41) hx hb dJ11_grow_26 (by decide)) (fun c26 => ?_) (fun c26 => ?_)
    · have hp129 := hp128.1 c26
      refine x_up (pc' := 42) (fun _ _ _ _ _ L => lv_aload_n hx hb dJ11_grow_41 rfl (lv_at L 2 rfl)) ?_
      refine x_up (pc' := 43) (fun _ _ _ _ _ L => lv_iload_n hx hb dJ11_grow_42 rfl (lv_at L 3 rfl)) ?_
      refine x_up (pc' := 45) (fun _ _ _ _ _ L => lv_iload hx hb dJ11_grow_43 (lv_at L 0 rfl)) ?_
      refine x_callV (em := emI) (fun r st => .int r :: st) (fun _ _ => rfl) 2 X (kJ11 hG) (fun σ' KK h => R_J11_newCapacity l hl G hG a0 x1 (v3 + (2 : Int32)) σ' KK h) (lw_V q2003 q2005 qs24 q114 q2006) ⟨rfl, mdJ11_newCapacity⟩ ⟨Nat.le_of_ble_eq_true rfl, Nat.le_of_ble_eq_true rfl⟩ rfl rfl (Nat.le_of_ble_eq_true rfl) dJ11_grow_45 hp129.1 hp129.2 (fun v125 σ126 hp130 => ?_)
      refine x_pc (pc' := 48) rfl ?_
      refine x_upL (pc' := 49) (lo' := [(3, .int v125), (4, .int (v3 + (2 : Int32))), (2, .int v3), (0, .ref a0), (1, .int x1)]) (fun _ _ _ _ _ L => lv_istore_n hx hb dJ11_grow_48 rfl L (by decide) rfl) ?_
      refine x_up (pc' := 50) (fun _ _ _ _ _ L => lv_aload_n hx hb dJ11_grow_49 rfl (lv_at L 3 rfl)) ?_
      refine x_up (pc' := 51) (fun _ _ _ _ _ L => lv_aload_n hx hb dJ11_grow_50 rfl (lv_at L 3 rfl)) ?_
      refine x_gq X (kJ11 hG) 0 (by decide) q543 (fun _ h => h) dJ11_grow_51 hp130 (fun v127 hp131 => ?_)
      refine x_pc (pc' := 54) rfl ?_
      refine x_up (pc' := 55) (fun _ _ _ _ _ L => lv_iload_n hx hb dJ11_grow_54 rfl (lv_at L 0 rfl)) ?_
      refine x_callS (em := emQ) (fun r st => va_rf r :: st) (fun _ _ => rfl) 2 X (fun σ' KK h => R_J9_copyOf l hl G hG v127 v125 σ' KK h) (lw_S q2024 q365 q111 q366) mdJ9_copyOf ⟨Nat.le_of_ble_eq_true rfl, Nat.le_of_ble_eq_true rfl⟩ rfl rfl (Nat.le_of_ble_eq_true rfl) dJ11_grow_55 hp131 (fun v128 σ129 hp132 => ?_)
      refine x_pc (pc' := 58) rfl ?_
      refine x_up (pc' := 59) (fun _ _ _ _ _ L => lv_dup_x1 hx hb dJ11_grow_58 (x_catq _) rfl) ?_
      refine x_pq X (kJ11 hG) 0 (by decide) q543 (fun _ h => h) rfl v128 (x_nar _ (by decide)) (x_fit _ (by decide)) dJ11_grow_59 hp132 (fun σ130 hp133 => ?_)
      refine x_pc (pc' := 62) rfl ?_
      refine x_upL (pc' := 64) (lo' := [(5, va_rf v128), (3, .int v125), (4, .int (v3 + (2 : Int32))), (2, .int v3), (0, .ref a0), (1, .int x1)]) (fun _ _ _ _ _ L => lv_astoreq hx hb dJ11_grow_62 L (by decide) rfl) ?_
      refine x_up (pc' := 65) (fun _ _ _ _ _ L => lv_aload_n hx hb dJ11_grow_64 rfl (lv_at L 4 rfl)) ?_
      refine x_gi X (kJ11 hG) 2 (by decide) q547 (fun _ h => h) dJ11_grow_65 hp133 (fun v131 hp134 => ?_)
      refine x_pc (pc' := 68) rfl ?_
      refine x_up (pc' := 69) (fun _ _ _ _ _ L => lv_aload_n hx hb dJ11_grow_68 rfl (lv_at L 4 rfl)) ?_
      refine x_gi X (kJ11 hG) 1 (by decide) q546 (fun _ h => h) dJ11_grow_69 hp134 (fun v132 hp135 => ?_)
      refine x_pc (pc' := 72) rfl ?_
      refine x_if (C := v131 < v132) (pt := 96) (pc' := 75) (fun _ _ _ _ _ => lv_icmp_lt (tgt := 96) hx hb dJ11_grow_72 (by decide)) (fun c72 => ?_) (fun c72 => ?_)
      · have hp136 := hp135.1 c72
        refine x_up (pc' := 97) (fun _ _ _ _ _ L => lv_iload_n hx hb dJ11_grow_96 rfl (lv_at L 1 rfl)) ?_
        refine x_up (pc' := 98) (fun _ _ _ _ _ L => lv_iload_n hx hb dJ11_grow_97 rfl (lv_at L 3 rfl)) ?_
        refine x_up (pc' := 99) (fun _ _ _ _ _ L => lv_isub hx hb dJ11_grow_98) ?_
        refine x_st (pc' := 101) ([(6, .int (v125 - v3)), (5, va_rf v128), (3, .int v125), (4, .int (v3 + (2 : Int32))), (2, .int v3), (0, .ref a0), (1, .int x1)]) rfl (by simp [x_catq, x_cati, x_catr, x_catn]) (fun _ _ _ _ _ L => lv_istore hx hb dJ11_grow_99 L (by decide) rfl) ?_
        refine x_up (pc' := 103) (fun _ _ _ _ _ L => lv_aloadq hx hb dJ11_grow_101 (lv_at L 1 rfl)) ?_
        refine x_up (pc' := 104) (fun _ _ _ _ _ L => lv_aload_n hx hb dJ11_grow_103 rfl (lv_at L 5 rfl)) ?_
        refine x_gi X (kJ11 hG) 1 (by decide) q546 (fun _ h => h) dJ11_grow_104 hp136 (fun v133 hp137 => ?_)
        refine x_pc (pc' := 107) rfl ?_
        refine x_up (pc' := 109) (fun _ _ _ _ _ L => lv_aloadq hx hb dJ11_grow_107 (lv_at L 1 rfl)) ?_
        refine x_up (pc' := 110) (fun _ _ _ _ _ L => lv_aload_n hx hb dJ11_grow_109 rfl (lv_at L 5 rfl)) ?_
        refine x_gi X (kJ11 hG) 1 (by decide) q546 (fun _ h => h) dJ11_grow_110 hp137 (fun v134 hp138 => ?_)
        refine x_pc (pc' := 113) rfl ?_
        refine x_up (pc' := 115) (fun _ _ _ _ _ L => lv_iload hx hb dJ11_grow_113 (lv_at L 0 rfl)) ?_
        refine x_up (pc' := 116) (fun _ _ _ _ _ L => lv_iadd hx hb dJ11_grow_115) ?_
        refine x_up (pc' := 117) (fun _ _ _ _ _ L => lv_iload_n hx hb dJ11_grow_116 rfl (lv_at L 4 rfl)) ?_
        refine x_up (pc' := 118) (fun _ _ _ _ _ L => lv_aload_n hx hb dJ11_grow_117 rfl (lv_at L 5 rfl)) ?_
        refine x_gi X (kJ11 hG) 1 (by decide) q546 (fun _ h => h) dJ11_grow_118 hp138 (fun v135 hp139 => ?_)
        refine x_pc (pc' := 121) rfl ?_
        refine x_up (pc' := 122) (fun _ _ _ _ _ L => lv_isub hx hb dJ11_grow_121) ?_
        obtain ⟨b136, rfl, hp140⟩ := hp139
        refine x_cpq X hG q1846 q424 q423 q112 (Nat.le_of_ble_eq_true rfl) ⟨Nat.le_of_ble_eq_true rfl, Nat.le_of_ble_eq_true rfl⟩ dJ11_grow_122 hp140 (fun σ137 hp141 => ?_)
        refine x_pc (pc' := 125) rfl ?_
        refine x_up (pc' := 126) (fun _ _ _ _ _ L => lv_aload_n hx hb dJ11_grow_125 rfl (lv_at L 5 rfl)) ?_
        refine x_gi X (kJ11 hG) 1 (by decide) q546 (fun _ h => h) dJ11_grow_126 hp141 (fun v138 hp142 => ?_)
        refine x_pc (pc' := 129) rfl ?_
        refine x_upL (pc' := 131) (lo' := [(7, .int v138), (6, .int (v125 - v3)), (5, .ref b136), (3, .int v125), (4, .int (v3 + (2 : Int32))), (2, .int v3), (0, .ref a0), (1, .int x1)]) (fun _ _ _ _ _ L => lv_istore hx hb dJ11_grow_129 L (by decide) rfl) ?_
        refine x_up (pc' := 132) (fun _ _ _ _ _ L => lv_aload_n hx hb dJ11_grow_131 rfl (lv_at L 6 rfl)) ?_
        refine x_up (pc' := 133) (fun _ _ _ _ _ L => lv_dup hx hb dJ11_grow_132 rfl) ?_
        refine x_gi X (kJ11 hG) 1 (by decide) q546 (fun _ h => h) dJ11_grow_133 hp142 (fun v139 hp143 => ?_)
        refine x_pc (pc' := 136) rfl ?_
        refine x_up (pc' := 138) (fun _ _ _ _ _ L => lv_iload hx hb dJ11_grow_136 (lv_at L 1 rfl)) ?_
        refine x_up (pc' := 139) (fun _ _ _ _ _ L => lv_iadd hx hb dJ11_grow_138) ?_
        refine x_up (pc' := 140) (fun _ _ _ _ _ L => lv_dup_x1 hx hb dJ11_grow_139 rfl rfl) ?_
        refine x_pi X (kJ11 hG) 1 (by decide) q546 (fun _ h => h) rfl rfl rfl dJ11_grow_140 hp143 (fun σ140 hp144 => ?_)
        refine x_pc (pc' := 143) rfl ?_
        refine x_upL (pc' := 145) (lo' := [(8, .int (v139 + (v125 - v3))), (7, .int v138), (6, .int (v125 - v3)), (5, .ref b136), (3, .int v125), (4, .int (v3 + (2 : Int32))), (2, .int v3), (0, .ref a0), (1, .int x1)]) (fun _ _ _ _ _ L => lv_istore hx hb dJ11_grow_143 L (by decide) rfl) ?_
        refine x_lo (lo' := [(7, .int v138), (5, .ref b136), (8, .int (v139 + (v125 - v3)))]) [1, 3, 0] rfl ?_
        refine x_while (v0 := v138) (fun w141 => [(7, .int w141), (5, .ref b136), (8, .int (v139 + (v125 - v3)))]) hp144 (fun self142 hself143 => ?_)
        rintro y145 σ144 hp145
        unfold B_J11_grow_145 at hp145
        refine x_same (lo' := [(7, .int y145), (5, .ref b136), (8, .int (v139 + (v125 - v3)))]) rfl ?_
        refine x_up (pc' := 147) (fun _ _ _ _ _ L => lv_iload hx hb dJ11_grow_145 (lv_at L 0 rfl)) ?_
        refine x_up (pc' := 149) (fun _ _ _ _ _ L => lv_iload hx hb dJ11_grow_147 (lv_at L 2 rfl)) ?_
        refine x_if (C := (v139 + (v125 - v3)) ≤ y145) (pt := 164) (pc' := 152) (fun _ _ _ _ _ => lv_icmp_ge (tgt := 164) hx hb dJ11_grow_149 (by decide)) (fun c149 => ?_) (fun c149 => ?_)
        · have hp146 := hp145.1 c149
          exact x_vret X hr dJ11_grow_164 hp146
        · have hp147 := hp145.2 c149
          refine x_up (pc' := 154) (fun _ _ _ _ _ L => lv_aload hx hb dJ11_grow_152 (lv_at L 1 rfl)) ?_
          refine x_up (pc' := 156) (fun _ _ _ _ _ L => lv_iload hx hb dJ11_grow_154 (lv_at L 0 rfl)) ?_
          refine x_up (pc' := 157) (fun _ _ _ _ _ L => lv_null hx hb dJ11_grow_156) ?_
          refine x_aast X hG none dJ11_grow_157 hp147 (fun σ146 hp148 => ?_)
          refine x_pc (pc' := 158) rfl ?_
          refine x_upL (pc' := 161) (lo' := [(7, .int (y145 + (1 : Int32))), (5, .ref b136), (8, .int (v139 + (v125 - v3)))]) (fun _ _ _ _ _ L => lv_iinc (v := y145 + (1 : Int32)) hx hb dJ11_grow_158 L (k := 0) rfl rfl (by decide) rfl) ?_
          refine x_up (pc' := 145) (fun _ _ _ _ _ L => lv_goto (tgt := 145) hx hb dJ11_grow_161 (by decide)) ?_
          refine x_lo (lo' := [(7, .int (y145 + (1 : Int32))), (5, .ref b136), (8, .int (v139 + (v125 - v3)))]) [0, 1, 2] rfl ?_
          exact hself143 (y145 + (1 : Int32)) σ146 hp148
      · have hp149 := hp135.2 c72
        refine x_up (pc' := 76) (fun _ _ _ _ _ L => lv_aload_n hx hb dJ11_grow_75 rfl (lv_at L 4 rfl)) ?_
        refine x_gi X (kJ11 hG) 2 (by decide) q547 (fun _ h => h) dJ11_grow_76 hp149 (fun v147 hp150 => ?_)
        refine x_pc (pc' := 79) rfl ?_
        refine x_up (pc' := 80) (fun _ _ _ _ _ L => lv_aload_n hx hb dJ11_grow_79 rfl (lv_at L 4 rfl)) ?_
        refine x_gi X (kJ11 hG) 1 (by decide) q546 (fun _ h => h) dJ11_grow_80 hp150 (fun v148 hp151 => ?_)
        refine x_pc (pc' := 83) rfl ?_
        refine x_ifn (C := v147 = v148) (pt := 164) (pc' := 86) (fun _ _ _ _ _ => lv_icmp_ne (tgt := 164) hx hb dJ11_grow_83 (by decide)) (fun c83 => ?_) (fun c83 => ?_)
        · have hp152 := hp151.1 c83
          refine x_up (pc' := 88) (fun _ _ _ _ _ L => lv_aloadq hx hb dJ11_grow_86 (lv_at L 0 rfl)) ?_
          refine x_up (pc' := 89) (fun _ _ _ _ _ L => lv_aload_n hx hb dJ11_grow_88 rfl (lv_at L 4 rfl)) ?_
          refine x_gi X (kJ11 hG) 1 (by decide) q546 (fun _ h => h) dJ11_grow_89 hp152 (fun v149 hp153 => ?_)
          refine x_pc (pc' := 92) rfl ?_
          obtain ⟨b150, rfl, hp154⟩ := hp153
          refine x_aald X dJ11_grow_92 hp154 (fun v151 hp155 => ?_)
          refine x_pc (pc' := 93) rfl ?_
          rcases v151 with _ | b152
          · have hp156 := hp155.1 rfl
            refine x_up (pc' := 164) (fun _ _ _ _ _ L => lv_ifnullN (tgt := 164) hx hb dJ11_grow_93 (by decide)) ?_
            exact x_vret X hr dJ11_grow_164 hp156
          · have hp157 := hp155.2 _ rfl
            refine x_up (pc' := 96) (fun _ _ _ _ _ L => lv_ifnull hx hb dJ11_grow_93) ?_
            refine x_up (pc' := 97) (fun _ _ _ _ _ L => lv_iload_n hx hb dJ11_grow_96 rfl (lv_at L 1 rfl)) ?_
            refine x_up (pc' := 98) (fun _ _ _ _ _ L => lv_iload_n hx hb dJ11_grow_97 rfl (lv_at L 3 rfl)) ?_
            refine x_up (pc' := 99) (fun _ _ _ _ _ L => lv_isub hx hb dJ11_grow_98) ?_
            refine x_upL (pc' := 101) (lo' := [(6, .int (v125 - v3)), (5, .ref b150), (3, .int v125), (4, .int (v3 + (2 : Int32))), (2, .int v3), (0, .ref a0), (1, .int x1)]) (fun _ _ _ _ _ L => lv_istore hx hb dJ11_grow_99 L (by decide) rfl) ?_
            refine x_up (pc' := 103) (fun _ _ _ _ _ L => lv_aload hx hb dJ11_grow_101 (lv_at L 1 rfl)) ?_
            refine x_up (pc' := 104) (fun _ _ _ _ _ L => lv_aload_n hx hb dJ11_grow_103 rfl (lv_at L 5 rfl)) ?_
            refine x_gi X (kJ11 hG) 1 (by decide) q546 (fun _ h => h) dJ11_grow_104 hp157 (fun v153 hp158 => ?_)
            refine x_pc (pc' := 107) rfl ?_
            refine x_up (pc' := 109) (fun _ _ _ _ _ L => lv_aload hx hb dJ11_grow_107 (lv_at L 1 rfl)) ?_
            refine x_up (pc' := 110) (fun _ _ _ _ _ L => lv_aload_n hx hb dJ11_grow_109 rfl (lv_at L 5 rfl)) ?_
            refine x_gi X (kJ11 hG) 1 (by decide) q546 (fun _ h => h) dJ11_grow_110 hp158 (fun v154 hp159 => ?_)
            refine x_pc (pc' := 113) rfl ?_
            refine x_up (pc' := 115) (fun _ _ _ _ _ L => lv_iload hx hb dJ11_grow_113 (lv_at L 0 rfl)) ?_
            refine x_up (pc' := 116) (fun _ _ _ _ _ L => lv_iadd hx hb dJ11_grow_115) ?_
            refine x_up (pc' := 117) (fun _ _ _ _ _ L => lv_iload_n hx hb dJ11_grow_116 rfl (lv_at L 4 rfl)) ?_
            refine x_up (pc' := 118) (fun _ _ _ _ _ L => lv_aload_n hx hb dJ11_grow_117 rfl (lv_at L 5 rfl)) ?_
            refine x_gi X (kJ11 hG) 1 (by decide) q546 (fun _ h => h) dJ11_grow_118 hp159 (fun v155 hp160 => ?_)
            refine x_pc (pc' := 121) rfl ?_
            refine x_up (pc' := 122) (fun _ _ _ _ _ L => lv_isub hx hb dJ11_grow_121) ?_
            refine x_cpq X hG q1846 q424 q423 q112 (Nat.le_of_ble_eq_true rfl) ⟨Nat.le_of_ble_eq_true rfl, Nat.le_of_ble_eq_true rfl⟩ dJ11_grow_122 hp160 (fun σ156 hp161 => ?_)
            refine x_pc (pc' := 125) rfl ?_
            refine x_up (pc' := 126) (fun _ _ _ _ _ L => lv_aload_n hx hb dJ11_grow_125 rfl (lv_at L 5 rfl)) ?_
            refine x_gi X (kJ11 hG) 1 (by decide) q546 (fun _ h => h) dJ11_grow_126 hp161 (fun v157 hp162 => ?_)
            refine x_pc (pc' := 129) rfl ?_
            refine x_upL (pc' := 131) (lo' := [(7, .int v157), (6, .int (v125 - v3)), (5, .ref b150), (3, .int v125), (4, .int (v3 + (2 : Int32))), (2, .int v3), (0, .ref a0), (1, .int x1)]) (fun _ _ _ _ _ L => lv_istore hx hb dJ11_grow_129 L (by decide) rfl) ?_
            refine x_up (pc' := 132) (fun _ _ _ _ _ L => lv_aload_n hx hb dJ11_grow_131 rfl (lv_at L 6 rfl)) ?_
            refine x_up (pc' := 133) (fun _ _ _ _ _ L => lv_dup hx hb dJ11_grow_132 rfl) ?_
            refine x_gi X (kJ11 hG) 1 (by decide) q546 (fun _ h => h) dJ11_grow_133 hp162 (fun v158 hp163 => ?_)
            refine x_pc (pc' := 136) rfl ?_
            refine x_up (pc' := 138) (fun _ _ _ _ _ L => lv_iload hx hb dJ11_grow_136 (lv_at L 1 rfl)) ?_
            refine x_up (pc' := 139) (fun _ _ _ _ _ L => lv_iadd hx hb dJ11_grow_138) ?_
            refine x_up (pc' := 140) (fun _ _ _ _ _ L => lv_dup_x1 hx hb dJ11_grow_139 rfl rfl) ?_
            refine x_pi X (kJ11 hG) 1 (by decide) q546 (fun _ h => h) rfl rfl rfl dJ11_grow_140 hp163 (fun σ159 hp164 => ?_)
            refine x_pc (pc' := 143) rfl ?_
            refine x_upL (pc' := 145) (lo' := [(8, .int (v158 + (v125 - v3))), (7, .int v157), (6, .int (v125 - v3)), (5, .ref b150), (3, .int v125), (4, .int (v3 + (2 : Int32))), (2, .int v3), (0, .ref a0), (1, .int x1)]) (fun _ _ _ _ _ L => lv_istore hx hb dJ11_grow_143 L (by decide) rfl) ?_
            refine x_lo (lo' := [(7, .int v157), (5, .ref b150), (8, .int (v158 + (v125 - v3)))]) [1, 3, 0] rfl ?_
            refine x_while (v0 := v157) (fun w160 => [(7, .int w160), (5, .ref b150), (8, .int (v158 + (v125 - v3)))]) hp164 (fun self161 hself162 => ?_)
            rintro y164 σ163 hp165
            unfold B_J11_grow_145 at hp165
            refine x_same (lo' := [(7, .int y164), (5, .ref b150), (8, .int (v158 + (v125 - v3)))]) rfl ?_
            refine x_up (pc' := 147) (fun _ _ _ _ _ L => lv_iload hx hb dJ11_grow_145 (lv_at L 0 rfl)) ?_
            refine x_up (pc' := 149) (fun _ _ _ _ _ L => lv_iload hx hb dJ11_grow_147 (lv_at L 2 rfl)) ?_
            refine x_if (C := (v158 + (v125 - v3)) ≤ y164) (pt := 164) (pc' := 152) (fun _ _ _ _ _ => lv_icmp_ge (tgt := 164) hx hb dJ11_grow_149 (by decide)) (fun c149 => ?_) (fun c149 => ?_)
            · have hp166 := hp165.1 c149
              exact x_vret X hr dJ11_grow_164 hp166
            · have hp167 := hp165.2 c149
              refine x_up (pc' := 154) (fun _ _ _ _ _ L => lv_aload hx hb dJ11_grow_152 (lv_at L 1 rfl)) ?_
              refine x_up (pc' := 156) (fun _ _ _ _ _ L => lv_iload hx hb dJ11_grow_154 (lv_at L 0 rfl)) ?_
              refine x_up (pc' := 157) (fun _ _ _ _ _ L => lv_null hx hb dJ11_grow_156) ?_
              refine x_aast X hG none dJ11_grow_157 hp167 (fun σ165 hp168 => ?_)
              refine x_pc (pc' := 158) rfl ?_
              refine x_upL (pc' := 161) (lo' := [(7, .int (y164 + (1 : Int32))), (5, .ref b150), (8, .int (v158 + (v125 - v3)))]) (fun _ _ _ _ _ L => lv_iinc (v := y164 + (1 : Int32)) hx hb dJ11_grow_158 L (k := 0) rfl rfl (by decide) rfl) ?_
              refine x_up (pc' := 145) (fun _ _ _ _ _ L => lv_goto (tgt := 145) hx hb dJ11_grow_161 (by decide)) ?_
              refine x_lo (lo' := [(7, .int (y164 + (1 : Int32))), (5, .ref b150), (8, .int (v158 + (v125 - v3)))]) [0, 1, 2] rfl ?_
              exact hself162 (y164 + (1 : Int32)) σ165 hp168
        · have hp169 := hp151.2 c83
          exact x_vret X hr dJ11_grow_164 hp169
    · have hp170 := hp128.2 c26
      refine x_up (pc' := 30) (fun _ _ _ _ _ L => lv_iload_n hx hb dJ11_grow_29 rfl (lv_at L 1 rfl)) ?_
      refine x_up (pc' := 32) (fun _ _ _ _ _ L => lv_iload hx hb dJ11_grow_30 (lv_at L 0 rfl)) ?_
      refine x_up (pc' := 33) (fun _ _ _ _ _ L => lv_iadd hx hb dJ11_grow_32) ?_
      refine x_up (pc' := 34) (fun _ _ _ _ _ L => lv_dup hx hb dJ11_grow_33 rfl) ?_
      refine x_upL (pc' := 35) (lo' := [(3, .int (v3 + (v3 + (2 : Int32)))), (4, .int (v3 + (2 : Int32))), (2, .int v3), (0, .ref a0), (1, .int x1)]) (fun _ _ _ _ _ L => lv_istore_n hx hb dJ11_grow_34 rfl L (by decide) rfl) ?_
      refine x_up (pc' := 37) (fun _ _ _ _ _ L => lv_ldc (v := 2147483639) hx hb hown (hts _ q2002) dJ11_grow_35) ?_
      refine x_up (pc' := 38) (fun _ _ _ _ _ L => lv_isub hx hb dJ11_grow_37) ?_
      refine x_if (C := ((v3 + (v3 + (2 : Int32))) - (2147483639 : Int32)) ≤ 0) (pt := 49) (pc' := 41) (fun _ _ _ _ _ => lv_if_le (tgt := 49) hx hb dJ11_grow_38 (by decide)) (fun c38 => ?_) (fun c38 => ?_)
      · have hp171 := hp170.1 c38
        refine x_up (pc' := 50) (fun _ _ _ _ _ L => lv_aload_n hx hb dJ11_grow_49 rfl (lv_at L 3 rfl)) ?_
        refine x_up (pc' := 51) (fun _ _ _ _ _ L => lv_aload_n hx hb dJ11_grow_50 rfl (lv_at L 3 rfl)) ?_
        refine x_gq X (kJ11 hG) 0 (by decide) q543 (fun _ h => h) dJ11_grow_51 hp171 (fun v166 hp172 => ?_)
        refine x_pc (pc' := 54) rfl ?_
        refine x_up (pc' := 55) (fun _ _ _ _ _ L => lv_iload_n hx hb dJ11_grow_54 rfl (lv_at L 0 rfl)) ?_
        refine x_callS (em := emQ) (fun r st => va_rf r :: st) (fun _ _ => rfl) 2 X (fun σ' KK h => R_J9_copyOf l hl G hG v166 (v3 + (v3 + (2 : Int32))) σ' KK h) (lw_S q2024 q365 q111 q366) mdJ9_copyOf ⟨Nat.le_of_ble_eq_true rfl, Nat.le_of_ble_eq_true rfl⟩ rfl rfl (Nat.le_of_ble_eq_true rfl) dJ11_grow_55 hp172 (fun v167 σ168 hp173 => ?_)
        refine x_pc (pc' := 58) rfl ?_
        refine x_up (pc' := 59) (fun _ _ _ _ _ L => lv_dup_x1 hx hb dJ11_grow_58 (x_catq _) rfl) ?_
        refine x_pq X (kJ11 hG) 0 (by decide) q543 (fun _ h => h) rfl v167 (x_nar _ (by decide)) (x_fit _ (by decide)) dJ11_grow_59 hp173 (fun σ169 hp174 => ?_)
        refine x_pc (pc' := 62) rfl ?_
        refine x_upL (pc' := 64) (lo' := [(5, va_rf v167), (3, .int (v3 + (v3 + (2 : Int32)))), (4, .int (v3 + (2 : Int32))), (2, .int v3), (0, .ref a0), (1, .int x1)]) (fun _ _ _ _ _ L => lv_astoreq hx hb dJ11_grow_62 L (by decide) rfl) ?_
        refine x_up (pc' := 65) (fun _ _ _ _ _ L => lv_aload_n hx hb dJ11_grow_64 rfl (lv_at L 4 rfl)) ?_
        refine x_gi X (kJ11 hG) 2 (by decide) q547 (fun _ h => h) dJ11_grow_65 hp174 (fun v170 hp175 => ?_)
        refine x_pc (pc' := 68) rfl ?_
        refine x_up (pc' := 69) (fun _ _ _ _ _ L => lv_aload_n hx hb dJ11_grow_68 rfl (lv_at L 4 rfl)) ?_
        refine x_gi X (kJ11 hG) 1 (by decide) q546 (fun _ h => h) dJ11_grow_69 hp175 (fun v171 hp176 => ?_)
        refine x_pc (pc' := 72) rfl ?_
        refine x_if (C := v170 < v171) (pt := 96) (pc' := 75) (fun _ _ _ _ _ => lv_icmp_lt (tgt := 96) hx hb dJ11_grow_72 (by decide)) (fun c72 => ?_) (fun c72 => ?_)
        · have hp177 := hp176.1 c72
          refine x_up (pc' := 97) (fun _ _ _ _ _ L => lv_iload_n hx hb dJ11_grow_96 rfl (lv_at L 1 rfl)) ?_
          refine x_up (pc' := 98) (fun _ _ _ _ _ L => lv_iload_n hx hb dJ11_grow_97 rfl (lv_at L 3 rfl)) ?_
          refine x_up (pc' := 99) (fun _ _ _ _ _ L => lv_isub hx hb dJ11_grow_98) ?_
          refine x_st (pc' := 101) ([(6, .int ((v3 + (v3 + (2 : Int32))) - v3)), (5, va_rf v167), (3, .int (v3 + (v3 + (2 : Int32)))), (4, .int (v3 + (2 : Int32))), (2, .int v3), (0, .ref a0), (1, .int x1)]) rfl (by simp [x_catq, x_cati, x_catr, x_catn]) (fun _ _ _ _ _ L => lv_istore hx hb dJ11_grow_99 L (by decide) rfl) ?_
          refine x_up (pc' := 103) (fun _ _ _ _ _ L => lv_aloadq hx hb dJ11_grow_101 (lv_at L 1 rfl)) ?_
          refine x_up (pc' := 104) (fun _ _ _ _ _ L => lv_aload_n hx hb dJ11_grow_103 rfl (lv_at L 5 rfl)) ?_
          refine x_gi X (kJ11 hG) 1 (by decide) q546 (fun _ h => h) dJ11_grow_104 hp177 (fun v172 hp178 => ?_)
          refine x_pc (pc' := 107) rfl ?_
          refine x_up (pc' := 109) (fun _ _ _ _ _ L => lv_aloadq hx hb dJ11_grow_107 (lv_at L 1 rfl)) ?_
          refine x_up (pc' := 110) (fun _ _ _ _ _ L => lv_aload_n hx hb dJ11_grow_109 rfl (lv_at L 5 rfl)) ?_
          refine x_gi X (kJ11 hG) 1 (by decide) q546 (fun _ h => h) dJ11_grow_110 hp178 (fun v173 hp179 => ?_)
          refine x_pc (pc' := 113) rfl ?_
          refine x_up (pc' := 115) (fun _ _ _ _ _ L => lv_iload hx hb dJ11_grow_113 (lv_at L 0 rfl)) ?_
          refine x_up (pc' := 116) (fun _ _ _ _ _ L => lv_iadd hx hb dJ11_grow_115) ?_
          refine x_up (pc' := 117) (fun _ _ _ _ _ L => lv_iload_n hx hb dJ11_grow_116 rfl (lv_at L 4 rfl)) ?_
          refine x_up (pc' := 118) (fun _ _ _ _ _ L => lv_aload_n hx hb dJ11_grow_117 rfl (lv_at L 5 rfl)) ?_
          refine x_gi X (kJ11 hG) 1 (by decide) q546 (fun _ h => h) dJ11_grow_118 hp179 (fun v174 hp180 => ?_)
          refine x_pc (pc' := 121) rfl ?_
          refine x_up (pc' := 122) (fun _ _ _ _ _ L => lv_isub hx hb dJ11_grow_121) ?_
          obtain ⟨b175, rfl, hp181⟩ := hp180
          refine x_cpq X hG q1846 q424 q423 q112 (Nat.le_of_ble_eq_true rfl) ⟨Nat.le_of_ble_eq_true rfl, Nat.le_of_ble_eq_true rfl⟩ dJ11_grow_122 hp181 (fun σ176 hp182 => ?_)
          refine x_pc (pc' := 125) rfl ?_
          refine x_up (pc' := 126) (fun _ _ _ _ _ L => lv_aload_n hx hb dJ11_grow_125 rfl (lv_at L 5 rfl)) ?_
          refine x_gi X (kJ11 hG) 1 (by decide) q546 (fun _ h => h) dJ11_grow_126 hp182 (fun v177 hp183 => ?_)
          refine x_pc (pc' := 129) rfl ?_
          refine x_upL (pc' := 131) (lo' := [(7, .int v177), (6, .int ((v3 + (v3 + (2 : Int32))) - v3)), (5, .ref b175), (3, .int (v3 + (v3 + (2 : Int32)))), (4, .int (v3 + (2 : Int32))), (2, .int v3), (0, .ref a0), (1, .int x1)]) (fun _ _ _ _ _ L => lv_istore hx hb dJ11_grow_129 L (by decide) rfl) ?_
          refine x_up (pc' := 132) (fun _ _ _ _ _ L => lv_aload_n hx hb dJ11_grow_131 rfl (lv_at L 6 rfl)) ?_
          refine x_up (pc' := 133) (fun _ _ _ _ _ L => lv_dup hx hb dJ11_grow_132 rfl) ?_
          refine x_gi X (kJ11 hG) 1 (by decide) q546 (fun _ h => h) dJ11_grow_133 hp183 (fun v178 hp184 => ?_)
          refine x_pc (pc' := 136) rfl ?_
          refine x_up (pc' := 138) (fun _ _ _ _ _ L => lv_iload hx hb dJ11_grow_136 (lv_at L 1 rfl)) ?_
          refine x_up (pc' := 139) (fun _ _ _ _ _ L => lv_iadd hx hb dJ11_grow_138) ?_
          refine x_up (pc' := 140) (fun _ _ _ _ _ L => lv_dup_x1 hx hb dJ11_grow_139 rfl rfl) ?_
          refine x_pi X (kJ11 hG) 1 (by decide) q546 (fun _ h => h) rfl rfl rfl dJ11_grow_140 hp184 (fun σ179 hp185 => ?_)
          refine x_pc (pc' := 143) rfl ?_
          refine x_upL (pc' := 145) (lo' := [(8, .int (v178 + ((v3 + (v3 + (2 : Int32))) - v3))), (7, .int v177), (6, .int ((v3 + (v3 + (2 : Int32))) - v3)), (5, .ref b175), (3, .int (v3 + (v3 + (2 : Int32)))), (4, .int (v3 + (2 : Int32))), (2, .int v3), (0, .ref a0), (1, .int x1)]) (fun _ _ _ _ _ L => lv_istore hx hb dJ11_grow_143 L (by decide) rfl) ?_
          refine x_lo (lo' := [(7, .int v177), (5, .ref b175), (8, .int (v178 + ((v3 + (v3 + (2 : Int32))) - v3)))]) [1, 3, 0] rfl ?_
          refine x_while (v0 := v177) (fun w180 => [(7, .int w180), (5, .ref b175), (8, .int (v178 + ((v3 + (v3 + (2 : Int32))) - v3)))]) hp185 (fun self181 hself182 => ?_)
          rintro y184 σ183 hp186
          unfold B_J11_grow_145 at hp186
          refine x_same (lo' := [(7, .int y184), (5, .ref b175), (8, .int (v178 + ((v3 + (v3 + (2 : Int32))) - v3)))]) rfl ?_
          refine x_up (pc' := 147) (fun _ _ _ _ _ L => lv_iload hx hb dJ11_grow_145 (lv_at L 0 rfl)) ?_
          refine x_up (pc' := 149) (fun _ _ _ _ _ L => lv_iload hx hb dJ11_grow_147 (lv_at L 2 rfl)) ?_
          refine x_if (C := (v178 + ((v3 + (v3 + (2 : Int32))) - v3)) ≤ y184) (pt := 164) (pc' := 152) (fun _ _ _ _ _ => lv_icmp_ge (tgt := 164) hx hb dJ11_grow_149 (by decide)) (fun c149 => ?_) (fun c149 => ?_)
          · have hp187 := hp186.1 c149
            exact x_vret X hr dJ11_grow_164 hp187
          · have hp188 := hp186.2 c149
            refine x_up (pc' := 154) (fun _ _ _ _ _ L => lv_aload hx hb dJ11_grow_152 (lv_at L 1 rfl)) ?_
            refine x_up (pc' := 156) (fun _ _ _ _ _ L => lv_iload hx hb dJ11_grow_154 (lv_at L 0 rfl)) ?_
            refine x_up (pc' := 157) (fun _ _ _ _ _ L => lv_null hx hb dJ11_grow_156) ?_
            refine x_aast X hG none dJ11_grow_157 hp188 (fun σ185 hp189 => ?_)
            refine x_pc (pc' := 158) rfl ?_
            refine x_upL (pc' := 161) (lo' := [(7, .int (y184 + (1 : Int32))), (5, .ref b175), (8, .int (v178 + ((v3 + (v3 + (2 : Int32))) - v3)))]) (fun _ _ _ _ _ L => lv_iinc (v := y184 + (1 : Int32)) hx hb dJ11_grow_158 L (k := 0) rfl rfl (by decide) rfl) ?_
            refine x_up (pc' := 145) (fun _ _ _ _ _ L => lv_goto (tgt := 145) hx hb dJ11_grow_161 (by decide)) ?_
            refine x_lo (lo' := [(7, .int (y184 + (1 : Int32))), (5, .ref b175), (8, .int (v178 + ((v3 + (v3 + (2 : Int32))) - v3)))]) [0, 1, 2] rfl ?_
            exact hself182 (y184 + (1 : Int32)) σ185 hp189
        · have hp190 := hp176.2 c72
          refine x_up (pc' := 76) (fun _ _ _ _ _ L => lv_aload_n hx hb dJ11_grow_75 rfl (lv_at L 4 rfl)) ?_
          refine x_gi X (kJ11 hG) 2 (by decide) q547 (fun _ h => h) dJ11_grow_76 hp190 (fun v186 hp191 => ?_)
          refine x_pc (pc' := 79) rfl ?_
          refine x_up (pc' := 80) (fun _ _ _ _ _ L => lv_aload_n hx hb dJ11_grow_79 rfl (lv_at L 4 rfl)) ?_
          refine x_gi X (kJ11 hG) 1 (by decide) q546 (fun _ h => h) dJ11_grow_80 hp191 (fun v187 hp192 => ?_)
          refine x_pc (pc' := 83) rfl ?_
          refine x_ifn (C := v186 = v187) (pt := 164) (pc' := 86) (fun _ _ _ _ _ => lv_icmp_ne (tgt := 164) hx hb dJ11_grow_83 (by decide)) (fun c83 => ?_) (fun c83 => ?_)
          · have hp193 := hp192.1 c83
            refine x_up (pc' := 88) (fun _ _ _ _ _ L => lv_aloadq hx hb dJ11_grow_86 (lv_at L 0 rfl)) ?_
            refine x_up (pc' := 89) (fun _ _ _ _ _ L => lv_aload_n hx hb dJ11_grow_88 rfl (lv_at L 4 rfl)) ?_
            refine x_gi X (kJ11 hG) 1 (by decide) q546 (fun _ h => h) dJ11_grow_89 hp193 (fun v188 hp194 => ?_)
            refine x_pc (pc' := 92) rfl ?_
            obtain ⟨b189, rfl, hp195⟩ := hp194
            refine x_aald X dJ11_grow_92 hp195 (fun v190 hp196 => ?_)
            refine x_pc (pc' := 93) rfl ?_
            rcases v190 with _ | b191
            · have hp197 := hp196.1 rfl
              refine x_up (pc' := 164) (fun _ _ _ _ _ L => lv_ifnullN (tgt := 164) hx hb dJ11_grow_93 (by decide)) ?_
              exact x_vret X hr dJ11_grow_164 hp197
            · have hp198 := hp196.2 _ rfl
              refine x_up (pc' := 96) (fun _ _ _ _ _ L => lv_ifnull hx hb dJ11_grow_93) ?_
              refine x_up (pc' := 97) (fun _ _ _ _ _ L => lv_iload_n hx hb dJ11_grow_96 rfl (lv_at L 1 rfl)) ?_
              refine x_up (pc' := 98) (fun _ _ _ _ _ L => lv_iload_n hx hb dJ11_grow_97 rfl (lv_at L 3 rfl)) ?_
              refine x_up (pc' := 99) (fun _ _ _ _ _ L => lv_isub hx hb dJ11_grow_98) ?_
              refine x_upL (pc' := 101) (lo' := [(6, .int ((v3 + (v3 + (2 : Int32))) - v3)), (5, .ref b189), (3, .int (v3 + (v3 + (2 : Int32)))), (4, .int (v3 + (2 : Int32))), (2, .int v3), (0, .ref a0), (1, .int x1)]) (fun _ _ _ _ _ L => lv_istore hx hb dJ11_grow_99 L (by decide) rfl) ?_
              refine x_up (pc' := 103) (fun _ _ _ _ _ L => lv_aload hx hb dJ11_grow_101 (lv_at L 1 rfl)) ?_
              refine x_up (pc' := 104) (fun _ _ _ _ _ L => lv_aload_n hx hb dJ11_grow_103 rfl (lv_at L 5 rfl)) ?_
              refine x_gi X (kJ11 hG) 1 (by decide) q546 (fun _ h => h) dJ11_grow_104 hp198 (fun v192 hp199 => ?_)
              refine x_pc (pc' := 107) rfl ?_
              refine x_up (pc' := 109) (fun _ _ _ _ _ L => lv_aload hx hb dJ11_grow_107 (lv_at L 1 rfl)) ?_
              refine x_up (pc' := 110) (fun _ _ _ _ _ L => lv_aload_n hx hb dJ11_grow_109 rfl (lv_at L 5 rfl)) ?_
              refine x_gi X (kJ11 hG) 1 (by decide) q546 (fun _ h => h) dJ11_grow_110 hp199 (fun v193 hp200 => ?_)
              refine x_pc (pc' := 113) rfl ?_
              refine x_up (pc' := 115) (fun _ _ _ _ _ L => lv_iload hx hb dJ11_grow_113 (lv_at L 0 rfl)) ?_
              refine x_up (pc' := 116) (fun _ _ _ _ _ L => lv_iadd hx hb dJ11_grow_115) ?_
              refine x_up (pc' := 117) (fun _ _ _ _ _ L => lv_iload_n hx hb dJ11_grow_116 rfl (lv_at L 4 rfl)) ?_
              refine x_up (pc' := 118) (fun _ _ _ _ _ L => lv_aload_n hx hb dJ11_grow_117 rfl (lv_at L 5 rfl)) ?_
              refine x_gi X (kJ11 hG) 1 (by decide) q546 (fun _ h => h) dJ11_grow_118 hp200 (fun v194 hp201 => ?_)
              refine x_pc (pc' := 121) rfl ?_
              refine x_up (pc' := 122) (fun _ _ _ _ _ L => lv_isub hx hb dJ11_grow_121) ?_
              refine x_cpq X hG q1846 q424 q423 q112 (Nat.le_of_ble_eq_true rfl) ⟨Nat.le_of_ble_eq_true rfl, Nat.le_of_ble_eq_true rfl⟩ dJ11_grow_122 hp201 (fun σ195 hp202 => ?_)
              refine x_pc (pc' := 125) rfl ?_
              refine x_up (pc' := 126) (fun _ _ _ _ _ L => lv_aload_n hx hb dJ11_grow_125 rfl (lv_at L 5 rfl)) ?_
              refine x_gi X (kJ11 hG) 1 (by decide) q546 (fun _ h => h) dJ11_grow_126 hp202 (fun v196 hp203 => ?_)
              refine x_pc (pc' := 129) rfl ?_
              refine x_upL (pc' := 131) (lo' := [(7, .int v196), (6, .int ((v3 + (v3 + (2 : Int32))) - v3)), (5, .ref b189), (3, .int (v3 + (v3 + (2 : Int32)))), (4, .int (v3 + (2 : Int32))), (2, .int v3), (0, .ref a0), (1, .int x1)]) (fun _ _ _ _ _ L => lv_istore hx hb dJ11_grow_129 L (by decide) rfl) ?_
              refine x_up (pc' := 132) (fun _ _ _ _ _ L => lv_aload_n hx hb dJ11_grow_131 rfl (lv_at L 6 rfl)) ?_
              refine x_up (pc' := 133) (fun _ _ _ _ _ L => lv_dup hx hb dJ11_grow_132 rfl) ?_
              refine x_gi X (kJ11 hG) 1 (by decide) q546 (fun _ h => h) dJ11_grow_133 hp203 (fun v197 hp204 => ?_)
              refine x_pc (pc' := 136) rfl ?_
              refine x_up (pc' := 138) (fun _ _ _ _ _ L => lv_iload hx hb dJ11_grow_136 (lv_at L 1 rfl)) ?_
              refine x_up (pc' := 139) (fun _ _ _ _ _ L => lv_iadd hx hb dJ11_grow_138) ?_
              refine x_up (pc' := 140) (fun _ _ _ _ _ L => lv_dup_x1 hx hb dJ11_grow_139 rfl rfl) ?_
              refine x_pi X (kJ11 hG) 1 (by decide) q546 (fun _ h => h) rfl rfl rfl dJ11_grow_140 hp204 (fun σ198 hp205 => ?_)
              refine x_pc (pc' := 143) rfl ?_
              refine x_upL (pc' := 145) (lo' := [(8, .int (v197 + ((v3 + (v3 + (2 : Int32))) - v3))), (7, .int v196), (6, .int ((v3 + (v3 + (2 : Int32))) - v3)), (5, .ref b189), (3, .int (v3 + (v3 + (2 : Int32)))), (4, .int (v3 + (2 : Int32))), (2, .int v3), (0, .ref a0), (1, .int x1)]) (fun _ _ _ _ _ L => lv_istore hx hb dJ11_grow_143 L (by decide) rfl) ?_
              refine x_lo (lo' := [(7, .int v196), (5, .ref b189), (8, .int (v197 + ((v3 + (v3 + (2 : Int32))) - v3)))]) [1, 3, 0] rfl ?_
              refine x_while (v0 := v196) (fun w199 => [(7, .int w199), (5, .ref b189), (8, .int (v197 + ((v3 + (v3 + (2 : Int32))) - v3)))]) hp205 (fun self200 hself201 => ?_)
              rintro y203 σ202 hp206
              unfold B_J11_grow_145 at hp206
              refine x_same (lo' := [(7, .int y203), (5, .ref b189), (8, .int (v197 + ((v3 + (v3 + (2 : Int32))) - v3)))]) rfl ?_
              refine x_up (pc' := 147) (fun _ _ _ _ _ L => lv_iload hx hb dJ11_grow_145 (lv_at L 0 rfl)) ?_
              refine x_up (pc' := 149) (fun _ _ _ _ _ L => lv_iload hx hb dJ11_grow_147 (lv_at L 2 rfl)) ?_
              refine x_if (C := (v197 + ((v3 + (v3 + (2 : Int32))) - v3)) ≤ y203) (pt := 164) (pc' := 152) (fun _ _ _ _ _ => lv_icmp_ge (tgt := 164) hx hb dJ11_grow_149 (by decide)) (fun c149 => ?_) (fun c149 => ?_)
              · have hp207 := hp206.1 c149
                exact x_vret X hr dJ11_grow_164 hp207
              · have hp208 := hp206.2 c149
                refine x_up (pc' := 154) (fun _ _ _ _ _ L => lv_aload hx hb dJ11_grow_152 (lv_at L 1 rfl)) ?_
                refine x_up (pc' := 156) (fun _ _ _ _ _ L => lv_iload hx hb dJ11_grow_154 (lv_at L 0 rfl)) ?_
                refine x_up (pc' := 157) (fun _ _ _ _ _ L => lv_null hx hb dJ11_grow_156) ?_
                refine x_aast X hG none dJ11_grow_157 hp208 (fun σ204 hp209 => ?_)
                refine x_pc (pc' := 158) rfl ?_
                refine x_upL (pc' := 161) (lo' := [(7, .int (y203 + (1 : Int32))), (5, .ref b189), (8, .int (v197 + ((v3 + (v3 + (2 : Int32))) - v3)))]) (fun _ _ _ _ _ L => lv_iinc (v := y203 + (1 : Int32)) hx hb dJ11_grow_158 L (k := 0) rfl rfl (by decide) rfl) ?_
                refine x_up (pc' := 145) (fun _ _ _ _ _ L => lv_goto (tgt := 145) hx hb dJ11_grow_161 (by decide)) ?_
                refine x_lo (lo' := [(7, .int (y203 + (1 : Int32))), (5, .ref b189), (8, .int (v197 + ((v3 + (v3 + (2 : Int32))) - v3)))]) [0, 1, 2] rfl ?_
                exact hself201 (y203 + (1 : Int32)) σ204 hp209
          · have hp210 := hp192.2 c83
            exact x_vret X hr dJ11_grow_164 hp210
      · have hp211 := hp170.2 c38
        refine x_up (pc' := 42) (fun _ _ _ _ _ L => lv_aload_n hx hb dJ11_grow_41 rfl (lv_at L 3 rfl)) ?_
        refine x_up (pc' := 43) (fun _ _ _ _ _ L => lv_iload_n hx hb dJ11_grow_42 rfl (lv_at L 4 rfl)) ?_
        refine x_up (pc' := 45) (fun _ _ _ _ _ L => lv_iload hx hb dJ11_grow_43 (lv_at L 1 rfl)) ?_
        refine x_callV (em := emI) (fun r st => .int r :: st) (fun _ _ => rfl) 2 X (kJ11 hG) (fun σ' KK h => R_J11_newCapacity l hl G hG a0 x1 (v3 + (2 : Int32)) σ' KK h) (lw_V q2003 q2005 qs24 q114 q2006) ⟨rfl, mdJ11_newCapacity⟩ ⟨Nat.le_of_ble_eq_true rfl, Nat.le_of_ble_eq_true rfl⟩ rfl rfl (Nat.le_of_ble_eq_true rfl) dJ11_grow_45 hp211.1 hp211.2 (fun v205 σ206 hp212 => ?_)
        refine x_pc (pc' := 48) rfl ?_
        refine x_upL (pc' := 49) (lo' := [(3, .int v205), (4, .int (v3 + (2 : Int32))), (2, .int v3), (0, .ref a0), (1, .int x1)]) (fun _ _ _ _ _ L => lv_istore_n hx hb dJ11_grow_48 rfl L (by decide) rfl) ?_
        refine x_up (pc' := 50) (fun _ _ _ _ _ L => lv_aload_n hx hb dJ11_grow_49 rfl (lv_at L 3 rfl)) ?_
        refine x_up (pc' := 51) (fun _ _ _ _ _ L => lv_aload_n hx hb dJ11_grow_50 rfl (lv_at L 3 rfl)) ?_
        refine x_gq X (kJ11 hG) 0 (by decide) q543 (fun _ h => h) dJ11_grow_51 hp212 (fun v207 hp213 => ?_)
        refine x_pc (pc' := 54) rfl ?_
        refine x_up (pc' := 55) (fun _ _ _ _ _ L => lv_iload_n hx hb dJ11_grow_54 rfl (lv_at L 0 rfl)) ?_
        refine x_callS (em := emQ) (fun r st => va_rf r :: st) (fun _ _ => rfl) 2 X (fun σ' KK h => R_J9_copyOf l hl G hG v207 v205 σ' KK h) (lw_S q2024 q365 q111 q366) mdJ9_copyOf ⟨Nat.le_of_ble_eq_true rfl, Nat.le_of_ble_eq_true rfl⟩ rfl rfl (Nat.le_of_ble_eq_true rfl) dJ11_grow_55 hp213 (fun v208 σ209 hp214 => ?_)
        refine x_pc (pc' := 58) rfl ?_
        refine x_up (pc' := 59) (fun _ _ _ _ _ L => lv_dup_x1 hx hb dJ11_grow_58 (x_catq _) rfl) ?_
        refine x_pq X (kJ11 hG) 0 (by decide) q543 (fun _ h => h) rfl v208 (x_nar _ (by decide)) (x_fit _ (by decide)) dJ11_grow_59 hp214 (fun σ210 hp215 => ?_)
        refine x_pc (pc' := 62) rfl ?_
        refine x_upL (pc' := 64) (lo' := [(5, va_rf v208), (3, .int v205), (4, .int (v3 + (2 : Int32))), (2, .int v3), (0, .ref a0), (1, .int x1)]) (fun _ _ _ _ _ L => lv_astoreq hx hb dJ11_grow_62 L (by decide) rfl) ?_
        refine x_up (pc' := 65) (fun _ _ _ _ _ L => lv_aload_n hx hb dJ11_grow_64 rfl (lv_at L 4 rfl)) ?_
        refine x_gi X (kJ11 hG) 2 (by decide) q547 (fun _ h => h) dJ11_grow_65 hp215 (fun v211 hp216 => ?_)
        refine x_pc (pc' := 68) rfl ?_
        refine x_up (pc' := 69) (fun _ _ _ _ _ L => lv_aload_n hx hb dJ11_grow_68 rfl (lv_at L 4 rfl)) ?_
        refine x_gi X (kJ11 hG) 1 (by decide) q546 (fun _ h => h) dJ11_grow_69 hp216 (fun v212 hp217 => ?_)
        refine x_pc (pc' := 72) rfl ?_
        refine x_if (C := v211 < v212) (pt := 96) (pc' := 75) (fun _ _ _ _ _ => lv_icmp_lt (tgt := 96) hx hb dJ11_grow_72 (by decide)) (fun c72 => ?_) (fun c72 => ?_)
        · have hp218 := hp217.1 c72
          refine x_up (pc' := 97) (fun _ _ _ _ _ L => lv_iload_n hx hb dJ11_grow_96 rfl (lv_at L 1 rfl)) ?_
          refine x_up (pc' := 98) (fun _ _ _ _ _ L => lv_iload_n hx hb dJ11_grow_97 rfl (lv_at L 3 rfl)) ?_
          refine x_up (pc' := 99) (fun _ _ _ _ _ L => lv_isub hx hb dJ11_grow_98) ?_
          refine x_st (pc' := 101) ([(6, .int (v205 - v3)), (5, va_rf v208), (3, .int v205), (4, .int (v3 + (2 : Int32))), (2, .int v3), (0, .ref a0), (1, .int x1)]) rfl (by simp [x_catq, x_cati, x_catr, x_catn]) (fun _ _ _ _ _ L => lv_istore hx hb dJ11_grow_99 L (by decide) rfl) ?_
          refine x_up (pc' := 103) (fun _ _ _ _ _ L => lv_aloadq hx hb dJ11_grow_101 (lv_at L 1 rfl)) ?_
          refine x_up (pc' := 104) (fun _ _ _ _ _ L => lv_aload_n hx hb dJ11_grow_103 rfl (lv_at L 5 rfl)) ?_
          refine x_gi X (kJ11 hG) 1 (by decide) q546 (fun _ h => h) dJ11_grow_104 hp218 (fun v213 hp219 => ?_)
          refine x_pc (pc' := 107) rfl ?_
          refine x_up (pc' := 109) (fun _ _ _ _ _ L => lv_aloadq hx hb dJ11_grow_107 (lv_at L 1 rfl)) ?_
          refine x_up (pc' := 110) (fun _ _ _ _ _ L => lv_aload_n hx hb dJ11_grow_109 rfl (lv_at L 5 rfl)) ?_
          refine x_gi X (kJ11 hG) 1 (by decide) q546 (fun _ h => h) dJ11_grow_110 hp219 (fun v214 hp220 => ?_)
          refine x_pc (pc' := 113) rfl ?_
          refine x_up (pc' := 115) (fun _ _ _ _ _ L => lv_iload hx hb dJ11_grow_113 (lv_at L 0 rfl)) ?_
          refine x_up (pc' := 116) (fun _ _ _ _ _ L => lv_iadd hx hb dJ11_grow_115) ?_
          refine x_up (pc' := 117) (fun _ _ _ _ _ L => lv_iload_n hx hb dJ11_grow_116 rfl (lv_at L 4 rfl)) ?_
          refine x_up (pc' := 118) (fun _ _ _ _ _ L => lv_aload_n hx hb dJ11_grow_117 rfl (lv_at L 5 rfl)) ?_
          refine x_gi X (kJ11 hG) 1 (by decide) q546 (fun _ h => h) dJ11_grow_118 hp220 (fun v215 hp221 => ?_)
          refine x_pc (pc' := 121) rfl ?_
          refine x_up (pc' := 122) (fun _ _ _ _ _ L => lv_isub hx hb dJ11_grow_121) ?_
          obtain ⟨b216, rfl, hp222⟩ := hp221
          refine x_cpq X hG q1846 q424 q423 q112 (Nat.le_of_ble_eq_true rfl) ⟨Nat.le_of_ble_eq_true rfl, Nat.le_of_ble_eq_true rfl⟩ dJ11_grow_122 hp222 (fun σ217 hp223 => ?_)
          refine x_pc (pc' := 125) rfl ?_
          refine x_up (pc' := 126) (fun _ _ _ _ _ L => lv_aload_n hx hb dJ11_grow_125 rfl (lv_at L 5 rfl)) ?_
          refine x_gi X (kJ11 hG) 1 (by decide) q546 (fun _ h => h) dJ11_grow_126 hp223 (fun v218 hp224 => ?_)
          refine x_pc (pc' := 129) rfl ?_
          refine x_upL (pc' := 131) (lo' := [(7, .int v218), (6, .int (v205 - v3)), (5, .ref b216), (3, .int v205), (4, .int (v3 + (2 : Int32))), (2, .int v3), (0, .ref a0), (1, .int x1)]) (fun _ _ _ _ _ L => lv_istore hx hb dJ11_grow_129 L (by decide) rfl) ?_
          refine x_up (pc' := 132) (fun _ _ _ _ _ L => lv_aload_n hx hb dJ11_grow_131 rfl (lv_at L 6 rfl)) ?_
          refine x_up (pc' := 133) (fun _ _ _ _ _ L => lv_dup hx hb dJ11_grow_132 rfl) ?_
          refine x_gi X (kJ11 hG) 1 (by decide) q546 (fun _ h => h) dJ11_grow_133 hp224 (fun v219 hp225 => ?_)
          refine x_pc (pc' := 136) rfl ?_
          refine x_up (pc' := 138) (fun _ _ _ _ _ L => lv_iload hx hb dJ11_grow_136 (lv_at L 1 rfl)) ?_
          refine x_up (pc' := 139) (fun _ _ _ _ _ L => lv_iadd hx hb dJ11_grow_138) ?_
          refine x_up (pc' := 140) (fun _ _ _ _ _ L => lv_dup_x1 hx hb dJ11_grow_139 rfl rfl) ?_
          refine x_pi X (kJ11 hG) 1 (by decide) q546 (fun _ h => h) rfl rfl rfl dJ11_grow_140 hp225 (fun σ220 hp226 => ?_)
          refine x_pc (pc' := 143) rfl ?_
          refine x_upL (pc' := 145) (lo' := [(8, .int (v219 + (v205 - v3))), (7, .int v218), (6, .int (v205 - v3)), (5, .ref b216), (3, .int v205), (4, .int (v3 + (2 : Int32))), (2, .int v3), (0, .ref a0), (1, .int x1)]) (fun _ _ _ _ _ L => lv_istore hx hb dJ11_grow_143 L (by decide) rfl) ?_
          refine x_lo (lo' := [(7, .int v218), (5, .ref b216), (8, .int (v219 + (v205 - v3)))]) [1, 3, 0] rfl ?_
          refine x_while (v0 := v218) (fun w221 => [(7, .int w221), (5, .ref b216), (8, .int (v219 + (v205 - v3)))]) hp226 (fun self222 hself223 => ?_)
          rintro y225 σ224 hp227
          unfold B_J11_grow_145 at hp227
          refine x_same (lo' := [(7, .int y225), (5, .ref b216), (8, .int (v219 + (v205 - v3)))]) rfl ?_
          refine x_up (pc' := 147) (fun _ _ _ _ _ L => lv_iload hx hb dJ11_grow_145 (lv_at L 0 rfl)) ?_
          refine x_up (pc' := 149) (fun _ _ _ _ _ L => lv_iload hx hb dJ11_grow_147 (lv_at L 2 rfl)) ?_
          refine x_if (C := (v219 + (v205 - v3)) ≤ y225) (pt := 164) (pc' := 152) (fun _ _ _ _ _ => lv_icmp_ge (tgt := 164) hx hb dJ11_grow_149 (by decide)) (fun c149 => ?_) (fun c149 => ?_)
          · have hp228 := hp227.1 c149
            exact x_vret X hr dJ11_grow_164 hp228
          · have hp229 := hp227.2 c149
            refine x_up (pc' := 154) (fun _ _ _ _ _ L => lv_aload hx hb dJ11_grow_152 (lv_at L 1 rfl)) ?_
            refine x_up (pc' := 156) (fun _ _ _ _ _ L => lv_iload hx hb dJ11_grow_154 (lv_at L 0 rfl)) ?_
            refine x_up (pc' := 157) (fun _ _ _ _ _ L => lv_null hx hb dJ11_grow_156) ?_
            refine x_aast X hG none dJ11_grow_157 hp229 (fun σ226 hp230 => ?_)
            refine x_pc (pc' := 158) rfl ?_
            refine x_upL (pc' := 161) (lo' := [(7, .int (y225 + (1 : Int32))), (5, .ref b216), (8, .int (v219 + (v205 - v3)))]) (fun _ _ _ _ _ L => lv_iinc (v := y225 + (1 : Int32)) hx hb dJ11_grow_158 L (k := 0) rfl rfl (by decide) rfl) ?_
            refine x_up (pc' := 145) (fun _ _ _ _ _ L => lv_goto (tgt := 145) hx hb dJ11_grow_161 (by decide)) ?_
            refine x_lo (lo' := [(7, .int (y225 + (1 : Int32))), (5, .ref b216), (8, .int (v219 + (v205 - v3)))]) [0, 1, 2] rfl ?_
            exact hself223 (y225 + (1 : Int32)) σ226 hp230
        · have hp231 := hp217.2 c72
          refine x_up (pc' := 76) (fun _ _ _ _ _ L => lv_aload_n hx hb dJ11_grow_75 rfl (lv_at L 4 rfl)) ?_
          refine x_gi X (kJ11 hG) 2 (by decide) q547 (fun _ h => h) dJ11_grow_76 hp231 (fun v227 hp232 => ?_)
          refine x_pc (pc' := 79) rfl ?_
          refine x_up (pc' := 80) (fun _ _ _ _ _ L => lv_aload_n hx hb dJ11_grow_79 rfl (lv_at L 4 rfl)) ?_
          refine x_gi X (kJ11 hG) 1 (by decide) q546 (fun _ h => h) dJ11_grow_80 hp232 (fun v228 hp233 => ?_)
          refine x_pc (pc' := 83) rfl ?_
          refine x_ifn (C := v227 = v228) (pt := 164) (pc' := 86) (fun _ _ _ _ _ => lv_icmp_ne (tgt := 164) hx hb dJ11_grow_83 (by decide)) (fun c83 => ?_) (fun c83 => ?_)
          · have hp234 := hp233.1 c83
            refine x_up (pc' := 88) (fun _ _ _ _ _ L => lv_aloadq hx hb dJ11_grow_86 (lv_at L 0 rfl)) ?_
            refine x_up (pc' := 89) (fun _ _ _ _ _ L => lv_aload_n hx hb dJ11_grow_88 rfl (lv_at L 4 rfl)) ?_
            refine x_gi X (kJ11 hG) 1 (by decide) q546 (fun _ h => h) dJ11_grow_89 hp234 (fun v229 hp235 => ?_)
            refine x_pc (pc' := 92) rfl ?_
            obtain ⟨b230, rfl, hp236⟩ := hp235
            refine x_aald X dJ11_grow_92 hp236 (fun v231 hp237 => ?_)
            refine x_pc (pc' := 93) rfl ?_
            rcases v231 with _ | b232
            · have hp238 := hp237.1 rfl
              refine x_up (pc' := 164) (fun _ _ _ _ _ L => lv_ifnullN (tgt := 164) hx hb dJ11_grow_93 (by decide)) ?_
              exact x_vret X hr dJ11_grow_164 hp238
            · have hp239 := hp237.2 _ rfl
              refine x_up (pc' := 96) (fun _ _ _ _ _ L => lv_ifnull hx hb dJ11_grow_93) ?_
              refine x_up (pc' := 97) (fun _ _ _ _ _ L => lv_iload_n hx hb dJ11_grow_96 rfl (lv_at L 1 rfl)) ?_
              refine x_up (pc' := 98) (fun _ _ _ _ _ L => lv_iload_n hx hb dJ11_grow_97 rfl (lv_at L 3 rfl)) ?_
              refine x_up (pc' := 99) (fun _ _ _ _ _ L => lv_isub hx hb dJ11_grow_98) ?_
              refine x_upL (pc' := 101) (lo' := [(6, .int (v205 - v3)), (5, .ref b230), (3, .int v205), (4, .int (v3 + (2 : Int32))), (2, .int v3), (0, .ref a0), (1, .int x1)]) (fun _ _ _ _ _ L => lv_istore hx hb dJ11_grow_99 L (by decide) rfl) ?_
              refine x_up (pc' := 103) (fun _ _ _ _ _ L => lv_aload hx hb dJ11_grow_101 (lv_at L 1 rfl)) ?_
              refine x_up (pc' := 104) (fun _ _ _ _ _ L => lv_aload_n hx hb dJ11_grow_103 rfl (lv_at L 5 rfl)) ?_
              refine x_gi X (kJ11 hG) 1 (by decide) q546 (fun _ h => h) dJ11_grow_104 hp239 (fun v233 hp240 => ?_)
              refine x_pc (pc' := 107) rfl ?_
              refine x_up (pc' := 109) (fun _ _ _ _ _ L => lv_aload hx hb dJ11_grow_107 (lv_at L 1 rfl)) ?_
              refine x_up (pc' := 110) (fun _ _ _ _ _ L => lv_aload_n hx hb dJ11_grow_109 rfl (lv_at L 5 rfl)) ?_
              refine x_gi X (kJ11 hG) 1 (by decide) q546 (fun _ h => h) dJ11_grow_110 hp240 (fun v234 hp241 => ?_)
              refine x_pc (pc' := 113) rfl ?_
              refine x_up (pc' := 115) (fun _ _ _ _ _ L => lv_iload hx hb dJ11_grow_113 (lv_at L 0 rfl)) ?_
              refine x_up (pc' := 116) (fun _ _ _ _ _ L => lv_iadd hx hb dJ11_grow_115) ?_
              refine x_up (pc' := 117) (fun _ _ _ _ _ L => lv_iload_n hx hb dJ11_grow_116 rfl (lv_at L 4 rfl)) ?_
              refine x_up (pc' := 118) (fun _ _ _ _ _ L => lv_aload_n hx hb dJ11_grow_117 rfl (lv_at L 5 rfl)) ?_
              refine x_gi X (kJ11 hG) 1 (by decide) q546 (fun _ h => h) dJ11_grow_118 hp241 (fun v235 hp242 => ?_)
              refine x_pc (pc' := 121) rfl ?_
              refine x_up (pc' := 122) (fun _ _ _ _ _ L => lv_isub hx hb dJ11_grow_121) ?_
              refine x_cpq X hG q1846 q424 q423 q112 (Nat.le_of_ble_eq_true rfl) ⟨Nat.le_of_ble_eq_true rfl, Nat.le_of_ble_eq_true rfl⟩ dJ11_grow_122 hp242 (fun σ236 hp243 => ?_)
              refine x_pc (pc' := 125) rfl ?_
              refine x_up (pc' := 126) (fun _ _ _ _ _ L => lv_aload_n hx hb dJ11_grow_125 rfl (lv_at L 5 rfl)) ?_
              refine x_gi X (kJ11 hG) 1 (by decide) q546 (fun _ h => h) dJ11_grow_126 hp243 (fun v237 hp244 => ?_)
              refine x_pc (pc' := 129) rfl ?_
              refine x_upL (pc' := 131) (lo' := [(7, .int v237), (6, .int (v205 - v3)), (5, .ref b230), (3, .int v205), (4, .int (v3 + (2 : Int32))), (2, .int v3), (0, .ref a0), (1, .int x1)]) (fun _ _ _ _ _ L => lv_istore hx hb dJ11_grow_129 L (by decide) rfl) ?_
              refine x_up (pc' := 132) (fun _ _ _ _ _ L => lv_aload_n hx hb dJ11_grow_131 rfl (lv_at L 6 rfl)) ?_
              refine x_up (pc' := 133) (fun _ _ _ _ _ L => lv_dup hx hb dJ11_grow_132 rfl) ?_
              refine x_gi X (kJ11 hG) 1 (by decide) q546 (fun _ h => h) dJ11_grow_133 hp244 (fun v238 hp245 => ?_)
              refine x_pc (pc' := 136) rfl ?_
              refine x_up (pc' := 138) (fun _ _ _ _ _ L => lv_iload hx hb dJ11_grow_136 (lv_at L 1 rfl)) ?_
              refine x_up (pc' := 139) (fun _ _ _ _ _ L => lv_iadd hx hb dJ11_grow_138) ?_
              refine x_up (pc' := 140) (fun _ _ _ _ _ L => lv_dup_x1 hx hb dJ11_grow_139 rfl rfl) ?_
              refine x_pi X (kJ11 hG) 1 (by decide) q546 (fun _ h => h) rfl rfl rfl dJ11_grow_140 hp245 (fun σ239 hp246 => ?_)
              refine x_pc (pc' := 143) rfl ?_
              refine x_upL (pc' := 145) (lo' := [(8, .int (v238 + (v205 - v3))), (7, .int v237), (6, .int (v205 - v3)), (5, .ref b230), (3, .int v205), (4, .int (v3 + (2 : Int32))), (2, .int v3), (0, .ref a0), (1, .int x1)]) (fun _ _ _ _ _ L => lv_istore hx hb dJ11_grow_143 L (by decide) rfl) ?_
              refine x_lo (lo' := [(7, .int v237), (5, .ref b230), (8, .int (v238 + (v205 - v3)))]) [1, 3, 0] rfl ?_
              refine x_while (v0 := v237) (fun w240 => [(7, .int w240), (5, .ref b230), (8, .int (v238 + (v205 - v3)))]) hp246 (fun self241 hself242 => ?_)
              rintro y244 σ243 hp247
              unfold B_J11_grow_145 at hp247
              refine x_same (lo' := [(7, .int y244), (5, .ref b230), (8, .int (v238 + (v205 - v3)))]) rfl ?_
              refine x_up (pc' := 147) (fun _ _ _ _ _ L => lv_iload hx hb dJ11_grow_145 (lv_at L 0 rfl)) ?_
              refine x_up (pc' := 149) (fun _ _ _ _ _ L => lv_iload hx hb dJ11_grow_147 (lv_at L 2 rfl)) ?_
              refine x_if (C := (v238 + (v205 - v3)) ≤ y244) (pt := 164) (pc' := 152) (fun _ _ _ _ _ => lv_icmp_ge (tgt := 164) hx hb dJ11_grow_149 (by decide)) (fun c149 => ?_) (fun c149 => ?_)
              · have hp248 := hp247.1 c149
                exact x_vret X hr dJ11_grow_164 hp248
              · have hp249 := hp247.2 c149
                refine x_up (pc' := 154) (fun _ _ _ _ _ L => lv_aload hx hb dJ11_grow_152 (lv_at L 1 rfl)) ?_
                refine x_up (pc' := 156) (fun _ _ _ _ _ L => lv_iload hx hb dJ11_grow_154 (lv_at L 0 rfl)) ?_
                refine x_up (pc' := 157) (fun _ _ _ _ _ L => lv_null hx hb dJ11_grow_156) ?_
                refine x_aast X hG none dJ11_grow_157 hp249 (fun σ245 hp250 => ?_)
                refine x_pc (pc' := 158) rfl ?_
                refine x_upL (pc' := 161) (lo' := [(7, .int (y244 + (1 : Int32))), (5, .ref b230), (8, .int (v238 + (v205 - v3)))]) (fun _ _ _ _ _ L => lv_iinc (v := y244 + (1 : Int32)) hx hb dJ11_grow_158 L (k := 0) rfl rfl (by decide) rfl) ?_
                refine x_up (pc' := 145) (fun _ _ _ _ _ L => lv_goto (tgt := 145) hx hb dJ11_grow_161 (by decide)) ?_
                refine x_lo (lo' := [(7, .int (y244 + (1 : Int32))), (5, .ref b230), (8, .int (v238 + (v205 - v3)))]) [0, 1, 2] rfl ?_
                exact hself242 (y244 + (1 : Int32)) σ245 hp250
          · have hp251 := hp233.2 c83
            exact x_vret X hr dJ11_grow_164 hp251
-- J11_addLast
def P_J11_addLast (κ : Nat → Nat) (a0 : Nat) (x1 : Option Nat) (σ : xS) (K : Unit → xH → Prop) : Prop :=
  ((x1 = none → (False)) ∧ (∀ b1 : Nat, x1 = some b1 → (xgq σ a0 7 0 fun v2 => xgi σ a0 7 2 fun v3 => xnn v2 fun b4 => xsq κ σ b4 v3 (some b1) fun σ5 => xgi σ5 a0 7 1 fun v6 => xgi σ5 a0 7 2 fun v7 => xan σ5 b4 fun v8 => xcall (fun τ L => P_J11_inc κ v7 v8 τ L) σ5 fun v9 σ10 => xpi κ σ10 a0 7 2 v9 fun σ11 => ((v6 = v9 → (xrc σ11 a0 7 ∧ xcall (fun τ L => P_J11_grow κ a0 (1 : Int32) τ L) σ11 fun _ σ12 => K () σ12.1)) ∧ (¬ v6 = v9 → (K () σ11.1))))))
theorem mdJ11_addLast : yJ11_addLast.cls ≠ "java/lang/invoke/MethodHandle" ∧ yJ11_addLast.cls ≠ "java/lang/invoke/VarHandle" ∧ (parseMethodDescriptor yJ11_addLast.desc).map (fun d => d.parameters.length) = some 1 := by decide +kernel
set_option maxHeartbeats 4000000 in
set_option maxRecDepth 100000 in
theorem R_J11_addLast (l : Launch) (hl : l.stackTraces = false) (G : xG) (hG : G.1.2 = x_cl) (a0 : Nat) (x1 : Option Nat) (σ : xS) (K : Unit → xH → Prop) (hp : P_J11_addLast G.2 a0 x1 σ K) : xM l yJ11_addLast cJ11_addLast 3 (Option.none : Option Jvm.ClassFile.FieldType) 4 132 G [(.ref a0), va_rf x1] σ (xlift emV K) := by
  refine x_entry (by decide) (by simp [lg_sl, x_catq, x_cati, x_catr, x_catn]) ?_
  intro p e s m args below meth c X hr hin
  have X : xX p s m args meth c G cJ11_addLast 3 RJ11 := X
  have hx := X.1
  have hb := X.2.1
  have hts := X.2.2.2.2.1
  have hown := X.2.2.2.1
  unfold P_J11_addLast at hp
  refine x_same (lo' := [(0, .ref a0), (1, va_rf x1)]) (by simp [lv_args, x_catq, x_cati, x_catr, x_catn]) ?_
  refine x_up (pc' := 1) (fun _ _ _ _ _ L => lv_aloadq_n hx hb dJ11_addLast_0 rfl (lv_at L 1 rfl)) ?_
  rcases x1 with _ | b1
  · have hp1 := hp.1 rfl
    refine x_up (pc' := 4) (fun _ _ _ _ _ L => lv_ifnonnullN hx hb dJ11_addLast_1) ?_
    exact hp1.elim
  · have hp2 := hp.2 _ rfl
    refine x_up (pc' := 12) (fun _ _ _ _ _ L => lv_ifnonnull (tgt := 12) hx hb dJ11_addLast_1 (by decide)) ?_
    refine x_up (pc' := 13) (fun _ _ _ _ _ L => lv_aload_n hx hb dJ11_addLast_12 rfl (lv_at L 0 rfl)) ?_
    refine x_gq X (kJ11 hG) 0 (by decide) q543 (fun _ h => h) dJ11_addLast_13 hp2 (fun v2 hp3 => ?_)
    refine x_pc (pc' := 16) rfl ?_
    refine x_upL (pc' := 17) (lo' := [(2, va_rf v2), (0, .ref a0), (1, .ref b1)]) (fun _ _ _ _ _ L => lv_astoreq_n hx hb dJ11_addLast_16 rfl L (by decide) rfl) ?_
    refine x_up (pc' := 18) (fun _ _ _ _ _ L => lv_aloadq_n hx hb dJ11_addLast_17 rfl (lv_at L 0 rfl)) ?_
    refine x_up (pc' := 19) (fun _ _ _ _ _ L => lv_aload_n hx hb dJ11_addLast_18 rfl (lv_at L 1 rfl)) ?_
    refine x_gi X (kJ11 hG) 2 (by decide) q547 (fun _ h => h) dJ11_addLast_19 hp3 (fun v3 hp4 => ?_)
    refine x_pc (pc' := 22) rfl ?_
    refine x_up (pc' := 23) (fun _ _ _ _ _ L => lv_aload_n hx hb dJ11_addLast_22 rfl (lv_at L 2 rfl)) ?_
    obtain ⟨b4, rfl, hp5⟩ := hp4
    refine x_aast X hG (some b1) dJ11_addLast_23 hp5 (fun σ5 hp6 => ?_)
    refine x_pc (pc' := 24) rfl ?_
    refine x_up (pc' := 25) (fun _ _ _ _ _ L => lv_aload_n hx hb dJ11_addLast_24 rfl (lv_at L 1 rfl)) ?_
    refine x_gi X (kJ11 hG) 1 (by decide) q546 (fun _ h => h) dJ11_addLast_25 hp6 (fun v6 hp7 => ?_)
    refine x_pc (pc' := 28) rfl ?_
    refine x_up (pc' := 29) (fun _ _ _ _ _ L => lv_aload_n hx hb dJ11_addLast_28 rfl (lv_at L 1 rfl)) ?_
    refine x_up (pc' := 30) (fun _ _ _ _ _ L => lv_aload_n hx hb dJ11_addLast_29 rfl (lv_at L 1 rfl)) ?_
    refine x_gi X (kJ11 hG) 2 (by decide) q547 (fun _ h => h) dJ11_addLast_30 hp7 (fun v7 hp8 => ?_)
    refine x_pc (pc' := 33) rfl ?_
    refine x_up (pc' := 34) (fun _ _ _ _ _ L => lv_aload_n hx hb dJ11_addLast_33 rfl (lv_at L 0 rfl)) ?_
    refine x_alen X dJ11_addLast_34 hp8 (fun v8 hp9 => ?_)
    refine x_pc (pc' := 35) rfl ?_
    refine x_callS (em := emI) (fun r st => .int r :: st) (fun _ _ => rfl) 2 X (fun σ' KK h => R_J11_inc l hl G hG v7 v8 σ' KK h) (lw_S q1248 q1196 q114 q1197) mdJ11_inc ⟨Nat.le_of_ble_eq_true rfl, Nat.le_of_ble_eq_true rfl⟩ rfl rfl (Nat.le_of_ble_eq_true rfl) dJ11_addLast_35 hp9 (fun v9 σ10 hp10 => ?_)
    refine x_pc (pc' := 38) rfl ?_
    refine x_up (pc' := 39) (fun _ _ _ _ _ L => lv_dup_x1 hx hb dJ11_addLast_38 rfl rfl) ?_
    refine x_pi X (kJ11 hG) 2 (by decide) q547 (fun _ h => h) rfl rfl rfl dJ11_addLast_39 hp10 (fun σ11 hp11 => ?_)
    refine x_pc (pc' := 42) rfl ?_
    refine x_ifn (C := v6 = v9) (pt := 50) (pc' := 45) (fun _ _ _ _ _ => lv_icmp_ne (tgt := 50) hx hb dJ11_addLast_42 (by decide)) (fun c42 => ?_) (fun c42 => ?_)
    · have hp12 := hp11.1 c42
      refine x_up (pc' := 46) (fun _ _ _ _ _ L => lv_aload_n hx hb dJ11_addLast_45 rfl (lv_at L 1 rfl)) ?_
      refine x_up (pc' := 47) (fun _ _ _ _ _ L => lv_iconst (v := (1 : Int32)) hx hb dJ11_addLast_46 (by decide)) ?_
      refine x_callV (em := emV) (fun r st => st) (fun _ _ => rfl) 1 X (kJ11 hG) (fun σ' KK h => R_J11_grow l hl G hG a0 (1 : Int32) σ' KK h) (lw_V q1998 q2000 qs23 q114 q2001) ⟨rfl, mdJ11_grow⟩ ⟨Nat.le_of_ble_eq_true rfl, Nat.le_of_ble_eq_true rfl⟩ rfl rfl (Nat.le_of_ble_eq_true rfl) dJ11_addLast_47 hp12.1 hp12.2 (fun _ σ12 hp13 => ?_)
      refine x_pc (pc' := 50) rfl ?_
      exact x_vret X hr dJ11_addLast_50 hp13
    · have hp14 := hp11.2 c42
      exact x_vret X hr dJ11_addLast_50 hp14
-- X1_remember
def P_X1_remember (κ : Nat → Nat) (a0 : Nat) (x1 : Option Nat) (σ : xS) (K : Unit → xH → Prop) : Prop :=
  xgq σ a0 0 2 fun v1 => xnn v1 fun b2 => xrc σ b2 7 ∧ xcall (fun τ L => P_J11_size κ b2 τ L) σ fun v3 σ4 => ((v3 = (8 : Int32) → (xgq σ4 a0 0 2 fun v5 => xnn v5 fun b6 => xrc σ4 b6 7 ∧ xcall (fun τ L => P_J11_removeFirst κ b6 τ L) σ4 fun v7 σ8 => xgq σ8 a0 0 2 fun v9 => xgq σ8 a0 0 0 fun v10 => xnn v9 fun b11 => xrc σ8 b11 7 ∧ xcall (fun τ L => P_J11_addLast κ b11 v10 τ L) σ8 fun _ σ12 => xpq κ σ12 a0 0 0 x1 fun σ13 => K () σ13.1)) ∧ (¬ v3 = (8 : Int32) → (xgq σ4 a0 0 2 fun v14 => xgq σ4 a0 0 0 fun v15 => xnn v14 fun b16 => xrc σ4 b16 7 ∧ xcall (fun τ L => P_J11_addLast κ b16 v15 τ L) σ4 fun _ σ17 => xpq κ σ17 a0 0 0 x1 fun σ18 => K () σ18.1)))
theorem mdX1_remember : yX1_remember.cls ≠ "java/lang/invoke/MethodHandle" ∧ yX1_remember.cls ≠ "java/lang/invoke/VarHandle" ∧ (parseMethodDescriptor yX1_remember.desc).map (fun d => d.parameters.length) = some 1 := by decide +kernel
set_option maxHeartbeats 4000000 in
set_option maxRecDepth 100000 in
theorem R_X1_remember (l : Launch) (hl : l.stackTraces = false) (G : xG) (hG : G.1.2 = x_cl) (a0 : Nat) (x1 : Option Nat) (σ : xS) (K : Unit → xH → Prop) (hp : P_X1_remember G.2 a0 x1 σ K) : xM l yX1_remember cX1_remember 2 (Option.none : Option Jvm.ClassFile.FieldType) 5 154 G [(.ref a0), va_rf x1] σ (xlift emV K) := by
  refine x_entry (by decide) (by simp [lg_sl, x_catq, x_cati, x_catr, x_catn]) ?_
  intro p e s m args below meth c X hr hin
  have X : xX p s m args meth c G cX1_remember 2 RX1 := X
  have hx := X.1
  have hb := X.2.1
  have hts := X.2.2.2.2.1
  have hown := X.2.2.2.1
  unfold P_X1_remember at hp
  refine x_same (lo' := [(0, .ref a0), (1, va_rf x1)]) (by simp [lv_args, x_catq, x_cati, x_catr, x_catn]) ?_
  refine x_up (pc' := 1) (fun _ _ _ _ _ L => lv_aload_n hx hb dX1_remember_0 rfl (lv_at L 0 rfl)) ?_
  refine x_gq X (kX1 hG) 2 (by decide) q591 (fun _ h => h) dX1_remember_1 hp (fun v1 hp1 => ?_)
  refine x_pc (pc' := 4) rfl ?_
  obtain ⟨b2, rfl, hp2⟩ := hp1
  refine x_callF (x := ⟨"java/util/Deque", "size", "()I"⟩) (em := emI) (fun r st => .int r :: st) (fun _ _ => rfl) 0 X (kJ11 hG) (fun σ' KK h => R_J11_size l hl G hG b2 σ' KK h) q1956 q1960 q1874 q114 q1875 ⟨⟨q1958, q1957, q1962, q1961, q1959⟩, by decide, by decide⟩ (by decide +kernel) ⟨Nat.le_of_ble_eq_true rfl, Nat.le_of_ble_eq_true rfl⟩ rfl rfl (Nat.le_of_ble_eq_true rfl) dX1_remember_4 hp2.1 hp2.2 (fun v3 σ4 hp3 => ?_)
  refine x_pc (pc' := 9) rfl ?_
  refine x_up (pc' := 11) (fun _ _ _ _ _ L => lv_bipush (v := (8 : Int32)) hx hb dX1_remember_9 (by decide)) ?_
  refine x_ifn (C := v3 = (8 : Int32)) (pt := 24) (pc' := 14) (fun _ _ _ _ _ => lv_icmp_ne (tgt := 24) hx hb dX1_remember_11 (by decide)) (fun c11 => ?_) (fun c11 => ?_)
  · have hp4 := hp3.1 c11
    refine x_up (pc' := 15) (fun _ _ _ _ _ L => lv_aload_n hx hb dX1_remember_14 rfl (lv_at L 0 rfl)) ?_
    refine x_gq X (kX1 hG) 2 (by decide) q591 (fun _ h => h) dX1_remember_15 hp4 (fun v5 hp5 => ?_)
    refine x_pc (pc' := 18) rfl ?_
    obtain ⟨b6, rfl, hp6⟩ := hp5
    refine x_callF (x := ⟨"java/util/Deque", "removeFirst", "()Ljava/lang/Object;"⟩) (em := emQ) (fun r st => va_rf r :: st) (fun _ _ => rfl) 0 X (kJ11 hG) (fun σ' KK h => R_J11_removeFirst l hl G hG b6 σ' KK h) q1968 q1971 q1973 q114 q1975 ⟨⟨q1970, q1969, q1974, q1972, q1959⟩, by decide, by decide⟩ (by decide +kernel) ⟨Nat.le_of_ble_eq_true rfl, Nat.le_of_ble_eq_true rfl⟩ rfl rfl (Nat.le_of_ble_eq_true rfl) dX1_remember_18 hp6.1 hp6.2 (fun v7 σ8 hp7 => ?_)
    refine x_pc (pc' := 23) rfl ?_
    refine x_up (pc' := 24) (fun _ _ _ _ _ L => lv_pop hx hb dX1_remember_23 (x_catq _)) ?_
    refine x_up (pc' := 25) (fun _ _ _ _ _ L => lv_aload_n hx hb dX1_remember_24 rfl (lv_at L 0 rfl)) ?_
    refine x_gq X (kX1 hG) 2 (by decide) q591 (fun _ h => h) dX1_remember_25 hp7 (fun v9 hp8 => ?_)
    refine x_pc (pc' := 28) rfl ?_
    refine x_up (pc' := 29) (fun _ _ _ _ _ L => lv_aload_n hx hb dX1_remember_28 rfl (lv_at L 0 rfl)) ?_
    refine x_gq X (kX1 hG) 0 (by decide) q589 (fun _ h => h) dX1_remember_29 hp8 (fun v10 hp9 => ?_)
    refine x_pc (pc' := 32) rfl ?_
    obtain ⟨b11, rfl, hp10⟩ := hp9
    refine x_callF (x := ⟨"java/util/Deque", "addLast", "(Ljava/lang/Object;)V"⟩) (em := emV) (fun r st => st) (fun _ _ => rfl) 1 X (kJ11 hG) (fun σ' KK h => R_J11_addLast l hl G hG b11 v10 σ' KK h) q1990 q1993 q1995 q114 q1997 ⟨⟨q1992, q1991, q1996, q1994, q1959⟩, by decide, by decide⟩ (by decide +kernel) ⟨Nat.le_of_ble_eq_true rfl, Nat.le_of_ble_eq_true rfl⟩ rfl rfl (Nat.le_of_ble_eq_true rfl) dX1_remember_32 hp10.1 hp10.2 (fun _ σ12 hp11 => ?_)
    refine x_pc (pc' := 37) rfl ?_
    refine x_up (pc' := 38) (fun _ _ _ _ _ L => lv_aload_n hx hb dX1_remember_37 rfl (lv_at L 0 rfl)) ?_
    refine x_up (pc' := 39) (fun _ _ _ _ _ L => lv_aloadq_n hx hb dX1_remember_38 rfl (lv_at L 1 rfl)) ?_
    refine x_pq X (kX1 hG) 0 (by decide) q589 (fun _ h => h) rfl x1 (x_nar _ (by decide)) (x_fit _ (by decide)) dX1_remember_39 hp11 (fun σ13 hp12 => ?_)
    refine x_pc (pc' := 42) rfl ?_
    exact x_vret X hr dX1_remember_42 hp12
  · have hp13 := hp3.2 c11
    refine x_up (pc' := 25) (fun _ _ _ _ _ L => lv_aload_n hx hb dX1_remember_24 rfl (lv_at L 0 rfl)) ?_
    refine x_gq X (kX1 hG) 2 (by decide) q591 (fun _ h => h) dX1_remember_25 hp13 (fun v14 hp14 => ?_)
    refine x_pc (pc' := 28) rfl ?_
    refine x_up (pc' := 29) (fun _ _ _ _ _ L => lv_aload_n hx hb dX1_remember_28 rfl (lv_at L 0 rfl)) ?_
    refine x_gq X (kX1 hG) 0 (by decide) q589 (fun _ h => h) dX1_remember_29 hp14 (fun v15 hp15 => ?_)
    refine x_pc (pc' := 32) rfl ?_
    obtain ⟨b16, rfl, hp16⟩ := hp15
    refine x_callF (x := ⟨"java/util/Deque", "addLast", "(Ljava/lang/Object;)V"⟩) (em := emV) (fun r st => st) (fun _ _ => rfl) 1 X (kJ11 hG) (fun σ' KK h => R_J11_addLast l hl G hG b16 v15 σ' KK h) q1990 q1993 q1995 q114 q1997 ⟨⟨q1992, q1991, q1996, q1994, q1959⟩, by decide, by decide⟩ (by decide +kernel) ⟨Nat.le_of_ble_eq_true rfl, Nat.le_of_ble_eq_true rfl⟩ rfl rfl (Nat.le_of_ble_eq_true rfl) dX1_remember_32 hp16.1 hp16.2 (fun _ σ17 hp17 => ?_)
    refine x_pc (pc' := 37) rfl ?_
    refine x_up (pc' := 38) (fun _ _ _ _ _ L => lv_aload_n hx hb dX1_remember_37 rfl (lv_at L 0 rfl)) ?_
    refine x_up (pc' := 39) (fun _ _ _ _ _ L => lv_aloadq_n hx hb dX1_remember_38 rfl (lv_at L 1 rfl)) ?_
    refine x_pq X (kX1 hG) 0 (by decide) q589 (fun _ h => h) rfl x1 (x_nar _ (by decide)) (x_fit _ (by decide)) dX1_remember_39 hp17 (fun σ18 hp18 => ?_)
    refine x_pc (pc' := 42) rfl ?_
    exact x_vret X hr dX1_remember_42 hp18
-- J4_toArray
def P_J4_toArray (κ : Nat → Nat) (a0 : Nat) (σ : xS) (K : Option Nat → xH → Prop) : Prop :=
  xgq σ a0 3 1 fun v1 => xgi σ a0 3 2 fun v2 => xcall (fun τ L => P_J9_copyOf κ v1 v2 τ L) σ fun v3 σ4 => K v3 σ4.1
theorem mdJ4_toArray : yJ4_toArray.cls ≠ "java/lang/invoke/MethodHandle" ∧ yJ4_toArray.cls ≠ "java/lang/invoke/VarHandle" ∧ (parseMethodDescriptor yJ4_toArray.desc).map (fun d => d.parameters.length) = some 0 := by decide +kernel
set_option maxHeartbeats 4000000 in
set_option maxRecDepth 100000 in
theorem R_J4_toArray (l : Launch) (hl : l.stackTraces = false) (G : xG) (hG : G.1.2 = x_cl) (a0 : Nat) (σ : xS) (K : Option Nat → xH → Prop) (hp : P_J4_toArray G.2 a0 σ K) : xM l yJ4_toArray cJ4_toArray 1 (Option.some (Jvm.ClassFile.FieldType.array (Jvm.ClassFile.FieldType.object "java/lang/Object"))) 3 104 G [(.ref a0)] σ (xlift emQ K) := by
  refine x_entry (by decide) (Nat.le_of_ble_eq_true rfl) ?_
  intro p e s m args below meth c X hr hin
  have X : xX p s m args meth c G cJ4_toArray 1 RJ4 := X
  have hx := X.1
  have hb := X.2.1
  have hts := X.2.2.2.2.1
  have hown := X.2.2.2.1
  unfold P_J4_toArray at hp
  refine x_same (lo' := [(0, .ref a0)]) rfl ?_
  refine x_up (pc' := 1) (fun _ _ _ _ _ L => lv_aload_n hx hb dJ4_toArray_0 rfl (lv_at L 0 rfl)) ?_
  refine x_gq X (kJ4 hG) 1 (by decide) q227 (fun _ h => h) dJ4_toArray_1 hp (fun v1 hp1 => ?_)
  refine x_pc (pc' := 4) rfl ?_
  refine x_up (pc' := 5) (fun _ _ _ _ _ L => lv_aload_n hx hb dJ4_toArray_4 rfl (lv_at L 0 rfl)) ?_
  refine x_gi X (kJ4 hG) 2 (by decide) q230 (fun _ h => h) dJ4_toArray_5 hp1 (fun v2 hp2 => ?_)
  refine x_pc (pc' := 8) rfl ?_
  refine x_callS (em := emQ) (fun r st => va_rf r :: st) (fun _ _ => rfl) 2 X (fun σ' KK h => R_J9_copyOf l hl G hG v1 v2 σ' KK h) (lw_S q364 q365 q111 q366) mdJ9_copyOf ⟨Nat.le_of_ble_eq_true rfl, Nat.le_of_ble_eq_true rfl⟩ rfl rfl (Nat.le_of_ble_eq_true rfl) dJ4_toArray_8 hp2 (fun v3 σ4 hp3 => ?_)
  refine x_pc (pc' := 11) rfl ?_
  exact x_aret X hr (Or.inr ⟨_, rfl⟩) dJ4_toArray_11 v3 hp3
-- J4_addAll
def P_J4_addAll (κ : Nat → Nat) (a0 : Nat) (x1 : Option Nat) (σ : xS) (K : Int32 → xH → Prop) : Prop :=
  xnn x1 fun b1 => xrc σ b1 3 ∧ xcall (fun τ L => P_J4_toArray κ b1 τ L) σ fun v2 σ3 => xgi σ3 a0 3 0 fun v4 => xpi κ σ3 a0 3 0 (v4 + (1 : Int32)) fun σ5 => xnn v2 fun b6 => xan σ5 b6 fun v7 => ((v7 = 0 → (K (0 : Int32) σ5.1)) ∧ (¬ v7 = 0 → (xgq σ5 a0 3 1 fun v8 => xnn v8 fun b9 => xan σ5 b9 fun v10 => xgi σ5 a0 3 2 fun v11 => ((v7 ≤ (v10 - v11) → (xcpq κ σ5 b6 (0 : Int32) b9 v11 v7 fun σ12 => xpi κ σ12 a0 3 2 (v11 + v7) fun σ13 => K (1 : Int32) σ13.1)) ∧ (¬ v7 ≤ (v10 - v11) → (xrc σ5 a0 3 ∧ xcall (fun τ L => P_J4_grow_2 κ a0 (v11 + v7) τ L) σ5 fun v14 σ15 => xnn v14 fun b16 => xcpq κ σ15 b6 (0 : Int32) b16 v11 v7 fun σ17 => xpi κ σ17 a0 3 2 (v11 + v7) fun σ18 => K (1 : Int32) σ18.1))))))
theorem mdJ4_addAll : yJ4_addAll.cls ≠ "java/lang/invoke/MethodHandle" ∧ yJ4_addAll.cls ≠ "java/lang/invoke/VarHandle" ∧ (parseMethodDescriptor yJ4_addAll.desc).map (fun d => d.parameters.length) = some 1 := by decide +kernel
set_option maxHeartbeats 4000000 in
set_option maxRecDepth 100000 in
theorem R_J4_addAll (l : Launch) (hl : l.stackTraces = false) (G : xG) (hG : G.1.2 = x_cl) (a0 : Nat) (x1 : Option Nat) (σ : xS) (K : Int32 → xH → Prop) (hp : P_J4_addAll G.2 a0 x1 σ K) : xM l yJ4_addAll cJ4_addAll 6 (Option.some Jvm.ClassFile.FieldType.boolean) 4 127 G [(.ref a0), va_rf x1] σ (xlift emI K) := by
  refine x_entry (by decide) (by simp [lg_sl, x_catq, x_cati, x_catr, x_catn]) ?_
  intro p e s m args below meth c X hr hin
  have X : xX p s m args meth c G cJ4_addAll 6 RJ4 := X
  have hx := X.1
  have hb := X.2.1
  have hts := X.2.2.2.2.1
  have hown := X.2.2.2.1
  unfold P_J4_addAll at hp
  refine x_same (lo' := [(0, .ref a0), (1, va_rf x1)]) (by simp [lv_args, x_catq, x_cati, x_catr, x_catn]) ?_
  refine x_up (pc' := 1) (fun _ _ _ _ _ L => lv_aloadq_n hx hb dJ4_addAll_0 rfl (lv_at L 1 rfl)) ?_
  obtain ⟨b1, rfl, hp1⟩ := hp
  refine x_callF (x := ⟨"java/util/Collection", "toArray", "()[Ljava/lang/Object;"⟩) (em := emQ) (fun r st => va_rf r :: st) (fun _ _ => rfl) 0 X (kJ4 hG) (fun σ' KK h => R_J4_toArray l hl G hG b1 σ' KK h) q2048 q1848 q1850 q105 q1852 ⟨⟨q1831, q1830, q1851, q1849, q1847⟩, by decide, by decide⟩ (by decide +kernel) ⟨Nat.le_of_ble_eq_true rfl, Nat.le_of_ble_eq_true rfl⟩ rfl rfl (Nat.le_of_ble_eq_true rfl) dJ4_addAll_1 hp1.1 hp1.2 (fun v2 σ3 hp2 => ?_)
  refine x_pc (pc' := 6) rfl ?_
  refine x_upL (pc' := 7) (lo' := [(2, va_rf v2), (0, .ref a0), (1, .ref b1)]) (fun _ _ _ _ _ L => lv_astoreq_n hx hb dJ4_addAll_6 rfl L (by decide) rfl) ?_
  refine x_up (pc' := 8) (fun _ _ _ _ _ L => lv_aload_n hx hb dJ4_addAll_7 rfl (lv_at L 1 rfl)) ?_
  refine x_up (pc' := 9) (fun _ _ _ _ _ L => lv_dup hx hb dJ4_addAll_8 rfl) ?_
  refine x_gi X (kJ4 hG) 0 (by decide) q238 (x_sameF (X.2.2.2.2.1 _ q235)) dJ4_addAll_9 hp2 (fun v4 hp3 => ?_)
  refine x_pc (pc' := 12) rfl ?_
  refine x_up (pc' := 13) (fun _ _ _ _ _ L => lv_iconst (v := (1 : Int32)) hx hb dJ4_addAll_12 (by decide)) ?_
  refine x_up (pc' := 14) (fun _ _ _ _ _ L => lv_iadd hx hb dJ4_addAll_13) ?_
  refine x_pi X (kJ4 hG) 0 (by decide) q238 (x_sameF (X.2.2.2.2.1 _ q235)) rfl rfl rfl dJ4_addAll_14 hp3 (fun σ5 hp4 => ?_)
  refine x_pc (pc' := 17) rfl ?_
  refine x_up (pc' := 18) (fun _ _ _ _ _ L => lv_aloadq_n hx hb dJ4_addAll_17 rfl (lv_at L 0 rfl)) ?_
  obtain ⟨b6, rfl, hp5⟩ := hp4
  refine x_alen X dJ4_addAll_18 hp5 (fun v7 hp6 => ?_)
  refine x_pc (pc' := 19) rfl ?_
  refine x_upL (pc' := 20) (lo' := [(3, .int v7), (2, .ref b6), (0, .ref a0), (1, .ref b1)]) (fun _ _ _ _ _ L => lv_istore_n hx hb dJ4_addAll_19 rfl L (by decide) rfl) ?_
  refine x_up (pc' := 21) (fun _ _ _ _ _ L => lv_iload_n hx hb dJ4_addAll_20 rfl (lv_at L 0 rfl)) ?_
  refine x_ifn (C := v7 = 0) (pt := 26) (pc' := 24) (fun _ _ _ _ _ => lv_if_ne (tgt := 26) hx hb dJ4_addAll_21 (by decide)) (fun c21 => ?_) (fun c21 => ?_)
  · have hp7 := hp6.1 c21
    refine x_up (pc' := 25) (fun _ _ _ _ _ L => lv_iconst (v := (0 : Int32)) hx hb dJ4_addAll_24 (by decide)) ?_
    exact x_iret X hr rfl dJ4_addAll_25 hp7
  · have hp8 := hp6.2 c21
    refine x_up (pc' := 27) (fun _ _ _ _ _ L => lv_iload_n hx hb dJ4_addAll_26 rfl (lv_at L 0 rfl)) ?_
    refine x_up (pc' := 28) (fun _ _ _ _ _ L => lv_aload_n hx hb dJ4_addAll_27 rfl (lv_at L 2 rfl)) ?_
    refine x_gq X (kJ4 hG) 1 (by decide) q227 (fun _ h => h) dJ4_addAll_28 hp8 (fun v8 hp9 => ?_)
    refine x_pc (pc' := 31) rfl ?_
    refine x_up (pc' := 32) (fun _ _ _ _ _ L => lv_dup hx hb dJ4_addAll_31 (x_catq _)) ?_
    refine x_upL (pc' := 34) (lo' := [(4, va_rf v8), (3, .int v7), (2, .ref b6), (0, .ref a0), (1, .ref b1)]) (fun _ _ _ _ _ L => lv_astoreq hx hb dJ4_addAll_32 L (by decide) rfl) ?_
    obtain ⟨b9, rfl, hp10⟩ := hp9
    refine x_alen X dJ4_addAll_34 hp10 (fun v10 hp11 => ?_)
    refine x_pc (pc' := 35) rfl ?_
    refine x_up (pc' := 36) (fun _ _ _ _ _ L => lv_aload_n hx hb dJ4_addAll_35 rfl (lv_at L 3 rfl)) ?_
    refine x_gi X (kJ4 hG) 2 (by decide) q230 (fun _ h => h) dJ4_addAll_36 hp11 (fun v11 hp12 => ?_)
    refine x_pc (pc' := 39) rfl ?_
    refine x_up (pc' := 40) (fun _ _ _ _ _ L => lv_dup hx hb dJ4_addAll_39 rfl) ?_
    refine x_upL (pc' := 42) (lo' := [(5, .int v11), (4, .ref b9), (3, .int v7), (2, .ref b6), (0, .ref a0), (1, .ref b1)]) (fun _ _ _ _ _ L => lv_istore hx hb dJ4_addAll_40 L (by decide) rfl) ?_
    refine x_up (pc' := 43) (fun _ _ _ _ _ L => lv_isub hx hb dJ4_addAll_42) ?_
    refine x_if (C := v7 ≤ (v10 - v11)) (pt := 56) (pc' := 46) (fun _ _ _ _ _ => lv_icmp_le (tgt := 56) hx hb dJ4_addAll_43 (by decide)) (fun c43 => ?_) (fun c43 => ?_)
    · have hp13 := hp12.1 c43
      refine x_up (pc' := 57) (fun _ _ _ _ _ L => lv_aload_n hx hb dJ4_addAll_56 rfl (lv_at L 3 rfl)) ?_
      refine x_up (pc' := 58) (fun _ _ _ _ _ L => lv_iconst (v := (0 : Int32)) hx hb dJ4_addAll_57 (by decide)) ?_
      refine x_up (pc' := 60) (fun _ _ _ _ _ L => lv_aload hx hb dJ4_addAll_58 (lv_at L 1 rfl)) ?_
      refine x_up (pc' := 62) (fun _ _ _ _ _ L => lv_iload hx hb dJ4_addAll_60 (lv_at L 0 rfl)) ?_
      refine x_up (pc' := 63) (fun _ _ _ _ _ L => lv_iload_n hx hb dJ4_addAll_62 rfl (lv_at L 2 rfl)) ?_
      refine x_cpq X hG q2049 q424 q423 q112 (Nat.le_of_ble_eq_true rfl) ⟨Nat.le_of_ble_eq_true rfl, Nat.le_of_ble_eq_true rfl⟩ dJ4_addAll_63 hp13 (fun σ12 hp14 => ?_)
      refine x_pc (pc' := 66) rfl ?_
      refine x_up (pc' := 67) (fun _ _ _ _ _ L => lv_aload_n hx hb dJ4_addAll_66 rfl (lv_at L 4 rfl)) ?_
      refine x_up (pc' := 69) (fun _ _ _ _ _ L => lv_iload hx hb dJ4_addAll_67 (lv_at L 0 rfl)) ?_
      refine x_up (pc' := 70) (fun _ _ _ _ _ L => lv_iload_n hx hb dJ4_addAll_69 rfl (lv_at L 2 rfl)) ?_
      refine x_up (pc' := 71) (fun _ _ _ _ _ L => lv_iadd hx hb dJ4_addAll_70) ?_
      refine x_pi X (kJ4 hG) 2 (by decide) q230 (fun _ h => h) rfl rfl rfl dJ4_addAll_71 hp14 (fun σ13 hp15 => ?_)
      refine x_pc (pc' := 74) rfl ?_
      refine x_up (pc' := 75) (fun _ _ _ _ _ L => lv_iconst (v := (1 : Int32)) hx hb dJ4_addAll_74 (by decide)) ?_
      exact x_iret X hr rfl dJ4_addAll_75 hp15
    · have hp16 := hp12.2 c43
      refine x_up (pc' := 47) (fun _ _ _ _ _ L => lv_aload_n hx hb dJ4_addAll_46 rfl (lv_at L 4 rfl)) ?_
      refine x_up (pc' := 49) (fun _ _ _ _ _ L => lv_iload hx hb dJ4_addAll_47 (lv_at L 0 rfl)) ?_
      refine x_up (pc' := 50) (fun _ _ _ _ _ L => lv_iload_n hx hb dJ4_addAll_49 rfl (lv_at L 2 rfl)) ?_
      refine x_up (pc' := 51) (fun _ _ _ _ _ L => lv_iadd hx hb dJ4_addAll_50) ?_
      refine x_callV (em := emQ) (fun r st => va_rf r :: st) (fun _ _ => rfl) 1 X (kJ4 hG) (fun σ' KK h => R_J4_grow_2 l hl G hG a0 (v11 + v7) σ' KK h) (lw_V q350 q352 qs3 q105 q353) ⟨rfl, mdJ4_grow_2⟩ ⟨Nat.le_of_ble_eq_true rfl, Nat.le_of_ble_eq_true rfl⟩ rfl rfl (Nat.le_of_ble_eq_true rfl) dJ4_addAll_51 hp16.1 hp16.2 (fun v14 σ15 hp17 => ?_)
      refine x_pc (pc' := 54) rfl ?_
      refine x_upL (pc' := 56) (lo' := [(4, va_rf v14), (5, .int v11), (3, .int v7), (2, .ref b6), (0, .ref a0), (1, .ref b1)]) (fun _ _ _ _ _ L => lv_astoreq hx hb dJ4_addAll_54 L (by decide) rfl) ?_
      refine x_up (pc' := 57) (fun _ _ _ _ _ L => lv_aload_n hx hb dJ4_addAll_56 rfl (lv_at L 3 rfl)) ?_
      refine x_up (pc' := 58) (fun _ _ _ _ _ L => lv_iconst (v := (0 : Int32)) hx hb dJ4_addAll_57 (by decide)) ?_
      refine x_up (pc' := 60) (fun _ _ _ _ _ L => lv_aloadq hx hb dJ4_addAll_58 (lv_at L 0 rfl)) ?_
      refine x_up (pc' := 62) (fun _ _ _ _ _ L => lv_iload hx hb dJ4_addAll_60 (lv_at L 1 rfl)) ?_
      refine x_up (pc' := 63) (fun _ _ _ _ _ L => lv_iload_n hx hb dJ4_addAll_62 rfl (lv_at L 2 rfl)) ?_
      obtain ⟨b16, rfl, hp18⟩ := hp17
      refine x_cpq X hG q2049 q424 q423 q112 (Nat.le_of_ble_eq_true rfl) ⟨Nat.le_of_ble_eq_true rfl, Nat.le_of_ble_eq_true rfl⟩ dJ4_addAll_63 hp18 (fun σ17 hp19 => ?_)
      refine x_pc (pc' := 66) rfl ?_
      refine x_up (pc' := 67) (fun _ _ _ _ _ L => lv_aload_n hx hb dJ4_addAll_66 rfl (lv_at L 4 rfl)) ?_
      refine x_up (pc' := 69) (fun _ _ _ _ _ L => lv_iload hx hb dJ4_addAll_67 (lv_at L 1 rfl)) ?_
      refine x_up (pc' := 70) (fun _ _ _ _ _ L => lv_iload_n hx hb dJ4_addAll_69 rfl (lv_at L 2 rfl)) ?_
      refine x_up (pc' := 71) (fun _ _ _ _ _ L => lv_iadd hx hb dJ4_addAll_70) ?_
      refine x_pi X (kJ4 hG) 2 (by decide) q230 (fun _ h => h) rfl rfl rfl dJ4_addAll_71 hp19 (fun σ18 hp20 => ?_)
      refine x_pc (pc' := 74) rfl ?_
      refine x_up (pc' := 75) (fun _ _ _ _ _ L => lv_iconst (v := (1 : Int32)) hx hb dJ4_addAll_74 (by decide)) ?_
      exact x_iret X hr rfl dJ4_addAll_75 hp20
-- X2_allLines
def B_X2_allLines_18 (κ : Nat → Nat) (K : Option Nat → xH → Prop) (f1 : Nat) (f2 : Option Nat) : (Unit → xS → Prop) → Unit → xS → Prop := fun self19003 w19001 σ19002 =>
  xnn f2 fun b19004 => xrc σ19002 b19004 21 ∧ xcall (fun τ L => P_J35_hasNext κ b19004 τ L) σ19002 fun v19005 σ19006 => ((v19005 = 0 → (K (some f1) σ19006.1)) ∧ (¬ v19005 = 0 → (xrc σ19006 b19004 21 ∧ xcall (fun τ L => P_J35_next κ b19004 τ L) σ19006 fun v19007 σ19008 => xnn v19007 fun b19009 => xrc σ19008 b19009 3 ∧ xrc σ19008 f1 3 ∧ xcall (fun τ L => P_J4_addAll κ f1 (some b19009) τ L) σ19008 fun v19010 σ19011 => self19003 () σ19011)))
def P_X2_allLines (κ : Nat → Nat) (a0 : Nat) (σ : xS) (K : Option Nat → xH → Prop) : Prop :=
  xnew κ σ 3 3 [.int 0, va_rf none, .int 0] fun q1 σ2 => xcall (fun τ L => P_J4_init κ q1 τ L) σ2 fun _ σ3 => xgq σ3 a0 1 2 fun v4 => xnn v4 fun b5 => xrc σ3 b5 3 ∧ xcall (fun τ L => P_J4_iterator κ b5 τ L) σ3 fun v6 σ7 => xwhile (B_X2_allLines_18 κ K q1 v6) () σ7
theorem mdX2_allLines : yX2_allLines.cls ≠ "java/lang/invoke/MethodHandle" ∧ yX2_allLines.cls ≠ "java/lang/invoke/VarHandle" ∧ (parseMethodDescriptor yX2_allLines.desc).map (fun d => d.parameters.length) = some 0 := by decide +kernel
set_option maxHeartbeats 4000000 in
set_option maxRecDepth 100000 in
theorem R_X2_allLines (l : Launch) (hl : l.stackTraces = false) (G : xG) (hG : G.1.2 = x_cl) (a0 : Nat) (σ : xS) (K : Option Nat → xH → Prop) (hp : P_X2_allLines G.2 a0 σ K) : xM l yX2_allLines cX2_allLines 4 (Option.some (Jvm.ClassFile.FieldType.object "java/util/List")) 5 152 G [(.ref a0)] σ (xlift emQ K) := by
  refine x_entry (by decide) (Nat.le_of_ble_eq_true rfl) ?_
  intro p e s m args below meth c X hr hin
  have X : xX p s m args meth c G cX2_allLines 4 RX2 := X
  have hx := X.1
  have hb := X.2.1
  have hts := X.2.2.2.2.1
  have hown := X.2.2.2.1
  unfold P_X2_allLines at hp
  refine x_same (lo' := [(0, .ref a0)]) rfl ?_
  refine x_new X (kJ4 hG) q213 q214 q105 (fs := [.int 0, va_rf none, .int 0]) x_dflt_J4 dX2_allLines_0 hp (fun q1 σ2 hp1 => ?_)
  refine x_pc (pc' := 3) rfl ?_
  refine x_up (pc' := 4) (fun _ _ _ _ _ L => lv_dup hx hb dX2_allLines_3 rfl) ?_
  refine x_callI 0 X (fun σ' KK h => R_J4_init l hl G hG q1 σ' KK h) (lw_meth q217) q105 q215 q216 rfl mdJ4_init ⟨Nat.le_of_ble_eq_true rfl, Nat.le_of_ble_eq_true rfl⟩ rfl rfl (Nat.le_of_ble_eq_true rfl) dX2_allLines_4 hp1 (fun σ3 hp2 => ?_)
  refine x_pc (pc' := 7) rfl ?_
  refine x_upL (pc' := 8) (lo' := [(1, .ref q1), (0, .ref a0)]) (fun _ _ _ _ _ L => lv_astore_n hx hb dX2_allLines_7 rfl L (by decide) rfl) ?_
  refine x_up (pc' := 9) (fun _ _ _ _ _ L => lv_aload_n hx hb dX2_allLines_8 rfl (lv_at L 1 rfl)) ?_
  refine x_gq X (kX2 hG) 2 (by decide) q462 (fun _ h => h) dX2_allLines_9 hp2 (fun v4 hp3 => ?_)
  refine x_pc (pc' := 12) rfl ?_
  obtain ⟨b5, rfl, hp4⟩ := hp3
  refine x_callF (x := ⟨"java/util/List", "iterator", "()Ljava/util/Iterator;"⟩) (em := emQ) (fun r st => va_rf r :: st) (fun _ _ => rfl) 0 X (kJ4 hG) (fun σ' KK h => R_J4_iterator l hl G hG b5 σ' KK h) q1698 q1701 q1703 q105 q1705 ⟨⟨q1700, q1699, q1704, q1702, q275⟩, by decide, by decide⟩ (by decide +kernel) ⟨Nat.le_of_ble_eq_true rfl, Nat.le_of_ble_eq_true rfl⟩ rfl rfl (Nat.le_of_ble_eq_true rfl) dX2_allLines_12 hp4.1 hp4.2 (fun v6 σ7 hp5 => ?_)
  refine x_pc (pc' := 17) rfl ?_
  refine x_upL (pc' := 18) (lo' := [(2, va_rf v6), (1, .ref q1), (0, .ref a0)]) (fun _ _ _ _ _ L => lv_astoreq_n hx hb dX2_allLines_17 rfl L (by decide) rfl) ?_
  refine x_lo (lo' := [(1, .ref q1), (2, va_rf v6)]) [1, 0] rfl ?_
  refine x_while (v0 := ()) (fun _ => [(1, .ref q1), (2, va_rf v6)]) hp5 (fun self9 hself10 => ?_)
  rintro ⟨⟩ σ11 hp6
  unfold B_X2_allLines_18 at hp6
  refine x_same (lo' := [(1, .ref q1), (2, va_rf v6)]) rfl ?_
  refine x_up (pc' := 19) (fun _ _ _ _ _ L => lv_aloadq_n hx hb dX2_allLines_18 rfl (lv_at L 1 rfl)) ?_
  obtain ⟨b12, rfl, hp7⟩ := hp6
  refine x_callF (x := ⟨"java/util/Iterator", "hasNext", "()Z"⟩) (em := emI) (fun r st => .int r :: st) (fun _ _ => rfl) 0 X (kJ35 hG) (fun σ' KK h => R_J35_hasNext l hl G hG b12 σ' KK h) q1811 q1351 q1353 q141 q1355 ⟨⟨q1331, q1330, q1354, q1352, q1198⟩, by decide, by decide⟩ (by decide +kernel) ⟨Nat.le_of_ble_eq_true rfl, Nat.le_of_ble_eq_true rfl⟩ rfl rfl (Nat.le_of_ble_eq_true rfl) dX2_allLines_19 hp7.1 hp7.2 (fun v13 σ14 hp8 => ?_)
  refine x_pc (pc' := 24) rfl ?_
  refine x_if (C := v13 = 0) (pt := 48) (pc' := 27) (fun _ _ _ _ _ => lv_if_eq (tgt := 48) hx hb dX2_allLines_24 (by decide)) (fun c24 => ?_) (fun c24 => ?_)
  · have hp9 := hp8.1 c24
    refine x_up (pc' := 49) (fun _ _ _ _ _ L => lv_aload_n hx hb dX2_allLines_48 rfl (lv_at L 0 rfl)) ?_
    exact x_aret X hr (Or.inl ⟨_, rfl⟩) dX2_allLines_49 (some q1) hp9
  · have hp10 := hp8.2 c24
    refine x_up (pc' := 28) (fun _ _ _ _ _ L => lv_aload_n hx hb dX2_allLines_27 rfl (lv_at L 1 rfl)) ?_
    refine x_callF (x := ⟨"java/util/Iterator", "next", "()Ljava/lang/Object;"⟩) (em := emQ) (fun r st => va_rf r :: st) (fun _ _ => rfl) 0 X (kJ35 hG) (fun σ' KK h => R_J35_next l hl G hG b12 σ' KK h) q1813 q1199 q1201 q141 q1203 ⟨⟨q768, q767, q1202, q1200, q1198⟩, by decide, by decide⟩ (by decide +kernel) ⟨Nat.le_of_ble_eq_true rfl, Nat.le_of_ble_eq_true rfl⟩ rfl rfl (Nat.le_of_ble_eq_true rfl) dX2_allLines_28 hp10.1 hp10.2 (fun v15 σ16 hp11 => ?_)
    refine x_pc (pc' := 33) rfl ?_
    obtain ⟨b17, rfl, hp12⟩ := hp11
    refine x_castY X (kJ4 hG) q1814 q275 hp12.1 dX2_allLines_33 ?_
    have hp13 := hp12.2
    refine x_pc (pc' := 36) rfl ?_
    refine x_upL (pc' := 37) (lo' := [(3, .ref b17), (1, .ref q1), (2, .ref b12)]) (fun _ _ _ _ _ L => lv_astore_n hx hb dX2_allLines_36 rfl L (by decide) rfl) ?_
    refine x_up (pc' := 38) (fun _ _ _ _ _ L => lv_aload_n hx hb dX2_allLines_37 rfl (lv_at L 1 rfl)) ?_
    refine x_up (pc' := 39) (fun _ _ _ _ _ L => lv_aload_n hx hb dX2_allLines_38 rfl (lv_at L 0 rfl)) ?_
    refine x_callF (x := ⟨"java/util/List", "addAll", "(Ljava/util/Collection;)Z"⟩) (em := emI) (fun r st => .int r :: st) (fun _ _ => rfl) 1 X (kJ4 hG) (fun σ' KK h => R_J4_addAll l hl G hG q1 (some b17) σ' KK h) q2039 q2042 q2044 q105 q2046 ⟨⟨q2041, q2040, q2045, q2043, q275⟩, by decide, by decide⟩ (by decide +kernel) ⟨Nat.le_of_ble_eq_true rfl, Nat.le_of_ble_eq_true rfl⟩ rfl rfl (Nat.le_of_ble_eq_true rfl) dX2_allLines_39 hp13.1 hp13.2 (fun v18 σ19 hp14 => ?_)
    refine x_pc (pc' := 44) rfl ?_
    refine x_up (pc' := 45) (fun _ _ _ _ _ L => lv_pop hx hb dX2_allLines_44 rfl) ?_
    refine x_up (pc' := 18) (fun _ _ _ _ _ L => lv_goto (tgt := 18) hx hb dX2_allLines_45 (by decide)) ?_
    refine x_lo (lo' := [(1, .ref q1), (2, .ref b12)]) [1, 2] rfl ?_
    exact hself10 () σ19 hp14
-- X2_dirtyWords
def B_X2_dirtyWords_12 (κ : Nat → Nat) (K : Int32 → xH → Prop) (f2 : Option Nat) : (Int32 → xS → Prop) → Int32 → xS → Prop := fun self13003 w13001 σ13002 =>
  xnn f2 fun b13004 => xrc σ13002 b13004 21 ∧ xcall (fun τ L => P_J35_hasNext κ b13004 τ L) σ13002 fun v13005 σ13006 => ((v13005 = 0 → (K w13001 σ13006.1)) ∧ (¬ v13005 = 0 → (xrc σ13006 b13004 21 ∧ xcall (fun τ L => P_J35_next κ b13004 τ L) σ13006 fun v13007 σ13008 => xnn v13007 fun b13009 => xrc σ13008 b13009 5 ∧ xrc σ13008 b13009 5 ∧ xcall (fun τ L => P_X3_dirtyWords κ b13009 τ L) σ13008 fun v13010 σ13011 => self13003 (w13001 + v13010) σ13011)))
def P_X2_dirtyWords (κ : Nat → Nat) (a0 : Nat) (σ : xS) (K : Int32 → xH → Prop) : Prop :=
  xrc σ a0 1 ∧ xcall (fun τ L => P_X2_allLines κ a0 τ L) σ fun v1 σ2 => xnn v1 fun b3 => xrc σ2 b3 3 ∧ xcall (fun τ L => P_J4_iterator κ b3 τ L) σ2 fun v4 σ5 => xwhile (B_X2_dirtyWords_12 κ K v4) (0 : Int32) σ5
theorem mdX2_dirtyWords : yX2_dirtyWords.cls ≠ "java/lang/invoke/MethodHandle" ∧ yX2_dirtyWords.cls ≠ "java/lang/invoke/VarHandle" ∧ (parseMethodDescriptor yX2_dirtyWords.desc).map (fun d => d.parameters.length) = some 0 := by decide +kernel
set_option maxHeartbeats 4000000 in
set_option maxRecDepth 100000 in
theorem R_X2_dirtyWords (l : Launch) (hl : l.stackTraces = false) (G : xG) (hG : G.1.2 = x_cl) (a0 : Nat) (σ : xS) (K : Int32 → xH → Prop) (hp : P_X2_dirtyWords G.2 a0 σ K) : xM l yX2_dirtyWords cX2_dirtyWords 4 (Option.some Jvm.ClassFile.FieldType.int) 6 175 G [(.ref a0)] σ (xlift emI K) := by
  refine x_entry (by decide) (Nat.le_of_ble_eq_true rfl) ?_
  intro p e s m args below meth c X hr hin
  have X : xX p s m args meth c G cX2_dirtyWords 4 RX2 := X
  have hx := X.1
  have hb := X.2.1
  have hts := X.2.2.2.2.1
  have hown := X.2.2.2.1
  unfold P_X2_dirtyWords at hp
  refine x_same (lo' := [(0, .ref a0)]) rfl ?_
  refine x_up (pc' := 1) (fun _ _ _ _ _ L => lv_iconst (v := (0 : Int32)) hx hb dX2_dirtyWords_0 (by decide)) ?_
  refine x_upL (pc' := 2) (lo' := [(1, .int (0 : Int32)), (0, .ref a0)]) (fun _ _ _ _ _ L => lv_istore_n hx hb dX2_dirtyWords_1 rfl L (by decide) rfl) ?_
  refine x_up (pc' := 3) (fun _ _ _ _ _ L => lv_aload_n hx hb dX2_dirtyWords_2 rfl (lv_at L 1 rfl)) ?_
  refine x_callV (em := emQ) (fun r st => va_rf r :: st) (fun _ _ => rfl) 0 X (kX2 hG) (fun σ' KK h => R_X2_allLines l hl G hG a0 σ' KK h) (lw_V q2034 q2035 q2036 q100 q2037) ⟨rfl, mdX2_allLines⟩ ⟨Nat.le_of_ble_eq_true rfl, Nat.le_of_ble_eq_true rfl⟩ rfl rfl (Nat.le_of_ble_eq_true rfl) dX2_dirtyWords_3 hp.1 hp.2 (fun v1 σ2 hp1 => ?_)
  refine x_pc (pc' := 6) rfl ?_
  obtain ⟨b3, rfl, hp2⟩ := hp1
  refine x_callF (x := ⟨"java/util/List", "iterator", "()Ljava/util/Iterator;"⟩) (em := emQ) (fun r st => va_rf r :: st) (fun _ _ => rfl) 0 X (kJ4 hG) (fun σ' KK h => R_J4_iterator l hl G hG b3 σ' KK h) q1698 q1701 q1703 q105 q1705 ⟨⟨q1700, q1699, q1704, q1702, q275⟩, by decide, by decide⟩ (by decide +kernel) ⟨Nat.le_of_ble_eq_true rfl, Nat.le_of_ble_eq_true rfl⟩ rfl rfl (Nat.le_of_ble_eq_true rfl) dX2_dirtyWords_6 hp2.1 hp2.2 (fun v4 σ5 hp3 => ?_)
  refine x_pc (pc' := 11) rfl ?_
  refine x_upL (pc' := 12) (lo' := [(2, va_rf v4), (1, .int (0 : Int32)), (0, .ref a0)]) (fun _ _ _ _ _ L => lv_astoreq_n hx hb dX2_dirtyWords_11 rfl L (by decide) rfl) ?_
  refine x_lo (lo' := [(1, .int (0 : Int32)), (2, va_rf v4)]) [1, 0] rfl ?_
  refine x_while (v0 := (0 : Int32)) (fun w6 => [(1, .int w6), (2, va_rf v4)]) hp3 (fun self7 hself8 => ?_)
  rintro y10 σ9 hp4
  unfold B_X2_dirtyWords_12 at hp4
  refine x_same (lo' := [(1, .int y10), (2, va_rf v4)]) rfl ?_
  refine x_up (pc' := 13) (fun _ _ _ _ _ L => lv_aloadq_n hx hb dX2_dirtyWords_12 rfl (lv_at L 1 rfl)) ?_
  obtain ⟨b11, rfl, hp5⟩ := hp4
  refine x_callF (x := ⟨"java/util/Iterator", "hasNext", "()Z"⟩) (em := emI) (fun r st => .int r :: st) (fun _ _ => rfl) 0 X (kJ35 hG) (fun σ' KK h => R_J35_hasNext l hl G hG b11 σ' KK h) q1811 q1351 q1353 q141 q1355 ⟨⟨q1331, q1330, q1354, q1352, q1198⟩, by decide, by decide⟩ (by decide +kernel) ⟨Nat.le_of_ble_eq_true rfl, Nat.le_of_ble_eq_true rfl⟩ rfl rfl (Nat.le_of_ble_eq_true rfl) dX2_dirtyWords_13 hp5.1 hp5.2 (fun v12 σ13 hp6 => ?_)
  refine x_pc (pc' := 18) rfl ?_
  refine x_if (C := v12 = 0) (pt := 41) (pc' := 21) (fun _ _ _ _ _ => lv_if_eq (tgt := 41) hx hb dX2_dirtyWords_18 (by decide)) (fun c18 => ?_) (fun c18 => ?_)
  · have hp7 := hp6.1 c18
    refine x_up (pc' := 42) (fun _ _ _ _ _ L => lv_iload_n hx hb dX2_dirtyWords_41 rfl (lv_at L 0 rfl)) ?_
    exact x_iret X hr rfl dX2_dirtyWords_42 hp7
  · have hp8 := hp6.2 c18
    refine x_up (pc' := 22) (fun _ _ _ _ _ L => lv_aload_n hx hb dX2_dirtyWords_21 rfl (lv_at L 1 rfl)) ?_
    refine x_callF (x := ⟨"java/util/Iterator", "next", "()Ljava/lang/Object;"⟩) (em := emQ) (fun r st => va_rf r :: st) (fun _ _ => rfl) 0 X (kJ35 hG) (fun σ' KK h => R_J35_next l hl G hG b11 σ' KK h) q1813 q1199 q1201 q141 q1203 ⟨⟨q768, q767, q1202, q1200, q1198⟩, by decide, by decide⟩ (by decide +kernel) ⟨Nat.le_of_ble_eq_true rfl, Nat.le_of_ble_eq_true rfl⟩ rfl rfl (Nat.le_of_ble_eq_true rfl) dX2_dirtyWords_22 hp8.1 hp8.2 (fun v14 σ15 hp9 => ?_)
    refine x_pc (pc' := 27) rfl ?_
    obtain ⟨b16, rfl, hp10⟩ := hp9
    refine x_castS X (kX3 hG) q287 hp10.1 dX2_dirtyWords_27 ?_
    have hp11 := hp10.2
    refine x_pc (pc' := 30) rfl ?_
    refine x_upL (pc' := 31) (lo' := [(3, .ref b16), (1, .int y10), (2, .ref b11)]) (fun _ _ _ _ _ L => lv_astore_n hx hb dX2_dirtyWords_30 rfl L (by decide) rfl) ?_
    refine x_up (pc' := 32) (fun _ _ _ _ _ L => lv_iload_n hx hb dX2_dirtyWords_31 rfl (lv_at L 1 rfl)) ?_
    refine x_up (pc' := 33) (fun _ _ _ _ _ L => lv_aload_n hx hb dX2_dirtyWords_32 rfl (lv_at L 0 rfl)) ?_
    refine x_callV (em := emI) (fun r st => .int r :: st) (fun _ _ => rfl) 0 X (kX3 hG) (fun σ' KK h => R_X3_dirtyWords l hl G hG b16 σ' KK h) (lw_V q2053 q1646 q1647 q108 q1648) ⟨rfl, mdX3_dirtyWords⟩ ⟨Nat.le_of_ble_eq_true rfl, Nat.le_of_ble_eq_true rfl⟩ rfl rfl (Nat.le_of_ble_eq_true rfl) dX2_dirtyWords_33 hp11.1 hp11.2 (fun v17 σ18 hp12 => ?_)
    refine x_pc (pc' := 36) rfl ?_
    refine x_up (pc' := 37) (fun _ _ _ _ _ L => lv_iadd hx hb dX2_dirtyWords_36) ?_
    refine x_upL (pc' := 38) (lo' := [(1, .int (y10 + v17)), (3, .ref b16), (2, .ref b11)]) (fun _ _ _ _ _ L => lv_istore_n hx hb dX2_dirtyWords_37 rfl L (by decide) rfl) ?_
    refine x_up (pc' := 12) (fun _ _ _ _ _ L => lv_goto (tgt := 12) hx hb dX2_dirtyWords_38 (by decide)) ?_
    refine x_lo (lo' := [(1, .int (y10 + v17)), (2, .ref b11)]) [0, 2] rfl ?_
    exact hself8 (y10 + v17) σ18 hp12
-- X1_through
def P_X1_through (κ : Nat → Nat) (a0 : Nat) (x1 : Int32) (σ : xS) (K : Int32 → xH → Prop) : Prop :=
  xnew κ σ 1 20 [va_rf none, va_rf none, va_rf none, va_rf none, va_rf none, va_rf none, va_rf none, va_rf none, .int 0, .int 0, .int 0, .int 0, .int 0, .int 0, .int 0, .int 0, .int 0, .int 0, .int 0, .int 0] fun q1 σ2 => xgq σ2 a0 0 0 fun v3 => xcall (fun τ L => P_X2_init_2 κ q1 v3 τ L) σ2 fun _ σ4 => narrow .boolean (.int x1) = .int x1 ∧ fits .boolean (.int x1) = true ∧ xpi κ σ4 q1 1 12 x1 fun σ5 => xrc σ5 a0 0 ∧ xcall (fun τ L => P_X1_remember κ a0 (some q1) τ L) σ5 fun _ σ6 => xgq σ6 a0 0 0 fun v7 => xnn v7 fun b8 => xrc σ6 b8 1 ∧ xcall (fun τ L => P_X2_dirtyWords κ b8 τ L) σ6 fun v9 σ10 => K v9 σ10.1
theorem mdX1_through : yX1_through.cls ≠ "java/lang/invoke/MethodHandle" ∧ yX1_through.cls ≠ "java/lang/invoke/VarHandle" ∧ (parseMethodDescriptor yX1_through.desc).map (fun d => d.parameters.length) = some 1 := by decide +kernel
set_option maxHeartbeats 4000000 in
set_option maxRecDepth 100000 in
theorem R_X1_through (l : Launch) (hl : l.stackTraces = false) (G : xG) (hG : G.1.2 = x_cl) (a0 : Nat) (x1 : Int32) (σ : xS) (K : Int32 → xH → Prop) (hp : P_X1_through G.2 a0 x1 σ K) : xM l yX1_through cX1_through 3 (Option.some Jvm.ClassFile.FieldType.int) 16 453 G [(.ref a0), .int x1] σ (xlift emI K) := by
  refine x_entry (by decide) (Nat.le_of_ble_eq_true rfl) ?_
  intro p e s m args below meth c X hr hin
  have X : xX p s m args meth c G cX1_through 3 RX1 := X
  have hx := X.1
  have hb := X.2.1
  have hts := X.2.2.2.2.1
  have hown := X.2.2.2.1
  unfold P_X1_through at hp
  refine x_same (lo' := [(0, .ref a0), (1, .int x1)]) rfl ?_
  refine x_new X (kX2 hG) q172 q173 q100 (fs := [va_rf none, va_rf none, va_rf none, va_rf none, va_rf none, va_rf none, va_rf none, va_rf none, .int 0, .int 0, .int 0, .int 0, .int 0, .int 0, .int 0, .int 0, .int 0, .int 0, .int 0, .int 0]) x_dflt_X2 dX1_through_0 hp (fun q1 σ2 hp1 => ?_)
  refine x_pc (pc' := 3) rfl ?_
  refine x_up (pc' := 4) (fun _ _ _ _ _ L => lv_dup hx hb dX1_through_3 rfl) ?_
  refine x_up (pc' := 5) (fun _ _ _ _ _ L => lv_aload_n hx hb dX1_through_4 rfl (lv_at L 0 rfl)) ?_
  refine x_gq X (kX1 hG) 0 (by decide) q589 (fun _ h => h) dX1_through_5 hp1 (fun v3 hp2 => ?_)
  refine x_pc (pc' := 8) rfl ?_
  refine x_callI 1 X (fun σ' KK h => R_X2_init_2 l hl G hG q1 v3 σ' KK h) (lw_meth q617) q100 q615 q616 rfl mdX2_init_2 ⟨Nat.le_of_ble_eq_true rfl, Nat.le_of_ble_eq_true rfl⟩ rfl rfl (Nat.le_of_ble_eq_true rfl) dX1_through_8 hp2 (fun σ4 hp3 => ?_)
  refine x_pc (pc' := 11) rfl ?_
  refine x_upL (pc' := 12) (lo' := [(2, .ref q1), (0, .ref a0), (1, .int x1)]) (fun _ _ _ _ _ L => lv_astore_n hx hb dX1_through_11 rfl L (by decide) rfl) ?_
  refine x_up (pc' := 13) (fun _ _ _ _ _ L => lv_aload_n hx hb dX1_through_12 rfl (lv_at L 0 rfl)) ?_
  refine x_up (pc' := 14) (fun _ _ _ _ _ L => lv_iload_n hx hb dX1_through_13 rfl (lv_at L 2 rfl)) ?_
  obtain ⟨hn14, hf14, hp4⟩ := hp3
  refine x_piN X (kX2 hG) 12 (by decide) q480 (fun _ h => h) rfl hn14 hf14 dX1_through_14 hp4 (fun σ5 hp5 => ?_)
  refine x_pc (pc' := 17) rfl ?_
  refine x_up (pc' := 18) (fun _ _ _ _ _ L => lv_aload_n hx hb dX1_through_17 rfl (lv_at L 1 rfl)) ?_
  refine x_up (pc' := 19) (fun _ _ _ _ _ L => lv_aload_n hx hb dX1_through_18 rfl (lv_at L 0 rfl)) ?_
  refine x_callV (em := emV) (fun r st => st) (fun _ _ => rfl) 1 X (kX1 hG) (fun σ' KK h => R_X1_remember l hl G hG a0 (some q1) σ' KK h) (lw_V q1951 q1953 qs21 q99 q1954) ⟨rfl, mdX1_remember⟩ ⟨Nat.le_of_ble_eq_true rfl, Nat.le_of_ble_eq_true rfl⟩ rfl rfl (Nat.le_of_ble_eq_true rfl) dX1_through_19 hp5.1 hp5.2 (fun _ σ6 hp6 => ?_)
  refine x_pc (pc' := 22) rfl ?_
  refine x_up (pc' := 23) (fun _ _ _ _ _ L => lv_aload_n hx hb dX1_through_22 rfl (lv_at L 1 rfl)) ?_
  refine x_gq X (kX1 hG) 0 (by decide) q589 (fun _ h => h) dX1_through_23 hp6 (fun v7 hp7 => ?_)
  refine x_pc (pc' := 26) rfl ?_
  obtain ⟨b8, rfl, hp8⟩ := hp7
  refine x_callV (em := emI) (fun r st => .int r :: st) (fun _ _ => rfl) 0 X (kX2 hG) (fun σ' KK h => R_X2_dirtyWords l hl G hG b8 σ' KK h) (lw_V q2030 q2031 q2032 q100 q2033) ⟨rfl, mdX2_dirtyWords⟩ ⟨Nat.le_of_ble_eq_true rfl, Nat.le_of_ble_eq_true rfl⟩ rfl rfl (Nat.le_of_ble_eq_true rfl) dX1_through_26 hp8.1 hp8.2 (fun v9 σ10 hp9 => ?_)
  refine x_pc (pc' := 29) rfl ?_
  exact x_iret X hr rfl dX1_through_29 hp9
-- J4_size
def P_J4_size (κ : Nat → Nat) (a0 : Nat) (σ : xS) (K : Int32 → xH → Prop) : Prop :=
  xgi σ a0 3 2 fun v1 => K v1 σ.1
theorem mdJ4_size : yJ4_size.cls ≠ "java/lang/invoke/MethodHandle" ∧ yJ4_size.cls ≠ "java/lang/invoke/VarHandle" ∧ (parseMethodDescriptor yJ4_size.desc).map (fun d => d.parameters.length) = some 0 := by decide +kernel
set_option maxHeartbeats 4000000 in
set_option maxRecDepth 100000 in
theorem R_J4_size (l : Launch) (hl : l.stackTraces = false) (G : xG) (hG : G.1.2 = x_cl) (a0 : Nat) (σ : xS) (K : Int32 → xH → Prop) (hp : P_J4_size G.2 a0 σ K) : xM l yJ4_size cJ4_size 1 (Option.some Jvm.ClassFile.FieldType.int) 0 0 G [(.ref a0)] σ (xlift emI K) := by
  refine x_entry (by decide) (Nat.le_of_ble_eq_true rfl) ?_
  intro p e s m args below meth c X hr hin
  have X : xX p s m args meth c G cJ4_size 1 RJ4 := X
  have hx := X.1
  have hb := X.2.1
  have hts := X.2.2.2.2.1
  have hown := X.2.2.2.1
  unfold P_J4_size at hp
  refine x_same (lo' := [(0, .ref a0)]) rfl ?_
  refine x_up (pc' := 1) (fun _ _ _ _ _ L => lv_aload_n hx hb dJ4_size_0 rfl (lv_at L 0 rfl)) ?_
  refine x_gi X (kJ4 hG) 2 (by decide) q230 (fun _ h => h) dJ4_size_1 hp (fun v1 hp1 => ?_)
  refine x_pc (pc' := 4) rfl ?_
  exact x_iret X hr rfl dJ4_size_4 hp1
-- X2_setOf
def P_X2_setOf (κ : Nat → Nat) (a0 : Nat) (x1 : Int32) (σ : xS) (K : Int32 → xH → Prop) : Prop :=
  xgq σ a0 1 2 fun v1 => xnn v1 fun b2 => xrc σ b2 3 ∧ xcall (fun τ L => P_J4_size κ b2 τ L) σ fun v3 σ4 => ¬ v3 = 0 ∧ K (x1 - x1 / v3 * v3) σ4.1
theorem mdX2_setOf : yX2_setOf.cls ≠ "java/lang/invoke/MethodHandle" ∧ yX2_setOf.cls ≠ "java/lang/invoke/VarHandle" ∧ (parseMethodDescriptor yX2_setOf.desc).map (fun d => d.parameters.length) = some 1 := by decide +kernel
set_option maxHeartbeats 4000000 in
set_option maxRecDepth 100000 in
theorem R_X2_setOf (l : Launch) (hl : l.stackTraces = false) (G : xG) (hG : G.1.2 = x_cl) (a0 : Nat) (x1 : Int32) (σ : xS) (K : Int32 → xH → Prop) (hp : P_X2_setOf G.2 a0 x1 σ K) : xM l yX2_setOf cX2_setOf 2 (Option.some Jvm.ClassFile.FieldType.int) 1 20 G [(.ref a0), .int x1] σ (xlift emI K) := by
  refine x_entry (by decide) (Nat.le_of_ble_eq_true rfl) ?_
  intro p e s m args below meth c X hr hin
  have X : xX p s m args meth c G cX2_setOf 2 RX2 := X
  have hx := X.1
  have hb := X.2.1
  have hts := X.2.2.2.2.1
  have hown := X.2.2.2.1
  unfold P_X2_setOf at hp
  refine x_same (lo' := [(0, .ref a0), (1, .int x1)]) rfl ?_
  refine x_up (pc' := 1) (fun _ _ _ _ _ L => lv_iload_n hx hb dX2_setOf_0 rfl (lv_at L 1 rfl)) ?_
  refine x_up (pc' := 2) (fun _ _ _ _ _ L => lv_aload_n hx hb dX2_setOf_1 rfl (lv_at L 0 rfl)) ?_
  refine x_gq X (kX2 hG) 2 (by decide) q462 (fun _ h => h) dX2_setOf_2 hp (fun v1 hp1 => ?_)
  refine x_pc (pc' := 5) rfl ?_
  obtain ⟨b2, rfl, hp2⟩ := hp1
  refine x_callF (x := ⟨"java/util/List", "size", "()I"⟩) (em := emI) (fun r st => .int r :: st) (fun _ _ => rfl) 0 X (kJ4 hG) (fun σ' KK h => R_J4_size l hl G hG b2 σ' KK h) q2075 q2078 q1341 q105 q1342 ⟨⟨q2077, q2076, q2080, q2079, q275⟩, by decide, by decide⟩ (by decide +kernel) ⟨Nat.le_of_ble_eq_true rfl, Nat.le_of_ble_eq_true rfl⟩ rfl rfl (Nat.le_of_ble_eq_true rfl) dX2_setOf_5 hp2.1 hp2.2 (fun v3 σ4 hp3 => ?_)
  refine x_pc (pc' := 10) rfl ?_
  obtain ⟨hz10, hp4⟩ := hp3
  refine x_up (pc' := 11) (fun _ _ _ _ _ L => lv_irem hx hb dX2_setOf_10 hz10) ?_
  exact x_iret X hr rfl dX2_setOf_11 hp4
-- J16_checkIndex
def P_J16_checkIndex (κ : Nat → Nat) (x0 : Int32) (x1 : Int32) (σ : xS) (K : Int32 → xH → Prop) : Prop :=
  xcall (fun τ L => P_J24_checkIndex κ x0 x1 none τ L) σ fun v1 σ2 => K v1 σ2.1
theorem mdJ16_checkIndex : yJ16_checkIndex.cls ≠ "java/lang/invoke/MethodHandle" ∧ yJ16_checkIndex.cls ≠ "java/lang/invoke/VarHandle" ∧ (parseMethodDescriptor yJ16_checkIndex.desc).map (fun d => d.parameters.length) = some 2 := by decide +kernel
set_option maxHeartbeats 4000000 in
set_option maxRecDepth 100000 in
theorem R_J16_checkIndex (l : Launch) (hl : l.stackTraces = false) (G : xG) (hG : G.1.2 = x_cl) (x0 : Int32) (x1 : Int32) (σ : xS) (K : Int32 → xH → Prop) (hp : P_J16_checkIndex G.2 x0 x1 σ K) : xM l yJ16_checkIndex cJ16_checkIndex 2 (Option.some Jvm.ClassFile.FieldType.int) 1 22 G [.int x0, .int x1] σ (xlift emI K) := by
  refine x_entry (by decide) (Nat.le_of_ble_eq_true rfl) ?_
  intro p e s m args below meth c X hr hin
  have X : xX p s m args meth c G cJ16_checkIndex 2 RJ16 := X
  have hx := X.1
  have hb := X.2.1
  have hts := X.2.2.2.2.1
  have hown := X.2.2.2.1
  unfold P_J16_checkIndex at hp
  refine x_same (lo' := [(0, .int x0), (1, .int x1)]) rfl ?_
  refine x_up (pc' := 1) (fun _ _ _ _ _ L => lv_iload_n hx hb dJ16_checkIndex_0 rfl (lv_at L 0 rfl)) ?_
  refine x_up (pc' := 2) (fun _ _ _ _ _ L => lv_iload_n hx hb dJ16_checkIndex_1 rfl (lv_at L 1 rfl)) ?_
  refine x_up (pc' := 3) (fun _ _ _ _ _ L => lv_null hx hb dJ16_checkIndex_2) ?_
  refine x_callS (em := emI) (fun r st => .int r :: st) (fun _ _ => rfl) 3 X (fun σ' KK h => R_J24_checkIndex l hl G hG x0 x1 none σ' KK h) (lw_S q789 q790 q129 q791) mdJ24_checkIndex ⟨Nat.le_of_ble_eq_true rfl, Nat.le_of_ble_eq_true rfl⟩ rfl rfl (Nat.le_of_ble_eq_true rfl) dJ16_checkIndex_3 hp (fun v1 σ2 hp1 => ?_)
  refine x_pc (pc' := 6) rfl ?_
  exact x_iret X hr rfl dJ16_checkIndex_6 hp1
-- J4_elementData
def P_J4_elementData (κ : Nat → Nat) (a0 : Nat) (x1 : Int32) (σ : xS) (K : Option Nat → xH → Prop) : Prop :=
  xgq σ a0 3 1 fun v1 => xnn v1 fun b2 => xaq σ b2 x1 fun v3 => K v3 σ.1
theorem mdJ4_elementData : yJ4_elementData.cls ≠ "java/lang/invoke/MethodHandle" ∧ yJ4_elementData.cls ≠ "java/lang/invoke/VarHandle" ∧ (parseMethodDescriptor yJ4_elementData.desc).map (fun d => d.parameters.length) = some 1 := by decide +kernel
set_option maxHeartbeats 4000000 in
set_option maxRecDepth 100000 in
theorem R_J4_elementData (l : Launch) (hl : l.stackTraces = false) (G : xG) (hG : G.1.2 = x_cl) (a0 : Nat) (x1 : Int32) (σ : xS) (K : Option Nat → xH → Prop) (hp : P_J4_elementData G.2 a0 x1 σ K) : xM l yJ4_elementData cJ4_elementData 2 (Option.some (Jvm.ClassFile.FieldType.object "java/lang/Object")) 0 0 G [(.ref a0), .int x1] σ (xlift emQ K) := by
  refine x_entry (by decide) (Nat.le_of_ble_eq_true rfl) ?_
  intro p e s m args below meth c X hr hin
  have X : xX p s m args meth c G cJ4_elementData 2 RJ4 := X
  have hx := X.1
  have hb := X.2.1
  have hts := X.2.2.2.2.1
  have hown := X.2.2.2.1
  unfold P_J4_elementData at hp
  refine x_same (lo' := [(0, .ref a0), (1, .int x1)]) rfl ?_
  refine x_up (pc' := 1) (fun _ _ _ _ _ L => lv_aload_n hx hb dJ4_elementData_0 rfl (lv_at L 0 rfl)) ?_
  refine x_gq X (kJ4 hG) 1 (by decide) q227 (fun _ h => h) dJ4_elementData_1 hp (fun v1 hp1 => ?_)
  refine x_pc (pc' := 4) rfl ?_
  refine x_up (pc' := 5) (fun _ _ _ _ _ L => lv_iload_n hx hb dJ4_elementData_4 rfl (lv_at L 1 rfl)) ?_
  obtain ⟨b2, rfl, hp2⟩ := hp1
  refine x_aald X dJ4_elementData_5 hp2 (fun v3 hp3 => ?_)
  refine x_pc (pc' := 6) rfl ?_
  exact x_aret X hr (Or.inl ⟨_, rfl⟩) dJ4_elementData_6 v3 hp3
-- J4_get
def P_J4_get (κ : Nat → Nat) (a0 : Nat) (x1 : Int32) (σ : xS) (K : Option Nat → xH → Prop) : Prop :=
  xgi σ a0 3 2 fun v1 => xcall (fun τ L => P_J16_checkIndex κ x1 v1 τ L) σ fun v2 σ3 => xrc σ3 a0 3 ∧ xcall (fun τ L => P_J4_elementData κ a0 x1 τ L) σ3 fun v4 σ5 => K v4 σ5.1
theorem mdJ4_get : yJ4_get.cls ≠ "java/lang/invoke/MethodHandle" ∧ yJ4_get.cls ≠ "java/lang/invoke/VarHandle" ∧ (parseMethodDescriptor yJ4_get.desc).map (fun d => d.parameters.length) = some 1 := by decide +kernel
set_option maxHeartbeats 4000000 in
set_option maxRecDepth 100000 in
theorem R_J4_get (l : Launch) (hl : l.stackTraces = false) (G : xG) (hG : G.1.2 = x_cl) (a0 : Nat) (x1 : Int32) (σ : xS) (K : Option Nat → xH → Prop) (hp : P_J4_get G.2 a0 x1 σ K) : xM l yJ4_get cJ4_get 2 (Option.some (Jvm.ClassFile.FieldType.object "java/lang/Object")) 2 43 G [(.ref a0), .int x1] σ (xlift emQ K) := by
  refine x_entry (by decide) (Nat.le_of_ble_eq_true rfl) ?_
  intro p e s m args below meth c X hr hin
  have X : xX p s m args meth c G cJ4_get 2 RJ4 := X
  have hx := X.1
  have hb := X.2.1
  have hts := X.2.2.2.2.1
  have hown := X.2.2.2.1
  unfold P_J4_get at hp
  refine x_same (lo' := [(0, .ref a0), (1, .int x1)]) rfl ?_
  refine x_up (pc' := 1) (fun _ _ _ _ _ L => lv_iload_n hx hb dJ4_get_0 rfl (lv_at L 1 rfl)) ?_
  refine x_up (pc' := 2) (fun _ _ _ _ _ L => lv_aload_n hx hb dJ4_get_1 rfl (lv_at L 0 rfl)) ?_
  refine x_gi X (kJ4 hG) 2 (by decide) q230 (fun _ h => h) dJ4_get_2 hp (fun v1 hp1 => ?_)
  refine x_pc (pc' := 5) rfl ?_
  refine x_callS (em := emI) (fun r st => .int r :: st) (fun _ _ => rfl) 2 X (fun σ' KK h => R_J16_checkIndex l hl G hG x1 v1 σ' KK h) (lw_S q786 q787 q121 q788) mdJ16_checkIndex ⟨Nat.le_of_ble_eq_true rfl, Nat.le_of_ble_eq_true rfl⟩ rfl rfl (Nat.le_of_ble_eq_true rfl) dJ4_get_5 hp1 (fun v2 σ3 hp2 => ?_)
  refine x_pc (pc' := 8) rfl ?_
  refine x_up (pc' := 9) (fun _ _ _ _ _ L => lv_pop hx hb dJ4_get_8 rfl) ?_
  refine x_up (pc' := 10) (fun _ _ _ _ _ L => lv_aload_n hx hb dJ4_get_9 rfl (lv_at L 0 rfl)) ?_
  refine x_up (pc' := 11) (fun _ _ _ _ _ L => lv_iload_n hx hb dJ4_get_10 rfl (lv_at L 1 rfl)) ?_
  refine x_callV (em := emQ) (fun r st => va_rf r :: st) (fun _ _ => rfl) 1 X (kJ4 hG) (fun σ' KK h => R_J4_elementData l hl G hG a0 x1 σ' KK h) (lw_V q792 q793 q794 q105 q795) ⟨rfl, mdJ4_elementData⟩ ⟨Nat.le_of_ble_eq_true rfl, Nat.le_of_ble_eq_true rfl⟩ rfl rfl (Nat.le_of_ble_eq_true rfl) dJ4_get_11 hp2.1 hp2.2 (fun v4 σ5 hp3 => ?_)
  refine x_pc (pc' := 14) rfl ?_
  exact x_aret X hr (Or.inl ⟨_, rfl⟩) dJ4_get_14 v4 hp3
-- X2_holder
def B_X2_holder_23 (κ : Nat → Nat) (K : Option Nat → xH → Prop) (f1 : Int32) (f2 : Option Nat) : (Unit → xS → Prop) → Unit → xS → Prop := fun self24003 w24001 σ24002 =>
  xnn f2 fun b24004 => xrc σ24002 b24004 21 ∧ xcall (fun τ L => P_J35_hasNext κ b24004 τ L) σ24002 fun v24005 σ24006 => ((v24005 = 0 → (K none σ24006.1)) ∧ (¬ v24005 = 0 → (xrc σ24006 b24004 21 ∧ xcall (fun τ L => P_J35_next κ b24004 τ L) σ24006 fun v24007 σ24008 => xnn v24007 fun b24009 => xrc σ24008 b24009 5 ∧ xgi σ24008 b24009 5 2 fun v24010 => ((v24010 = f1 → (K (some b24009) σ24008.1)) ∧ (¬ v24010 = f1 → (self24003 () σ24008))))))
def P_X2_holder (κ : Nat → Nat) (a0 : Nat) (x1 : Int32) (σ : xS) (K : Option Nat → xH → Prop) : Prop :=
  xgq σ a0 1 2 fun v1 => xrc σ a0 1 ∧ xcall (fun τ L => P_X2_setOf κ a0 x1 τ L) σ fun v2 σ3 => xnn v1 fun b4 => xrc σ3 b4 3 ∧ xcall (fun τ L => P_J4_get κ b4 v2 τ L) σ3 fun v5 σ6 => xnn v5 fun b7 => xrc σ6 b7 3 ∧ xrc σ6 b7 3 ∧ xcall (fun τ L => P_J4_iterator κ b7 τ L) σ6 fun v8 σ9 => xwhile (B_X2_holder_23 κ K x1 v8) () σ9
theorem mdX2_holder : yX2_holder.cls ≠ "java/lang/invoke/MethodHandle" ∧ yX2_holder.cls ≠ "java/lang/invoke/VarHandle" ∧ (parseMethodDescriptor yX2_holder.desc).map (fun d => d.parameters.length) = some 1 := by decide +kernel
set_option maxHeartbeats 4000000 in
set_option maxRecDepth 100000 in
theorem R_X2_holder (l : Launch) (hl : l.stackTraces = false) (G : xG) (hG : G.1.2 = x_cl) (a0 : Nat) (x1 : Int32) (σ : xS) (K : Option Nat → xH → Prop) (hp : P_X2_holder G.2 a0 x1 σ K) : xM l yX2_holder cX2_holder 4 (Option.some (Jvm.ClassFile.FieldType.object "WordCache$Line")) 3 64 G [(.ref a0), .int x1] σ (xlift emQ K) := by
  refine x_entry (by decide) (Nat.le_of_ble_eq_true rfl) ?_
  intro p e s m args below meth c X hr hin
  have X : xX p s m args meth c G cX2_holder 4 RX2 := X
  have hx := X.1
  have hb := X.2.1
  have hts := X.2.2.2.2.1
  have hown := X.2.2.2.1
  unfold P_X2_holder at hp
  refine x_same (lo' := [(0, .ref a0), (1, .int x1)]) rfl ?_
  refine x_up (pc' := 1) (fun _ _ _ _ _ L => lv_aload_n hx hb dX2_holder_0 rfl (lv_at L 0 rfl)) ?_
  refine x_gq X (kX2 hG) 2 (by decide) q462 (fun _ h => h) dX2_holder_1 hp (fun v1 hp1 => ?_)
  refine x_pc (pc' := 4) rfl ?_
  refine x_up (pc' := 5) (fun _ _ _ _ _ L => lv_aload_n hx hb dX2_holder_4 rfl (lv_at L 0 rfl)) ?_
  refine x_up (pc' := 6) (fun _ _ _ _ _ L => lv_iload_n hx hb dX2_holder_5 rfl (lv_at L 1 rfl)) ?_
  refine x_callV (em := emI) (fun r st => .int r :: st) (fun _ _ => rfl) 1 X (kX2 hG) (fun σ' KK h => R_X2_setOf l hl G hG a0 x1 σ' KK h) (lw_V q2070 q2071 q2072 q100 q2073) ⟨rfl, mdX2_setOf⟩ ⟨Nat.le_of_ble_eq_true rfl, Nat.le_of_ble_eq_true rfl⟩ rfl rfl (by simp only [List.map_cons, List.map_nil, List.sum_cons, List.sum_nil, x_catq, x_cati, x_catr, x_catn] <;> decide) dX2_holder_6 hp1.1 hp1.2 (fun v2 σ3 hp2 => ?_)
  refine x_pc (pc' := 9) rfl ?_
  obtain ⟨b4, rfl, hp3⟩ := hp2
  refine x_callF (x := ⟨"java/util/List", "get", "(I)Ljava/lang/Object;"⟩) (em := emQ) (fun r st => va_rf r :: st) (fun _ _ => rfl) 1 X (kJ4 hG) (fun σ' KK h => R_J4_get l hl G hG b4 v2 σ' KK h) q2083 q2086 q784 q105 q785 ⟨⟨q2085, q2084, q2088, q2087, q275⟩, by decide, by decide⟩ (by decide +kernel) ⟨Nat.le_of_ble_eq_true rfl, Nat.le_of_ble_eq_true rfl⟩ rfl rfl (Nat.le_of_ble_eq_true rfl) dX2_holder_9 hp3.1 hp3.2 (fun v5 σ6 hp4 => ?_)
  refine x_pc (pc' := 14) rfl ?_
  obtain ⟨b7, rfl, hp5⟩ := hp4
  refine x_castY X (kJ4 hG) q1814 q275 hp5.1 dX2_holder_14 ?_
  have hp6 := hp5.2
  refine x_pc (pc' := 17) rfl ?_
  refine x_callF (x := ⟨"java/util/List", "iterator", "()Ljava/util/Iterator;"⟩) (em := emQ) (fun r st => va_rf r :: st) (fun _ _ => rfl) 0 X (kJ4 hG) (fun σ' KK h => R_J4_iterator l hl G hG b7 σ' KK h) q1698 q1701 q1703 q105 q1705 ⟨⟨q1700, q1699, q1704, q1702, q275⟩, by decide, by decide⟩ (by decide +kernel) ⟨Nat.le_of_ble_eq_true rfl, Nat.le_of_ble_eq_true rfl⟩ rfl rfl (Nat.le_of_ble_eq_true rfl) dX2_holder_17 hp6.1 hp6.2 (fun v8 σ9 hp7 => ?_)
  refine x_pc (pc' := 22) rfl ?_
  refine x_upL (pc' := 23) (lo' := [(2, va_rf v8), (0, .ref a0), (1, .int x1)]) (fun _ _ _ _ _ L => lv_astoreq_n hx hb dX2_holder_22 rfl L (by decide) rfl) ?_
  refine x_lo (lo' := [(1, .int x1), (2, va_rf v8)]) [2, 0] rfl ?_
  refine x_while (v0 := ()) (fun _ => [(1, .int x1), (2, va_rf v8)]) hp7 (fun self11 hself12 => ?_)
  rintro ⟨⟩ σ13 hp8
  unfold B_X2_holder_23 at hp8
  refine x_same (lo' := [(1, .int x1), (2, va_rf v8)]) rfl ?_
  refine x_up (pc' := 24) (fun _ _ _ _ _ L => lv_aloadq_n hx hb dX2_holder_23 rfl (lv_at L 1 rfl)) ?_
  obtain ⟨b14, rfl, hp9⟩ := hp8
  refine x_callF (x := ⟨"java/util/Iterator", "hasNext", "()Z"⟩) (em := emI) (fun r st => .int r :: st) (fun _ _ => rfl) 0 X (kJ35 hG) (fun σ' KK h => R_J35_hasNext l hl G hG b14 σ' KK h) q1811 q1351 q1353 q141 q1355 ⟨⟨q1331, q1330, q1354, q1352, q1198⟩, by decide, by decide⟩ (by decide +kernel) ⟨Nat.le_of_ble_eq_true rfl, Nat.le_of_ble_eq_true rfl⟩ rfl rfl (Nat.le_of_ble_eq_true rfl) dX2_holder_24 hp9.1 hp9.2 (fun v15 σ16 hp10 => ?_)
  refine x_pc (pc' := 29) rfl ?_
  refine x_if (C := v15 = 0) (pt := 55) (pc' := 32) (fun _ _ _ _ _ => lv_if_eq (tgt := 55) hx hb dX2_holder_29 (by decide)) (fun c29 => ?_) (fun c29 => ?_)
  · have hp11 := hp10.1 c29
    refine x_up (pc' := 56) (fun _ _ _ _ _ L => lv_null hx hb dX2_holder_55) ?_
    exact x_aret X hr (Or.inl ⟨_, rfl⟩) dX2_holder_56 none hp11
  · have hp12 := hp10.2 c29
    refine x_up (pc' := 33) (fun _ _ _ _ _ L => lv_aload_n hx hb dX2_holder_32 rfl (lv_at L 1 rfl)) ?_
    refine x_callF (x := ⟨"java/util/Iterator", "next", "()Ljava/lang/Object;"⟩) (em := emQ) (fun r st => va_rf r :: st) (fun _ _ => rfl) 0 X (kJ35 hG) (fun σ' KK h => R_J35_next l hl G hG b14 σ' KK h) q1813 q1199 q1201 q141 q1203 ⟨⟨q768, q767, q1202, q1200, q1198⟩, by decide, by decide⟩ (by decide +kernel) ⟨Nat.le_of_ble_eq_true rfl, Nat.le_of_ble_eq_true rfl⟩ rfl rfl (Nat.le_of_ble_eq_true rfl) dX2_holder_33 hp12.1 hp12.2 (fun v17 σ18 hp13 => ?_)
    refine x_pc (pc' := 38) rfl ?_
    obtain ⟨b19, rfl, hp14⟩ := hp13
    refine x_castS X (kX3 hG) q287 hp14.1 dX2_holder_38 ?_
    have hp15 := hp14.2
    refine x_pc (pc' := 41) rfl ?_
    refine x_upL (pc' := 42) (lo' := [(3, .ref b19), (1, .int x1), (2, .ref b14)]) (fun _ _ _ _ _ L => lv_astore_n hx hb dX2_holder_41 rfl L (by decide) rfl) ?_
    refine x_up (pc' := 43) (fun _ _ _ _ _ L => lv_aload_n hx hb dX2_holder_42 rfl (lv_at L 0 rfl)) ?_
    refine x_giN X (kX3 hG) 2 (by decide) q299 (fun _ h => h) dX2_holder_43 hp15 (fun v20 hp16 => ?_)
    refine x_pc (pc' := 46) rfl ?_
    refine x_up (pc' := 47) (fun _ _ _ _ _ L => lv_iload_n hx hb dX2_holder_46 rfl (lv_at L 1 rfl)) ?_
    refine x_ifn (C := v20 = x1) (pt := 52) (pc' := 50) (fun _ _ _ _ _ => lv_icmp_ne (tgt := 52) hx hb dX2_holder_47 (by decide)) (fun c47 => ?_) (fun c47 => ?_)
    · have hp17 := hp16.1 c47
      refine x_up (pc' := 51) (fun _ _ _ _ _ L => lv_aload_n hx hb dX2_holder_50 rfl (lv_at L 0 rfl)) ?_
      exact x_aret X hr (Or.inl ⟨_, rfl⟩) dX2_holder_51 (some b19) hp17
    · have hp18 := hp16.2 c47
      refine x_up (pc' := 23) (fun _ _ _ _ _ L => lv_goto (tgt := 23) hx hb dX2_holder_52 (by decide)) ?_
      refine x_lo (lo' := [(1, .int x1), (2, .ref b14)]) [1, 2] rfl ?_
      exact hself12 () σ18 hp18
-- X2_wordAt
def P_X2_wordAt (κ : Nat → Nat) (a0 : Nat) (x1 : Int32) (σ : xS) (K : Int32 → xH → Prop) : Prop :=
  xrc σ a0 1 ∧ xcall (fun τ L => P_X2_holder κ a0 (x1 / (4 : Int32)) τ L) σ fun v1 σ2 => ((v1 = none → (xgq σ2 a0 1 0 fun v4 => xnn v4 fun b5 => xai .int σ2 b5 x1 fun v6 => K v6 σ2.1)) ∧ (∀ b3 : Nat, v1 = some b3 → (xgq σ2 b3 5 1 fun v7 => xnn v7 fun b8 => xai .int σ2 b8 (x1 - x1 / (4 : Int32) * (4 : Int32)) fun v9 => K v9 σ2.1)))
theorem mdX2_wordAt : yX2_wordAt.cls ≠ "java/lang/invoke/MethodHandle" ∧ yX2_wordAt.cls ≠ "java/lang/invoke/VarHandle" ∧ (parseMethodDescriptor yX2_wordAt.desc).map (fun d => d.parameters.length) = some 1 := by decide +kernel
set_option maxHeartbeats 4000000 in
set_option maxRecDepth 100000 in
theorem R_X2_wordAt (l : Launch) (hl : l.stackTraces = false) (G : xG) (hG : G.1.2 = x_cl) (a0 : Nat) (x1 : Int32) (σ : xS) (K : Int32 → xH → Prop) (hp : P_X2_wordAt G.2 a0 x1 σ K) : xM l yX2_wordAt cX2_wordAt 3 (Option.some Jvm.ClassFile.FieldType.int) 4 87 G [(.ref a0), .int x1] σ (xlift emI K) := by
  refine x_entry (by decide) (Nat.le_of_ble_eq_true rfl) ?_
  intro p e s m args below meth c X hr hin
  have X : xX p s m args meth c G cX2_wordAt 3 RX2 := X
  have hx := X.1
  have hb := X.2.1
  have hts := X.2.2.2.2.1
  have hown := X.2.2.2.1
  unfold P_X2_wordAt at hp
  refine x_same (lo' := [(0, .ref a0), (1, .int x1)]) rfl ?_
  refine x_up (pc' := 1) (fun _ _ _ _ _ L => lv_aload_n hx hb dX2_wordAt_0 rfl (lv_at L 0 rfl)) ?_
  refine x_up (pc' := 2) (fun _ _ _ _ _ L => lv_iload_n hx hb dX2_wordAt_1 rfl (lv_at L 1 rfl)) ?_
  refine x_up (pc' := 3) (fun _ _ _ _ _ L => lv_iconst (v := (4 : Int32)) hx hb dX2_wordAt_2 (by decide)) ?_
  refine x_up (pc' := 4) (fun _ _ _ _ _ L => lv_idiv hx hb dX2_wordAt_3 (by decide)) ?_
  refine x_callV (em := emQ) (fun r st => va_rf r :: st) (fun _ _ => rfl) 1 X (kX2 hG) (fun σ' KK h => R_X2_holder l hl G hG a0 (x1 / (4 : Int32)) σ' KK h) (lw_V q2066 q2067 q2068 q100 q2069) ⟨rfl, mdX2_holder⟩ ⟨Nat.le_of_ble_eq_true rfl, Nat.le_of_ble_eq_true rfl⟩ rfl rfl (Nat.le_of_ble_eq_true rfl) dX2_wordAt_4 hp.1 hp.2 (fun v1 σ2 hp1 => ?_)
  refine x_pc (pc' := 7) rfl ?_
  refine x_upL (pc' := 8) (lo' := [(2, va_rf v1), (0, .ref a0), (1, .int x1)]) (fun _ _ _ _ _ L => lv_astoreq_n hx hb dX2_wordAt_7 rfl L (by decide) rfl) ?_
  refine x_up (pc' := 9) (fun _ _ _ _ _ L => lv_aloadq_n hx hb dX2_wordAt_8 rfl (lv_at L 0 rfl)) ?_
  rcases v1 with _ | b3
  · have hp2 := hp1.1 rfl
    refine x_up (pc' := 12) (fun _ _ _ _ _ L => lv_ifnonnullN hx hb dX2_wordAt_9) ?_
    refine x_up (pc' := 13) (fun _ _ _ _ _ L => lv_aload_n hx hb dX2_wordAt_12 rfl (lv_at L 1 rfl)) ?_
    refine x_gq X (kX2 hG) 0 (by decide) q458 (fun _ h => h) dX2_wordAt_13 hp2 (fun v4 hp3 => ?_)
    refine x_pc (pc' := 16) rfl ?_
    refine x_up (pc' := 17) (fun _ _ _ _ _ L => lv_iload_n hx hb dX2_wordAt_16 rfl (lv_at L 2 rfl)) ?_
    obtain ⟨b5, rfl, hp4⟩ := hp3
    refine x_iald X dX2_wordAt_17 hp4 (fun v6 hp5 => ?_)
    refine x_pc (pc' := 18) rfl ?_
    refine x_up (pc' := 29) (fun _ _ _ _ _ L => lv_goto (tgt := 29) hx hb dX2_wordAt_18 (by decide)) ?_
    exact x_iret X hr rfl dX2_wordAt_29 hp5
  · have hp6 := hp1.2 _ rfl
    refine x_up (pc' := 21) (fun _ _ _ _ _ L => lv_ifnonnull (tgt := 21) hx hb dX2_wordAt_9 (by decide)) ?_
    refine x_up (pc' := 22) (fun _ _ _ _ _ L => lv_aload_n hx hb dX2_wordAt_21 rfl (lv_at L 0 rfl)) ?_
    refine x_gqN X (kX3 hG) 1 (by decide) q297 (fun _ h => h) dX2_wordAt_22 hp6 (fun v7 hp7 => ?_)
    refine x_pc (pc' := 25) rfl ?_
    refine x_up (pc' := 26) (fun _ _ _ _ _ L => lv_iload_n hx hb dX2_wordAt_25 rfl (lv_at L 2 rfl)) ?_
    refine x_up (pc' := 27) (fun _ _ _ _ _ L => lv_iconst (v := (4 : Int32)) hx hb dX2_wordAt_26 (by decide)) ?_
    refine x_up (pc' := 28) (fun _ _ _ _ _ L => lv_irem hx hb dX2_wordAt_27 (by decide)) ?_
    obtain ⟨b8, rfl, hp8⟩ := hp7
    refine x_iald X dX2_wordAt_28 hp8 (fun v9 hp9 => ?_)
    refine x_pc (pc' := 29) rfl ?_
    exact x_iret X hr rfl dX2_wordAt_29 hp9
-- X2_sumOfWords
def B_X2_sumOfWords_4 (κ : Nat → Nat) (K : Int32 → xH → Prop) (f0 : Nat) : ((Int32 × Int32) → xS → Prop) → (Int32 × Int32) → xS → Prop := fun self5003 w5001 σ5002 =>
  (((64 : Int32) ≤ w5001.2 → (K w5001.1 σ5002.1)) ∧ (¬ (64 : Int32) ≤ w5001.2 → (xrc σ5002 f0 1 ∧ xcall (fun τ L => P_X2_wordAt κ f0 w5001.2 τ L) σ5002 fun v5004 σ5005 => self5003 ((w5001.1 + v5004), (w5001.2 + (1 : Int32))) σ5005)))
def P_X2_sumOfWords (κ : Nat → Nat) (a0 : Nat) (σ : xS) (K : Int32 → xH → Prop) : Prop :=
  xwhile (B_X2_sumOfWords_4 κ K a0) ((0 : Int32), (0 : Int32)) σ
theorem mdX2_sumOfWords : yX2_sumOfWords.cls ≠ "java/lang/invoke/MethodHandle" ∧ yX2_sumOfWords.cls ≠ "java/lang/invoke/VarHandle" ∧ (parseMethodDescriptor yX2_sumOfWords.desc).map (fun d => d.parameters.length) = some 0 := by decide +kernel
set_option maxHeartbeats 4000000 in
set_option maxRecDepth 100000 in
theorem R_X2_sumOfWords (l : Launch) (hl : l.stackTraces = false) (G : xG) (hG : G.1.2 = x_cl) (a0 : Nat) (σ : xS) (K : Int32 → xH → Prop) (hp : P_X2_sumOfWords G.2 a0 σ K) : xM l yX2_sumOfWords cX2_sumOfWords 3 (Option.some Jvm.ClassFile.FieldType.int) 5 109 G [(.ref a0)] σ (xlift emI K) := by
  refine x_entry (by decide) (Nat.le_of_ble_eq_true rfl) ?_
  intro p e s m args below meth c X hr hin
  have X : xX p s m args meth c G cX2_sumOfWords 3 RX2 := X
  have hx := X.1
  have hb := X.2.1
  have hts := X.2.2.2.2.1
  have hown := X.2.2.2.1
  unfold P_X2_sumOfWords at hp
  refine x_same (lo' := [(0, .ref a0)]) rfl ?_
  refine x_up (pc' := 1) (fun _ _ _ _ _ L => lv_iconst (v := (0 : Int32)) hx hb dX2_sumOfWords_0 (by decide)) ?_
  refine x_upL (pc' := 2) (lo' := [(1, .int (0 : Int32)), (0, .ref a0)]) (fun _ _ _ _ _ L => lv_istore_n hx hb dX2_sumOfWords_1 rfl L (by decide) rfl) ?_
  refine x_up (pc' := 3) (fun _ _ _ _ _ L => lv_iconst (v := (0 : Int32)) hx hb dX2_sumOfWords_2 (by decide)) ?_
  refine x_upL (pc' := 4) (lo' := [(2, .int (0 : Int32)), (1, .int (0 : Int32)), (0, .ref a0)]) (fun _ _ _ _ _ L => lv_istore_n hx hb dX2_sumOfWords_3 rfl L (by decide) rfl) ?_
  refine x_lo (lo' := [(1, .int (0 : Int32)), (2, .int (0 : Int32)), (0, .ref a0)]) [1, 0, 2] rfl ?_
  refine x_while (v0 := ((0 : Int32), (0 : Int32))) (fun w1 => [(1, .int w1.1), (2, .int w1.2), (0, .ref a0)]) hp (fun self2 hself3 => ?_)
  rintro ⟨y5, y6⟩ σ4 hp1
  unfold B_X2_sumOfWords_4 at hp1
  refine x_same (lo' := [(1, .int y5), (2, .int y6), (0, .ref a0)]) rfl ?_
  refine x_up (pc' := 5) (fun _ _ _ _ _ L => lv_iload_n hx hb dX2_sumOfWords_4 rfl (lv_at L 1 rfl)) ?_
  refine x_up (pc' := 7) (fun _ _ _ _ _ L => lv_bipush (v := (64 : Int32)) hx hb dX2_sumOfWords_5 (by decide)) ?_
  refine x_if (C := (64 : Int32) ≤ y6) (pt := 24) (pc' := 10) (fun _ _ _ _ _ => lv_icmp_ge (tgt := 24) hx hb dX2_sumOfWords_7 (by decide)) (fun c7 => ?_) (fun c7 => ?_)
  · have hp2 := hp1.1 c7
    refine x_up (pc' := 25) (fun _ _ _ _ _ L => lv_iload_n hx hb dX2_sumOfWords_24 rfl (lv_at L 0 rfl)) ?_
    exact x_iret X hr rfl dX2_sumOfWords_25 hp2
  · have hp3 := hp1.2 c7
    refine x_up (pc' := 11) (fun _ _ _ _ _ L => lv_iload_n hx hb dX2_sumOfWords_10 rfl (lv_at L 0 rfl)) ?_
    refine x_up (pc' := 12) (fun _ _ _ _ _ L => lv_aload_n hx hb dX2_sumOfWords_11 rfl (lv_at L 2 rfl)) ?_
    refine x_up (pc' := 13) (fun _ _ _ _ _ L => lv_iload_n hx hb dX2_sumOfWords_12 rfl (lv_at L 1 rfl)) ?_
    refine x_callV (em := emI) (fun r st => .int r :: st) (fun _ _ => rfl) 1 X (kX2 hG) (fun σ' KK h => R_X2_wordAt l hl G hG a0 y6 σ' KK h) (lw_V q2062 q2063 q2064 q100 q2065) ⟨rfl, mdX2_wordAt⟩ ⟨Nat.le_of_ble_eq_true rfl, Nat.le_of_ble_eq_true rfl⟩ rfl rfl (Nat.le_of_ble_eq_true rfl) dX2_sumOfWords_13 hp3.1 hp3.2 (fun v7 σ8 hp4 => ?_)
    refine x_pc (pc' := 16) rfl ?_
    refine x_up (pc' := 17) (fun _ _ _ _ _ L => lv_iadd hx hb dX2_sumOfWords_16) ?_
    refine x_upL (pc' := 18) (lo' := [(1, .int (y5 + v7)), (2, .int y6), (0, .ref a0)]) (fun _ _ _ _ _ L => lv_istore_n hx hb dX2_sumOfWords_17 rfl L (by decide) rfl) ?_
    refine x_upL (pc' := 21) (lo' := [(2, .int (y6 + (1 : Int32))), (1, .int (y5 + v7)), (0, .ref a0)]) (fun _ _ _ _ _ L => lv_iinc (v := y6 + (1 : Int32)) hx hb dX2_sumOfWords_18 L (k := 1) rfl rfl (by decide) rfl) ?_
    refine x_up (pc' := 4) (fun _ _ _ _ _ L => lv_goto (tgt := 4) hx hb dX2_sumOfWords_21 (by decide)) ?_
    refine x_lo (lo' := [(1, .int (y5 + v7)), (2, .int (y6 + (1 : Int32))), (0, .ref a0)]) [1, 0, 2] rfl ?_
    exact hself3 ((y5 + v7), (y6 + (1 : Int32))) σ8 hp4
-- X1_meanWord
def P_X1_meanWord (κ : Nat → Nat) (a0 : Nat) (σ : xS) (K : UInt64 → xH → Prop) : Prop :=
  xgq σ a0 0 0 fun v1 => xnn v1 fun b2 => xrc σ b2 1 ∧ xcall (fun τ L => P_X2_sumOfWords κ b2 τ L) σ fun v3 σ4 => vf_n64 (FP.ddiv (FP.i2d v3) (4634204016564240384 : UInt64)) ∧ K (FP.ddiv (FP.i2d v3) (4634204016564240384 : UInt64)) σ4.1
theorem mdX1_meanWord : yX1_meanWord.cls ≠ "java/lang/invoke/MethodHandle" ∧ yX1_meanWord.cls ≠ "java/lang/invoke/VarHandle" ∧ (parseMethodDescriptor yX1_meanWord.desc).map (fun d => d.parameters.length) = some 0 := by decide +kernel
set_option maxHeartbeats 4000000 in
set_option maxRecDepth 100000 in
theorem R_X1_meanWord (l : Launch) (hl : l.stackTraces = false) (G : xG) (hG : G.1.2 = x_cl) (a0 : Nat) (σ : xS) (K : UInt64 → xH → Prop) (hp : P_X1_meanWord G.2 a0 σ K) : xM l yX1_meanWord cX1_meanWord 1 (Option.some Jvm.ClassFile.FieldType.double) 6 131 G [(.ref a0)] σ (xlift emD K) := by
  refine x_entry (by decide) (Nat.le_of_ble_eq_true rfl) ?_
  intro p e s m args below meth c X hr hin
  have X : xX p s m args meth c G cX1_meanWord 1 RX1 := X
  have hx := X.1
  have hb := X.2.1
  have hts := X.2.2.2.2.1
  have hown := X.2.2.2.1
  unfold P_X1_meanWord at hp
  refine x_same (lo' := [(0, .ref a0)]) rfl ?_
  refine x_up (pc' := 1) (fun _ _ _ _ _ L => lv_aload_n hx hb dX1_meanWord_0 rfl (lv_at L 0 rfl)) ?_
  refine x_gq X (kX1 hG) 0 (by decide) q589 (fun _ h => h) dX1_meanWord_1 hp (fun v1 hp1 => ?_)
  refine x_pc (pc' := 4) rfl ?_
  obtain ⟨b2, rfl, hp2⟩ := hp1
  refine x_callV (em := emI) (fun r st => .int r :: st) (fun _ _ => rfl) 0 X (kX2 hG) (fun σ' KK h => R_X2_sumOfWords l hl G hG b2 σ' KK h) (lw_V q2058 q2059 q2060 q100 q2061) ⟨rfl, mdX2_sumOfWords⟩ ⟨Nat.le_of_ble_eq_true rfl, Nat.le_of_ble_eq_true rfl⟩ rfl rfl (Nat.le_of_ble_eq_true rfl) dX1_meanWord_4 hp2.1 hp2.2 (fun v3 σ4 hp3 => ?_)
  refine x_pc (pc' := 7) rfl ?_
  refine x_up (pc' := 8) (fun _ _ _ _ _ L => lv_i2d hx hb dX1_meanWord_7) ?_
  refine x_up (pc' := 11) (fun _ _ _ _ _ L => lv_ldc2d (v := 4634204016564240384) hx hb hown (hts _ q2092) dX1_meanWord_8) ?_
  obtain ⟨hz11, hp4⟩ := hp3
  refine x_up (pc' := 12) (fun _ _ _ _ _ L => lv_ddiv hx hb dX1_meanWord_11 hz11) ?_
  exact x_dret X hr dX1_meanWord_12 hp4
-- X2_sumOfMisses
def B_X2_sumOfMisses_13 (κ : Nat → Nat) (K : Int32 → xH → Prop) (f2 : Nat) (f3 : Int32) : ((Int32 × Int32) → xS → Prop) → (Int32 × Int32) → xS → Prop := fun self14003 w14001 σ14002 =>
  ((f3 ≤ w14001.2 → (K w14001.1 σ14002.1)) ∧ (¬ f3 ≤ w14001.2 → (xai .int σ14002 f2 w14001.2 fun v14004 => self14003 ((w14001.1 + v14004), (w14001.2 + (1 : Int32))) σ14002)))
def P_X2_sumOfMisses (κ : Nat → Nat) (a0 : Nat) (σ : xS) (K : Int32 → xH → Prop) : Prop :=
  xgq σ a0 1 7 fun v1 => xnn v1 fun b2 => xan σ b2 fun v3 => xwhile (B_X2_sumOfMisses_13 κ K b2 v3) ((0 : Int32), (0 : Int32)) σ
theorem mdX2_sumOfMisses : yX2_sumOfMisses.cls ≠ "java/lang/invoke/MethodHandle" ∧ yX2_sumOfMisses.cls ≠ "java/lang/invoke/VarHandle" ∧ (parseMethodDescriptor yX2_sumOfMisses.desc).map (fun d => d.parameters.length) = some 0 := by decide +kernel
set_option maxHeartbeats 4000000 in
set_option maxRecDepth 100000 in
theorem R_X2_sumOfMisses (l : Launch) (hl : l.stackTraces = false) (G : xG) (hG : G.1.2 = x_cl) (a0 : Nat) (σ : xS) (K : Int32 → xH → Prop) (hp : P_X2_sumOfMisses G.2 a0 σ K) : xM l yX2_sumOfMisses cX2_sumOfMisses 6 (Option.some Jvm.ClassFile.FieldType.int) 0 0 G [(.ref a0)] σ (xlift emI K) := by
  refine x_entry (by decide) (Nat.le_of_ble_eq_true rfl) ?_
  intro p e s m args below meth c X hr hin
  have X : xX p s m args meth c G cX2_sumOfMisses 6 RX2 := X
  have hx := X.1
  have hb := X.2.1
  have hts := X.2.2.2.2.1
  have hown := X.2.2.2.1
  unfold P_X2_sumOfMisses at hp
  refine x_same (lo' := [(0, .ref a0)]) rfl ?_
  refine x_up (pc' := 1) (fun _ _ _ _ _ L => lv_iconst (v := (0 : Int32)) hx hb dX2_sumOfMisses_0 (by decide)) ?_
  refine x_upL (pc' := 2) (lo' := [(1, .int (0 : Int32)), (0, .ref a0)]) (fun _ _ _ _ _ L => lv_istore_n hx hb dX2_sumOfMisses_1 rfl L (by decide) rfl) ?_
  refine x_up (pc' := 3) (fun _ _ _ _ _ L => lv_aload_n hx hb dX2_sumOfMisses_2 rfl (lv_at L 1 rfl)) ?_
  refine x_gq X (kX2 hG) 7 (by decide) q470 (fun _ h => h) dX2_sumOfMisses_3 hp (fun v1 hp1 => ?_)
  refine x_pc (pc' := 6) rfl ?_
  refine x_upL (pc' := 7) (lo' := [(2, va_rf v1), (1, .int (0 : Int32)), (0, .ref a0)]) (fun _ _ _ _ _ L => lv_astoreq_n hx hb dX2_sumOfMisses_6 rfl L (by decide) rfl) ?_
  refine x_up (pc' := 8) (fun _ _ _ _ _ L => lv_aloadq_n hx hb dX2_sumOfMisses_7 rfl (lv_at L 0 rfl)) ?_
  obtain ⟨b2, rfl, hp2⟩ := hp1
  refine x_alen X dX2_sumOfMisses_8 hp2 (fun v3 hp3 => ?_)
  refine x_pc (pc' := 9) rfl ?_
  refine x_upL (pc' := 10) (lo' := [(3, .int v3), (2, .ref b2), (1, .int (0 : Int32)), (0, .ref a0)]) (fun _ _ _ _ _ L => lv_istore_n hx hb dX2_sumOfMisses_9 rfl L (by decide) rfl) ?_
  refine x_up (pc' := 11) (fun _ _ _ _ _ L => lv_iconst (v := (0 : Int32)) hx hb dX2_sumOfMisses_10 (by decide)) ?_
  refine x_upL (pc' := 13) (lo' := [(4, .int (0 : Int32)), (3, .int v3), (2, .ref b2), (1, .int (0 : Int32)), (0, .ref a0)]) (fun _ _ _ _ _ L => lv_istore hx hb dX2_sumOfMisses_11 L (by decide) rfl) ?_
  refine x_lo (lo' := [(1, .int (0 : Int32)), (4, .int (0 : Int32)), (2, .ref b2), (3, .int v3)]) [3, 0, 2, 1] rfl ?_
  refine x_while (v0 := ((0 : Int32), (0 : Int32))) (fun w4 => [(1, .int w4.1), (4, .int w4.2), (2, .ref b2), (3, .int v3)]) hp3 (fun self5 hself6 => ?_)
  rintro ⟨y8, y9⟩ σ7 hp4
  unfold B_X2_sumOfMisses_13 at hp4
  refine x_same (lo' := [(1, .int y8), (4, .int y9), (2, .ref b2), (3, .int v3)]) rfl ?_
  refine x_up (pc' := 15) (fun _ _ _ _ _ L => lv_iload hx hb dX2_sumOfMisses_13 (lv_at L 1 rfl)) ?_
  refine x_up (pc' := 16) (fun _ _ _ _ _ L => lv_iload_n hx hb dX2_sumOfMisses_15 rfl (lv_at L 3 rfl)) ?_
  refine x_if (C := v3 ≤ y9) (pt := 36) (pc' := 19) (fun _ _ _ _ _ => lv_icmp_ge (tgt := 36) hx hb dX2_sumOfMisses_16 (by decide)) (fun c16 => ?_) (fun c16 => ?_)
  · have hp5 := hp4.1 c16
    refine x_up (pc' := 37) (fun _ _ _ _ _ L => lv_iload_n hx hb dX2_sumOfMisses_36 rfl (lv_at L 0 rfl)) ?_
    exact x_iret X hr rfl dX2_sumOfMisses_37 hp5
  · have hp6 := hp4.2 c16
    refine x_up (pc' := 20) (fun _ _ _ _ _ L => lv_aload_n hx hb dX2_sumOfMisses_19 rfl (lv_at L 2 rfl)) ?_
    refine x_up (pc' := 22) (fun _ _ _ _ _ L => lv_iload hx hb dX2_sumOfMisses_20 (lv_at L 1 rfl)) ?_
    refine x_iald X dX2_sumOfMisses_22 hp6 (fun v10 hp7 => ?_)
    refine x_pc (pc' := 23) rfl ?_
    refine x_upL (pc' := 25) (lo' := [(5, .int v10), (1, .int y8), (4, .int y9), (2, .ref b2), (3, .int v3)]) (fun _ _ _ _ _ L => lv_istore hx hb dX2_sumOfMisses_23 L (by decide) rfl) ?_
    refine x_up (pc' := 26) (fun _ _ _ _ _ L => lv_iload_n hx hb dX2_sumOfMisses_25 rfl (lv_at L 1 rfl)) ?_
    refine x_up (pc' := 28) (fun _ _ _ _ _ L => lv_iload hx hb dX2_sumOfMisses_26 (lv_at L 0 rfl)) ?_
    refine x_up (pc' := 29) (fun _ _ _ _ _ L => lv_iadd hx hb dX2_sumOfMisses_28) ?_
    refine x_upL (pc' := 30) (lo' := [(1, .int (y8 + v10)), (5, .int v10), (4, .int y9), (2, .ref b2), (3, .int v3)]) (fun _ _ _ _ _ L => lv_istore_n hx hb dX2_sumOfMisses_29 rfl L (by decide) rfl) ?_
    refine x_upL (pc' := 33) (lo' := [(4, .int (y9 + (1 : Int32))), (1, .int (y8 + v10)), (5, .int v10), (2, .ref b2), (3, .int v3)]) (fun _ _ _ _ _ L => lv_iinc (v := y9 + (1 : Int32)) hx hb dX2_sumOfMisses_30 L (k := 2) rfl rfl (by decide) rfl) ?_
    refine x_up (pc' := 13) (fun _ _ _ _ _ L => lv_goto (tgt := 13) hx hb dX2_sumOfMisses_33 (by decide)) ?_
    refine x_lo (lo' := [(1, .int (y8 + v10)), (4, .int (y9 + (1 : Int32))), (2, .ref b2), (3, .int v3)]) [1, 0, 3, 4] rfl ?_
    exact hself6 ((y8 + v10), (y9 + (1 : Int32))) σ7 hp7
-- X3_isEmpty
def P_X3_isEmpty (κ : Nat → Nat) (a0 : Nat) (σ : xS) (K : Int32 → xH → Prop) : Prop :=
  xgi σ a0 5 2 fun v1 => ((v1 = (-1 : Int32) → (K (1 : Int32) σ.1)) ∧ (¬ v1 = (-1 : Int32) → (K (0 : Int32) σ.1)))
theorem mdX3_isEmpty : yX3_isEmpty.cls ≠ "java/lang/invoke/MethodHandle" ∧ yX3_isEmpty.cls ≠ "java/lang/invoke/VarHandle" ∧ (parseMethodDescriptor yX3_isEmpty.desc).map (fun d => d.parameters.length) = some 0 := by decide +kernel
set_option maxHeartbeats 4000000 in
set_option maxRecDepth 100000 in
theorem R_X3_isEmpty (l : Launch) (hl : l.stackTraces = false) (G : xG) (hG : G.1.2 = x_cl) (a0 : Nat) (σ : xS) (K : Int32 → xH → Prop) (hp : P_X3_isEmpty G.2 a0 σ K) : xM l yX3_isEmpty cX3_isEmpty 1 (Option.some Jvm.ClassFile.FieldType.boolean) 0 0 G [(.ref a0)] σ (xlift emI K) := by
  refine x_entry (by decide) (Nat.le_of_ble_eq_true rfl) ?_
  intro p e s m args below meth c X hr hin
  have X : xX p s m args meth c G cX3_isEmpty 1 RX3 := X
  have hx := X.1
  have hb := X.2.1
  have hts := X.2.2.2.2.1
  have hown := X.2.2.2.1
  unfold P_X3_isEmpty at hp
  refine x_same (lo' := [(0, .ref a0)]) rfl ?_
  refine x_up (pc' := 1) (fun _ _ _ _ _ L => lv_aload_n hx hb dX3_isEmpty_0 rfl (lv_at L 0 rfl)) ?_
  refine x_gi X (kX3 hG) 2 (by decide) q298 (fun _ h => h) dX3_isEmpty_1 hp (fun v1 hp1 => ?_)
  refine x_pc (pc' := 4) rfl ?_
  refine x_up (pc' := 5) (fun _ _ _ _ _ L => lv_iconst (v := (-1 : Int32)) hx hb dX3_isEmpty_4 (by decide)) ?_
  refine x_ifn (C := v1 = (-1 : Int32)) (pt := 12) (pc' := 8) (fun _ _ _ _ _ => lv_icmp_ne (tgt := 12) hx hb dX3_isEmpty_5 (by decide)) (fun c5 => ?_) (fun c5 => ?_)
  · have hp2 := hp1.1 c5
    refine x_up (pc' := 9) (fun _ _ _ _ _ L => lv_iconst (v := (1 : Int32)) hx hb dX3_isEmpty_8 (by decide)) ?_
    refine x_up (pc' := 13) (fun _ _ _ _ _ L => lv_goto (tgt := 13) hx hb dX3_isEmpty_9 (by decide)) ?_
    exact x_iret X hr rfl dX3_isEmpty_13 hp2
  · have hp3 := hp1.2 c5
    refine x_up (pc' := 13) (fun _ _ _ _ _ L => lv_iconst (v := (0 : Int32)) hx hb dX3_isEmpty_12 (by decide)) ?_
    exact x_iret X hr rfl dX3_isEmpty_13 hp3
-- X3_isDirty
def P_X3_isDirty (κ : Nat → Nat) (a0 : Nat) (x1 : Int32) (σ : xS) (K : Int32 → xH → Prop) : Prop :=
  xgi σ a0 5 3 fun v1 => ((((v1 >>> (x1 &&& 31)) &&& (1 : Int32)) = (1 : Int32) → (K (1 : Int32) σ.1)) ∧ (¬ ((v1 >>> (x1 &&& 31)) &&& (1 : Int32)) = (1 : Int32) → (K (0 : Int32) σ.1)))
theorem mdX3_isDirty : yX3_isDirty.cls ≠ "java/lang/invoke/MethodHandle" ∧ yX3_isDirty.cls ≠ "java/lang/invoke/VarHandle" ∧ (parseMethodDescriptor yX3_isDirty.desc).map (fun d => d.parameters.length) = some 1 := by decide +kernel
set_option maxHeartbeats 4000000 in
set_option maxRecDepth 100000 in
theorem R_X3_isDirty (l : Launch) (hl : l.stackTraces = false) (G : xG) (hG : G.1.2 = x_cl) (a0 : Nat) (x1 : Int32) (σ : xS) (K : Int32 → xH → Prop) (hp : P_X3_isDirty G.2 a0 x1 σ K) : xM l yX3_isDirty cX3_isDirty 2 (Option.some Jvm.ClassFile.FieldType.boolean) 0 0 G [(.ref a0), .int x1] σ (xlift emI K) := by
  refine x_entry (by decide) (Nat.le_of_ble_eq_true rfl) ?_
  intro p e s m args below meth c X hr hin
  have X : xX p s m args meth c G cX3_isDirty 2 RX3 := X
  have hx := X.1
  have hb := X.2.1
  have hts := X.2.2.2.2.1
  have hown := X.2.2.2.1
  unfold P_X3_isDirty at hp
  refine x_same (lo' := [(0, .ref a0), (1, .int x1)]) rfl ?_
  refine x_up (pc' := 1) (fun _ _ _ _ _ L => lv_aload_n hx hb dX3_isDirty_0 rfl (lv_at L 0 rfl)) ?_
  refine x_gi X (kX3 hG) 3 (by decide) q301 (fun _ h => h) dX3_isDirty_1 hp (fun v1 hp1 => ?_)
  refine x_pc (pc' := 4) rfl ?_
  refine x_up (pc' := 5) (fun _ _ _ _ _ L => lv_iload_n hx hb dX3_isDirty_4 rfl (lv_at L 1 rfl)) ?_
  refine x_up (pc' := 6) (fun _ _ _ _ _ L => lv_ishr hx hb dX3_isDirty_5) ?_
  refine x_up (pc' := 7) (fun _ _ _ _ _ L => lv_iconst (v := (1 : Int32)) hx hb dX3_isDirty_6 (by decide)) ?_
  refine x_up (pc' := 8) (fun _ _ _ _ _ L => lv_iand hx hb dX3_isDirty_7) ?_
  refine x_up (pc' := 9) (fun _ _ _ _ _ L => lv_iconst (v := (1 : Int32)) hx hb dX3_isDirty_8 (by decide)) ?_
  refine x_ifn (C := ((v1 >>> (x1 &&& 31)) &&& (1 : Int32)) = (1 : Int32)) (pt := 16) (pc' := 12) (fun _ _ _ _ _ => lv_icmp_ne (tgt := 16) hx hb dX3_isDirty_9 (by decide)) (fun c9 => ?_) (fun c9 => ?_)
  · have hp2 := hp1.1 c9
    refine x_up (pc' := 13) (fun _ _ _ _ _ L => lv_iconst (v := (1 : Int32)) hx hb dX3_isDirty_12 (by decide)) ?_
    refine x_up (pc' := 17) (fun _ _ _ _ _ L => lv_goto (tgt := 17) hx hb dX3_isDirty_13 (by decide)) ?_
    exact x_iret X hr rfl dX3_isDirty_17 hp2
  · have hp3 := hp1.2 c9
    refine x_up (pc' := 17) (fun _ _ _ _ _ L => lv_iconst (v := (0 : Int32)) hx hb dX3_isDirty_16 (by decide)) ?_
    exact x_iret X hr rfl dX3_isDirty_17 hp3
-- X2_isClean
def B_X2_isClean_4 (κ : Nat → Nat) (K : Int32 → xH → Prop) (f0 : Nat) (f1 : Option Nat) : ((Int32 × Int32) → xS → Prop) → (Int32 × Int32) → xS → Prop := fun self5003 w5001 σ5002 =>
  (((4 : Int32) ≤ w5001.2 → ((narrow .boolean (.int w5001.1) = .int w5001.1 ∧ K w5001.1 σ5002.1))) ∧ (¬ (4 : Int32) ≤ w5001.2 → (xnn f1 fun b5004 => xrc σ5002 b5004 5 ∧ xcall (fun τ L => P_X3_isDirty κ b5004 w5001.2 τ L) σ5002 fun v5005 σ5006 => ((v5005 = 0 → (xgq σ5006 b5004 5 1 fun v5007 => xnn v5007 fun b5008 => xai .int σ5006 b5008 w5001.2 fun v5009 => xgq σ5006 f0 1 0 fun v5010 => xgi σ5006 b5004 5 2 fun v5011 => xnn v5010 fun b5012 => xai .int σ5006 b5012 (((4 : Int32) * v5011) + w5001.2) fun v5013 => ((v5009 = v5013 → (self5003 ((w5001.1 &&& (1 : Int32)), (w5001.2 + (1 : Int32))) σ5006)) ∧ (¬ v5009 = v5013 → (self5003 ((w5001.1 &&& (0 : Int32)), (w5001.2 + (1 : Int32))) σ5006))))) ∧ (¬ v5005 = 0 → (self5003 ((w5001.1 &&& (1 : Int32)), (w5001.2 + (1 : Int32))) σ5006))))))
def P_X2_isClean (κ : Nat → Nat) (a0 : Nat) (x1 : Option Nat) (σ : xS) (K : Int32 → xH → Prop) : Prop :=
  xwhile (B_X2_isClean_4 κ K a0 x1) ((1 : Int32), (0 : Int32)) σ
theorem mdX2_isClean : yX2_isClean.cls ≠ "java/lang/invoke/MethodHandle" ∧ yX2_isClean.cls ≠ "java/lang/invoke/VarHandle" ∧ (parseMethodDescriptor yX2_isClean.desc).map (fun d => d.parameters.length) = some 1 := by decide +kernel
set_option maxHeartbeats 4000000 in
set_option maxRecDepth 100000 in
theorem R_X2_isClean (l : Launch) (hl : l.stackTraces = false) (G : xG) (hG : G.1.2 = x_cl) (a0 : Nat) (x1 : Option Nat) (σ : xS) (K : Int32 → xH → Prop) (hp : P_X2_isClean G.2 a0 x1 σ K) : xM l yX2_isClean cX2_isClean 4 (Option.some Jvm.ClassFile.FieldType.boolean) 1 21 G [(.ref a0), va_rf x1] σ (xlift emI K) := by
  refine x_entry (by decide) (by simp [lg_sl, x_catq, x_cati, x_catr, x_catn]) ?_
  intro p e s m args below meth c X hr hin
  have X : xX p s m args meth c G cX2_isClean 4 RX2 := X
  have hx := X.1
  have hb := X.2.1
  have hts := X.2.2.2.2.1
  have hown := X.2.2.2.1
  unfold P_X2_isClean at hp
  refine x_same (lo' := [(0, .ref a0), (1, va_rf x1)]) (by simp [lv_args, x_catq, x_cati, x_catr, x_catn]) ?_
  refine x_up (pc' := 1) (fun _ _ _ _ _ L => lv_iconst (v := (1 : Int32)) hx hb dX2_isClean_0 (by decide)) ?_
  refine x_st (pc' := 2) ([(2, .int (1 : Int32)), (0, .ref a0), (1, va_rf x1)]) rfl (by simp [x_catq, x_cati, x_catr, x_catn]) (fun _ _ _ _ _ L => lv_istore_n hx hb dX2_isClean_1 rfl L (by decide) rfl) ?_
  refine x_up (pc' := 3) (fun _ _ _ _ _ L => lv_iconst (v := (0 : Int32)) hx hb dX2_isClean_2 (by decide)) ?_
  refine x_upL (pc' := 4) (lo' := [(3, .int (0 : Int32)), (2, .int (1 : Int32)), (0, .ref a0), (1, va_rf x1)]) (fun _ _ _ _ _ L => lv_istore_n hx hb dX2_isClean_3 rfl L (by decide) rfl) ?_
  refine x_lo (lo' := [(2, .int (1 : Int32)), (3, .int (0 : Int32)), (0, .ref a0), (1, va_rf x1)]) [1, 0, 2, 3] rfl ?_
  refine x_while (v0 := ((1 : Int32), (0 : Int32))) (fun w1 => [(2, .int w1.1), (3, .int w1.2), (0, .ref a0), (1, va_rf x1)]) hp (fun self2 hself3 => ?_)
  rintro ⟨y5, y6⟩ σ4 hp1
  unfold B_X2_isClean_4 at hp1
  refine x_same (lo' := [(2, .int y5), (3, .int y6), (0, .ref a0), (1, va_rf x1)]) rfl ?_
  refine x_up (pc' := 5) (fun _ _ _ _ _ L => lv_iload_n hx hb dX2_isClean_4 rfl (lv_at L 1 rfl)) ?_
  refine x_up (pc' := 6) (fun _ _ _ _ _ L => lv_iconst (v := (4 : Int32)) hx hb dX2_isClean_5 (by decide)) ?_
  refine x_if (C := (4 : Int32) ≤ y6) (pt := 53) (pc' := 9) (fun _ _ _ _ _ => lv_icmp_ge (tgt := 53) hx hb dX2_isClean_6 (by decide)) (fun c6 => ?_) (fun c6 => ?_)
  · have hp2 := hp1.1 c6
    refine x_up (pc' := 54) (fun _ _ _ _ _ L => lv_iload_n hx hb dX2_isClean_53 rfl (lv_at L 0 rfl)) ?_
    exact x_iret X hr hp2.1 dX2_isClean_54 hp2.2
  · have hp3 := hp1.2 c6
    refine x_up (pc' := 10) (fun _ _ _ _ _ L => lv_iload_n hx hb dX2_isClean_9 rfl (lv_at L 0 rfl)) ?_
    refine x_up (pc' := 11) (fun _ _ _ _ _ L => lv_aloadq_n hx hb dX2_isClean_10 rfl (lv_at L 3 rfl)) ?_
    refine x_up (pc' := 12) (fun _ _ _ _ _ L => lv_iload_n hx hb dX2_isClean_11 rfl (lv_at L 1 rfl)) ?_
    obtain ⟨b7, rfl, hp4⟩ := hp3
    refine x_callV (em := emI) (fun r st => .int r :: st) (fun _ _ => rfl) 1 X (kX3 hG) (fun σ' KK h => R_X3_isDirty l hl G hG b7 y6 σ' KK h) (lw_V q2113 q2114 q2115 q108 q2116) ⟨rfl, mdX3_isDirty⟩ ⟨Nat.le_of_ble_eq_true rfl, Nat.le_of_ble_eq_true rfl⟩ rfl rfl (Nat.le_of_ble_eq_true rfl) dX2_isClean_12 hp4.1 hp4.2 (fun v8 σ9 hp5 => ?_)
    refine x_pc (pc' := 15) rfl ?_
    refine x_ifn (C := v8 = 0) (pt := 40) (pc' := 18) (fun _ _ _ _ _ => lv_if_ne (tgt := 40) hx hb dX2_isClean_15 (by decide)) (fun c15 => ?_) (fun c15 => ?_)
    · have hp6 := hp5.1 c15
      refine x_up (pc' := 19) (fun _ _ _ _ _ L => lv_aload_n hx hb dX2_isClean_18 rfl (lv_at L 3 rfl)) ?_
      refine x_gqN X (kX3 hG) 1 (by decide) q297 (fun _ h => h) dX2_isClean_19 hp6 (fun v10 hp7 => ?_)
      refine x_pc (pc' := 22) rfl ?_
      refine x_up (pc' := 23) (fun _ _ _ _ _ L => lv_iload_n hx hb dX2_isClean_22 rfl (lv_at L 1 rfl)) ?_
      obtain ⟨b11, rfl, hp8⟩ := hp7
      refine x_iald X dX2_isClean_23 hp8 (fun v12 hp9 => ?_)
      refine x_pc (pc' := 24) rfl ?_
      refine x_up (pc' := 25) (fun _ _ _ _ _ L => lv_aload_n hx hb dX2_isClean_24 rfl (lv_at L 2 rfl)) ?_
      refine x_gq X (kX2 hG) 0 (by decide) q458 (fun _ h => h) dX2_isClean_25 hp9 (fun v13 hp10 => ?_)
      refine x_pc (pc' := 28) rfl ?_
      refine x_up (pc' := 29) (fun _ _ _ _ _ L => lv_iconst (v := (4 : Int32)) hx hb dX2_isClean_28 (by decide)) ?_
      refine x_up (pc' := 30) (fun _ _ _ _ _ L => lv_aload_n hx hb dX2_isClean_29 rfl (lv_at L 3 rfl)) ?_
      refine x_giN X (kX3 hG) 2 (by decide) q299 (fun _ h => h) dX2_isClean_30 hp10 (fun v14 hp11 => ?_)
      refine x_pc (pc' := 33) rfl ?_
      refine x_up (pc' := 34) (fun _ _ _ _ _ L => lv_imul hx hb dX2_isClean_33) ?_
      refine x_up (pc' := 35) (fun _ _ _ _ _ L => lv_iload_n hx hb dX2_isClean_34 rfl (lv_at L 1 rfl)) ?_
      refine x_up (pc' := 36) (fun _ _ _ _ _ L => lv_iadd hx hb dX2_isClean_35) ?_
      obtain ⟨b15, rfl, hp12⟩ := hp11
      refine x_iald X dX2_isClean_36 hp12 (fun v16 hp13 => ?_)
      refine x_pc (pc' := 37) rfl ?_
      refine x_ifn (C := v12 = v16) (pt := 44) (pc' := 40) (fun _ _ _ _ _ => lv_icmp_ne (tgt := 44) hx hb dX2_isClean_37 (by decide)) (fun c37 => ?_) (fun c37 => ?_)
      · have hp14 := hp13.1 c37
        refine x_up (pc' := 41) (fun _ _ _ _ _ L => lv_iconst (v := (1 : Int32)) hx hb dX2_isClean_40 (by decide)) ?_
        refine x_up (pc' := 45) (fun _ _ _ _ _ L => lv_goto (tgt := 45) hx hb dX2_isClean_41 (by decide)) ?_
        refine x_up (pc' := 46) (fun _ _ _ _ _ L => lv_iand hx hb dX2_isClean_45) ?_
        refine x_upL (pc' := 47) (lo' := [(2, .int (y5 &&& (1 : Int32))), (3, .int y6), (0, .ref a0), (1, .ref b7)]) (fun _ _ _ _ _ L => lv_istore_n hx hb dX2_isClean_46 rfl L (by decide) rfl) ?_
        refine x_upL (pc' := 50) (lo' := [(3, .int (y6 + (1 : Int32))), (2, .int (y5 &&& (1 : Int32))), (0, .ref a0), (1, .ref b7)]) (fun _ _ _ _ _ L => lv_iinc (v := y6 + (1 : Int32)) hx hb dX2_isClean_47 L (k := 1) rfl rfl (by decide) rfl) ?_
        refine x_up (pc' := 4) (fun _ _ _ _ _ L => lv_goto (tgt := 4) hx hb dX2_isClean_50 (by decide)) ?_
        refine x_lo (lo' := [(2, .int (y5 &&& (1 : Int32))), (3, .int (y6 + (1 : Int32))), (0, .ref a0), (1, .ref b7)]) [1, 0, 2, 3] rfl ?_
        exact hself3 ((y5 &&& (1 : Int32)), (y6 + (1 : Int32))) σ9 hp14
      · have hp15 := hp13.2 c37
        refine x_up (pc' := 45) (fun _ _ _ _ _ L => lv_iconst (v := (0 : Int32)) hx hb dX2_isClean_44 (by decide)) ?_
        refine x_up (pc' := 46) (fun _ _ _ _ _ L => lv_iand hx hb dX2_isClean_45) ?_
        refine x_upL (pc' := 47) (lo' := [(2, .int (y5 &&& (0 : Int32))), (3, .int y6), (0, .ref a0), (1, .ref b7)]) (fun _ _ _ _ _ L => lv_istore_n hx hb dX2_isClean_46 rfl L (by decide) rfl) ?_
        refine x_upL (pc' := 50) (lo' := [(3, .int (y6 + (1 : Int32))), (2, .int (y5 &&& (0 : Int32))), (0, .ref a0), (1, .ref b7)]) (fun _ _ _ _ _ L => lv_iinc (v := y6 + (1 : Int32)) hx hb dX2_isClean_47 L (k := 1) rfl rfl (by decide) rfl) ?_
        refine x_up (pc' := 4) (fun _ _ _ _ _ L => lv_goto (tgt := 4) hx hb dX2_isClean_50 (by decide)) ?_
        refine x_lo (lo' := [(2, .int (y5 &&& (0 : Int32))), (3, .int (y6 + (1 : Int32))), (0, .ref a0), (1, .ref b7)]) [1, 0, 2, 3] rfl ?_
        exact hself3 ((y5 &&& (0 : Int32)), (y6 + (1 : Int32))) σ9 hp15
    · have hp16 := hp5.2 c15
      refine x_up (pc' := 41) (fun _ _ _ _ _ L => lv_iconst (v := (1 : Int32)) hx hb dX2_isClean_40 (by decide)) ?_
      refine x_up (pc' := 45) (fun _ _ _ _ _ L => lv_goto (tgt := 45) hx hb dX2_isClean_41 (by decide)) ?_
      refine x_up (pc' := 46) (fun _ _ _ _ _ L => lv_iand hx hb dX2_isClean_45) ?_
      refine x_upL (pc' := 47) (lo' := [(2, .int (y5 &&& (1 : Int32))), (3, .int y6), (0, .ref a0), (1, .ref b7)]) (fun _ _ _ _ _ L => lv_istore_n hx hb dX2_isClean_46 rfl L (by decide) rfl) ?_
      refine x_upL (pc' := 50) (lo' := [(3, .int (y6 + (1 : Int32))), (2, .int (y5 &&& (1 : Int32))), (0, .ref a0), (1, .ref b7)]) (fun _ _ _ _ _ L => lv_iinc (v := y6 + (1 : Int32)) hx hb dX2_isClean_47 L (k := 1) rfl rfl (by decide) rfl) ?_
      refine x_up (pc' := 4) (fun _ _ _ _ _ L => lv_goto (tgt := 4) hx hb dX2_isClean_50 (by decide)) ?_
      refine x_lo (lo' := [(2, .int (y5 &&& (1 : Int32))), (3, .int (y6 + (1 : Int32))), (0, .ref a0), (1, .ref b7)]) [1, 0, 2, 3] rfl ?_
      exact hself3 ((y5 &&& (1 : Int32)), (y6 + (1 : Int32))) σ9 hp16
-- X2_isBalanced
def B_X2_isBalanced_39 (κ : Nat → Nat) (K : Int32 → xH → Prop) (f0 : Nat) (f3 : Option Nat) : ((Int32 × Int32) → xS → Prop) → (Int32 × Int32) → xS → Prop := fun self40003 w40001 σ40002 =>
  xnn f3 fun b40004 => xrc σ40002 b40004 21 ∧ xcall (fun τ L => P_J35_hasNext κ b40004 τ L) σ40002 fun v40005 σ40006 => ((v40005 = 0 → ((narrow .boolean (.int w40001.1) = .int w40001.1 ∧ K w40001.1 σ40006.1))) ∧ (¬ v40005 = 0 → (xrc σ40006 b40004 21 ∧ xcall (fun τ L => P_J35_next κ b40004 τ L) σ40006 fun v40007 σ40008 => xnn v40007 fun b40009 => xrc σ40008 b40009 5 ∧ xrc σ40008 b40009 5 ∧ xcall (fun τ L => P_X3_isEmpty κ b40009 τ L) σ40008 fun v40010 σ40011 => ((v40010 = 0 → (xgi σ40011 b40009 5 2 fun v40012 => ((((w40001.2 >>> (v40012 &&& 31)) &&& (1 : Int32)) = 0 → (xrc σ40011 f0 1 ∧ xcall (fun τ L => P_X2_isClean κ f0 (some b40009) τ L) σ40011 fun v40013 σ40014 => ((v40013 = 0 → (xgi σ40014 b40009 5 2 fun v40015 => self40003 ((w40001.1 &&& (0 : Int32)), (w40001.2 ||| ((1 : Int32) <<< (v40015 &&& 31)))) σ40014)) ∧ (¬ v40013 = 0 → (xgi σ40014 b40009 5 2 fun v40016 => self40003 ((w40001.1 &&& (1 : Int32)), (w40001.2 ||| ((1 : Int32) <<< (v40016 &&& 31)))) σ40014))))) ∧ (¬ ((w40001.2 >>> (v40012 &&& 31)) &&& (1 : Int32)) = 0 → (xgi σ40011 b40009 5 2 fun v40017 => self40003 ((w40001.1 &&& (0 : Int32)), (w40001.2 ||| ((1 : Int32) <<< (v40017 &&& 31)))) σ40011))))) ∧ (¬ v40010 = 0 → (self40003 (w40001.1, w40001.2) σ40011))))))
def P_X2_isBalanced (κ : Nat → Nat) (a0 : Nat) (σ : xS) (K : Int32 → xH → Prop) : Prop :=
  xgi σ a0 1 13 fun v1 => xgi σ a0 1 14 fun v2 => xgi σ a0 1 15 fun v3 => xrc σ a0 1 ∧ xcall (fun τ L => P_X2_sumOfMisses κ a0 τ L) σ fun v4 σ5 => (((v1 + v2) = (v3 + v4) → (xrc σ5 a0 1 ∧ xcall (fun τ L => P_X2_allLines κ a0 τ L) σ5 fun v6 σ7 => xnn v6 fun b8 => xrc σ7 b8 3 ∧ xcall (fun τ L => P_J4_iterator κ b8 τ L) σ7 fun v9 σ10 => xwhile (B_X2_isBalanced_39 κ K a0 v9) ((1 : Int32), (0 : Int32)) σ10)) ∧ (¬ (v1 + v2) = (v3 + v4) → (xrc σ5 a0 1 ∧ xcall (fun τ L => P_X2_allLines κ a0 τ L) σ5 fun v11 σ12 => xnn v11 fun b13 => xrc σ12 b13 3 ∧ xcall (fun τ L => P_J4_iterator κ b13 τ L) σ12 fun v14 σ15 => xwhile (B_X2_isBalanced_39 κ K a0 v14) ((0 : Int32), (0 : Int32)) σ15)))
theorem mdX2_isBalanced : yX2_isBalanced.cls ≠ "java/lang/invoke/MethodHandle" ∧ yX2_isBalanced.cls ≠ "java/lang/invoke/VarHandle" ∧ (parseMethodDescriptor yX2_isBalanced.desc).map (fun d => d.parameters.length) = some 0 := by decide +kernel
set_option maxHeartbeats 4000000 in
set_option maxRecDepth 100000 in
theorem R_X2_isBalanced (l : Launch) (hl : l.stackTraces = false) (G : xG) (hG : G.1.2 = x_cl) (a0 : Nat) (σ : xS) (K : Int32 → xH → Prop) (hp : P_X2_isBalanced G.2 a0 σ K) : xM l yX2_isBalanced cX2_isBalanced 5 (Option.some Jvm.ClassFile.FieldType.boolean) 6 175 G [(.ref a0)] σ (xlift emI K) := by
  refine x_entry (by decide) (Nat.le_of_ble_eq_true rfl) ?_
  intro p e s m args below meth c X hr hin
  have X : xX p s m args meth c G cX2_isBalanced 5 RX2 := X
  have hx := X.1
  have hb := X.2.1
  have hts := X.2.2.2.2.1
  have hown := X.2.2.2.1
  unfold P_X2_isBalanced at hp
  refine x_same (lo' := [(0, .ref a0)]) rfl ?_
  refine x_up (pc' := 1) (fun _ _ _ _ _ L => lv_aload_n hx hb dX2_isBalanced_0 rfl (lv_at L 0 rfl)) ?_
  refine x_gi X (kX2 hG) 13 (by decide) q481 (fun _ h => h) dX2_isBalanced_1 hp (fun v1 hp1 => ?_)
  refine x_pc (pc' := 4) rfl ?_
  refine x_up (pc' := 5) (fun _ _ _ _ _ L => lv_aload_n hx hb dX2_isBalanced_4 rfl (lv_at L 0 rfl)) ?_
  refine x_gi X (kX2 hG) 14 (by decide) q483 (fun _ h => h) dX2_isBalanced_5 hp1 (fun v2 hp2 => ?_)
  refine x_pc (pc' := 8) rfl ?_
  refine x_up (pc' := 9) (fun _ _ _ _ _ L => lv_iadd hx hb dX2_isBalanced_8) ?_
  refine x_up (pc' := 10) (fun _ _ _ _ _ L => lv_aload_n hx hb dX2_isBalanced_9 rfl (lv_at L 0 rfl)) ?_
  refine x_gi X (kX2 hG) 15 (by decide) q485 (fun _ h => h) dX2_isBalanced_10 hp2 (fun v3 hp3 => ?_)
  refine x_pc (pc' := 13) rfl ?_
  refine x_up (pc' := 14) (fun _ _ _ _ _ L => lv_aload_n hx hb dX2_isBalanced_13 rfl (lv_at L 0 rfl)) ?_
  refine x_callV (em := emI) (fun r st => .int r :: st) (fun _ _ => rfl) 0 X (kX2 hG) (fun σ' KK h => R_X2_sumOfMisses l hl G hG a0 σ' KK h) (lw_V q2101 q2102 q2103 q100 q2104) ⟨rfl, mdX2_sumOfMisses⟩ ⟨Nat.le_of_ble_eq_true rfl, Nat.le_of_ble_eq_true rfl⟩ rfl rfl (Nat.le_of_ble_eq_true rfl) dX2_isBalanced_14 hp3.1 hp3.2 (fun v4 σ5 hp4 => ?_)
  refine x_pc (pc' := 17) rfl ?_
  refine x_up (pc' := 18) (fun _ _ _ _ _ L => lv_iadd hx hb dX2_isBalanced_17) ?_
  refine x_ifn (C := (v1 + v2) = (v3 + v4)) (pt := 25) (pc' := 21) (fun _ _ _ _ _ => lv_icmp_ne (tgt := 25) hx hb dX2_isBalanced_18 (by decide)) (fun c18 => ?_) (fun c18 => ?_)
  · have hp5 := hp4.1 c18
    refine x_up (pc' := 22) (fun _ _ _ _ _ L => lv_iconst (v := (1 : Int32)) hx hb dX2_isBalanced_21 (by decide)) ?_
    refine x_up (pc' := 26) (fun _ _ _ _ _ L => lv_goto (tgt := 26) hx hb dX2_isBalanced_22 (by decide)) ?_
    refine x_upL (pc' := 27) (lo' := [(1, .int (1 : Int32)), (0, .ref a0)]) (fun _ _ _ _ _ L => lv_istore_n hx hb dX2_isBalanced_26 rfl L (by decide) rfl) ?_
    refine x_up (pc' := 28) (fun _ _ _ _ _ L => lv_iconst (v := (0 : Int32)) hx hb dX2_isBalanced_27 (by decide)) ?_
    refine x_upL (pc' := 29) (lo' := [(2, .int (0 : Int32)), (1, .int (1 : Int32)), (0, .ref a0)]) (fun _ _ _ _ _ L => lv_istore_n hx hb dX2_isBalanced_28 rfl L (by decide) rfl) ?_
    refine x_up (pc' := 30) (fun _ _ _ _ _ L => lv_aload_n hx hb dX2_isBalanced_29 rfl (lv_at L 2 rfl)) ?_
    refine x_callV (em := emQ) (fun r st => va_rf r :: st) (fun _ _ => rfl) 0 X (kX2 hG) (fun σ' KK h => R_X2_allLines l hl G hG a0 σ' KK h) (lw_V q2034 q2035 q2036 q100 q2037) ⟨rfl, mdX2_allLines⟩ ⟨Nat.le_of_ble_eq_true rfl, Nat.le_of_ble_eq_true rfl⟩ rfl rfl (Nat.le_of_ble_eq_true rfl) dX2_isBalanced_30 hp5.1 hp5.2 (fun v6 σ7 hp6 => ?_)
    refine x_pc (pc' := 33) rfl ?_
    obtain ⟨b8, rfl, hp7⟩ := hp6
    refine x_callF (x := ⟨"java/util/List", "iterator", "()Ljava/util/Iterator;"⟩) (em := emQ) (fun r st => va_rf r :: st) (fun _ _ => rfl) 0 X (kJ4 hG) (fun σ' KK h => R_J4_iterator l hl G hG b8 σ' KK h) q1698 q1701 q1703 q105 q1705 ⟨⟨q1700, q1699, q1704, q1702, q275⟩, by decide, by decide⟩ (by decide +kernel) ⟨Nat.le_of_ble_eq_true rfl, Nat.le_of_ble_eq_true rfl⟩ rfl rfl (Nat.le_of_ble_eq_true rfl) dX2_isBalanced_33 hp7.1 hp7.2 (fun v9 σ10 hp8 => ?_)
    refine x_pc (pc' := 38) rfl ?_
    refine x_upL (pc' := 39) (lo' := [(3, va_rf v9), (2, .int (0 : Int32)), (1, .int (1 : Int32)), (0, .ref a0)]) (fun _ _ _ _ _ L => lv_astoreq_n hx hb dX2_isBalanced_38 rfl L (by decide) rfl) ?_
    refine x_lo (lo' := [(1, .int (1 : Int32)), (2, .int (0 : Int32)), (0, .ref a0), (3, va_rf v9)]) [2, 1, 3, 0] rfl ?_
    refine x_while (v0 := ((1 : Int32), (0 : Int32))) (fun w11 => [(1, .int w11.1), (2, .int w11.2), (0, .ref a0), (3, va_rf v9)]) hp8 (fun self12 hself13 => ?_)
    rintro ⟨y15, y16⟩ σ14 hp9
    unfold B_X2_isBalanced_39 at hp9
    refine x_same (lo' := [(1, .int y15), (2, .int y16), (0, .ref a0), (3, va_rf v9)]) rfl ?_
    refine x_up (pc' := 40) (fun _ _ _ _ _ L => lv_aloadq_n hx hb dX2_isBalanced_39 rfl (lv_at L 3 rfl)) ?_
    obtain ⟨b17, rfl, hp10⟩ := hp9
    refine x_callF (x := ⟨"java/util/Iterator", "hasNext", "()Z"⟩) (em := emI) (fun r st => .int r :: st) (fun _ _ => rfl) 0 X (kJ35 hG) (fun σ' KK h => R_J35_hasNext l hl G hG b17 σ' KK h) q1811 q1351 q1353 q141 q1355 ⟨⟨q1331, q1330, q1354, q1352, q1198⟩, by decide, by decide⟩ (by decide +kernel) ⟨Nat.le_of_ble_eq_true rfl, Nat.le_of_ble_eq_true rfl⟩ rfl rfl (Nat.le_of_ble_eq_true rfl) dX2_isBalanced_40 hp10.1 hp10.2 (fun v18 σ19 hp11 => ?_)
    refine x_pc (pc' := 45) rfl ?_
    refine x_if (C := v18 = 0) (pt := 112) (pc' := 48) (fun _ _ _ _ _ => lv_if_eq (tgt := 112) hx hb dX2_isBalanced_45 (by decide)) (fun c45 => ?_) (fun c45 => ?_)
    · have hp12 := hp11.1 c45
      refine x_up (pc' := 113) (fun _ _ _ _ _ L => lv_iload_n hx hb dX2_isBalanced_112 rfl (lv_at L 0 rfl)) ?_
      exact x_iret X hr hp12.1 dX2_isBalanced_113 hp12.2
    · have hp13 := hp11.2 c45
      refine x_up (pc' := 49) (fun _ _ _ _ _ L => lv_aload_n hx hb dX2_isBalanced_48 rfl (lv_at L 3 rfl)) ?_
      refine x_callF (x := ⟨"java/util/Iterator", "next", "()Ljava/lang/Object;"⟩) (em := emQ) (fun r st => va_rf r :: st) (fun _ _ => rfl) 0 X (kJ35 hG) (fun σ' KK h => R_J35_next l hl G hG b17 σ' KK h) q1813 q1199 q1201 q141 q1203 ⟨⟨q768, q767, q1202, q1200, q1198⟩, by decide, by decide⟩ (by decide +kernel) ⟨Nat.le_of_ble_eq_true rfl, Nat.le_of_ble_eq_true rfl⟩ rfl rfl (Nat.le_of_ble_eq_true rfl) dX2_isBalanced_49 hp13.1 hp13.2 (fun v20 σ21 hp14 => ?_)
      refine x_pc (pc' := 54) rfl ?_
      obtain ⟨b22, rfl, hp15⟩ := hp14
      refine x_castS X (kX3 hG) q287 hp15.1 dX2_isBalanced_54 ?_
      have hp16 := hp15.2
      refine x_pc (pc' := 57) rfl ?_
      refine x_upL (pc' := 59) (lo' := [(4, .ref b22), (1, .int y15), (2, .int y16), (0, .ref a0), (3, .ref b17)]) (fun _ _ _ _ _ L => lv_astore hx hb dX2_isBalanced_57 L (by decide) rfl) ?_
      refine x_up (pc' := 61) (fun _ _ _ _ _ L => lv_aload hx hb dX2_isBalanced_59 (lv_at L 0 rfl)) ?_
      refine x_callV (em := emI) (fun r st => .int r :: st) (fun _ _ => rfl) 0 X (kX3 hG) (fun σ' KK h => R_X3_isEmpty l hl G hG b22 σ' KK h) (lw_V q2105 q2106 q2107 q108 q2108) ⟨rfl, mdX3_isEmpty⟩ ⟨Nat.le_of_ble_eq_true rfl, Nat.le_of_ble_eq_true rfl⟩ rfl rfl (Nat.le_of_ble_eq_true rfl) dX2_isBalanced_61 hp16.1 hp16.2 (fun v23 σ24 hp17 => ?_)
      refine x_pc (pc' := 64) rfl ?_
      refine x_if (C := v23 = 0) (pt := 70) (pc' := 67) (fun _ _ _ _ _ => lv_if_eq (tgt := 70) hx hb dX2_isBalanced_64 (by decide)) (fun c64 => ?_) (fun c64 => ?_)
      · have hp18 := hp17.1 c64
        refine x_up (pc' := 71) (fun _ _ _ _ _ L => lv_iload_n hx hb dX2_isBalanced_70 rfl (lv_at L 1 rfl)) ?_
        refine x_up (pc' := 72) (fun _ _ _ _ _ L => lv_iload_n hx hb dX2_isBalanced_71 rfl (lv_at L 2 rfl)) ?_
        refine x_up (pc' := 74) (fun _ _ _ _ _ L => lv_aload hx hb dX2_isBalanced_72 (lv_at L 0 rfl)) ?_
        refine x_giN X (kX3 hG) 2 (by decide) q299 (fun _ h => h) dX2_isBalanced_74 hp18 (fun v25 hp19 => ?_)
        refine x_pc (pc' := 77) rfl ?_
        refine x_up (pc' := 78) (fun _ _ _ _ _ L => lv_ishr hx hb dX2_isBalanced_77) ?_
        refine x_up (pc' := 79) (fun _ _ _ _ _ L => lv_iconst (v := (1 : Int32)) hx hb dX2_isBalanced_78 (by decide)) ?_
        refine x_up (pc' := 80) (fun _ _ _ _ _ L => lv_iand hx hb dX2_isBalanced_79) ?_
        refine x_ifn (C := ((y16 >>> (v25 &&& 31)) &&& (1 : Int32)) = 0) (pt := 96) (pc' := 83) (fun _ _ _ _ _ => lv_if_ne (tgt := 96) hx hb dX2_isBalanced_80 (by decide)) (fun c80 => ?_) (fun c80 => ?_)
        · have hp20 := hp19.1 c80
          refine x_up (pc' := 84) (fun _ _ _ _ _ L => lv_aload_n hx hb dX2_isBalanced_83 rfl (lv_at L 3 rfl)) ?_
          refine x_up (pc' := 86) (fun _ _ _ _ _ L => lv_aload hx hb dX2_isBalanced_84 (lv_at L 0 rfl)) ?_
          refine x_callV (em := emI) (fun r st => .int r :: st) (fun _ _ => rfl) 1 X (kX2 hG) (fun σ' KK h => R_X2_isClean l hl G hG a0 (some b22) σ' KK h) (lw_V q2109 q2111 qs25 q100 q2112) ⟨rfl, mdX2_isClean⟩ ⟨Nat.le_of_ble_eq_true rfl, Nat.le_of_ble_eq_true rfl⟩ rfl rfl (Nat.le_of_ble_eq_true rfl) dX2_isBalanced_86 hp20.1 hp20.2 (fun v26 σ27 hp21 => ?_)
          refine x_pc (pc' := 89) rfl ?_
          refine x_if (C := v26 = 0) (pt := 96) (pc' := 92) (fun _ _ _ _ _ => lv_if_eq (tgt := 96) hx hb dX2_isBalanced_89 (by decide)) (fun c89 => ?_) (fun c89 => ?_)
          · have hp22 := hp21.1 c89
            refine x_up (pc' := 97) (fun _ _ _ _ _ L => lv_iconst (v := (0 : Int32)) hx hb dX2_isBalanced_96 (by decide)) ?_
            refine x_up (pc' := 98) (fun _ _ _ _ _ L => lv_iand hx hb dX2_isBalanced_97) ?_
            refine x_upL (pc' := 99) (lo' := [(1, .int (y15 &&& (0 : Int32))), (4, .ref b22), (2, .int y16), (0, .ref a0), (3, .ref b17)]) (fun _ _ _ _ _ L => lv_istore_n hx hb dX2_isBalanced_98 rfl L (by decide) rfl) ?_
            refine x_up (pc' := 100) (fun _ _ _ _ _ L => lv_iload_n hx hb dX2_isBalanced_99 rfl (lv_at L 2 rfl)) ?_
            refine x_up (pc' := 101) (fun _ _ _ _ _ L => lv_iconst (v := (1 : Int32)) hx hb dX2_isBalanced_100 (by decide)) ?_
            refine x_up (pc' := 103) (fun _ _ _ _ _ L => lv_aload hx hb dX2_isBalanced_101 (lv_at L 1 rfl)) ?_
            refine x_giN X (kX3 hG) 2 (by decide) q299 (fun _ h => h) dX2_isBalanced_103 hp22 (fun v28 hp23 => ?_)
            refine x_pc (pc' := 106) rfl ?_
            refine x_up (pc' := 107) (fun _ _ _ _ _ L => lv_ishl hx hb dX2_isBalanced_106) ?_
            refine x_up (pc' := 108) (fun _ _ _ _ _ L => lv_ior hx hb dX2_isBalanced_107) ?_
            refine x_upL (pc' := 109) (lo' := [(2, .int (y16 ||| ((1 : Int32) <<< (v28 &&& 31)))), (1, .int (y15 &&& (0 : Int32))), (4, .ref b22), (0, .ref a0), (3, .ref b17)]) (fun _ _ _ _ _ L => lv_istore_n hx hb dX2_isBalanced_108 rfl L (by decide) rfl) ?_
            refine x_up (pc' := 39) (fun _ _ _ _ _ L => lv_goto (tgt := 39) hx hb dX2_isBalanced_109 (by decide)) ?_
            refine x_lo (lo' := [(1, .int (y15 &&& (0 : Int32))), (2, .int (y16 ||| ((1 : Int32) <<< (v28 &&& 31)))), (0, .ref a0), (3, .ref b17)]) [1, 0, 3, 4] rfl ?_
            exact hself13 ((y15 &&& (0 : Int32)), (y16 ||| ((1 : Int32) <<< (v28 &&& 31)))) σ27 hp23
          · have hp24 := hp21.2 c89
            refine x_up (pc' := 93) (fun _ _ _ _ _ L => lv_iconst (v := (1 : Int32)) hx hb dX2_isBalanced_92 (by decide)) ?_
            refine x_up (pc' := 97) (fun _ _ _ _ _ L => lv_goto (tgt := 97) hx hb dX2_isBalanced_93 (by decide)) ?_
            refine x_up (pc' := 98) (fun _ _ _ _ _ L => lv_iand hx hb dX2_isBalanced_97) ?_
            refine x_upL (pc' := 99) (lo' := [(1, .int (y15 &&& (1 : Int32))), (4, .ref b22), (2, .int y16), (0, .ref a0), (3, .ref b17)]) (fun _ _ _ _ _ L => lv_istore_n hx hb dX2_isBalanced_98 rfl L (by decide) rfl) ?_
            refine x_up (pc' := 100) (fun _ _ _ _ _ L => lv_iload_n hx hb dX2_isBalanced_99 rfl (lv_at L 2 rfl)) ?_
            refine x_up (pc' := 101) (fun _ _ _ _ _ L => lv_iconst (v := (1 : Int32)) hx hb dX2_isBalanced_100 (by decide)) ?_
            refine x_up (pc' := 103) (fun _ _ _ _ _ L => lv_aload hx hb dX2_isBalanced_101 (lv_at L 1 rfl)) ?_
            refine x_giN X (kX3 hG) 2 (by decide) q299 (fun _ h => h) dX2_isBalanced_103 hp24 (fun v29 hp25 => ?_)
            refine x_pc (pc' := 106) rfl ?_
            refine x_up (pc' := 107) (fun _ _ _ _ _ L => lv_ishl hx hb dX2_isBalanced_106) ?_
            refine x_up (pc' := 108) (fun _ _ _ _ _ L => lv_ior hx hb dX2_isBalanced_107) ?_
            refine x_upL (pc' := 109) (lo' := [(2, .int (y16 ||| ((1 : Int32) <<< (v29 &&& 31)))), (1, .int (y15 &&& (1 : Int32))), (4, .ref b22), (0, .ref a0), (3, .ref b17)]) (fun _ _ _ _ _ L => lv_istore_n hx hb dX2_isBalanced_108 rfl L (by decide) rfl) ?_
            refine x_up (pc' := 39) (fun _ _ _ _ _ L => lv_goto (tgt := 39) hx hb dX2_isBalanced_109 (by decide)) ?_
            refine x_lo (lo' := [(1, .int (y15 &&& (1 : Int32))), (2, .int (y16 ||| ((1 : Int32) <<< (v29 &&& 31)))), (0, .ref a0), (3, .ref b17)]) [1, 0, 3, 4] rfl ?_
            exact hself13 ((y15 &&& (1 : Int32)), (y16 ||| ((1 : Int32) <<< (v29 &&& 31)))) σ27 hp25
        · have hp26 := hp19.2 c80
          refine x_up (pc' := 97) (fun _ _ _ _ _ L => lv_iconst (v := (0 : Int32)) hx hb dX2_isBalanced_96 (by decide)) ?_
          refine x_up (pc' := 98) (fun _ _ _ _ _ L => lv_iand hx hb dX2_isBalanced_97) ?_
          refine x_upL (pc' := 99) (lo' := [(1, .int (y15 &&& (0 : Int32))), (4, .ref b22), (2, .int y16), (0, .ref a0), (3, .ref b17)]) (fun _ _ _ _ _ L => lv_istore_n hx hb dX2_isBalanced_98 rfl L (by decide) rfl) ?_
          refine x_up (pc' := 100) (fun _ _ _ _ _ L => lv_iload_n hx hb dX2_isBalanced_99 rfl (lv_at L 2 rfl)) ?_
          refine x_up (pc' := 101) (fun _ _ _ _ _ L => lv_iconst (v := (1 : Int32)) hx hb dX2_isBalanced_100 (by decide)) ?_
          refine x_up (pc' := 103) (fun _ _ _ _ _ L => lv_aload hx hb dX2_isBalanced_101 (lv_at L 1 rfl)) ?_
          refine x_giN X (kX3 hG) 2 (by decide) q299 (fun _ h => h) dX2_isBalanced_103 hp26 (fun v30 hp27 => ?_)
          refine x_pc (pc' := 106) rfl ?_
          refine x_up (pc' := 107) (fun _ _ _ _ _ L => lv_ishl hx hb dX2_isBalanced_106) ?_
          refine x_up (pc' := 108) (fun _ _ _ _ _ L => lv_ior hx hb dX2_isBalanced_107) ?_
          refine x_upL (pc' := 109) (lo' := [(2, .int (y16 ||| ((1 : Int32) <<< (v30 &&& 31)))), (1, .int (y15 &&& (0 : Int32))), (4, .ref b22), (0, .ref a0), (3, .ref b17)]) (fun _ _ _ _ _ L => lv_istore_n hx hb dX2_isBalanced_108 rfl L (by decide) rfl) ?_
          refine x_up (pc' := 39) (fun _ _ _ _ _ L => lv_goto (tgt := 39) hx hb dX2_isBalanced_109 (by decide)) ?_
          refine x_lo (lo' := [(1, .int (y15 &&& (0 : Int32))), (2, .int (y16 ||| ((1 : Int32) <<< (v30 &&& 31)))), (0, .ref a0), (3, .ref b17)]) [1, 0, 3, 4] rfl ?_
          exact hself13 ((y15 &&& (0 : Int32)), (y16 ||| ((1 : Int32) <<< (v30 &&& 31)))) σ24 hp27
      · have hp28 := hp17.2 c64
        refine x_up (pc' := 39) (fun _ _ _ _ _ L => lv_goto (tgt := 39) hx hb dX2_isBalanced_67 (by decide)) ?_
        refine x_lo (lo' := [(1, .int y15), (2, .int y16), (0, .ref a0), (3, .ref b17)]) [1, 2, 3, 4] rfl ?_
        exact hself13 (y15, y16) σ24 hp28
  · have hp29 := hp4.2 c18
    refine x_up (pc' := 26) (fun _ _ _ _ _ L => lv_iconst (v := (0 : Int32)) hx hb dX2_isBalanced_25 (by decide)) ?_
    refine x_upL (pc' := 27) (lo' := [(1, .int (0 : Int32)), (0, .ref a0)]) (fun _ _ _ _ _ L => lv_istore_n hx hb dX2_isBalanced_26 rfl L (by decide) rfl) ?_
    refine x_up (pc' := 28) (fun _ _ _ _ _ L => lv_iconst (v := (0 : Int32)) hx hb dX2_isBalanced_27 (by decide)) ?_
    refine x_upL (pc' := 29) (lo' := [(2, .int (0 : Int32)), (1, .int (0 : Int32)), (0, .ref a0)]) (fun _ _ _ _ _ L => lv_istore_n hx hb dX2_isBalanced_28 rfl L (by decide) rfl) ?_
    refine x_up (pc' := 30) (fun _ _ _ _ _ L => lv_aload_n hx hb dX2_isBalanced_29 rfl (lv_at L 2 rfl)) ?_
    refine x_callV (em := emQ) (fun r st => va_rf r :: st) (fun _ _ => rfl) 0 X (kX2 hG) (fun σ' KK h => R_X2_allLines l hl G hG a0 σ' KK h) (lw_V q2034 q2035 q2036 q100 q2037) ⟨rfl, mdX2_allLines⟩ ⟨Nat.le_of_ble_eq_true rfl, Nat.le_of_ble_eq_true rfl⟩ rfl rfl (Nat.le_of_ble_eq_true rfl) dX2_isBalanced_30 hp29.1 hp29.2 (fun v31 σ32 hp30 => ?_)
    refine x_pc (pc' := 33) rfl ?_
    obtain ⟨b33, rfl, hp31⟩ := hp30
    refine x_callF (x := ⟨"java/util/List", "iterator", "()Ljava/util/Iterator;"⟩) (em := emQ) (fun r st => va_rf r :: st) (fun _ _ => rfl) 0 X (kJ4 hG) (fun σ' KK h => R_J4_iterator l hl G hG b33 σ' KK h) q1698 q1701 q1703 q105 q1705 ⟨⟨q1700, q1699, q1704, q1702, q275⟩, by decide, by decide⟩ (by decide +kernel) ⟨Nat.le_of_ble_eq_true rfl, Nat.le_of_ble_eq_true rfl⟩ rfl rfl (Nat.le_of_ble_eq_true rfl) dX2_isBalanced_33 hp31.1 hp31.2 (fun v34 σ35 hp32 => ?_)
    refine x_pc (pc' := 38) rfl ?_
    refine x_upL (pc' := 39) (lo' := [(3, va_rf v34), (2, .int (0 : Int32)), (1, .int (0 : Int32)), (0, .ref a0)]) (fun _ _ _ _ _ L => lv_astoreq_n hx hb dX2_isBalanced_38 rfl L (by decide) rfl) ?_
    refine x_lo (lo' := [(1, .int (0 : Int32)), (2, .int (0 : Int32)), (0, .ref a0), (3, va_rf v34)]) [2, 1, 3, 0] rfl ?_
    refine x_while (v0 := ((0 : Int32), (0 : Int32))) (fun w36 => [(1, .int w36.1), (2, .int w36.2), (0, .ref a0), (3, va_rf v34)]) hp32 (fun self37 hself38 => ?_)
    rintro ⟨y40, y41⟩ σ39 hp33
    unfold B_X2_isBalanced_39 at hp33
    refine x_same (lo' := [(1, .int y40), (2, .int y41), (0, .ref a0), (3, va_rf v34)]) rfl ?_
    refine x_up (pc' := 40) (fun _ _ _ _ _ L => lv_aloadq_n hx hb dX2_isBalanced_39 rfl (lv_at L 3 rfl)) ?_
    obtain ⟨b42, rfl, hp34⟩ := hp33
    refine x_callF (x := ⟨"java/util/Iterator", "hasNext", "()Z"⟩) (em := emI) (fun r st => .int r :: st) (fun _ _ => rfl) 0 X (kJ35 hG) (fun σ' KK h => R_J35_hasNext l hl G hG b42 σ' KK h) q1811 q1351 q1353 q141 q1355 ⟨⟨q1331, q1330, q1354, q1352, q1198⟩, by decide, by decide⟩ (by decide +kernel) ⟨Nat.le_of_ble_eq_true rfl, Nat.le_of_ble_eq_true rfl⟩ rfl rfl (Nat.le_of_ble_eq_true rfl) dX2_isBalanced_40 hp34.1 hp34.2 (fun v43 σ44 hp35 => ?_)
    refine x_pc (pc' := 45) rfl ?_
    refine x_if (C := v43 = 0) (pt := 112) (pc' := 48) (fun _ _ _ _ _ => lv_if_eq (tgt := 112) hx hb dX2_isBalanced_45 (by decide)) (fun c45 => ?_) (fun c45 => ?_)
    · have hp36 := hp35.1 c45
      refine x_up (pc' := 113) (fun _ _ _ _ _ L => lv_iload_n hx hb dX2_isBalanced_112 rfl (lv_at L 0 rfl)) ?_
      exact x_iret X hr hp36.1 dX2_isBalanced_113 hp36.2
    · have hp37 := hp35.2 c45
      refine x_up (pc' := 49) (fun _ _ _ _ _ L => lv_aload_n hx hb dX2_isBalanced_48 rfl (lv_at L 3 rfl)) ?_
      refine x_callF (x := ⟨"java/util/Iterator", "next", "()Ljava/lang/Object;"⟩) (em := emQ) (fun r st => va_rf r :: st) (fun _ _ => rfl) 0 X (kJ35 hG) (fun σ' KK h => R_J35_next l hl G hG b42 σ' KK h) q1813 q1199 q1201 q141 q1203 ⟨⟨q768, q767, q1202, q1200, q1198⟩, by decide, by decide⟩ (by decide +kernel) ⟨Nat.le_of_ble_eq_true rfl, Nat.le_of_ble_eq_true rfl⟩ rfl rfl (Nat.le_of_ble_eq_true rfl) dX2_isBalanced_49 hp37.1 hp37.2 (fun v45 σ46 hp38 => ?_)
      refine x_pc (pc' := 54) rfl ?_
      obtain ⟨b47, rfl, hp39⟩ := hp38
      refine x_castS X (kX3 hG) q287 hp39.1 dX2_isBalanced_54 ?_
      have hp40 := hp39.2
      refine x_pc (pc' := 57) rfl ?_
      refine x_upL (pc' := 59) (lo' := [(4, .ref b47), (1, .int y40), (2, .int y41), (0, .ref a0), (3, .ref b42)]) (fun _ _ _ _ _ L => lv_astore hx hb dX2_isBalanced_57 L (by decide) rfl) ?_
      refine x_up (pc' := 61) (fun _ _ _ _ _ L => lv_aload hx hb dX2_isBalanced_59 (lv_at L 0 rfl)) ?_
      refine x_callV (em := emI) (fun r st => .int r :: st) (fun _ _ => rfl) 0 X (kX3 hG) (fun σ' KK h => R_X3_isEmpty l hl G hG b47 σ' KK h) (lw_V q2105 q2106 q2107 q108 q2108) ⟨rfl, mdX3_isEmpty⟩ ⟨Nat.le_of_ble_eq_true rfl, Nat.le_of_ble_eq_true rfl⟩ rfl rfl (Nat.le_of_ble_eq_true rfl) dX2_isBalanced_61 hp40.1 hp40.2 (fun v48 σ49 hp41 => ?_)
      refine x_pc (pc' := 64) rfl ?_
      refine x_if (C := v48 = 0) (pt := 70) (pc' := 67) (fun _ _ _ _ _ => lv_if_eq (tgt := 70) hx hb dX2_isBalanced_64 (by decide)) (fun c64 => ?_) (fun c64 => ?_)
      · have hp42 := hp41.1 c64
        refine x_up (pc' := 71) (fun _ _ _ _ _ L => lv_iload_n hx hb dX2_isBalanced_70 rfl (lv_at L 1 rfl)) ?_
        refine x_up (pc' := 72) (fun _ _ _ _ _ L => lv_iload_n hx hb dX2_isBalanced_71 rfl (lv_at L 2 rfl)) ?_
        refine x_up (pc' := 74) (fun _ _ _ _ _ L => lv_aload hx hb dX2_isBalanced_72 (lv_at L 0 rfl)) ?_
        refine x_giN X (kX3 hG) 2 (by decide) q299 (fun _ h => h) dX2_isBalanced_74 hp42 (fun v50 hp43 => ?_)
        refine x_pc (pc' := 77) rfl ?_
        refine x_up (pc' := 78) (fun _ _ _ _ _ L => lv_ishr hx hb dX2_isBalanced_77) ?_
        refine x_up (pc' := 79) (fun _ _ _ _ _ L => lv_iconst (v := (1 : Int32)) hx hb dX2_isBalanced_78 (by decide)) ?_
        refine x_up (pc' := 80) (fun _ _ _ _ _ L => lv_iand hx hb dX2_isBalanced_79) ?_
        refine x_ifn (C := ((y41 >>> (v50 &&& 31)) &&& (1 : Int32)) = 0) (pt := 96) (pc' := 83) (fun _ _ _ _ _ => lv_if_ne (tgt := 96) hx hb dX2_isBalanced_80 (by decide)) (fun c80 => ?_) (fun c80 => ?_)
        · have hp44 := hp43.1 c80
          refine x_up (pc' := 84) (fun _ _ _ _ _ L => lv_aload_n hx hb dX2_isBalanced_83 rfl (lv_at L 3 rfl)) ?_
          refine x_up (pc' := 86) (fun _ _ _ _ _ L => lv_aload hx hb dX2_isBalanced_84 (lv_at L 0 rfl)) ?_
          refine x_callV (em := emI) (fun r st => .int r :: st) (fun _ _ => rfl) 1 X (kX2 hG) (fun σ' KK h => R_X2_isClean l hl G hG a0 (some b47) σ' KK h) (lw_V q2109 q2111 qs25 q100 q2112) ⟨rfl, mdX2_isClean⟩ ⟨Nat.le_of_ble_eq_true rfl, Nat.le_of_ble_eq_true rfl⟩ rfl rfl (Nat.le_of_ble_eq_true rfl) dX2_isBalanced_86 hp44.1 hp44.2 (fun v51 σ52 hp45 => ?_)
          refine x_pc (pc' := 89) rfl ?_
          refine x_if (C := v51 = 0) (pt := 96) (pc' := 92) (fun _ _ _ _ _ => lv_if_eq (tgt := 96) hx hb dX2_isBalanced_89 (by decide)) (fun c89 => ?_) (fun c89 => ?_)
          · have hp46 := hp45.1 c89
            refine x_up (pc' := 97) (fun _ _ _ _ _ L => lv_iconst (v := (0 : Int32)) hx hb dX2_isBalanced_96 (by decide)) ?_
            refine x_up (pc' := 98) (fun _ _ _ _ _ L => lv_iand hx hb dX2_isBalanced_97) ?_
            refine x_upL (pc' := 99) (lo' := [(1, .int (y40 &&& (0 : Int32))), (4, .ref b47), (2, .int y41), (0, .ref a0), (3, .ref b42)]) (fun _ _ _ _ _ L => lv_istore_n hx hb dX2_isBalanced_98 rfl L (by decide) rfl) ?_
            refine x_up (pc' := 100) (fun _ _ _ _ _ L => lv_iload_n hx hb dX2_isBalanced_99 rfl (lv_at L 2 rfl)) ?_
            refine x_up (pc' := 101) (fun _ _ _ _ _ L => lv_iconst (v := (1 : Int32)) hx hb dX2_isBalanced_100 (by decide)) ?_
            refine x_up (pc' := 103) (fun _ _ _ _ _ L => lv_aload hx hb dX2_isBalanced_101 (lv_at L 1 rfl)) ?_
            refine x_giN X (kX3 hG) 2 (by decide) q299 (fun _ h => h) dX2_isBalanced_103 hp46 (fun v53 hp47 => ?_)
            refine x_pc (pc' := 106) rfl ?_
            refine x_up (pc' := 107) (fun _ _ _ _ _ L => lv_ishl hx hb dX2_isBalanced_106) ?_
            refine x_up (pc' := 108) (fun _ _ _ _ _ L => lv_ior hx hb dX2_isBalanced_107) ?_
            refine x_upL (pc' := 109) (lo' := [(2, .int (y41 ||| ((1 : Int32) <<< (v53 &&& 31)))), (1, .int (y40 &&& (0 : Int32))), (4, .ref b47), (0, .ref a0), (3, .ref b42)]) (fun _ _ _ _ _ L => lv_istore_n hx hb dX2_isBalanced_108 rfl L (by decide) rfl) ?_
            refine x_up (pc' := 39) (fun _ _ _ _ _ L => lv_goto (tgt := 39) hx hb dX2_isBalanced_109 (by decide)) ?_
            refine x_lo (lo' := [(1, .int (y40 &&& (0 : Int32))), (2, .int (y41 ||| ((1 : Int32) <<< (v53 &&& 31)))), (0, .ref a0), (3, .ref b42)]) [1, 0, 3, 4] rfl ?_
            exact hself38 ((y40 &&& (0 : Int32)), (y41 ||| ((1 : Int32) <<< (v53 &&& 31)))) σ52 hp47
          · have hp48 := hp45.2 c89
            refine x_up (pc' := 93) (fun _ _ _ _ _ L => lv_iconst (v := (1 : Int32)) hx hb dX2_isBalanced_92 (by decide)) ?_
            refine x_up (pc' := 97) (fun _ _ _ _ _ L => lv_goto (tgt := 97) hx hb dX2_isBalanced_93 (by decide)) ?_
            refine x_up (pc' := 98) (fun _ _ _ _ _ L => lv_iand hx hb dX2_isBalanced_97) ?_
            refine x_upL (pc' := 99) (lo' := [(1, .int (y40 &&& (1 : Int32))), (4, .ref b47), (2, .int y41), (0, .ref a0), (3, .ref b42)]) (fun _ _ _ _ _ L => lv_istore_n hx hb dX2_isBalanced_98 rfl L (by decide) rfl) ?_
            refine x_up (pc' := 100) (fun _ _ _ _ _ L => lv_iload_n hx hb dX2_isBalanced_99 rfl (lv_at L 2 rfl)) ?_
            refine x_up (pc' := 101) (fun _ _ _ _ _ L => lv_iconst (v := (1 : Int32)) hx hb dX2_isBalanced_100 (by decide)) ?_
            refine x_up (pc' := 103) (fun _ _ _ _ _ L => lv_aload hx hb dX2_isBalanced_101 (lv_at L 1 rfl)) ?_
            refine x_giN X (kX3 hG) 2 (by decide) q299 (fun _ h => h) dX2_isBalanced_103 hp48 (fun v54 hp49 => ?_)
            refine x_pc (pc' := 106) rfl ?_
            refine x_up (pc' := 107) (fun _ _ _ _ _ L => lv_ishl hx hb dX2_isBalanced_106) ?_
            refine x_up (pc' := 108) (fun _ _ _ _ _ L => lv_ior hx hb dX2_isBalanced_107) ?_
            refine x_upL (pc' := 109) (lo' := [(2, .int (y41 ||| ((1 : Int32) <<< (v54 &&& 31)))), (1, .int (y40 &&& (1 : Int32))), (4, .ref b47), (0, .ref a0), (3, .ref b42)]) (fun _ _ _ _ _ L => lv_istore_n hx hb dX2_isBalanced_108 rfl L (by decide) rfl) ?_
            refine x_up (pc' := 39) (fun _ _ _ _ _ L => lv_goto (tgt := 39) hx hb dX2_isBalanced_109 (by decide)) ?_
            refine x_lo (lo' := [(1, .int (y40 &&& (1 : Int32))), (2, .int (y41 ||| ((1 : Int32) <<< (v54 &&& 31)))), (0, .ref a0), (3, .ref b42)]) [1, 0, 3, 4] rfl ?_
            exact hself38 ((y40 &&& (1 : Int32)), (y41 ||| ((1 : Int32) <<< (v54 &&& 31)))) σ52 hp49
        · have hp50 := hp43.2 c80
          refine x_up (pc' := 97) (fun _ _ _ _ _ L => lv_iconst (v := (0 : Int32)) hx hb dX2_isBalanced_96 (by decide)) ?_
          refine x_up (pc' := 98) (fun _ _ _ _ _ L => lv_iand hx hb dX2_isBalanced_97) ?_
          refine x_upL (pc' := 99) (lo' := [(1, .int (y40 &&& (0 : Int32))), (4, .ref b47), (2, .int y41), (0, .ref a0), (3, .ref b42)]) (fun _ _ _ _ _ L => lv_istore_n hx hb dX2_isBalanced_98 rfl L (by decide) rfl) ?_
          refine x_up (pc' := 100) (fun _ _ _ _ _ L => lv_iload_n hx hb dX2_isBalanced_99 rfl (lv_at L 2 rfl)) ?_
          refine x_up (pc' := 101) (fun _ _ _ _ _ L => lv_iconst (v := (1 : Int32)) hx hb dX2_isBalanced_100 (by decide)) ?_
          refine x_up (pc' := 103) (fun _ _ _ _ _ L => lv_aload hx hb dX2_isBalanced_101 (lv_at L 1 rfl)) ?_
          refine x_giN X (kX3 hG) 2 (by decide) q299 (fun _ h => h) dX2_isBalanced_103 hp50 (fun v55 hp51 => ?_)
          refine x_pc (pc' := 106) rfl ?_
          refine x_up (pc' := 107) (fun _ _ _ _ _ L => lv_ishl hx hb dX2_isBalanced_106) ?_
          refine x_up (pc' := 108) (fun _ _ _ _ _ L => lv_ior hx hb dX2_isBalanced_107) ?_
          refine x_upL (pc' := 109) (lo' := [(2, .int (y41 ||| ((1 : Int32) <<< (v55 &&& 31)))), (1, .int (y40 &&& (0 : Int32))), (4, .ref b47), (0, .ref a0), (3, .ref b42)]) (fun _ _ _ _ _ L => lv_istore_n hx hb dX2_isBalanced_108 rfl L (by decide) rfl) ?_
          refine x_up (pc' := 39) (fun _ _ _ _ _ L => lv_goto (tgt := 39) hx hb dX2_isBalanced_109 (by decide)) ?_
          refine x_lo (lo' := [(1, .int (y40 &&& (0 : Int32))), (2, .int (y41 ||| ((1 : Int32) <<< (v55 &&& 31)))), (0, .ref a0), (3, .ref b42)]) [1, 0, 3, 4] rfl ?_
          exact hself38 ((y40 &&& (0 : Int32)), (y41 ||| ((1 : Int32) <<< (v55 &&& 31)))) σ49 hp51
      · have hp52 := hp41.2 c64
        refine x_up (pc' := 39) (fun _ _ _ _ _ L => lv_goto (tgt := 39) hx hb dX2_isBalanced_67 (by decide)) ?_
        refine x_lo (lo' := [(1, .int y40), (2, .int y41), (0, .ref a0), (3, .ref b42)]) [1, 2, 3, 4] rfl ?_
        exact hself38 (y40, y41) σ49 hp52
-- X1_isBalanced
def P_X1_isBalanced (κ : Nat → Nat) (a0 : Nat) (σ : xS) (K : Int32 → xH → Prop) : Prop :=
  xgq σ a0 0 0 fun v1 => xnn v1 fun b2 => xrc σ b2 1 ∧ xcall (fun τ L => P_X2_isBalanced κ b2 τ L) σ fun v3 σ4 => (narrow .boolean (.int v3) = .int v3 ∧ K v3 σ4.1)
theorem mdX1_isBalanced : yX1_isBalanced.cls ≠ "java/lang/invoke/MethodHandle" ∧ yX1_isBalanced.cls ≠ "java/lang/invoke/VarHandle" ∧ (parseMethodDescriptor yX1_isBalanced.desc).map (fun d => d.parameters.length) = some 0 := by decide +kernel
set_option maxHeartbeats 4000000 in
set_option maxRecDepth 100000 in
theorem R_X1_isBalanced (l : Launch) (hl : l.stackTraces = false) (G : xG) (hG : G.1.2 = x_cl) (a0 : Nat) (σ : xS) (K : Int32 → xH → Prop) (hp : P_X1_isBalanced G.2 a0 σ K) : xM l yX1_isBalanced cX1_isBalanced 1 (Option.some Jvm.ClassFile.FieldType.boolean) 7 199 G [(.ref a0)] σ (xlift emI K) := by
  refine x_entry (by decide) (Nat.le_of_ble_eq_true rfl) ?_
  intro p e s m args below meth c X hr hin
  have X : xX p s m args meth c G cX1_isBalanced 1 RX1 := X
  have hx := X.1
  have hb := X.2.1
  have hts := X.2.2.2.2.1
  have hown := X.2.2.2.1
  unfold P_X1_isBalanced at hp
  refine x_same (lo' := [(0, .ref a0)]) rfl ?_
  refine x_up (pc' := 1) (fun _ _ _ _ _ L => lv_aload_n hx hb dX1_isBalanced_0 rfl (lv_at L 0 rfl)) ?_
  refine x_gq X (kX1 hG) 0 (by decide) q589 (fun _ h => h) dX1_isBalanced_1 hp (fun v1 hp1 => ?_)
  refine x_pc (pc' := 4) rfl ?_
  obtain ⟨b2, rfl, hp2⟩ := hp1
  refine x_callV (em := emI) (fun r st => .int r :: st) (fun _ _ => rfl) 0 X (kX2 hG) (fun σ' KK h => R_X2_isBalanced l hl G hG b2 σ' KK h) (lw_V q2097 q2098 q2099 q100 q2100) ⟨rfl, mdX2_isBalanced⟩ ⟨Nat.le_of_ble_eq_true rfl, Nat.le_of_ble_eq_true rfl⟩ rfl rfl (Nat.le_of_ble_eq_true rfl) dX1_isBalanced_4 hp2.1 hp2.2 (fun v3 σ4 hp3 => ?_)
  refine x_pc (pc' := 7) rfl ?_
  exact x_iret X hr hp3.1 dX1_isBalanced_7 hp3.2
-- X1_save
def P_X1_save (κ : Nat → Nat) (a0 : Nat) (σ : xS) (K : Int32 → xH → Prop) : Prop :=
  xgq σ a0 0 0 fun v1 => xpq κ σ a0 0 1 v1 fun σ2 => xgq σ2 a0 0 0 fun v3 => xnn v3 fun b4 => xgi σ2 b4 1 10 fun v5 => K v5 σ2.1
theorem mdX1_save : yX1_save.cls ≠ "java/lang/invoke/MethodHandle" ∧ yX1_save.cls ≠ "java/lang/invoke/VarHandle" ∧ (parseMethodDescriptor yX1_save.desc).map (fun d => d.parameters.length) = some 0 := by decide +kernel
set_option maxHeartbeats 4000000 in
set_option maxRecDepth 100000 in
theorem R_X1_save (l : Launch) (hl : l.stackTraces = false) (G : xG) (hG : G.1.2 = x_cl) (a0 : Nat) (σ : xS) (K : Int32 → xH → Prop) (hp : P_X1_save G.2 a0 σ K) : xM l yX1_save cX1_save 1 (Option.some Jvm.ClassFile.FieldType.int) 0 0 G [(.ref a0)] σ (xlift emI K) := by
  refine x_entry (by decide) (Nat.le_of_ble_eq_true rfl) ?_
  intro p e s m args below meth c X hr hin
  have X : xX p s m args meth c G cX1_save 1 RX1 := X
  have hx := X.1
  have hb := X.2.1
  have hts := X.2.2.2.2.1
  have hown := X.2.2.2.1
  unfold P_X1_save at hp
  refine x_same (lo' := [(0, .ref a0)]) rfl ?_
  refine x_up (pc' := 1) (fun _ _ _ _ _ L => lv_aload_n hx hb dX1_save_0 rfl (lv_at L 0 rfl)) ?_
  refine x_up (pc' := 2) (fun _ _ _ _ _ L => lv_aload_n hx hb dX1_save_1 rfl (lv_at L 0 rfl)) ?_
  refine x_gq X (kX1 hG) 0 (by decide) q589 (fun _ h => h) dX1_save_2 hp (fun v1 hp1 => ?_)
  refine x_pc (pc' := 5) rfl ?_
  refine x_pq X (kX1 hG) 1 (by decide) q590 (fun _ h => h) rfl v1 (x_nar _ (by decide)) (x_fit _ (by decide)) dX1_save_5 hp1 (fun σ2 hp2 => ?_)
  refine x_pc (pc' := 8) rfl ?_
  refine x_up (pc' := 9) (fun _ _ _ _ _ L => lv_aload_n hx hb dX1_save_8 rfl (lv_at L 0 rfl)) ?_
  refine x_gq X (kX1 hG) 0 (by decide) q589 (fun _ h => h) dX1_save_9 hp2 (fun v3 hp3 => ?_)
  refine x_pc (pc' := 12) rfl ?_
  obtain ⟨b4, rfl, hp4⟩ := hp3
  refine x_giN X (kX2 hG) 10 (by decide) q476 (fun _ h => h) dX1_save_12 hp4 (fun v5 hp5 => ?_)
  refine x_pc (pc' := 15) rfl ?_
  exact x_iret X hr rfl dX1_save_15 hp5
-- X5_init
def P_X5_init (κ : Nat → Nat) (a0 : Nat) (x1 : Option Nat) (x2 : Int32) (x3 : Int32) (σ : xS) (K : Unit → xH → Prop) : Prop :=
  xpq κ σ a0 11 0 x1 fun σ1 => xpi κ σ1 a0 11 1 x2 fun σ2 => xpi κ σ2 a0 11 2 x3 fun σ3 => K () σ3.1
theorem mdX5_init : yX5_init.cls ≠ "java/lang/invoke/MethodHandle" ∧ yX5_init.cls ≠ "java/lang/invoke/VarHandle" ∧ (parseMethodDescriptor yX5_init.desc).map (fun d => d.parameters.length) = some 3 := by decide +kernel
set_option maxHeartbeats 4000000 in
set_option maxRecDepth 100000 in
theorem R_X5_init (l : Launch) (hl : l.stackTraces = false) (G : xG) (hG : G.1.2 = x_cl) (a0 : Nat) (x1 : Option Nat) (x2 : Int32) (x3 : Int32) (σ : xS) (K : Unit → xH → Prop) (hp : P_X5_init G.2 a0 x1 x2 x3 σ K) : xM l yX5_init cX5_init 4 (Option.none : Option Jvm.ClassFile.FieldType) 1 20 G [(.ref a0), va_rf x1, .int x2, .int x3] σ (xlift emV K) := by
  refine x_entry (by decide) (by simp [lg_sl, x_catq, x_cati, x_catr, x_catn]) ?_
  intro p e s m args below meth c X hr hin
  have X : xX p s m args meth c G cX5_init 4 RX5 := X
  have hx := X.1
  have hb := X.2.1
  have hts := X.2.2.2.2.1
  have hown := X.2.2.2.1
  unfold P_X5_init at hp
  refine x_same (lo' := [(0, .ref a0), (1, va_rf x1), (2, .int x2), (3, .int x3)]) (by simp [lv_args, x_catq, x_cati, x_catr, x_catn]) ?_
  refine x_up (pc' := 1) (fun _ _ _ _ _ L => lv_aload_n hx hb dX5_init_0 rfl (lv_at L 0 rfl)) ?_
  refine x_objInit X q2135 q170 q171 dX5_init_1 (Nat.le_of_ble_eq_true rfl) ⟨Nat.le_of_ble_eq_true rfl, Nat.le_of_ble_eq_true rfl⟩ ?_
  refine x_pc (pc' := 4) rfl ?_
  refine x_up (pc' := 5) (fun _ _ _ _ _ L => lv_aload_n hx hb dX5_init_4 rfl (lv_at L 0 rfl)) ?_
  refine x_up (pc' := 6) (fun _ _ _ _ _ L => lv_aloadq_n hx hb dX5_init_5 rfl (lv_at L 1 rfl)) ?_
  refine x_pqF X (kX5 hG) 0 (by decide) q2136 (fun _ h => h) rfl hin rfl x1 (x_nar _ (by decide)) (x_fit _ (by decide)) dX5_init_6 hp (fun σ1 hp1 => ?_)
  refine x_pc (pc' := 9) rfl ?_
  refine x_up (pc' := 10) (fun _ _ _ _ _ L => lv_aload_n hx hb dX5_init_9 rfl (lv_at L 0 rfl)) ?_
  refine x_up (pc' := 11) (fun _ _ _ _ _ L => lv_iload_n hx hb dX5_init_10 rfl (lv_at L 2 rfl)) ?_
  refine x_piF X (kX5 hG) 1 (by decide) q2137 (fun _ h => h) rfl hin rfl rfl rfl dX5_init_11 hp1 (fun σ2 hp2 => ?_)
  refine x_pc (pc' := 14) rfl ?_
  refine x_up (pc' := 15) (fun _ _ _ _ _ L => lv_aload_n hx hb dX5_init_14 rfl (lv_at L 0 rfl)) ?_
  refine x_up (pc' := 16) (fun _ _ _ _ _ L => lv_iload_n hx hb dX5_init_15 rfl (lv_at L 3 rfl)) ?_
  refine x_piF X (kX5 hG) 2 (by decide) q2138 (fun _ h => h) rfl hin rfl rfl rfl dX5_init_16 hp2 (fun σ3 hp3 => ?_)
  refine x_pc (pc' := 19) rfl ?_
  exact x_vret X hr dX5_init_19 hp3
-- J14_hashCode
def P_J14_hashCode (κ : Nat → Nat) (a0 : Nat) (σ : xS) (K : Int32 → xH → Prop) : Prop :=
  xgi σ a0 9 2 fun v1 => ((v1 = 0 → (xgi σ a0 9 3 fun v2 => ((v2 = 0 → (xrc σ a0 9 ∧ xcall (fun τ L => P_J14_isLatin1 κ a0 τ L) σ fun v3 σ4 => ((v3 = 0 → (xgq σ4 a0 9 0 fun v5 => False)) ∧ (¬ v3 = 0 → (xgq σ4 a0 9 0 fun v6 => False))))) ∧ (¬ v2 = 0 → (K v1 σ.1))))) ∧ (¬ v1 = 0 → (K v1 σ.1)))
theorem mdJ14_hashCode : yJ14_hashCode.cls ≠ "java/lang/invoke/MethodHandle" ∧ yJ14_hashCode.cls ≠ "java/lang/invoke/VarHandle" ∧ (parseMethodDescriptor yJ14_hashCode.desc).map (fun d => d.parameters.length) = some 0 := by decide +kernel
set_option maxHeartbeats 4000000 in
set_option maxRecDepth 100000 in
theorem R_J14_hashCode (l : Launch) (hl : l.stackTraces = false) (G : xG) (hG : G.1.2 = x_cl) (a0 : Nat) (σ : xS) (K : Int32 → xH → Prop) (hp : P_J14_hashCode G.2 a0 σ K) : xM l yJ14_hashCode cJ14_hashCode 2 (Option.some Jvm.ClassFile.FieldType.int) 1 20 G [(.ref a0)] σ (xlift emI K) := by
  refine x_entry (by decide) (Nat.le_of_ble_eq_true rfl) ?_
  intro p e s m args below meth c X hr hin
  have X : xX p s m args meth c G cJ14_hashCode 2 RJ14 := X
  have hx := X.1
  have hb := X.2.1
  have hts := X.2.2.2.2.1
  have hown := X.2.2.2.1
  unfold P_J14_hashCode at hp
  refine x_same (lo' := [(0, .ref a0)]) rfl ?_
  refine x_up (pc' := 1) (fun _ _ _ _ _ L => lv_aload_n hx hb dJ14_hashCode_0 rfl (lv_at L 0 rfl)) ?_
  refine x_gi X (kJ14 hG) 2 (by decide) q1083 (fun _ h => h) dJ14_hashCode_1 hp (fun v1 hp1 => ?_)
  refine x_pc (pc' := 4) rfl ?_
  refine x_upL (pc' := 5) (lo' := [(1, .int v1), (0, .ref a0)]) (fun _ _ _ _ _ L => lv_istore_n hx hb dJ14_hashCode_4 rfl L (by decide) rfl) ?_
  refine x_up (pc' := 6) (fun _ _ _ _ _ L => lv_iload_n hx hb dJ14_hashCode_5 rfl (lv_at L 0 rfl)) ?_
  refine x_ifn (C := v1 = 0) (pt := 58) (pc' := 9) (fun _ _ _ _ _ => lv_if_ne (tgt := 58) hx hb dJ14_hashCode_6 (by decide)) (fun c6 => ?_) (fun c6 => ?_)
  · have hp2 := hp1.1 c6
    refine x_up (pc' := 10) (fun _ _ _ _ _ L => lv_aload_n hx hb dJ14_hashCode_9 rfl (lv_at L 1 rfl)) ?_
    refine x_gi X (kJ14 hG) 3 (by decide) q1084 (fun _ h => h) dJ14_hashCode_10 hp2 (fun v2 hp3 => ?_)
    refine x_pc (pc' := 13) rfl ?_
    refine x_ifn (C := v2 = 0) (pt := 58) (pc' := 16) (fun _ _ _ _ _ => lv_if_ne (tgt := 58) hx hb dJ14_hashCode_13 (by decide)) (fun c13 => ?_) (fun c13 => ?_)
    · have hp4 := hp3.1 c13
      refine x_up (pc' := 17) (fun _ _ _ _ _ L => lv_aload_n hx hb dJ14_hashCode_16 rfl (lv_at L 1 rfl)) ?_
      refine x_callV (em := emI) (fun r st => .int r :: st) (fun _ _ => rfl) 0 X (kJ14 hG) (fun σ' KK h => R_J14_isLatin1 l hl G hG a0 σ' KK h) (lw_V q2159 q2160 q2161 q117 q2162) ⟨rfl, mdJ14_isLatin1⟩ ⟨Nat.le_of_ble_eq_true rfl, Nat.le_of_ble_eq_true rfl⟩ rfl rfl (Nat.le_of_ble_eq_true rfl) dJ14_hashCode_17 hp4.1 hp4.2 (fun v3 σ4 hp5 => ?_)
      refine x_pc (pc' := 20) rfl ?_
      refine x_if (C := v3 = 0) (pt := 33) (pc' := 23) (fun _ _ _ _ _ => lv_if_eq (tgt := 33) hx hb dJ14_hashCode_20 (by decide)) (fun c20 => ?_) (fun c20 => ?_)
      · have hp6 := hp5.1 c20
        refine x_up (pc' := 34) (fun _ _ _ _ _ L => lv_aload_n hx hb dJ14_hashCode_33 rfl (lv_at L 1 rfl)) ?_
        refine x_gq X (kJ14 hG) 0 (by decide) q1081 (fun _ h => h) dJ14_hashCode_34 hp6 (fun v5 hp7 => ?_)
        refine x_pc (pc' := 37) rfl ?_
        exact hp7.elim
      · have hp8 := hp5.2 c20
        refine x_up (pc' := 24) (fun _ _ _ _ _ L => lv_aload_n hx hb dJ14_hashCode_23 rfl (lv_at L 1 rfl)) ?_
        refine x_gq X (kJ14 hG) 0 (by decide) q1081 (fun _ h => h) dJ14_hashCode_24 hp8 (fun v6 hp9 => ?_)
        refine x_pc (pc' := 27) rfl ?_
        exact hp9.elim
    · have hp10 := hp3.2 c13
      refine x_up (pc' := 59) (fun _ _ _ _ _ L => lv_iload_n hx hb dJ14_hashCode_58 rfl (lv_at L 0 rfl)) ?_
      exact x_iret X hr rfl dJ14_hashCode_59 hp10
  · have hp11 := hp1.2 c6
    refine x_up (pc' := 59) (fun _ _ _ _ _ L => lv_iload_n hx hb dJ14_hashCode_58 rfl (lv_at L 0 rfl)) ?_
    exact x_iret X hr rfl dJ14_hashCode_59 hp11
-- X1_isBetween
def P_X1_isBetween (κ : Nat → Nat) (x0 : Int32) (x1 : Int32) (x2 : Int32) (σ : xS) (K : Int32 → xH → Prop) : Prop :=
  ((x0 < x1 → (K (0 : Int32) σ.1)) ∧ (¬ x0 < x1 → (((x2 < x0 → (K (0 : Int32) σ.1)) ∧ (¬ x2 < x0 → (K (1 : Int32) σ.1))))))
theorem mdX1_isBetween : yX1_isBetween.cls ≠ "java/lang/invoke/MethodHandle" ∧ yX1_isBetween.cls ≠ "java/lang/invoke/VarHandle" ∧ (parseMethodDescriptor yX1_isBetween.desc).map (fun d => d.parameters.length) = some 3 := by decide +kernel
set_option maxHeartbeats 4000000 in
set_option maxRecDepth 100000 in
theorem R_X1_isBetween (l : Launch) (hl : l.stackTraces = false) (G : xG) (hG : G.1.2 = x_cl) (x0 : Int32) (x1 : Int32) (x2 : Int32) (σ : xS) (K : Int32 → xH → Prop) (hp : P_X1_isBetween G.2 x0 x1 x2 σ K) : xM l yX1_isBetween cX1_isBetween 3 (Option.some Jvm.ClassFile.FieldType.boolean) 0 0 G [.int x0, .int x1, .int x2] σ (xlift emI K) := by
  refine x_entry (by decide) (Nat.le_of_ble_eq_true rfl) ?_
  intro p e s m args below meth c X hr hin
  have X : xX p s m args meth c G cX1_isBetween 3 RX1 := X
  have hx := X.1
  have hb := X.2.1
  have hts := X.2.2.2.2.1
  have hown := X.2.2.2.1
  unfold P_X1_isBetween at hp
  refine x_same (lo' := [(0, .int x0), (1, .int x1), (2, .int x2)]) rfl ?_
  refine x_up (pc' := 1) (fun _ _ _ _ _ L => lv_iload_n hx hb dX1_isBetween_0 rfl (lv_at L 1 rfl)) ?_
  refine x_up (pc' := 2) (fun _ _ _ _ _ L => lv_iload_n hx hb dX1_isBetween_1 rfl (lv_at L 0 rfl)) ?_
  refine x_if (C := x0 < x1) (pt := 14) (pc' := 5) (fun _ _ _ _ _ => lv_icmp_gt (tgt := 14) hx hb dX1_isBetween_2 (by decide)) (fun c2 => ?_) (fun c2 => ?_)
  · have hp1 := hp.1 c2
    refine x_up (pc' := 15) (fun _ _ _ _ _ L => lv_iconst (v := (0 : Int32)) hx hb dX1_isBetween_14 (by decide)) ?_
    exact x_iret X hr rfl dX1_isBetween_15 hp1
  · have hp2 := hp.2 c2
    refine x_up (pc' := 6) (fun _ _ _ _ _ L => lv_iload_n hx hb dX1_isBetween_5 rfl (lv_at L 0 rfl)) ?_
    refine x_up (pc' := 7) (fun _ _ _ _ _ L => lv_iload_n hx hb dX1_isBetween_6 rfl (lv_at L 2 rfl)) ?_
    refine x_if (C := x2 < x0) (pt := 14) (pc' := 10) (fun _ _ _ _ _ => lv_icmp_gt (tgt := 14) hx hb dX1_isBetween_7 (by decide)) (fun c7 => ?_) (fun c7 => ?_)
    · have hp3 := hp2.1 c7
      refine x_up (pc' := 15) (fun _ _ _ _ _ L => lv_iconst (v := (0 : Int32)) hx hb dX1_isBetween_14 (by decide)) ?_
      exact x_iret X hr rfl dX1_isBetween_15 hp3
    · have hp4 := hp2.2 c7
      refine x_up (pc' := 11) (fun _ _ _ _ _ L => lv_iconst (v := (1 : Int32)) hx hb dX1_isBetween_10 (by decide)) ?_
      refine x_up (pc' := 15) (fun _ _ _ _ _ L => lv_goto (tgt := 15) hx hb dX1_isBetween_11 (by decide)) ?_
      exact x_iret X hr rfl dX1_isBetween_15 hp4
-- X6_init_2
def P_X6_init_2 (κ : Nat → Nat) (a0 : Nat) (x1 : Int32) (x2 : Int32) (x3 : Option Nat) (σ : xS) (K : Unit → xH → Prop) : Prop :=
  xsup κ σ a0 26 [va_rf none, va_rf none, .int 0, .int 0, .int 0, va_rf none] fun σ1 => xpi κ σ1 a0 26 6 x1 fun σ2 => xpi κ σ2 a0 26 7 x2 fun σ3 => xpq κ σ3 a0 26 8 x3 fun σ4 => K () σ4.1
theorem mdX6_init_2 : yX6_init_2.cls ≠ "java/lang/invoke/MethodHandle" ∧ yX6_init_2.cls ≠ "java/lang/invoke/VarHandle" ∧ (parseMethodDescriptor yX6_init_2.desc).map (fun d => d.parameters.length) = some 3 := by decide +kernel
set_option maxHeartbeats 4000000 in
set_option maxRecDepth 100000 in
theorem R_X6_init_2 (l : Launch) (hl : l.stackTraces = false) (G : xG) (hG : G.1.2 = x_cl) (a0 : Nat) (x1 : Int32) (x2 : Int32) (x3 : Option Nat) (σ : xS) (K : Unit → xH → Prop) (hp : P_X6_init_2 G.2 a0 x1 x2 x3 σ K) : xM l yX6_init_2 cX6_init_2 4 (Option.none : Option Jvm.ClassFile.FieldType) 5 100 G [(.ref a0), .int x1, .int x2, va_rf x3] σ (xlift emV K) := by
  refine x_entry (by decide) (by simp [lg_sl, x_catq, x_cati, x_catr, x_catn]) ?_
  intro p e s m args below meth c X hr hin
  have X : xX p s m args meth c G cX6_init_2 4 RX6 := X
  have hx := X.1
  have hb := X.2.1
  have hts := X.2.2.2.2.1
  have hown := X.2.2.2.1
  unfold P_X6_init_2 at hp
  refine x_same (lo' := [(0, .ref a0), (1, .int x1), (2, .int x2), (3, va_rf x3)]) (by simp [lv_args, x_catq, x_cati, x_catr, x_catn]) ?_
  refine x_up (pc' := 1) (fun _ _ _ _ _ L => lv_aload_n hx hb dX6_init_2_0 rfl (lv_at L 0 rfl)) ?_
  refine x_superX6 X hl (kX6 hG) dX6_init_2_1 ⟨Nat.le_of_ble_eq_true rfl, Nat.le_of_ble_eq_true rfl⟩ (Nat.le_of_ble_eq_true rfl) hp (fun σ1 hp1 => ?_)
  refine x_pc (pc' := 4) rfl ?_
  refine x_up (pc' := 5) (fun _ _ _ _ _ L => lv_aload_n hx hb dX6_init_2_4 rfl (lv_at L 0 rfl)) ?_
  refine x_up (pc' := 6) (fun _ _ _ _ _ L => lv_iload_n hx hb dX6_init_2_5 rfl (lv_at L 1 rfl)) ?_
  refine x_piF X (kX6 hG) 6 (by decide) q2256 (fun _ h => h) rfl hin rfl rfl rfl dX6_init_2_6 hp1 (fun σ2 hp2 => ?_)
  refine x_pc (pc' := 9) rfl ?_
  refine x_up (pc' := 10) (fun _ _ _ _ _ L => lv_aload_n hx hb dX6_init_2_9 rfl (lv_at L 0 rfl)) ?_
  refine x_up (pc' := 11) (fun _ _ _ _ _ L => lv_iload_n hx hb dX6_init_2_10 rfl (lv_at L 2 rfl)) ?_
  refine x_piF X (kX6 hG) 7 (by decide) q2258 (fun _ h => h) rfl hin rfl rfl rfl dX6_init_2_11 hp2 (fun σ3 hp3 => ?_)
  refine x_pc (pc' := 14) rfl ?_
  refine x_up (pc' := 15) (fun _ _ _ _ _ L => lv_aload_n hx hb dX6_init_2_14 rfl (lv_at L 0 rfl)) ?_
  refine x_up (pc' := 16) (fun _ _ _ _ _ L => lv_aloadq_n hx hb dX6_init_2_15 rfl (lv_at L 3 rfl)) ?_
  refine x_pqF X (kX6 hG) 8 (by decide) q2260 (fun _ h => h) rfl hin rfl x3 (x_nar _ (by decide)) (x_fit _ (by decide)) dX6_init_2_16 hp3 (fun σ4 hp4 => ?_)
  refine x_pc (pc' := 19) rfl ?_
  exact x_vret X hr dX6_init_2_19 hp4
-- X6_init
def P_X6_init (κ : Nat → Nat) (a0 : Nat) (x1 : Int32) (x2 : Int32) (σ : xS) (K : Unit → xH → Prop) : Prop :=
  xcall (fun τ L => P_X6_init_2 κ a0 x1 x2 none τ L) σ fun _ σ1 => K () σ1.1
theorem mdX6_init : yX6_init.cls ≠ "java/lang/invoke/MethodHandle" ∧ yX6_init.cls ≠ "java/lang/invoke/VarHandle" ∧ (parseMethodDescriptor yX6_init.desc).map (fun d => d.parameters.length) = some 2 := by decide +kernel
set_option maxHeartbeats 4000000 in
set_option maxRecDepth 100000 in
theorem R_X6_init (l : Launch) (hl : l.stackTraces = false) (G : xG) (hG : G.1.2 = x_cl) (a0 : Nat) (x1 : Int32) (x2 : Int32) (σ : xS) (K : Unit → xH → Prop) (hp : P_X6_init G.2 a0 x1 x2 σ K) : xM l yX6_init cX6_init 3 (Option.none : Option Jvm.ClassFile.FieldType) 6 123 G [(.ref a0), .int x1, .int x2] σ (xlift emV K) := by
  refine x_entry (by decide) (Nat.le_of_ble_eq_true rfl) ?_
  intro p e s m args below meth c X hr hin
  have X : xX p s m args meth c G cX6_init 3 RX6 := X
  have hx := X.1
  have hb := X.2.1
  have hts := X.2.2.2.2.1
  have hown := X.2.2.2.1
  unfold P_X6_init at hp
  refine x_same (lo' := [(0, .ref a0), (1, .int x1), (2, .int x2)]) rfl ?_
  refine x_up (pc' := 1) (fun _ _ _ _ _ L => lv_aload_n hx hb dX6_init_0 rfl (lv_at L 0 rfl)) ?_
  refine x_up (pc' := 2) (fun _ _ _ _ _ L => lv_iload_n hx hb dX6_init_1 rfl (lv_at L 1 rfl)) ?_
  refine x_up (pc' := 3) (fun _ _ _ _ _ L => lv_iload_n hx hb dX6_init_2 rfl (lv_at L 2 rfl)) ?_
  refine x_up (pc' := 4) (fun _ _ _ _ _ L => lv_null hx hb dX6_init_3) ?_
  refine x_callI 3 X (fun σ' KK h => R_X6_init_2 l hl G hG a0 x1 x2 none σ' KK h) (lw_meth q2254) q148 q2252 q2253 rfl mdX6_init_2 ⟨Nat.le_of_ble_eq_true rfl, Nat.le_of_ble_eq_true rfl⟩ rfl rfl (Nat.le_of_ble_eq_true rfl) dX6_init_4 hp (fun σ1 hp1 => ?_)
  refine x_pc (pc' := 7) rfl ?_
  exact x_vret X hr dX6_init_7 hp1
-- X1_check
def P_X1_check (κ : Nat → Nat) (x0 : Int32) (x1 : Int32) (x2 : Int32) (σ : xS) (K : Unit → xH → Prop) (KX : Nat → xH → Prop) : Prop :=
  ((x0 = 0 → (xnew κ σ 1026 9 [] fun q1 σ2 => xcall (fun τ L => P_X6_init κ q1 x1 x2 τ L) σ2 fun _ σ3 => κ 0 ≤ q1 ∧ xrc σ3 q1 26 ∧ KX q1 σ3.1)) ∧ (¬ x0 = 0 → (K () σ.1)))
theorem mdX1_check : yX1_check.cls ≠ "java/lang/invoke/MethodHandle" ∧ yX1_check.cls ≠ "java/lang/invoke/VarHandle" ∧ (parseMethodDescriptor yX1_check.desc).map (fun d => d.parameters.length) = some 3 := by decide +kernel
set_option maxHeartbeats 4000000 in
set_option maxRecDepth 100000 in
theorem R_X1_check (l : Launch) (hl : l.stackTraces = false) (G : xG) (hG : G.1.2 = x_cl) (x0 : Int32) (x1 : Int32) (x2 : Int32) (σ : xS) (K : Unit → xH → Prop) (KX : Nat → xH → Prop) (hp : P_X1_check G.2 x0 x1 x2 σ K KX) : xMX l yX1_check cX1_check 3 (Option.none : Option Jvm.ClassFile.FieldType) 7 145 G [.int x0, .int x1, .int x2] σ (xlift emV K) KX := by
  refine x_entryX (by decide) (Nat.le_of_ble_eq_true rfl) ?_
  intro p e s m args below meth c X hr hin hno
  have X : xX p s m args meth c G cX1_check 3 RX1 := X
  have hx := X.1
  have hb := X.2.1
  have hts := X.2.2.2.2.1
  have hown := X.2.2.2.1
  have hout : ∀ pc, ∀ x ∈ c.exceptionTable.toList, covers x pc = false := fun _ x hx => (hno x hx).elim
  unfold P_X1_check at hp
  refine x_same (lo' := [(0, .int x0), (1, .int x1), (2, .int x2)]) rfl ?_
  refine x_up (pc' := 1) (fun _ _ _ _ _ L => lv_iload_n hx hb dX1_check_0 rfl (lv_at L 0 rfl)) ?_
  refine x_ifn (C := x0 = 0) (pt := 14) (pc' := 4) (fun _ _ _ _ _ => lv_if_ne (tgt := 14) hx hb dX1_check_1 (by decide)) (fun c1 => ?_) (fun c1 => ?_)
  · have hp1 := hp.1 c1
    refine x_newE X (kX6 hG) q2150 q2241 q148 dX1_check_4 hp1 (fun q1 σ2 hp2 => ?_)
    refine x_pc (pc' := 7) rfl ?_
    refine x_up (pc' := 8) (fun _ _ _ _ _ L => lv_dup hx hb dX1_check_7 rfl) ?_
    refine x_up (pc' := 9) (fun _ _ _ _ _ L => lv_iload_n hx hb dX1_check_8 rfl (lv_at L 1 rfl)) ?_
    refine x_up (pc' := 10) (fun _ _ _ _ _ L => lv_iload_n hx hb dX1_check_9 rfl (lv_at L 2 rfl)) ?_
    refine x_callI 2 X (fun σ' KK h => R_X6_init l hl G hG q1 x1 x2 σ' KK h) (lw_meth q2251) q148 q2249 q2250 rfl mdX6_init ⟨Nat.le_of_ble_eq_true rfl, Nat.le_of_ble_eq_true rfl⟩ rfl rfl (Nat.le_of_ble_eq_true rfl) dX1_check_10 hp2 (fun σ3 hp3 => ?_)
    refine x_pc (pc' := 13) rfl ?_
    obtain ⟨hq13, hr13, hp4⟩ := hp3
    refine x_athrow X dX1_check_13 ?_
    exact x_out X (kX6 hG) (hout 13) hr13 hq13 hp4
  · have hp5 := hp.2 c1
    refine x_vx ?_; exact x_vret X hr dX1_check_14 hp5
-- X1_checkRange
def P_X1_checkRange (κ : Nat → Nat) (x0 : Int32) (x1 : Int32) (x2 : Int32) (σ : xS) (K : Unit → xH → Prop) (KX : Nat → xH → Prop) : Prop :=
  xcall (fun τ L => P_X1_isBetween κ x0 x1 x2 τ L) σ fun v1 σ2 => xcallX (fun τ L LX => P_X1_check κ v1 (1 : Int32) x0 τ L LX) σ2 (fun _ σ3 => K () σ3.1) (fun q4 σ5 => κ 0 ≤ q4 ∧ ((xrc σ5 q4 26 ∧ (KX q4 σ5.1))))
theorem mdX1_checkRange : yX1_checkRange.cls ≠ "java/lang/invoke/MethodHandle" ∧ yX1_checkRange.cls ≠ "java/lang/invoke/VarHandle" ∧ (parseMethodDescriptor yX1_checkRange.desc).map (fun d => d.parameters.length) = some 3 := by decide +kernel
set_option maxHeartbeats 4000000 in
set_option maxRecDepth 100000 in
theorem R_X1_checkRange (l : Launch) (hl : l.stackTraces = false) (G : xG) (hG : G.1.2 = x_cl) (x0 : Int32) (x1 : Int32) (x2 : Int32) (σ : xS) (K : Unit → xH → Prop) (KX : Nat → xH → Prop) (hp : P_X1_checkRange G.2 x0 x1 x2 σ K KX) : xMX l yX1_checkRange cX1_checkRange 3 (Option.none : Option Jvm.ClassFile.FieldType) 8 167 G [.int x0, .int x1, .int x2] σ (xlift emV K) KX := by
  refine x_entryX (by decide) (Nat.le_of_ble_eq_true rfl) ?_
  intro p e s m args below meth c X hr hin hno
  have X : xX p s m args meth c G cX1_checkRange 3 RX1 := X
  have hx := X.1
  have hb := X.2.1
  have hts := X.2.2.2.2.1
  have hown := X.2.2.2.1
  have hout : ∀ pc, ∀ x ∈ c.exceptionTable.toList, covers x pc = false := fun _ x hx => (hno x hx).elim
  unfold P_X1_checkRange at hp
  refine x_same (lo' := [(0, .int x0), (1, .int x1), (2, .int x2)]) rfl ?_
  refine x_up (pc' := 1) (fun _ _ _ _ _ L => lv_iload_n hx hb dX1_checkRange_0 rfl (lv_at L 0 rfl)) ?_
  refine x_up (pc' := 2) (fun _ _ _ _ _ L => lv_iload_n hx hb dX1_checkRange_1 rfl (lv_at L 1 rfl)) ?_
  refine x_up (pc' := 3) (fun _ _ _ _ _ L => lv_iload_n hx hb dX1_checkRange_2 rfl (lv_at L 2 rfl)) ?_
  refine x_callS (em := emI) (fun r st => .int r :: st) (fun _ _ => rfl) 3 X (fun σ' KK h => R_X1_isBetween l hl G hG x0 x1 x2 σ' KK h) (lw_S q2235 q2236 q99 q2237) mdX1_isBetween ⟨Nat.le_of_ble_eq_true rfl, Nat.le_of_ble_eq_true rfl⟩ rfl rfl (Nat.le_of_ble_eq_true rfl) dX1_checkRange_3 hp (fun v1 σ2 hp1 => ?_)
  refine x_pc (pc' := 6) rfl ?_
  refine x_up (pc' := 7) (fun _ _ _ _ _ L => lv_iconst (v := (1 : Int32)) hx hb dX1_checkRange_6 (by decide)) ?_
  refine x_up (pc' := 8) (fun _ _ _ _ _ L => lv_iload_n hx hb dX1_checkRange_7 rfl (lv_at L 0 rfl)) ?_
  refine x_callSX (em := emV) (fun r st => st) (fun _ _ => rfl) 3 X (fun σ' KK KX h => R_X1_check l hl G hG v1 (1 : Int32) x0 σ' KK KX h) (lw_S q2238 q2239 q99 q2240) mdX1_check ⟨Nat.le_of_ble_eq_true rfl, Nat.le_of_ble_eq_true rfl⟩ rfl rfl (Nat.le_of_ble_eq_true rfl) dX1_checkRange_8 hp1 (fun _ σ3 hpA8 => ?_) (fun q4 σ5 hpB8 => ?_)
  · have hp2 := hpA8
    refine x_pc (pc' := 11) rfl ?_
    refine x_vx ?_; exact x_vret X hr dX1_checkRange_11 hp2
  · have hp3 := hpB8
    obtain ⟨hq8, hp4⟩ := hp3
    obtain ⟨hr8, hp5⟩ := hp4
    exact x_out X (kX6 hG) (hout 8) hr8 hq8 hp5
-- X2_rules
def P_X2_rules (κ : Nat → Nat) (a0 : Nat) (x1 : Int32) (σ : xS) (K : Int32 → xH → Prop) (KX : Nat → xH → Prop) : Prop :=
  xcallX (fun τ L LX => P_X1_checkRange κ x1 (0 : Int32) (3 : Int32) τ L LX) σ (fun _ σ1 => xgi σ1 a0 1 11 fun v4 => xpi κ σ1 a0 1 11 x1 fun σ5 => K v4 σ5.1) (fun q2 σ3 => κ 0 ≤ q2 ∧ ((xrc σ3 q2 26 ∧ (KX q2 σ3.1))))
theorem mdX2_rules : yX2_rules.cls ≠ "java/lang/invoke/MethodHandle" ∧ yX2_rules.cls ≠ "java/lang/invoke/VarHandle" ∧ (parseMethodDescriptor yX2_rules.desc).map (fun d => d.parameters.length) = some 1 := by decide +kernel
set_option maxHeartbeats 4000000 in
set_option maxRecDepth 100000 in
theorem R_X2_rules (l : Launch) (hl : l.stackTraces = false) (G : xG) (hG : G.1.2 = x_cl) (a0 : Nat) (x1 : Int32) (σ : xS) (K : Int32 → xH → Prop) (KX : Nat → xH → Prop) (hp : P_X2_rules G.2 a0 x1 σ K KX) : xMX l yX2_rules cX2_rules 3 (Option.some Jvm.ClassFile.FieldType.int) 9 189 G [(.ref a0), .int x1] σ (xlift emI K) KX := by
  refine x_entryX (by decide) (Nat.le_of_ble_eq_true rfl) ?_
  intro p e s m args below meth c X hr hin hno
  have X : xX p s m args meth c G cX2_rules 3 RX2 := X
  have hx := X.1
  have hb := X.2.1
  have hts := X.2.2.2.2.1
  have hown := X.2.2.2.1
  have hout : ∀ pc, ∀ x ∈ c.exceptionTable.toList, covers x pc = false := fun _ x hx => (hno x hx).elim
  unfold P_X2_rules at hp
  refine x_same (lo' := [(0, .ref a0), (1, .int x1)]) rfl ?_
  refine x_up (pc' := 1) (fun _ _ _ _ _ L => lv_iload_n hx hb dX2_rules_0 rfl (lv_at L 1 rfl)) ?_
  refine x_up (pc' := 2) (fun _ _ _ _ _ L => lv_iconst (v := (0 : Int32)) hx hb dX2_rules_1 (by decide)) ?_
  refine x_up (pc' := 3) (fun _ _ _ _ _ L => lv_iconst (v := (3 : Int32)) hx hb dX2_rules_2 (by decide)) ?_
  refine x_callSNX (host := "WordCache") (em := emV) (fun r st => st) (fun _ _ => rfl) 3 X (fun σ' KK KX h => R_X1_checkRange l hl G hG x1 (0 : Int32) (3 : Int32) σ' KK KX h) q2517 q2233 q99 (lw_meth q2234) mdX1_checkRange ⟨Nat.le_of_ble_eq_true rfl, Nat.le_of_ble_eq_true rfl⟩ rfl rfl (Nat.le_of_ble_eq_true rfl) dX2_rules_3 hp (fun _ σ1 hpA3 => ?_) (fun q2 σ3 hpB3 => ?_)
  · have hp1 := hpA3
    refine x_pc (pc' := 6) rfl ?_
    refine x_up (pc' := 7) (fun _ _ _ _ _ L => lv_aload_n hx hb dX2_rules_6 rfl (lv_at L 0 rfl)) ?_
    refine x_gi X (kX2 hG) 11 (by decide) q477 (fun _ h => h) dX2_rules_7 hp1 (fun v4 hp2 => ?_)
    refine x_pc (pc' := 10) rfl ?_
    refine x_upL (pc' := 11) (lo' := [(2, .int v4), (0, .ref a0), (1, .int x1)]) (fun _ _ _ _ _ L => lv_istore_n hx hb dX2_rules_10 rfl L (by decide) rfl) ?_
    refine x_up (pc' := 12) (fun _ _ _ _ _ L => lv_aload_n hx hb dX2_rules_11 rfl (lv_at L 1 rfl)) ?_
    refine x_up (pc' := 13) (fun _ _ _ _ _ L => lv_iload_n hx hb dX2_rules_12 rfl (lv_at L 2 rfl)) ?_
    refine x_pi X (kX2 hG) 11 (by decide) q477 (fun _ h => h) rfl rfl rfl dX2_rules_13 hp2 (fun σ5 hp3 => ?_)
    refine x_pc (pc' := 16) rfl ?_
    refine x_up (pc' := 17) (fun _ _ _ _ _ L => lv_iload_n hx hb dX2_rules_16 rfl (lv_at L 0 rfl)) ?_
    refine x_vx ?_; exact x_iret X hr rfl dX2_rules_17 hp3
  · have hp4 := hpB3
    obtain ⟨hq3, hp5⟩ := hp4
    obtain ⟨hr3, hp6⟩ := hp5
    exact x_out X (kX6 hG) (hout 3) hr3 hq3 hp6
-- X3_bank
def P_X3_bank (κ : Nat → Nat) (a0 : Nat) (σ : xS) (K : Int32 → xH → Prop) : Prop :=
  xgi σ a0 5 2 fun v1 => K (v1 - v1 / (4 : Int32) * (4 : Int32)) σ.1
theorem mdX3_bank : yX3_bank.cls ≠ "java/lang/invoke/MethodHandle" ∧ yX3_bank.cls ≠ "java/lang/invoke/VarHandle" ∧ (parseMethodDescriptor yX3_bank.desc).map (fun d => d.parameters.length) = some 0 := by decide +kernel
set_option maxHeartbeats 4000000 in
set_option maxRecDepth 100000 in
theorem R_X3_bank (l : Launch) (hl : l.stackTraces = false) (G : xG) (hG : G.1.2 = x_cl) (a0 : Nat) (σ : xS) (K : Int32 → xH → Prop) (hp : P_X3_bank G.2 a0 σ K) : xM l yX3_bank cX3_bank 1 (Option.some Jvm.ClassFile.FieldType.int) 0 0 G [(.ref a0)] σ (xlift emI K) := by
  refine x_entry (by decide) (Nat.le_of_ble_eq_true rfl) ?_
  intro p e s m args below meth c X hr hin
  have X : xX p s m args meth c G cX3_bank 1 RX3 := X
  have hx := X.1
  have hb := X.2.1
  have hts := X.2.2.2.2.1
  have hown := X.2.2.2.1
  unfold P_X3_bank at hp
  refine x_same (lo' := [(0, .ref a0)]) rfl ?_
  refine x_up (pc' := 1) (fun _ _ _ _ _ L => lv_aload_n hx hb dX3_bank_0 rfl (lv_at L 0 rfl)) ?_
  refine x_gi X (kX3 hG) 2 (by decide) q298 (fun _ h => h) dX3_bank_1 hp (fun v1 hp1 => ?_)
  refine x_pc (pc' := 4) rfl ?_
  refine x_up (pc' := 5) (fun _ _ _ _ _ L => lv_iconst (v := (4 : Int32)) hx hb dX3_bank_4 (by decide)) ?_
  refine x_up (pc' := 6) (fun _ _ _ _ _ L => lv_irem hx hb dX3_bank_5 (by decide)) ?_
  exact x_iret X hr rfl dX3_bank_6 hp1
-- X2_waitsFor
def P_X2_waitsFor (κ : Nat → Nat) (a0 : Nat) (x1 : Int32) (σ : xS) (K : Unit → xH → Prop) : Prop :=
  xgq σ a0 1 4 fun v1 => xnn v1 fun b2 => xai .int σ b2 x1 fun v3 => xgi σ a0 1 10 fun v4 => xgi σ a0 1 10 fun v5 => xpi κ σ a0 1 10 (v5 + (if (0 : Int32) < (v3 - v4) then (v3 - v4) else (0 : Int32))) fun σ6 => xgi σ6 a0 1 18 fun v7 => xpi κ σ6 a0 1 18 (v7 + (if (0 : Int32) < (v3 - v4) then (v3 - v4) else (0 : Int32))) fun σ8 => K () σ8.1
theorem mdX2_waitsFor : yX2_waitsFor.cls ≠ "java/lang/invoke/MethodHandle" ∧ yX2_waitsFor.cls ≠ "java/lang/invoke/VarHandle" ∧ (parseMethodDescriptor yX2_waitsFor.desc).map (fun d => d.parameters.length) = some 1 := by decide +kernel
set_option maxHeartbeats 4000000 in
set_option maxRecDepth 100000 in
theorem R_X2_waitsFor (l : Launch) (hl : l.stackTraces = false) (G : xG) (hG : G.1.2 = x_cl) (a0 : Nat) (x1 : Int32) (σ : xS) (K : Unit → xH → Prop) (hp : P_X2_waitsFor G.2 a0 x1 σ K) : xM l yX2_waitsFor cX2_waitsFor 3 (Option.none : Option Jvm.ClassFile.FieldType) 1 21 G [(.ref a0), .int x1] σ (xlift emV K) := by
  refine x_entry (by decide) (Nat.le_of_ble_eq_true rfl) ?_
  intro p e s m args below meth c X hr hin
  have X : xX p s m args meth c G cX2_waitsFor 3 RX2 := X
  have hx := X.1
  have hb := X.2.1
  have hts := X.2.2.2.2.1
  have hown := X.2.2.2.1
  unfold P_X2_waitsFor at hp
  refine x_same (lo' := [(0, .ref a0), (1, .int x1)]) rfl ?_
  refine x_up (pc' := 1) (fun _ _ _ _ _ L => lv_iconst (v := (0 : Int32)) hx hb dX2_waitsFor_0 (by decide)) ?_
  refine x_up (pc' := 2) (fun _ _ _ _ _ L => lv_aload_n hx hb dX2_waitsFor_1 rfl (lv_at L 0 rfl)) ?_
  refine x_gq X (kX2 hG) 4 (by decide) q466 (fun _ h => h) dX2_waitsFor_2 hp (fun v1 hp1 => ?_)
  refine x_pc (pc' := 5) rfl ?_
  refine x_up (pc' := 6) (fun _ _ _ _ _ L => lv_iload_n hx hb dX2_waitsFor_5 rfl (lv_at L 1 rfl)) ?_
  obtain ⟨b2, rfl, hp2⟩ := hp1
  refine x_iald X dX2_waitsFor_6 hp2 (fun v3 hp3 => ?_)
  refine x_pc (pc' := 7) rfl ?_
  refine x_up (pc' := 8) (fun _ _ _ _ _ L => lv_aload_n hx hb dX2_waitsFor_7 rfl (lv_at L 0 rfl)) ?_
  refine x_gi X (kX2 hG) 10 (by decide) q475 (fun _ h => h) dX2_waitsFor_8 hp3 (fun v4 hp4 => ?_)
  refine x_pc (pc' := 11) rfl ?_
  refine x_up (pc' := 12) (fun _ _ _ _ _ L => lv_isub hx hb dX2_waitsFor_11) ?_
  refine x_mmax X q2464 q358 q110 q359 x_maxB ⟨Nat.le_of_ble_eq_true rfl, Nat.le_of_ble_eq_true rfl⟩ (Nat.le_of_ble_eq_true rfl) dX2_waitsFor_12 ?_
  refine x_pc (pc' := 15) rfl ?_
  refine x_upL (pc' := 16) (lo' := [(2, .int (if (0 : Int32) < (v3 - v4) then (v3 - v4) else (0 : Int32))), (0, .ref a0), (1, .int x1)]) (fun _ _ _ _ _ L => lv_istore_n hx hb dX2_waitsFor_15 rfl L (by decide) rfl) ?_
  refine x_up (pc' := 17) (fun _ _ _ _ _ L => lv_aload_n hx hb dX2_waitsFor_16 rfl (lv_at L 1 rfl)) ?_
  refine x_up (pc' := 18) (fun _ _ _ _ _ L => lv_dup hx hb dX2_waitsFor_17 rfl) ?_
  refine x_gi X (kX2 hG) 10 (by decide) q475 (fun _ h => h) dX2_waitsFor_18 hp4 (fun v5 hp5 => ?_)
  refine x_pc (pc' := 21) rfl ?_
  refine x_up (pc' := 22) (fun _ _ _ _ _ L => lv_iload_n hx hb dX2_waitsFor_21 rfl (lv_at L 0 rfl)) ?_
  refine x_up (pc' := 23) (fun _ _ _ _ _ L => lv_iadd hx hb dX2_waitsFor_22) ?_
  refine x_pi X (kX2 hG) 10 (by decide) q475 (fun _ h => h) rfl rfl rfl dX2_waitsFor_23 hp5 (fun σ6 hp6 => ?_)
  refine x_pc (pc' := 26) rfl ?_
  refine x_up (pc' := 27) (fun _ _ _ _ _ L => lv_aload_n hx hb dX2_waitsFor_26 rfl (lv_at L 1 rfl)) ?_
  refine x_up (pc' := 28) (fun _ _ _ _ _ L => lv_dup hx hb dX2_waitsFor_27 rfl) ?_
  refine x_gi X (kX2 hG) 18 (by decide) q491 (fun _ h => h) dX2_waitsFor_28 hp6 (fun v7 hp7 => ?_)
  refine x_pc (pc' := 31) rfl ?_
  refine x_up (pc' := 32) (fun _ _ _ _ _ L => lv_iload_n hx hb dX2_waitsFor_31 rfl (lv_at L 0 rfl)) ?_
  refine x_up (pc' := 33) (fun _ _ _ _ _ L => lv_iadd hx hb dX2_waitsFor_32) ?_
  refine x_pi X (kX2 hG) 18 (by decide) q491 (fun _ h => h) rfl rfl rfl dX2_waitsFor_33 hp7 (fun σ8 hp8 => ?_)
  refine x_pc (pc' := 36) rfl ?_
  exact x_vret X hr dX2_waitsFor_36 hp8
-- X2_works
def P_X2_works (κ : Nat → Nat) (a0 : Nat) (x1 : Int32) (x2 : Int32) (σ : xS) (K : Unit → xH → Prop) : Prop :=
  xrc σ a0 1 ∧ xcall (fun τ L => P_X2_waitsFor κ a0 x1 τ L) σ fun _ σ1 => xgi σ1 a0 1 10 fun v2 => xpi κ σ1 a0 1 10 (v2 + x2) fun σ3 => xgq σ3 a0 1 4 fun v4 => xgi σ3 a0 1 10 fun v5 => xnn v4 fun b6 => xsi κ .int σ3 b6 x1 (v5 + (4 : Int32)) fun σ7 => K () σ7.1
theorem mdX2_works : yX2_works.cls ≠ "java/lang/invoke/MethodHandle" ∧ yX2_works.cls ≠ "java/lang/invoke/VarHandle" ∧ (parseMethodDescriptor yX2_works.desc).map (fun d => d.parameters.length) = some 2 := by decide +kernel
set_option maxHeartbeats 4000000 in
set_option maxRecDepth 100000 in
theorem R_X2_works (l : Launch) (hl : l.stackTraces = false) (G : xG) (hG : G.1.2 = x_cl) (a0 : Nat) (x1 : Int32) (x2 : Int32) (σ : xS) (K : Unit → xH → Prop) (hp : P_X2_works G.2 a0 x1 x2 σ K) : xM l yX2_works cX2_works 3 (Option.none : Option Jvm.ClassFile.FieldType) 2 43 G [(.ref a0), .int x1, .int x2] σ (xlift emV K) := by
  refine x_entry (by decide) (Nat.le_of_ble_eq_true rfl) ?_
  intro p e s m args below meth c X hr hin
  have X : xX p s m args meth c G cX2_works 3 RX2 := X
  have hx := X.1
  have hb := X.2.1
  have hts := X.2.2.2.2.1
  have hown := X.2.2.2.1
  unfold P_X2_works at hp
  refine x_same (lo' := [(0, .ref a0), (1, .int x1), (2, .int x2)]) rfl ?_
  refine x_up (pc' := 1) (fun _ _ _ _ _ L => lv_aload_n hx hb dX2_works_0 rfl (lv_at L 0 rfl)) ?_
  refine x_up (pc' := 2) (fun _ _ _ _ _ L => lv_iload_n hx hb dX2_works_1 rfl (lv_at L 1 rfl)) ?_
  refine x_callV (em := emV) (fun r st => st) (fun _ _ => rfl) 1 X (kX2 hG) (fun σ' KK h => R_X2_waitsFor l hl G hG a0 x1 σ' KK h) (lw_V q2460 q2462 qs33 q100 q2463) ⟨rfl, mdX2_waitsFor⟩ ⟨Nat.le_of_ble_eq_true rfl, Nat.le_of_ble_eq_true rfl⟩ rfl rfl (Nat.le_of_ble_eq_true rfl) dX2_works_2 hp.1 hp.2 (fun _ σ1 hp1 => ?_)
  refine x_pc (pc' := 5) rfl ?_
  refine x_up (pc' := 6) (fun _ _ _ _ _ L => lv_aload_n hx hb dX2_works_5 rfl (lv_at L 0 rfl)) ?_
  refine x_up (pc' := 7) (fun _ _ _ _ _ L => lv_dup hx hb dX2_works_6 rfl) ?_
  refine x_gi X (kX2 hG) 10 (by decide) q475 (fun _ h => h) dX2_works_7 hp1 (fun v2 hp2 => ?_)
  refine x_pc (pc' := 10) rfl ?_
  refine x_up (pc' := 11) (fun _ _ _ _ _ L => lv_iload_n hx hb dX2_works_10 rfl (lv_at L 2 rfl)) ?_
  refine x_up (pc' := 12) (fun _ _ _ _ _ L => lv_iadd hx hb dX2_works_11) ?_
  refine x_pi X (kX2 hG) 10 (by decide) q475 (fun _ h => h) rfl rfl rfl dX2_works_12 hp2 (fun σ3 hp3 => ?_)
  refine x_pc (pc' := 15) rfl ?_
  refine x_up (pc' := 16) (fun _ _ _ _ _ L => lv_aload_n hx hb dX2_works_15 rfl (lv_at L 0 rfl)) ?_
  refine x_gq X (kX2 hG) 4 (by decide) q466 (fun _ h => h) dX2_works_16 hp3 (fun v4 hp4 => ?_)
  refine x_pc (pc' := 19) rfl ?_
  refine x_up (pc' := 20) (fun _ _ _ _ _ L => lv_iload_n hx hb dX2_works_19 rfl (lv_at L 1 rfl)) ?_
  refine x_up (pc' := 21) (fun _ _ _ _ _ L => lv_aload_n hx hb dX2_works_20 rfl (lv_at L 0 rfl)) ?_
  refine x_gi X (kX2 hG) 10 (by decide) q475 (fun _ h => h) dX2_works_21 hp4 (fun v5 hp5 => ?_)
  refine x_pc (pc' := 24) rfl ?_
  refine x_up (pc' := 25) (fun _ _ _ _ _ L => lv_iconst (v := (4 : Int32)) hx hb dX2_works_24 (by decide)) ?_
  refine x_up (pc' := 26) (fun _ _ _ _ _ L => lv_iadd hx hb dX2_works_25) ?_
  obtain ⟨b6, rfl, hp6⟩ := hp5
  refine x_iast X dX2_works_26 hp6 (fun σ7 hp7 => ?_)
  refine x_pc (pc' := 27) rfl ?_
  exact x_vret X hr dX2_works_27 hp7
-- X2_copiesBack
def B_X2_copiesBack_7 (κ : Nat → Nat) (kx8004 : Unit → xS → Prop) (f0 : Nat) (f1 : Nat) (f2 : Int32) : (Int32 → xS → Prop) → Int32 → xS → Prop := fun self8003 w8001 σ8002 =>
  (((4 : Int32) ≤ w8001 → (kx8004 () σ8002)) ∧ (¬ (4 : Int32) ≤ w8001 → (xrc σ8002 f1 5 ∧ xcall (fun τ L => P_X3_isDirty κ f1 w8001 τ L) σ8002 fun v8005 σ8006 => ((v8005 = 0 → (self8003 (w8001 + (1 : Int32)) σ8006)) ∧ (¬ v8005 = 0 → (xgq σ8006 f0 1 0 fun v8007 => xgi σ8006 f1 5 2 fun v8008 => xgq σ8006 f1 5 1 fun v8009 => xnn v8009 fun b8010 => xai .int σ8006 b8010 w8001 fun v8011 => xnn v8007 fun b8012 => xsi κ .int σ8006 b8012 (((4 : Int32) * v8008) + w8001) v8011 fun σ8013 => self8003 (w8001 + (1 : Int32)) σ8013))))))
def P_X2_copiesBack (κ : Nat → Nat) (a0 : Nat) (x1 : Option Nat) (σ : xS) (K : Int32 → xH → Prop) : Prop :=
  xnn x1 fun b1 => xrc σ b1 5 ∧ xcall (fun τ L => P_X3_dirtyWords κ b1 τ L) σ fun v2 σ3 => xwhile (B_X2_copiesBack_7 κ (fun e4 σ5 => xpi κ σ5 b1 5 3 (0 : Int32) fun σ6 => xgi σ6 a0 1 16 fun v7 => xpi κ σ6 a0 1 16 (v7 + v2) fun σ8 => K v2 σ8.1) a0 b1 v2) (0 : Int32) σ3
theorem mdX2_copiesBack : yX2_copiesBack.cls ≠ "java/lang/invoke/MethodHandle" ∧ yX2_copiesBack.cls ≠ "java/lang/invoke/VarHandle" ∧ (parseMethodDescriptor yX2_copiesBack.desc).map (fun d => d.parameters.length) = some 1 := by decide +kernel
set_option maxHeartbeats 4000000 in
set_option maxRecDepth 100000 in
theorem R_X2_copiesBack (l : Launch) (hl : l.stackTraces = false) (G : xG) (hG : G.1.2 = x_cl) (a0 : Nat) (x1 : Option Nat) (σ : xS) (K : Int32 → xH → Prop) (hp : P_X2_copiesBack G.2 a0 x1 σ K) : xM l yX2_copiesBack cX2_copiesBack 4 (Option.some Jvm.ClassFile.FieldType.int) 2 42 G [(.ref a0), va_rf x1] σ (xlift emI K) := by
  refine x_entry (by decide) (by simp [lg_sl, x_catq, x_cati, x_catr, x_catn]) ?_
  intro p e s m args below meth c X hr hin
  have X : xX p s m args meth c G cX2_copiesBack 4 RX2 := X
  have hx := X.1
  have hb := X.2.1
  have hts := X.2.2.2.2.1
  have hown := X.2.2.2.1
  unfold P_X2_copiesBack at hp
  refine x_same (lo' := [(0, .ref a0), (1, va_rf x1)]) (by simp [lv_args, x_catq, x_cati, x_catr, x_catn]) ?_
  refine x_up (pc' := 1) (fun _ _ _ _ _ L => lv_aloadq_n hx hb dX2_copiesBack_0 rfl (lv_at L 1 rfl)) ?_
  obtain ⟨b1, rfl, hp1⟩ := hp
  refine x_callV (em := emI) (fun r st => .int r :: st) (fun _ _ => rfl) 0 X (kX3 hG) (fun σ' KK h => R_X3_dirtyWords l hl G hG b1 σ' KK h) (lw_V q2053 q1646 q1647 q108 q1648) ⟨rfl, mdX3_dirtyWords⟩ ⟨Nat.le_of_ble_eq_true rfl, Nat.le_of_ble_eq_true rfl⟩ rfl rfl (Nat.le_of_ble_eq_true rfl) dX2_copiesBack_1 hp1.1 hp1.2 (fun v2 σ3 hp2 => ?_)
  refine x_pc (pc' := 4) rfl ?_
  refine x_upL (pc' := 5) (lo' := [(2, .int v2), (0, .ref a0), (1, .ref b1)]) (fun _ _ _ _ _ L => lv_istore_n hx hb dX2_copiesBack_4 rfl L (by decide) rfl) ?_
  refine x_up (pc' := 6) (fun _ _ _ _ _ L => lv_iconst (v := (0 : Int32)) hx hb dX2_copiesBack_5 (by decide)) ?_
  refine x_upL (pc' := 7) (lo' := [(3, .int (0 : Int32)), (2, .int v2), (0, .ref a0), (1, .ref b1)]) (fun _ _ _ _ _ L => lv_istore_n hx hb dX2_copiesBack_6 rfl L (by decide) rfl) ?_
  refine x_lo (lo' := [(3, .int (0 : Int32)), (0, .ref a0), (1, .ref b1), (2, .int v2)]) [0, 2, 3, 1] rfl ?_
  refine x_while (v0 := (0 : Int32)) (fun w4 => [(3, .int w4), (0, .ref a0), (1, .ref b1), (2, .int v2)]) hp2 (fun self5 hself6 => ?_)
  rintro y8 σ7 hp3
  unfold B_X2_copiesBack_7 at hp3
  refine x_same (lo' := [(3, .int y8), (0, .ref a0), (1, .ref b1), (2, .int v2)]) rfl ?_
  refine x_up (pc' := 8) (fun _ _ _ _ _ L => lv_iload_n hx hb dX2_copiesBack_7 rfl (lv_at L 0 rfl)) ?_
  refine x_up (pc' := 9) (fun _ _ _ _ _ L => lv_iconst (v := (4 : Int32)) hx hb dX2_copiesBack_8 (by decide)) ?_
  refine x_if (C := (4 : Int32) ≤ y8) (pt := 45) (pc' := 12) (fun _ _ _ _ _ => lv_icmp_ge (tgt := 45) hx hb dX2_copiesBack_9 (by decide)) (fun c9 => ?_) (fun c9 => ?_)
  · have hp4 := hp3.1 c9
    refine x_up (pc' := 46) (fun _ _ _ _ _ L => lv_aload_n hx hb dX2_copiesBack_45 rfl (lv_at L 2 rfl)) ?_
    refine x_up (pc' := 47) (fun _ _ _ _ _ L => lv_iconst (v := (0 : Int32)) hx hb dX2_copiesBack_46 (by decide)) ?_
    refine x_piN X (kX3 hG) 3 (by decide) q302 (fun _ h => h) rfl rfl rfl dX2_copiesBack_47 hp4 (fun σ9 hp5 => ?_)
    refine x_pc (pc' := 50) rfl ?_
    refine x_up (pc' := 51) (fun _ _ _ _ _ L => lv_aload_n hx hb dX2_copiesBack_50 rfl (lv_at L 1 rfl)) ?_
    refine x_up (pc' := 52) (fun _ _ _ _ _ L => lv_dup hx hb dX2_copiesBack_51 rfl) ?_
    refine x_gi X (kX2 hG) 16 (by decide) q487 (fun _ h => h) dX2_copiesBack_52 hp5 (fun v10 hp6 => ?_)
    refine x_pc (pc' := 55) rfl ?_
    refine x_up (pc' := 56) (fun _ _ _ _ _ L => lv_iload_n hx hb dX2_copiesBack_55 rfl (lv_at L 3 rfl)) ?_
    refine x_up (pc' := 57) (fun _ _ _ _ _ L => lv_iadd hx hb dX2_copiesBack_56) ?_
    refine x_pi X (kX2 hG) 16 (by decide) q487 (fun _ h => h) rfl rfl rfl dX2_copiesBack_57 hp6 (fun σ11 hp7 => ?_)
    refine x_pc (pc' := 60) rfl ?_
    refine x_up (pc' := 61) (fun _ _ _ _ _ L => lv_iload_n hx hb dX2_copiesBack_60 rfl (lv_at L 3 rfl)) ?_
    exact x_iret X hr rfl dX2_copiesBack_61 hp7
  · have hp8 := hp3.2 c9
    refine x_up (pc' := 13) (fun _ _ _ _ _ L => lv_aload_n hx hb dX2_copiesBack_12 rfl (lv_at L 2 rfl)) ?_
    refine x_up (pc' := 14) (fun _ _ _ _ _ L => lv_iload_n hx hb dX2_copiesBack_13 rfl (lv_at L 0 rfl)) ?_
    refine x_callV (em := emI) (fun r st => .int r :: st) (fun _ _ => rfl) 1 X (kX3 hG) (fun σ' KK h => R_X3_isDirty l hl G hG b1 y8 σ' KK h) (lw_V q2113 q2114 q2115 q108 q2116) ⟨rfl, mdX3_isDirty⟩ ⟨Nat.le_of_ble_eq_true rfl, Nat.le_of_ble_eq_true rfl⟩ rfl rfl (Nat.le_of_ble_eq_true rfl) dX2_copiesBack_14 hp8.1 hp8.2 (fun v12 σ13 hp9 => ?_)
    refine x_pc (pc' := 17) rfl ?_
    refine x_if (C := v12 = 0) (pt := 39) (pc' := 20) (fun _ _ _ _ _ => lv_if_eq (tgt := 39) hx hb dX2_copiesBack_17 (by decide)) (fun c17 => ?_) (fun c17 => ?_)
    · have hp10 := hp9.1 c17
      refine x_upL (pc' := 42) (lo' := [(3, .int (y8 + (1 : Int32))), (0, .ref a0), (1, .ref b1), (2, .int v2)]) (fun _ _ _ _ _ L => lv_iinc (v := y8 + (1 : Int32)) hx hb dX2_copiesBack_39 L (k := 0) rfl rfl (by decide) rfl) ?_
      refine x_up (pc' := 7) (fun _ _ _ _ _ L => lv_goto (tgt := 7) hx hb dX2_copiesBack_42 (by decide)) ?_
      refine x_lo (lo' := [(3, .int (y8 + (1 : Int32))), (0, .ref a0), (1, .ref b1), (2, .int v2)]) [0, 1, 2, 3] rfl ?_
      exact hself6 (y8 + (1 : Int32)) σ13 hp10
    · have hp11 := hp9.2 c17
      refine x_up (pc' := 21) (fun _ _ _ _ _ L => lv_aload_n hx hb dX2_copiesBack_20 rfl (lv_at L 1 rfl)) ?_
      refine x_gq X (kX2 hG) 0 (by decide) q458 (fun _ h => h) dX2_copiesBack_21 hp11 (fun v14 hp12 => ?_)
      refine x_pc (pc' := 24) rfl ?_
      refine x_up (pc' := 25) (fun _ _ _ _ _ L => lv_iconst (v := (4 : Int32)) hx hb dX2_copiesBack_24 (by decide)) ?_
      refine x_up (pc' := 26) (fun _ _ _ _ _ L => lv_aload_n hx hb dX2_copiesBack_25 rfl (lv_at L 2 rfl)) ?_
      refine x_giN X (kX3 hG) 2 (by decide) q299 (fun _ h => h) dX2_copiesBack_26 hp12 (fun v15 hp13 => ?_)
      refine x_pc (pc' := 29) rfl ?_
      refine x_up (pc' := 30) (fun _ _ _ _ _ L => lv_imul hx hb dX2_copiesBack_29) ?_
      refine x_up (pc' := 31) (fun _ _ _ _ _ L => lv_iload_n hx hb dX2_copiesBack_30 rfl (lv_at L 0 rfl)) ?_
      refine x_up (pc' := 32) (fun _ _ _ _ _ L => lv_iadd hx hb dX2_copiesBack_31) ?_
      refine x_up (pc' := 33) (fun _ _ _ _ _ L => lv_aload_n hx hb dX2_copiesBack_32 rfl (lv_at L 2 rfl)) ?_
      refine x_gqN X (kX3 hG) 1 (by decide) q297 (fun _ h => h) dX2_copiesBack_33 hp13 (fun v16 hp14 => ?_)
      refine x_pc (pc' := 36) rfl ?_
      refine x_up (pc' := 37) (fun _ _ _ _ _ L => lv_iload_n hx hb dX2_copiesBack_36 rfl (lv_at L 0 rfl)) ?_
      obtain ⟨b17, rfl, hp15⟩ := hp14
      refine x_iald X dX2_copiesBack_37 hp15 (fun v18 hp16 => ?_)
      refine x_pc (pc' := 38) rfl ?_
      obtain ⟨b19, rfl, hp17⟩ := hp16
      refine x_iast X dX2_copiesBack_38 hp17 (fun σ20 hp18 => ?_)
      refine x_pc (pc' := 39) rfl ?_
      refine x_upL (pc' := 42) (lo' := [(3, .int (y8 + (1 : Int32))), (0, .ref a0), (1, .ref b1), (2, .int v2)]) (fun _ _ _ _ _ L => lv_iinc (v := y8 + (1 : Int32)) hx hb dX2_copiesBack_39 L (k := 0) rfl rfl (by decide) rfl) ?_
      refine x_up (pc' := 7) (fun _ _ _ _ _ L => lv_goto (tgt := 7) hx hb dX2_copiesBack_42 (by decide)) ?_
      refine x_lo (lo' := [(3, .int (y8 + (1 : Int32))), (0, .ref a0), (1, .ref b1), (2, .int v2)]) [0, 1, 2, 3] rfl ?_
      exact hself6 (y8 + (1 : Int32)) σ20 hp18
-- X2_writesBack
def P_X2_writesBack (κ : Nat → Nat) (a0 : Nat) (x1 : Option Nat) (σ : xS) (K : Int32 → xH → Prop) : Prop :=
  xnn x1 fun b1 => xgi σ b1 5 3 fun v2 => ((v2 = 0 → (K (0 : Int32) σ.1)) ∧ (¬ v2 = 0 → (xrc σ b1 5 ∧ xcall (fun τ L => P_X3_bank κ b1 τ L) σ fun v3 σ4 => xrc σ4 b1 5 ∧ xcall (fun τ L => P_X3_dirtyWords κ b1 τ L) σ4 fun v5 σ6 => xrc σ6 a0 1 ∧ xcall (fun τ L => P_X2_works κ a0 v3 ((1 : Int32) * v5) τ L) σ6 fun _ σ7 => xrc σ7 a0 1 ∧ xcall (fun τ L => P_X2_copiesBack κ a0 (some b1) τ L) σ7 fun v8 σ9 => K v8 σ9.1)))
theorem mdX2_writesBack : yX2_writesBack.cls ≠ "java/lang/invoke/MethodHandle" ∧ yX2_writesBack.cls ≠ "java/lang/invoke/VarHandle" ∧ (parseMethodDescriptor yX2_writesBack.desc).map (fun d => d.parameters.length) = some 1 := by decide +kernel
set_option maxHeartbeats 4000000 in
set_option maxRecDepth 100000 in
theorem R_X2_writesBack (l : Launch) (hl : l.stackTraces = false) (G : xG) (hG : G.1.2 = x_cl) (a0 : Nat) (x1 : Option Nat) (σ : xS) (K : Int32 → xH → Prop) (hp : P_X2_writesBack G.2 a0 x1 σ K) : xM l yX2_writesBack cX2_writesBack 2 (Option.some Jvm.ClassFile.FieldType.int) 3 65 G [(.ref a0), va_rf x1] σ (xlift emI K) := by
  refine x_entry (by decide) (by simp [lg_sl, x_catq, x_cati, x_catr, x_catn]) ?_
  intro p e s m args below meth c X hr hin
  have X : xX p s m args meth c G cX2_writesBack 2 RX2 := X
  have hx := X.1
  have hb := X.2.1
  have hts := X.2.2.2.2.1
  have hown := X.2.2.2.1
  unfold P_X2_writesBack at hp
  refine x_same (lo' := [(0, .ref a0), (1, va_rf x1)]) (by simp [lv_args, x_catq, x_cati, x_catr, x_catn]) ?_
  refine x_up (pc' := 1) (fun _ _ _ _ _ L => lv_aloadq_n hx hb dX2_writesBack_0 rfl (lv_at L 1 rfl)) ?_
  obtain ⟨b1, rfl, hp1⟩ := hp
  refine x_giN X (kX3 hG) 3 (by decide) q302 (fun _ h => h) dX2_writesBack_1 hp1 (fun v2 hp2 => ?_)
  refine x_pc (pc' := 4) rfl ?_
  refine x_ifn (C := v2 = 0) (pt := 9) (pc' := 7) (fun _ _ _ _ _ => lv_if_ne (tgt := 9) hx hb dX2_writesBack_4 (by decide)) (fun c4 => ?_) (fun c4 => ?_)
  · have hp3 := hp2.1 c4
    refine x_up (pc' := 8) (fun _ _ _ _ _ L => lv_iconst (v := (0 : Int32)) hx hb dX2_writesBack_7 (by decide)) ?_
    exact x_iret X hr rfl dX2_writesBack_8 hp3
  · have hp4 := hp2.2 c4
    refine x_up (pc' := 10) (fun _ _ _ _ _ L => lv_aload_n hx hb dX2_writesBack_9 rfl (lv_at L 0 rfl)) ?_
    refine x_up (pc' := 11) (fun _ _ _ _ _ L => lv_aload_n hx hb dX2_writesBack_10 rfl (lv_at L 1 rfl)) ?_
    refine x_callV (em := emI) (fun r st => .int r :: st) (fun _ _ => rfl) 0 X (kX3 hG) (fun σ' KK h => R_X3_bank l hl G hG b1 σ' KK h) (lw_V q2452 q2453 q2454 q108 q2455) ⟨rfl, mdX3_bank⟩ ⟨Nat.le_of_ble_eq_true rfl, Nat.le_of_ble_eq_true rfl⟩ rfl rfl (Nat.le_of_ble_eq_true rfl) dX2_writesBack_11 hp4.1 hp4.2 (fun v3 σ4 hp5 => ?_)
    refine x_pc (pc' := 14) rfl ?_
    refine x_up (pc' := 15) (fun _ _ _ _ _ L => lv_iconst (v := (1 : Int32)) hx hb dX2_writesBack_14 (by decide)) ?_
    refine x_up (pc' := 16) (fun _ _ _ _ _ L => lv_aload_n hx hb dX2_writesBack_15 rfl (lv_at L 1 rfl)) ?_
    refine x_callV (em := emI) (fun r st => .int r :: st) (fun _ _ => rfl) 0 X (kX3 hG) (fun σ' KK h => R_X3_dirtyWords l hl G hG b1 σ' KK h) (lw_V q2053 q1646 q1647 q108 q1648) ⟨rfl, mdX3_dirtyWords⟩ ⟨Nat.le_of_ble_eq_true rfl, Nat.le_of_ble_eq_true rfl⟩ rfl rfl (Nat.le_of_ble_eq_true rfl) dX2_writesBack_16 hp5.1 hp5.2 (fun v5 σ6 hp6 => ?_)
    refine x_pc (pc' := 19) rfl ?_
    refine x_up (pc' := 20) (fun _ _ _ _ _ L => lv_imul hx hb dX2_writesBack_19) ?_
    refine x_callV (em := emV) (fun r st => st) (fun _ _ => rfl) 2 X (kX2 hG) (fun σ' KK h => R_X2_works l hl G hG a0 v3 ((1 : Int32) * v5) σ' KK h) (lw_V q2456 q2458 qs32 q100 q2459) ⟨rfl, mdX2_works⟩ ⟨Nat.le_of_ble_eq_true rfl, Nat.le_of_ble_eq_true rfl⟩ rfl rfl (Nat.le_of_ble_eq_true rfl) dX2_writesBack_20 hp6.1 hp6.2 (fun _ σ7 hp7 => ?_)
    refine x_pc (pc' := 23) rfl ?_
    refine x_up (pc' := 24) (fun _ _ _ _ _ L => lv_aload_n hx hb dX2_writesBack_23 rfl (lv_at L 0 rfl)) ?_
    refine x_up (pc' := 25) (fun _ _ _ _ _ L => lv_aload_n hx hb dX2_writesBack_24 rfl (lv_at L 1 rfl)) ?_
    refine x_callV (em := emI) (fun r st => .int r :: st) (fun _ _ => rfl) 1 X (kX2 hG) (fun σ' KK h => R_X2_copiesBack l hl G hG a0 (some b1) σ' KK h) (lw_V q2465 q2467 qs34 q100 q2468) ⟨rfl, mdX2_copiesBack⟩ ⟨Nat.le_of_ble_eq_true rfl, Nat.le_of_ble_eq_true rfl⟩ rfl rfl (Nat.le_of_ble_eq_true rfl) dX2_writesBack_25 hp7.1 hp7.2 (fun v8 σ9 hp8 => ?_)
    refine x_pc (pc' := 28) rfl ?_
    exact x_iret X hr rfl dX2_writesBack_28 hp8
-- X2_writesAllBack
def B_X2_writesAllBack_12 (κ : Nat → Nat) (K : Int32 → xH → Prop) (f0 : Nat) (f2 : Option Nat) : (Int32 → xS → Prop) → Int32 → xS → Prop := fun self13003 w13001 σ13002 =>
  xnn f2 fun b13004 => xrc σ13002 b13004 21 ∧ xcall (fun τ L => P_J35_hasNext κ b13004 τ L) σ13002 fun v13005 σ13006 => ((v13005 = 0 → (K w13001 σ13006.1)) ∧ (¬ v13005 = 0 → (xrc σ13006 b13004 21 ∧ xcall (fun τ L => P_J35_next κ b13004 τ L) σ13006 fun v13007 σ13008 => xnn v13007 fun b13009 => xrc σ13008 b13009 5 ∧ xrc σ13008 f0 1 ∧ xcall (fun τ L => P_X2_writesBack κ f0 (some b13009) τ L) σ13008 fun v13010 σ13011 => self13003 (w13001 + v13010) σ13011)))
def P_X2_writesAllBack (κ : Nat → Nat) (a0 : Nat) (σ : xS) (K : Int32 → xH → Prop) : Prop :=
  xrc σ a0 1 ∧ xcall (fun τ L => P_X2_allLines κ a0 τ L) σ fun v1 σ2 => xnn v1 fun b3 => xrc σ2 b3 3 ∧ xcall (fun τ L => P_J4_iterator κ b3 τ L) σ2 fun v4 σ5 => xwhile (B_X2_writesAllBack_12 κ K a0 v4) (0 : Int32) σ5
theorem mdX2_writesAllBack : yX2_writesAllBack.cls ≠ "java/lang/invoke/MethodHandle" ∧ yX2_writesAllBack.cls ≠ "java/lang/invoke/VarHandle" ∧ (parseMethodDescriptor yX2_writesAllBack.desc).map (fun d => d.parameters.length) = some 0 := by decide +kernel
set_option maxHeartbeats 4000000 in
set_option maxRecDepth 100000 in
theorem R_X2_writesAllBack (l : Launch) (hl : l.stackTraces = false) (G : xG) (hG : G.1.2 = x_cl) (a0 : Nat) (σ : xS) (K : Int32 → xH → Prop) (hp : P_X2_writesAllBack G.2 a0 σ K) : xM l yX2_writesAllBack cX2_writesAllBack 4 (Option.some Jvm.ClassFile.FieldType.int) 6 175 G [(.ref a0)] σ (xlift emI K) := by
  refine x_entry (by decide) (Nat.le_of_ble_eq_true rfl) ?_
  intro p e s m args below meth c X hr hin
  have X : xX p s m args meth c G cX2_writesAllBack 4 RX2 := X
  have hx := X.1
  have hb := X.2.1
  have hts := X.2.2.2.2.1
  have hown := X.2.2.2.1
  unfold P_X2_writesAllBack at hp
  refine x_same (lo' := [(0, .ref a0)]) rfl ?_
  refine x_up (pc' := 1) (fun _ _ _ _ _ L => lv_iconst (v := (0 : Int32)) hx hb dX2_writesAllBack_0 (by decide)) ?_
  refine x_upL (pc' := 2) (lo' := [(1, .int (0 : Int32)), (0, .ref a0)]) (fun _ _ _ _ _ L => lv_istore_n hx hb dX2_writesAllBack_1 rfl L (by decide) rfl) ?_
  refine x_up (pc' := 3) (fun _ _ _ _ _ L => lv_aload_n hx hb dX2_writesAllBack_2 rfl (lv_at L 1 rfl)) ?_
  refine x_callV (em := emQ) (fun r st => va_rf r :: st) (fun _ _ => rfl) 0 X (kX2 hG) (fun σ' KK h => R_X2_allLines l hl G hG a0 σ' KK h) (lw_V q2034 q2035 q2036 q100 q2037) ⟨rfl, mdX2_allLines⟩ ⟨Nat.le_of_ble_eq_true rfl, Nat.le_of_ble_eq_true rfl⟩ rfl rfl (Nat.le_of_ble_eq_true rfl) dX2_writesAllBack_3 hp.1 hp.2 (fun v1 σ2 hp1 => ?_)
  refine x_pc (pc' := 6) rfl ?_
  obtain ⟨b3, rfl, hp2⟩ := hp1
  refine x_callF (x := ⟨"java/util/List", "iterator", "()Ljava/util/Iterator;"⟩) (em := emQ) (fun r st => va_rf r :: st) (fun _ _ => rfl) 0 X (kJ4 hG) (fun σ' KK h => R_J4_iterator l hl G hG b3 σ' KK h) q1698 q1701 q1703 q105 q1705 ⟨⟨q1700, q1699, q1704, q1702, q275⟩, by decide, by decide⟩ (by decide +kernel) ⟨Nat.le_of_ble_eq_true rfl, Nat.le_of_ble_eq_true rfl⟩ rfl rfl (Nat.le_of_ble_eq_true rfl) dX2_writesAllBack_6 hp2.1 hp2.2 (fun v4 σ5 hp3 => ?_)
  refine x_pc (pc' := 11) rfl ?_
  refine x_upL (pc' := 12) (lo' := [(2, va_rf v4), (1, .int (0 : Int32)), (0, .ref a0)]) (fun _ _ _ _ _ L => lv_astoreq_n hx hb dX2_writesAllBack_11 rfl L (by decide) rfl) ?_
  refine x_lo (lo' := [(1, .int (0 : Int32)), (0, .ref a0), (2, va_rf v4)]) [1, 2, 0] rfl ?_
  refine x_while (v0 := (0 : Int32)) (fun w6 => [(1, .int w6), (0, .ref a0), (2, va_rf v4)]) hp3 (fun self7 hself8 => ?_)
  rintro y10 σ9 hp4
  unfold B_X2_writesAllBack_12 at hp4
  refine x_same (lo' := [(1, .int y10), (0, .ref a0), (2, va_rf v4)]) rfl ?_
  refine x_up (pc' := 13) (fun _ _ _ _ _ L => lv_aloadq_n hx hb dX2_writesAllBack_12 rfl (lv_at L 2 rfl)) ?_
  obtain ⟨b11, rfl, hp5⟩ := hp4
  refine x_callF (x := ⟨"java/util/Iterator", "hasNext", "()Z"⟩) (em := emI) (fun r st => .int r :: st) (fun _ _ => rfl) 0 X (kJ35 hG) (fun σ' KK h => R_J35_hasNext l hl G hG b11 σ' KK h) q1811 q1351 q1353 q141 q1355 ⟨⟨q1331, q1330, q1354, q1352, q1198⟩, by decide, by decide⟩ (by decide +kernel) ⟨Nat.le_of_ble_eq_true rfl, Nat.le_of_ble_eq_true rfl⟩ rfl rfl (Nat.le_of_ble_eq_true rfl) dX2_writesAllBack_13 hp5.1 hp5.2 (fun v12 σ13 hp6 => ?_)
  refine x_pc (pc' := 18) rfl ?_
  refine x_if (C := v12 = 0) (pt := 42) (pc' := 21) (fun _ _ _ _ _ => lv_if_eq (tgt := 42) hx hb dX2_writesAllBack_18 (by decide)) (fun c18 => ?_) (fun c18 => ?_)
  · have hp7 := hp6.1 c18
    refine x_up (pc' := 43) (fun _ _ _ _ _ L => lv_iload_n hx hb dX2_writesAllBack_42 rfl (lv_at L 0 rfl)) ?_
    exact x_iret X hr rfl dX2_writesAllBack_43 hp7
  · have hp8 := hp6.2 c18
    refine x_up (pc' := 22) (fun _ _ _ _ _ L => lv_aload_n hx hb dX2_writesAllBack_21 rfl (lv_at L 2 rfl)) ?_
    refine x_callF (x := ⟨"java/util/Iterator", "next", "()Ljava/lang/Object;"⟩) (em := emQ) (fun r st => va_rf r :: st) (fun _ _ => rfl) 0 X (kJ35 hG) (fun σ' KK h => R_J35_next l hl G hG b11 σ' KK h) q1813 q1199 q1201 q141 q1203 ⟨⟨q768, q767, q1202, q1200, q1198⟩, by decide, by decide⟩ (by decide +kernel) ⟨Nat.le_of_ble_eq_true rfl, Nat.le_of_ble_eq_true rfl⟩ rfl rfl (Nat.le_of_ble_eq_true rfl) dX2_writesAllBack_22 hp8.1 hp8.2 (fun v14 σ15 hp9 => ?_)
    refine x_pc (pc' := 27) rfl ?_
    obtain ⟨b16, rfl, hp10⟩ := hp9
    refine x_castS X (kX3 hG) q287 hp10.1 dX2_writesAllBack_27 ?_
    have hp11 := hp10.2
    refine x_pc (pc' := 30) rfl ?_
    refine x_upL (pc' := 31) (lo' := [(3, .ref b16), (1, .int y10), (0, .ref a0), (2, .ref b11)]) (fun _ _ _ _ _ L => lv_astore_n hx hb dX2_writesAllBack_30 rfl L (by decide) rfl) ?_
    refine x_up (pc' := 32) (fun _ _ _ _ _ L => lv_iload_n hx hb dX2_writesAllBack_31 rfl (lv_at L 1 rfl)) ?_
    refine x_up (pc' := 33) (fun _ _ _ _ _ L => lv_aload_n hx hb dX2_writesAllBack_32 rfl (lv_at L 2 rfl)) ?_
    refine x_up (pc' := 34) (fun _ _ _ _ _ L => lv_aload_n hx hb dX2_writesAllBack_33 rfl (lv_at L 0 rfl)) ?_
    refine x_callV (em := emI) (fun r st => .int r :: st) (fun _ _ => rfl) 1 X (kX2 hG) (fun σ' KK h => R_X2_writesBack l hl G hG a0 (some b16) σ' KK h) (lw_V q2448 q2450 qs31 q100 q2451) ⟨rfl, mdX2_writesBack⟩ ⟨Nat.le_of_ble_eq_true rfl, Nat.le_of_ble_eq_true rfl⟩ rfl rfl (Nat.le_of_ble_eq_true rfl) dX2_writesAllBack_34 hp11.1 hp11.2 (fun v17 σ18 hp12 => ?_)
    refine x_pc (pc' := 37) rfl ?_
    refine x_up (pc' := 38) (fun _ _ _ _ _ L => lv_iadd hx hb dX2_writesAllBack_37) ?_
    refine x_upL (pc' := 39) (lo' := [(1, .int (y10 + v17)), (3, .ref b16), (0, .ref a0), (2, .ref b11)]) (fun _ _ _ _ _ L => lv_istore_n hx hb dX2_writesAllBack_38 rfl L (by decide) rfl) ?_
    refine x_up (pc' := 12) (fun _ _ _ _ _ L => lv_goto (tgt := 12) hx hb dX2_writesAllBack_39 (by decide)) ?_
    refine x_lo (lo' := [(1, .int (y10 + v17)), (0, .ref a0), (2, .ref b11)]) [0, 2, 3] rfl ?_
    exact hself8 (y10 + v17) σ18 hp12
-- X2_shapes
def P_X2_shapes (κ : Nat → Nat) (a0 : Nat) (x1 : Int32) (x2 : Int32) (σ : xS) (K : Int32 → xH → Prop) (KX : Nat → xH → Prop) : Prop :=
  xcallX (fun τ L LX => P_X1_checkRange κ x1 (1 : Int32) (4 : Int32) τ L LX) σ (fun _ σ1 => xcallX (fun τ L LX => P_X1_checkRange κ x2 (1 : Int32) (4 : Int32) τ L LX) σ1 (fun _ σ4 => xrc σ4 a0 1 ∧ xcall (fun τ L => P_X2_writesAllBack κ a0 τ L) σ4 fun v7 σ8 => xrc σ8 a0 1 ∧ xcall (fun τ L => P_X2_shapesAnew κ a0 x1 x2 τ L) σ8 fun _ σ9 => K v7 σ9.1) (fun q5 σ6 => κ 0 ≤ q5 ∧ ((xrc σ6 q5 26 ∧ (KX q5 σ6.1))))) (fun q2 σ3 => κ 0 ≤ q2 ∧ ((xrc σ3 q2 26 ∧ (KX q2 σ3.1))))
theorem mdX2_shapes : yX2_shapes.cls ≠ "java/lang/invoke/MethodHandle" ∧ yX2_shapes.cls ≠ "java/lang/invoke/VarHandle" ∧ (parseMethodDescriptor yX2_shapes.desc).map (fun d => d.parameters.length) = some 2 := by decide +kernel
set_option maxHeartbeats 4000000 in
set_option maxRecDepth 100000 in
theorem R_X2_shapes (l : Launch) (hl : l.stackTraces = false) (G : xG) (hG : G.1.2 = x_cl) (a0 : Nat) (x1 : Int32) (x2 : Int32) (σ : xS) (K : Int32 → xH → Prop) (KX : Nat → xH → Prop) (hp : P_X2_shapes G.2 a0 x1 x2 σ K KX) : xMX l yX2_shapes cX2_shapes 4 (Option.some Jvm.ClassFile.FieldType.int) 9 216 G [(.ref a0), .int x1, .int x2] σ (xlift emI K) KX := by
  refine x_entryX (by decide) (Nat.le_of_ble_eq_true rfl) ?_
  intro p e s m args below meth c X hr hin hno
  have X : xX p s m args meth c G cX2_shapes 4 RX2 := X
  have hx := X.1
  have hb := X.2.1
  have hts := X.2.2.2.2.1
  have hown := X.2.2.2.1
  have hout : ∀ pc, ∀ x ∈ c.exceptionTable.toList, covers x pc = false := fun _ x hx => (hno x hx).elim
  unfold P_X2_shapes at hp
  refine x_same (lo' := [(0, .ref a0), (1, .int x1), (2, .int x2)]) rfl ?_
  refine x_up (pc' := 1) (fun _ _ _ _ _ L => lv_iload_n hx hb dX2_shapes_0 rfl (lv_at L 1 rfl)) ?_
  refine x_up (pc' := 2) (fun _ _ _ _ _ L => lv_iconst (v := (1 : Int32)) hx hb dX2_shapes_1 (by decide)) ?_
  refine x_up (pc' := 3) (fun _ _ _ _ _ L => lv_iconst (v := (4 : Int32)) hx hb dX2_shapes_2 (by decide)) ?_
  refine x_callSNX (host := "WordCache") (em := emV) (fun r st => st) (fun _ _ => rfl) 3 X (fun σ' KK KX h => R_X1_checkRange l hl G hG x1 (1 : Int32) (4 : Int32) σ' KK KX h) q2517 q2233 q99 (lw_meth q2234) mdX1_checkRange ⟨Nat.le_of_ble_eq_true rfl, Nat.le_of_ble_eq_true rfl⟩ rfl rfl (Nat.le_of_ble_eq_true rfl) dX2_shapes_3 hp (fun _ σ1 hpA3 => ?_) (fun q2 σ3 hpB3 => ?_)
  · have hp1 := hpA3
    refine x_pc (pc' := 6) rfl ?_
    refine x_up (pc' := 7) (fun _ _ _ _ _ L => lv_iload_n hx hb dX2_shapes_6 rfl (lv_at L 2 rfl)) ?_
    refine x_up (pc' := 8) (fun _ _ _ _ _ L => lv_iconst (v := (1 : Int32)) hx hb dX2_shapes_7 (by decide)) ?_
    refine x_up (pc' := 9) (fun _ _ _ _ _ L => lv_iconst (v := (4 : Int32)) hx hb dX2_shapes_8 (by decide)) ?_
    refine x_callSNX (host := "WordCache") (em := emV) (fun r st => st) (fun _ _ => rfl) 3 X (fun σ' KK KX h => R_X1_checkRange l hl G hG x2 (1 : Int32) (4 : Int32) σ' KK KX h) q2517 q2233 q99 (lw_meth q2234) mdX1_checkRange ⟨Nat.le_of_ble_eq_true rfl, Nat.le_of_ble_eq_true rfl⟩ rfl rfl (Nat.le_of_ble_eq_true rfl) dX2_shapes_9 hp1 (fun _ σ4 hpA9 => ?_) (fun q5 σ6 hpB9 => ?_)
    · have hp2 := hpA9
      refine x_pc (pc' := 12) rfl ?_
      refine x_up (pc' := 13) (fun _ _ _ _ _ L => lv_aload_n hx hb dX2_shapes_12 rfl (lv_at L 0 rfl)) ?_
      refine x_callV (em := emI) (fun r st => .int r :: st) (fun _ _ => rfl) 0 X (kX2 hG) (fun σ' KK h => R_X2_writesAllBack l hl G hG a0 σ' KK h) (lw_V q2531 q2533 qs38 q100 q2534) ⟨rfl, mdX2_writesAllBack⟩ ⟨Nat.le_of_ble_eq_true rfl, Nat.le_of_ble_eq_true rfl⟩ rfl rfl (Nat.le_of_ble_eq_true rfl) dX2_shapes_13 hp2.1 hp2.2 (fun v7 σ8 hp3 => ?_)
      refine x_pc (pc' := 16) rfl ?_
      refine x_upL (pc' := 17) (lo' := [(3, .int v7), (0, .ref a0), (1, .int x1), (2, .int x2)]) (fun _ _ _ _ _ L => lv_istore_n hx hb dX2_shapes_16 rfl L (by decide) rfl) ?_
      refine x_up (pc' := 18) (fun _ _ _ _ _ L => lv_aload_n hx hb dX2_shapes_17 rfl (lv_at L 1 rfl)) ?_
      refine x_up (pc' := 19) (fun _ _ _ _ _ L => lv_iload_n hx hb dX2_shapes_18 rfl (lv_at L 2 rfl)) ?_
      refine x_up (pc' := 20) (fun _ _ _ _ _ L => lv_iload_n hx hb dX2_shapes_19 rfl (lv_at L 3 rfl)) ?_
      refine x_callV (em := emV) (fun r st => st) (fun _ _ => rfl) 2 X (kX2 hG) (fun σ' KK h => R_X2_shapesAnew l hl G hG a0 x1 x2 σ' KK h) (lw_V q267 q269 qs0 q100 q270) ⟨rfl, mdX2_shapesAnew⟩ ⟨Nat.le_of_ble_eq_true rfl, Nat.le_of_ble_eq_true rfl⟩ rfl rfl (Nat.le_of_ble_eq_true rfl) dX2_shapes_20 hp3.1 hp3.2 (fun _ σ9 hp4 => ?_)
      refine x_pc (pc' := 23) rfl ?_
      refine x_up (pc' := 24) (fun _ _ _ _ _ L => lv_iload_n hx hb dX2_shapes_23 rfl (lv_at L 0 rfl)) ?_
      refine x_vx ?_; exact x_iret X hr rfl dX2_shapes_24 hp4
    · have hp5 := hpB9
      obtain ⟨hq9, hp6⟩ := hp5
      obtain ⟨hr9, hp7⟩ := hp6
      exact x_out X (kX6 hG) (hout 9) hr9 hq9 hp7
  · have hp8 := hpB3
    obtain ⟨hq3, hp9⟩ := hp8
    obtain ⟨hr3, hp10⟩ := hp9
    exact x_out X (kX6 hG) (hout 3) hr3 hq3 hp10
-- X2_waits
def P_X2_waits (κ : Nat → Nat) (a0 : Nat) (x1 : Int32) (σ : xS) (K : Int32 → xH → Prop) (KX : Nat → xH → Prop) : Prop :=
  xcallX (fun τ L LX => P_X1_checkRange κ x1 (1 : Int32) (99 : Int32) τ L LX) σ (fun _ σ1 => xgi σ1 a0 1 10 fun v4 => xpi κ σ1 a0 1 10 (v4 + x1) fun σ5 => xgi σ5 a0 1 10 fun v6 => K v6 σ5.1) (fun q2 σ3 => κ 0 ≤ q2 ∧ ((xrc σ3 q2 26 ∧ (KX q2 σ3.1))))
theorem mdX2_waits : yX2_waits.cls ≠ "java/lang/invoke/MethodHandle" ∧ yX2_waits.cls ≠ "java/lang/invoke/VarHandle" ∧ (parseMethodDescriptor yX2_waits.desc).map (fun d => d.parameters.length) = some 1 := by decide +kernel
set_option maxHeartbeats 4000000 in
set_option maxRecDepth 100000 in
theorem R_X2_waits (l : Launch) (hl : l.stackTraces = false) (G : xG) (hG : G.1.2 = x_cl) (a0 : Nat) (x1 : Int32) (σ : xS) (K : Int32 → xH → Prop) (KX : Nat → xH → Prop) (hp : P_X2_waits G.2 a0 x1 σ K KX) : xMX l yX2_waits cX2_waits 2 (Option.some Jvm.ClassFile.FieldType.int) 9 189 G [(.ref a0), .int x1] σ (xlift emI K) KX := by
  refine x_entryX (by decide) (Nat.le_of_ble_eq_true rfl) ?_
  intro p e s m args below meth c X hr hin hno
  have X : xX p s m args meth c G cX2_waits 2 RX2 := X
  have hx := X.1
  have hb := X.2.1
  have hts := X.2.2.2.2.1
  have hown := X.2.2.2.1
  have hout : ∀ pc, ∀ x ∈ c.exceptionTable.toList, covers x pc = false := fun _ x hx => (hno x hx).elim
  unfold P_X2_waits at hp
  refine x_same (lo' := [(0, .ref a0), (1, .int x1)]) rfl ?_
  refine x_up (pc' := 1) (fun _ _ _ _ _ L => lv_iload_n hx hb dX2_waits_0 rfl (lv_at L 1 rfl)) ?_
  refine x_up (pc' := 2) (fun _ _ _ _ _ L => lv_iconst (v := (1 : Int32)) hx hb dX2_waits_1 (by decide)) ?_
  refine x_up (pc' := 4) (fun _ _ _ _ _ L => lv_bipush (v := (99 : Int32)) hx hb dX2_waits_2 (by decide)) ?_
  refine x_callSNX (host := "WordCache") (em := emV) (fun r st => st) (fun _ _ => rfl) 3 X (fun σ' KK KX h => R_X1_checkRange l hl G hG x1 (1 : Int32) (99 : Int32) σ' KK KX h) q2517 q2233 q99 (lw_meth q2234) mdX1_checkRange ⟨Nat.le_of_ble_eq_true rfl, Nat.le_of_ble_eq_true rfl⟩ rfl rfl (Nat.le_of_ble_eq_true rfl) dX2_waits_4 hp (fun _ σ1 hpA4 => ?_) (fun q2 σ3 hpB4 => ?_)
  · have hp1 := hpA4
    refine x_pc (pc' := 7) rfl ?_
    refine x_up (pc' := 8) (fun _ _ _ _ _ L => lv_aload_n hx hb dX2_waits_7 rfl (lv_at L 0 rfl)) ?_
    refine x_up (pc' := 9) (fun _ _ _ _ _ L => lv_dup hx hb dX2_waits_8 rfl) ?_
    refine x_gi X (kX2 hG) 10 (by decide) q475 (fun _ h => h) dX2_waits_9 hp1 (fun v4 hp2 => ?_)
    refine x_pc (pc' := 12) rfl ?_
    refine x_up (pc' := 13) (fun _ _ _ _ _ L => lv_iload_n hx hb dX2_waits_12 rfl (lv_at L 1 rfl)) ?_
    refine x_up (pc' := 14) (fun _ _ _ _ _ L => lv_iadd hx hb dX2_waits_13) ?_
    refine x_pi X (kX2 hG) 10 (by decide) q475 (fun _ h => h) rfl rfl rfl dX2_waits_14 hp2 (fun σ5 hp3 => ?_)
    refine x_pc (pc' := 17) rfl ?_
    refine x_up (pc' := 18) (fun _ _ _ _ _ L => lv_aload_n hx hb dX2_waits_17 rfl (lv_at L 0 rfl)) ?_
    refine x_gi X (kX2 hG) 10 (by decide) q475 (fun _ h => h) dX2_waits_18 hp3 (fun v6 hp4 => ?_)
    refine x_pc (pc' := 21) rfl ?_
    refine x_vx ?_; exact x_iret X hr rfl dX2_waits_21 hp4
  · have hp5 := hpB4
    obtain ⟨hq4, hp6⟩ := hp5
    obtain ⟨hr4, hp7⟩ := hp6
    exact x_out X (kX6 hG) (hout 4) hr4 hq4 hp7
-- X1_checkAddress
def P_X1_checkAddress (κ : Nat → Nat) (x0 : Int32) (σ : xS) (K : Unit → xH → Prop) (KX : Nat → xH → Prop) : Prop :=
  xcallX (fun τ L LX => P_X1_checkRange κ x0 (0 : Int32) (63 : Int32) τ L LX) σ (fun _ σ1 => K () σ1.1) (fun q2 σ3 => κ 0 ≤ q2 ∧ ((xrc σ3 q2 26 ∧ (KX q2 σ3.1))))
theorem mdX1_checkAddress : yX1_checkAddress.cls ≠ "java/lang/invoke/MethodHandle" ∧ yX1_checkAddress.cls ≠ "java/lang/invoke/VarHandle" ∧ (parseMethodDescriptor yX1_checkAddress.desc).map (fun d => d.parameters.length) = some 1 := by decide +kernel
set_option maxHeartbeats 4000000 in
set_option maxRecDepth 100000 in
theorem R_X1_checkAddress (l : Launch) (hl : l.stackTraces = false) (G : xG) (hG : G.1.2 = x_cl) (x0 : Int32) (σ : xS) (K : Unit → xH → Prop) (KX : Nat → xH → Prop) (hp : P_X1_checkAddress G.2 x0 σ K KX) : xMX l yX1_checkAddress cX1_checkAddress 1 (Option.none : Option Jvm.ClassFile.FieldType) 9 189 G [.int x0] σ (xlift emV K) KX := by
  refine x_entryX (by decide) (Nat.le_of_ble_eq_true rfl) ?_
  intro p e s m args below meth c X hr hin hno
  have X : xX p s m args meth c G cX1_checkAddress 1 RX1 := X
  have hx := X.1
  have hb := X.2.1
  have hts := X.2.2.2.2.1
  have hown := X.2.2.2.1
  have hout : ∀ pc, ∀ x ∈ c.exceptionTable.toList, covers x pc = false := fun _ x hx => (hno x hx).elim
  unfold P_X1_checkAddress at hp
  refine x_same (lo' := [(0, .int x0)]) rfl ?_
  refine x_up (pc' := 1) (fun _ _ _ _ _ L => lv_iload_n hx hb dX1_checkAddress_0 rfl (lv_at L 0 rfl)) ?_
  refine x_up (pc' := 2) (fun _ _ _ _ _ L => lv_iconst (v := (0 : Int32)) hx hb dX1_checkAddress_1 (by decide)) ?_
  refine x_up (pc' := 4) (fun _ _ _ _ _ L => lv_bipush (v := (63 : Int32)) hx hb dX1_checkAddress_2 (by decide)) ?_
  refine x_callSX (em := emV) (fun r st => st) (fun _ _ => rfl) 3 X (fun σ' KK KX h => R_X1_checkRange l hl G hG x0 (0 : Int32) (63 : Int32) σ' KK KX h) (lw_S q2232 q2233 q99 q2234) mdX1_checkRange ⟨Nat.le_of_ble_eq_true rfl, Nat.le_of_ble_eq_true rfl⟩ rfl rfl (Nat.le_of_ble_eq_true rfl) dX1_checkAddress_4 hp (fun _ σ1 hpA4 => ?_) (fun q2 σ3 hpB4 => ?_)
  · have hp1 := hpA4
    refine x_pc (pc' := 7) rfl ?_
    refine x_vx ?_; exact x_vret X hr dX1_checkAddress_7 hp1
  · have hp2 := hpB4
    obtain ⟨hq4, hp3⟩ := hp2
    obtain ⟨hr4, hp4⟩ := hp3
    exact x_out X (kX6 hG) (hout 4) hr4 hq4 hp4
-- X1_checkWord
def P_X1_checkWord (κ : Nat → Nat) (x0 : Int32) (σ : xS) (K : Unit → xH → Prop) (KX : Nat → xH → Prop) : Prop :=
  xcallX (fun τ L LX => P_X1_checkRange κ x0 (-999 : Int32) (999 : Int32) τ L LX) σ (fun _ σ1 => K () σ1.1) (fun q2 σ3 => κ 0 ≤ q2 ∧ ((xrc σ3 q2 26 ∧ (KX q2 σ3.1))))
theorem mdX1_checkWord : yX1_checkWord.cls ≠ "java/lang/invoke/MethodHandle" ∧ yX1_checkWord.cls ≠ "java/lang/invoke/VarHandle" ∧ (parseMethodDescriptor yX1_checkWord.desc).map (fun d => d.parameters.length) = some 1 := by decide +kernel
set_option maxHeartbeats 4000000 in
set_option maxRecDepth 100000 in
theorem R_X1_checkWord (l : Launch) (hl : l.stackTraces = false) (G : xG) (hG : G.1.2 = x_cl) (x0 : Int32) (σ : xS) (K : Unit → xH → Prop) (KX : Nat → xH → Prop) (hp : P_X1_checkWord G.2 x0 σ K KX) : xMX l yX1_checkWord cX1_checkWord 1 (Option.none : Option Jvm.ClassFile.FieldType) 9 189 G [.int x0] σ (xlift emV K) KX := by
  refine x_entryX (by decide) (Nat.le_of_ble_eq_true rfl) ?_
  intro p e s m args below meth c X hr hin hno
  have X : xX p s m args meth c G cX1_checkWord 1 RX1 := X
  have hx := X.1
  have hb := X.2.1
  have hts := X.2.2.2.2.1
  have hown := X.2.2.2.1
  have hout : ∀ pc, ∀ x ∈ c.exceptionTable.toList, covers x pc = false := fun _ x hx => (hno x hx).elim
  unfold P_X1_checkWord at hp
  refine x_same (lo' := [(0, .int x0)]) rfl ?_
  refine x_up (pc' := 1) (fun _ _ _ _ _ L => lv_iload_n hx hb dX1_checkWord_0 rfl (lv_at L 0 rfl)) ?_
  refine x_up (pc' := 4) (fun _ _ _ _ _ L => lv_sipush (v := (-999 : Int32)) hx hb dX1_checkWord_1 (by decide)) ?_
  refine x_up (pc' := 7) (fun _ _ _ _ _ L => lv_sipush (v := (999 : Int32)) hx hb dX1_checkWord_4 (by decide)) ?_
  refine x_callSX (em := emV) (fun r st => st) (fun _ _ => rfl) 3 X (fun σ' KK KX h => R_X1_checkRange l hl G hG x0 (-999 : Int32) (999 : Int32) σ' KK KX h) (lw_S q2232 q2233 q99 q2234) mdX1_checkRange ⟨Nat.le_of_ble_eq_true rfl, Nat.le_of_ble_eq_true rfl⟩ rfl rfl (Nat.le_of_ble_eq_true rfl) dX1_checkWord_7 hp (fun _ σ1 hpA7 => ?_) (fun q2 σ3 hpB7 => ?_)
  · have hp1 := hpA7
    refine x_pc (pc' := 10) rfl ?_
    refine x_vx ?_; exact x_vret X hr dX1_checkWord_10 hp1
  · have hp2 := hpB7
    obtain ⟨hq7, hp3⟩ := hp2
    obtain ⟨hr7, hp4⟩ := hp3
    exact x_out X (kX6 hG) (hout 7) hr7 hq7 hp4
-- J22_init
def P_J22_init (κ : Nat → Nat) (a0 : Nat) (σ : xS) (K : Unit → xH → Prop) : Prop :=
  K () σ.1
theorem mdJ22_init : yJ22_init.cls ≠ "java/lang/invoke/MethodHandle" ∧ yJ22_init.cls ≠ "java/lang/invoke/VarHandle" ∧ (parseMethodDescriptor yJ22_init.desc).map (fun d => d.parameters.length) = some 0 := by decide +kernel
set_option maxHeartbeats 4000000 in
set_option maxRecDepth 100000 in
theorem R_J22_init (l : Launch) (hl : l.stackTraces = false) (G : xG) (hG : G.1.2 = x_cl) (a0 : Nat) (σ : xS) (K : Unit → xH → Prop) (hp : P_J22_init G.2 a0 σ K) : xM l yJ22_init cJ22_init 1 (Option.none : Option Jvm.ClassFile.FieldType) 1 20 G [(.ref a0)] σ (xlift emV K) := by
  refine x_entry (by decide) (Nat.le_of_ble_eq_true rfl) ?_
  intro p e s m args below meth c X hr hin
  have X : xX p s m args meth c G cJ22_init 1 RJ22 := X
  have hx := X.1
  have hb := X.2.1
  have hts := X.2.2.2.2.1
  have hown := X.2.2.2.1
  unfold P_J22_init at hp
  refine x_same (lo' := [(0, .ref a0)]) rfl ?_
  refine x_up (pc' := 1) (fun _ _ _ _ _ L => lv_aload_n hx hb dJ22_init_0 rfl (lv_at L 0 rfl)) ?_
  refine x_objInit X q2438 q170 q171 dJ22_init_1 (Nat.le_of_ble_eq_true rfl) ⟨Nat.le_of_ble_eq_true rfl, Nat.le_of_ble_eq_true rfl⟩ ?_
  refine x_pc (pc' := 4) rfl ?_
  exact x_vret X hr dJ22_init_4 hp
-- J23_init
def P_J23_init (κ : Nat → Nat) (a0 : Nat) (x1 : Int32) (σ : xS) (K : Unit → xH → Prop) : Prop :=
  xcall (fun τ L => P_J22_init κ a0 τ L) σ fun _ σ1 => xpi κ σ1 a0 14 0 x1 fun σ2 => K () σ2.1
theorem mdJ23_init : yJ23_init.cls ≠ "java/lang/invoke/MethodHandle" ∧ yJ23_init.cls ≠ "java/lang/invoke/VarHandle" ∧ (parseMethodDescriptor yJ23_init.desc).map (fun d => d.parameters.length) = some 1 := by decide +kernel
set_option maxHeartbeats 4000000 in
set_option maxRecDepth 100000 in
theorem R_J23_init (l : Launch) (hl : l.stackTraces = false) (G : xG) (hG : G.1.2 = x_cl) (a0 : Nat) (x1 : Int32) (σ : xS) (K : Unit → xH → Prop) (hp : P_J23_init G.2 a0 x1 σ K) : xM l yJ23_init cJ23_init 2 (Option.none : Option Jvm.ClassFile.FieldType) 2 40 G [(.ref a0), .int x1] σ (xlift emV K) := by
  refine x_entry (by decide) (Nat.le_of_ble_eq_true rfl) ?_
  intro p e s m args below meth c X hr hin
  have X : xX p s m args meth c G cJ23_init 2 RJ23 := X
  have hx := X.1
  have hb := X.2.1
  have hts := X.2.2.2.2.1
  have hown := X.2.2.2.1
  unfold P_J23_init at hp
  refine x_same (lo' := [(0, .ref a0), (1, .int x1)]) rfl ?_
  refine x_up (pc' := 1) (fun _ _ _ _ _ L => lv_aload_n hx hb dJ23_init_0 rfl (lv_at L 0 rfl)) ?_
  refine x_callI 0 X (fun σ' KK h => R_J22_init l hl G hG a0 σ' KK h) (lw_meth q2437) q127 q2435 q2436 rfl mdJ22_init ⟨Nat.le_of_ble_eq_true rfl, Nat.le_of_ble_eq_true rfl⟩ rfl rfl (Nat.le_of_ble_eq_true rfl) dJ23_init_1 hp (fun σ1 hp1 => ?_)
  refine x_pc (pc' := 4) rfl ?_
  refine x_up (pc' := 5) (fun _ _ _ _ _ L => lv_aload_n hx hb dJ23_init_4 rfl (lv_at L 0 rfl)) ?_
  refine x_up (pc' := 6) (fun _ _ _ _ _ L => lv_iload_n hx hb dJ23_init_5 rfl (lv_at L 1 rfl)) ?_
  refine x_piF X (kJ23 hG) 0 (by decide) q2439 (fun _ h => h) rfl hin rfl rfl rfl dJ23_init_6 hp1 (fun σ2 hp2 => ?_)
  refine x_pc (pc' := 9) rfl ?_
  exact x_vret X hr dJ23_init_9 hp2
-- J23_valueOf
def P_J23_valueOf (κ : Nat → Nat) (x0 : Int32) (σ : xS) (K : Option Nat → xH → Prop) : Prop :=
  ((x0 < (-128 : Int32) → (xnew κ σ 14 1 [.int 0] fun q1 σ2 => xcall (fun τ L => P_J23_init κ q1 x0 τ L) σ2 fun _ σ3 => K (some q1) σ3.1)) ∧ (¬ x0 < (-128 : Int32) → ((((127 : Int32) < x0 → (xnew κ σ 14 1 [.int 0] fun q4 σ5 => xcall (fun τ L => P_J23_init κ q4 x0 τ L) σ5 fun _ σ6 => K (some q4) σ6.1)) ∧ (¬ (127 : Int32) < x0 → (xaq σ (κ 1) (x0 + (128 : Int32)) fun v7 => K v7 σ.1))))))
theorem mdJ23_valueOf : yJ23_valueOf.cls ≠ "java/lang/invoke/MethodHandle" ∧ yJ23_valueOf.cls ≠ "java/lang/invoke/VarHandle" ∧ (parseMethodDescriptor yJ23_valueOf.desc).map (fun d => d.parameters.length) = some 1 := by decide +kernel
set_option maxHeartbeats 4000000 in
set_option maxRecDepth 100000 in
theorem R_J23_valueOf (l : Launch) (hl : l.stackTraces = false) (G : xG) (hG : G.1.2 = x_cl) (x0 : Int32) (σ : xS) (K : Option Nat → xH → Prop) (hp : P_J23_valueOf G.2 x0 σ K) : xM l yJ23_valueOf cJ23_valueOf 1 (Option.some (Jvm.ClassFile.FieldType.object "java/lang/Integer")) 3 61 G [.int x0] σ (xlift emQ K) := by
  refine x_entry (by decide) (Nat.le_of_ble_eq_true rfl) ?_
  intro p e s m args below meth c X hr hin
  have X : xX p s m args meth c G cJ23_valueOf 1 RJ23 := X
  have hx := X.1
  have hb := X.2.1
  have hts := X.2.2.2.2.1
  have hown := X.2.2.2.1
  unfold P_J23_valueOf at hp
  refine x_same (lo' := [(0, .int x0)]) rfl ?_
  refine x_up (pc' := 1) (fun _ _ _ _ _ L => lv_iload_n hx hb dJ23_valueOf_0 rfl (lv_at L 0 rfl)) ?_
  refine x_up (pc' := 3) (fun _ _ _ _ _ L => lv_bipush (v := (-128 : Int32)) hx hb dJ23_valueOf_1 (by decide)) ?_
  refine x_if (C := x0 < (-128 : Int32)) (pt := 23) (pc' := 6) (fun _ _ _ _ _ => lv_icmp_lt (tgt := 23) hx hb dJ23_valueOf_3 (by decide)) (fun c3 => ?_) (fun c3 => ?_)
  · have hp1 := hp.1 c3
    refine x_new X (kJ23 hG) q673 q2431 q128 (fs := [.int 0]) x_dflt_J23 dJ23_valueOf_23 hp1 (fun q1 σ2 hp2 => ?_)
    refine x_pc (pc' := 26) rfl ?_
    refine x_up (pc' := 27) (fun _ _ _ _ _ L => lv_dup hx hb dJ23_valueOf_26 rfl) ?_
    refine x_up (pc' := 28) (fun _ _ _ _ _ L => lv_iload_n hx hb dJ23_valueOf_27 rfl (lv_at L 0 rfl)) ?_
    refine x_callI 1 X (fun σ' KK h => R_J23_init l hl G hG q1 x0 σ' KK h) (lw_meth q2434) q128 q2432 q2433 rfl mdJ23_init ⟨Nat.le_of_ble_eq_true rfl, Nat.le_of_ble_eq_true rfl⟩ rfl rfl (Nat.le_of_ble_eq_true rfl) dJ23_valueOf_28 hp2 (fun σ3 hp3 => ?_)
    refine x_pc (pc' := 31) rfl ?_
    exact x_aret X hr (Or.inl ⟨_, rfl⟩) dJ23_valueOf_31 (some q1) hp3
  · have hp4 := hp.2 c3
    refine x_up (pc' := 7) (fun _ _ _ _ _ L => lv_iload_n hx hb dJ23_valueOf_6 rfl (lv_at L 0 rfl)) ?_
    refine x_gets (C := "java/lang/Integer$IntegerCache") (n := "high") (d := "I") (v := .int (127 : Int32)) X (by simp [x_sts]) q2427 (fun _ h => h) dJ23_valueOf_7 ?_
    refine x_pc (pc' := 10) rfl ?_
    refine x_if (C := (127 : Int32) < x0) (pt := 23) (pc' := 13) (fun _ _ _ _ _ => lv_icmp_gt (tgt := 23) hx hb dJ23_valueOf_10 (by decide)) (fun c10 => ?_) (fun c10 => ?_)
    · have hp5 := hp4.1 c10
      refine x_new X (kJ23 hG) q673 q2431 q128 (fs := [.int 0]) x_dflt_J23 dJ23_valueOf_23 hp5 (fun q4 σ5 hp6 => ?_)
      refine x_pc (pc' := 26) rfl ?_
      refine x_up (pc' := 27) (fun _ _ _ _ _ L => lv_dup hx hb dJ23_valueOf_26 rfl) ?_
      refine x_up (pc' := 28) (fun _ _ _ _ _ L => lv_iload_n hx hb dJ23_valueOf_27 rfl (lv_at L 0 rfl)) ?_
      refine x_callI 1 X (fun σ' KK h => R_J23_init l hl G hG q4 x0 σ' KK h) (lw_meth q2434) q128 q2432 q2433 rfl mdJ23_init ⟨Nat.le_of_ble_eq_true rfl, Nat.le_of_ble_eq_true rfl⟩ rfl rfl (Nat.le_of_ble_eq_true rfl) dJ23_valueOf_28 hp6 (fun σ6 hp7 => ?_)
      refine x_pc (pc' := 31) rfl ?_
      exact x_aret X hr (Or.inl ⟨_, rfl⟩) dJ23_valueOf_31 (some q4) hp7
    · have hp8 := hp4.2 c10
      refine x_gets (C := "java/lang/Integer$IntegerCache") (n := "cache") (d := "[Ljava/lang/Integer;") (v := .ref (G.2 1)) X (by simp [x_sts]) q2429 (fun _ h => h) dJ23_valueOf_13 ?_
      refine x_pc (pc' := 16) rfl ?_
      refine x_up (pc' := 17) (fun _ _ _ _ _ L => lv_iload_n hx hb dJ23_valueOf_16 rfl (lv_at L 0 rfl)) ?_
      refine x_up (pc' := 20) (fun _ _ _ _ _ L => lv_sipush (v := (128 : Int32)) hx hb dJ23_valueOf_17 (by decide)) ?_
      refine x_up (pc' := 21) (fun _ _ _ _ _ L => lv_iadd hx hb dJ23_valueOf_20) ?_
      refine x_aald X dJ23_valueOf_21 hp8 (fun v7 hp9 => ?_)
      refine x_pc (pc' := 22) rfl ?_
      exact x_aret X hr (Or.inl ⟨_, rfl⟩) dJ23_valueOf_22 v7 hp9
-- X3_becomesEmpty
def P_X3_becomesEmpty (κ : Nat → Nat) (a0 : Nat) (σ : xS) (K : Unit → xH → Prop) : Prop :=
  xpi κ σ a0 5 2 (-1 : Int32) fun σ1 => xpi κ σ1 a0 5 3 (0 : Int32) fun σ2 => xpi κ σ2 a0 5 4 (0 : Int32) fun σ3 => xpi κ σ3 a0 5 5 (-1 : Int32) fun σ4 => xpi κ σ4 a0 5 6 (-1 : Int32) fun σ5 => xpi κ σ5 a0 5 7 (-1 : Int32) fun σ6 => K () σ6.1
theorem mdX3_becomesEmpty : yX3_becomesEmpty.cls ≠ "java/lang/invoke/MethodHandle" ∧ yX3_becomesEmpty.cls ≠ "java/lang/invoke/VarHandle" ∧ (parseMethodDescriptor yX3_becomesEmpty.desc).map (fun d => d.parameters.length) = some 0 := by decide +kernel
set_option maxHeartbeats 4000000 in
set_option maxRecDepth 100000 in
theorem R_X3_becomesEmpty (l : Launch) (hl : l.stackTraces = false) (G : xG) (hG : G.1.2 = x_cl) (a0 : Nat) (σ : xS) (K : Unit → xH → Prop) (hp : P_X3_becomesEmpty G.2 a0 σ K) : xM l yX3_becomesEmpty cX3_becomesEmpty 1 (Option.none : Option Jvm.ClassFile.FieldType) 0 0 G [(.ref a0)] σ (xlift emV K) := by
  refine x_entry (by decide) (Nat.le_of_ble_eq_true rfl) ?_
  intro p e s m args below meth c X hr hin
  have X : xX p s m args meth c G cX3_becomesEmpty 1 RX3 := X
  have hx := X.1
  have hb := X.2.1
  have hts := X.2.2.2.2.1
  have hown := X.2.2.2.1
  unfold P_X3_becomesEmpty at hp
  refine x_same (lo' := [(0, .ref a0)]) rfl ?_
  refine x_up (pc' := 1) (fun _ _ _ _ _ L => lv_aload_n hx hb dX3_becomesEmpty_0 rfl (lv_at L 0 rfl)) ?_
  refine x_up (pc' := 2) (fun _ _ _ _ _ L => lv_iconst (v := (-1 : Int32)) hx hb dX3_becomesEmpty_1 (by decide)) ?_
  refine x_pi X (kX3 hG) 2 (by decide) q298 (fun _ h => h) rfl rfl rfl dX3_becomesEmpty_2 hp (fun σ1 hp1 => ?_)
  refine x_pc (pc' := 5) rfl ?_
  refine x_up (pc' := 6) (fun _ _ _ _ _ L => lv_aload_n hx hb dX3_becomesEmpty_5 rfl (lv_at L 0 rfl)) ?_
  refine x_up (pc' := 7) (fun _ _ _ _ _ L => lv_iconst (v := (0 : Int32)) hx hb dX3_becomesEmpty_6 (by decide)) ?_
  refine x_pi X (kX3 hG) 3 (by decide) q301 (fun _ h => h) rfl rfl rfl dX3_becomesEmpty_7 hp1 (fun σ2 hp2 => ?_)
  refine x_pc (pc' := 10) rfl ?_
  refine x_up (pc' := 11) (fun _ _ _ _ _ L => lv_aload_n hx hb dX3_becomesEmpty_10 rfl (lv_at L 0 rfl)) ?_
  refine x_up (pc' := 12) (fun _ _ _ _ _ L => lv_iconst (v := (0 : Int32)) hx hb dX3_becomesEmpty_11 (by decide)) ?_
  refine x_pi X (kX3 hG) 4 (by decide) q304 (fun _ h => h) rfl rfl rfl dX3_becomesEmpty_12 hp2 (fun σ3 hp3 => ?_)
  refine x_pc (pc' := 15) rfl ?_
  refine x_up (pc' := 16) (fun _ _ _ _ _ L => lv_aload_n hx hb dX3_becomesEmpty_15 rfl (lv_at L 0 rfl)) ?_
  refine x_up (pc' := 17) (fun _ _ _ _ _ L => lv_iconst (v := (-1 : Int32)) hx hb dX3_becomesEmpty_16 (by decide)) ?_
  refine x_pi X (kX3 hG) 5 (by decide) q307 (fun _ h => h) rfl rfl rfl dX3_becomesEmpty_17 hp3 (fun σ4 hp4 => ?_)
  refine x_pc (pc' := 20) rfl ?_
  refine x_up (pc' := 21) (fun _ _ _ _ _ L => lv_aload_n hx hb dX3_becomesEmpty_20 rfl (lv_at L 0 rfl)) ?_
  refine x_up (pc' := 22) (fun _ _ _ _ _ L => lv_iconst (v := (-1 : Int32)) hx hb dX3_becomesEmpty_21 (by decide)) ?_
  refine x_pi X (kX3 hG) 6 (by decide) q310 (fun _ h => h) rfl rfl rfl dX3_becomesEmpty_22 hp4 (fun σ5 hp5 => ?_)
  refine x_pc (pc' := 25) rfl ?_
  refine x_up (pc' := 26) (fun _ _ _ _ _ L => lv_aload_n hx hb dX3_becomesEmpty_25 rfl (lv_at L 0 rfl)) ?_
  refine x_up (pc' := 27) (fun _ _ _ _ _ L => lv_iconst (v := (-1 : Int32)) hx hb dX3_becomesEmpty_26 (by decide)) ?_
  refine x_pi X (kX3 hG) 7 (by decide) q313 (fun _ h => h) rfl rfl rfl dX3_becomesEmpty_27 hp5 (fun σ6 hp6 => ?_)
  refine x_pc (pc' := 30) rfl ?_
  exact x_vret X hr dX3_becomesEmpty_30 hp6
-- X2_deviceWrites
def P_X2_deviceWrites (κ : Nat → Nat) (a0 : Nat) (x1 : Int32) (x2 : Int32) (σ : xS) (K : Int32 → xH → Prop) (KX : Nat → xH → Prop) : Prop :=
  xcallX (fun τ L LX => P_X1_checkAddress κ x1 τ L LX) σ (fun _ σ1 => xcallX (fun τ L LX => P_X1_checkWord κ x2 τ L LX) σ1 (fun _ σ4 => xrc σ4 a0 1 ∧ xcall (fun τ L => P_X2_holder κ a0 (x1 / (4 : Int32)) τ L) σ4 fun v7 σ8 => ((v7 = none → (xgq σ8 a0 1 0 fun v10 => xnn v10 fun b11 => xsi κ .int σ8 b11 x1 x2 fun σ12 => xgq σ12 a0 1 1 fun v13 => xcall (fun τ L => P_J23_valueOf κ x1 τ L) σ12 fun v14 σ15 => xcall (fun τ L => P_J23_valueOf κ x2 τ L) σ15 fun v16 σ17 => xnn v13 fun b18 => xrc σ17 b18 2 ∧ xcall (fun τ L => P_J1_put κ b18 v14 v16 τ L) σ17 fun v19 σ20 => xgi σ20 a0 1 19 fun v21 => xpi κ σ20 a0 1 19 (v21 + (1 : Int32)) fun σ22 => K (0 : Int32) σ22.1)) ∧ (∀ b9 : Nat, v7 = some b9 → (xrc σ8 a0 1 ∧ xcall (fun τ L => P_X2_writesBack κ a0 (some b9) τ L) σ8 fun v23 σ24 => xrc σ24 b9 5 ∧ xcall (fun τ L => P_X3_becomesEmpty κ b9 τ L) σ24 fun _ σ25 => xgq σ25 a0 1 0 fun v26 => xnn v26 fun b27 => xsi κ .int σ25 b27 x1 x2 fun σ28 => xgq σ28 a0 1 1 fun v29 => xcall (fun τ L => P_J23_valueOf κ x1 τ L) σ28 fun v30 σ31 => xcall (fun τ L => P_J23_valueOf κ x2 τ L) σ31 fun v32 σ33 => xnn v29 fun b34 => xrc σ33 b34 2 ∧ xcall (fun τ L => P_J1_put κ b34 v30 v32 τ L) σ33 fun v35 σ36 => xgi σ36 a0 1 19 fun v37 => xpi κ σ36 a0 1 19 (v37 + (1 : Int32)) fun σ38 => K v23 σ38.1)))) (fun q5 σ6 => κ 0 ≤ q5 ∧ ((xrc σ6 q5 26 ∧ (KX q5 σ6.1))))) (fun q2 σ3 => κ 0 ≤ q2 ∧ ((xrc σ3 q2 26 ∧ (KX q2 σ3.1))))
theorem mdX2_deviceWrites : yX2_deviceWrites.cls ≠ "java/lang/invoke/MethodHandle" ∧ yX2_deviceWrites.cls ≠ "java/lang/invoke/VarHandle" ∧ (parseMethodDescriptor yX2_deviceWrites.desc).map (fun d => d.parameters.length) = some 2 := by decide +kernel
set_option maxHeartbeats 4000000 in
set_option maxRecDepth 100000 in
theorem R_X2_deviceWrites (l : Launch) (hl : l.stackTraces = false) (G : xG) (hG : G.1.2 = x_cl) (a0 : Nat) (x1 : Int32) (x2 : Int32) (σ : xS) (K : Int32 → xH → Prop) (KX : Nat → xH → Prop) (hp : P_X2_deviceWrites G.2 a0 x1 x2 σ K KX) : xMX l yX2_deviceWrites cX2_deviceWrites 5 (Option.some Jvm.ClassFile.FieldType.int) 10 209 G [(.ref a0), .int x1, .int x2] σ (xlift emI K) KX := by
  refine x_entryX (by decide) (Nat.le_of_ble_eq_true rfl) ?_
  intro p e s m args below meth c X hr hin hno
  have X : xX p s m args meth c G cX2_deviceWrites 5 RX2 := X
  have hx := X.1
  have hb := X.2.1
  have hts := X.2.2.2.2.1
  have hown := X.2.2.2.1
  have hout : ∀ pc, ∀ x ∈ c.exceptionTable.toList, covers x pc = false := fun _ x hx => (hno x hx).elim
  unfold P_X2_deviceWrites at hp
  refine x_same (lo' := [(0, .ref a0), (1, .int x1), (2, .int x2)]) rfl ?_
  refine x_up (pc' := 1) (fun _ _ _ _ _ L => lv_iload_n hx hb dX2_deviceWrites_0 rfl (lv_at L 1 rfl)) ?_
  refine x_callSNX (host := "WordCache") (em := emV) (fun r st => st) (fun _ _ => rfl) 1 X (fun σ' KK KX h => R_X1_checkAddress l hl G hG x1 σ' KK KX h) q2229 q2230 q99 (lw_meth q2231) mdX1_checkAddress ⟨Nat.le_of_ble_eq_true rfl, Nat.le_of_ble_eq_true rfl⟩ rfl rfl (Nat.le_of_ble_eq_true rfl) dX2_deviceWrites_1 hp (fun _ σ1 hpA1 => ?_) (fun q2 σ3 hpB1 => ?_)
  · have hp1 := hpA1
    refine x_pc (pc' := 4) rfl ?_
    refine x_up (pc' := 5) (fun _ _ _ _ _ L => lv_iload_n hx hb dX2_deviceWrites_4 rfl (lv_at L 2 rfl)) ?_
    refine x_callSNX (host := "WordCache") (em := emV) (fun r st => st) (fun _ _ => rfl) 1 X (fun σ' KK KX h => R_X1_checkWord l hl G hG x2 σ' KK KX h) q2501 q2502 q99 (lw_meth q2503) mdX1_checkWord ⟨Nat.le_of_ble_eq_true rfl, Nat.le_of_ble_eq_true rfl⟩ rfl rfl (Nat.le_of_ble_eq_true rfl) dX2_deviceWrites_5 hp1 (fun _ σ4 hpA5 => ?_) (fun q5 σ6 hpB5 => ?_)
    · have hp2 := hpA5
      refine x_pc (pc' := 8) rfl ?_
      refine x_up (pc' := 9) (fun _ _ _ _ _ L => lv_aload_n hx hb dX2_deviceWrites_8 rfl (lv_at L 0 rfl)) ?_
      refine x_up (pc' := 10) (fun _ _ _ _ _ L => lv_iload_n hx hb dX2_deviceWrites_9 rfl (lv_at L 1 rfl)) ?_
      refine x_up (pc' := 11) (fun _ _ _ _ _ L => lv_iconst (v := (4 : Int32)) hx hb dX2_deviceWrites_10 (by decide)) ?_
      refine x_up (pc' := 12) (fun _ _ _ _ _ L => lv_idiv hx hb dX2_deviceWrites_11 (by decide)) ?_
      refine x_callV (em := emQ) (fun r st => va_rf r :: st) (fun _ _ => rfl) 1 X (kX2 hG) (fun σ' KK h => R_X2_holder l hl G hG a0 (x1 / (4 : Int32)) σ' KK h) (lw_V q2066 q2067 q2068 q100 q2069) ⟨rfl, mdX2_holder⟩ ⟨Nat.le_of_ble_eq_true rfl, Nat.le_of_ble_eq_true rfl⟩ rfl rfl (Nat.le_of_ble_eq_true rfl) dX2_deviceWrites_12 hp2.1 hp2.2 (fun v7 σ8 hp3 => ?_)
      refine x_pc (pc' := 15) rfl ?_
      refine x_upL (pc' := 16) (lo' := [(3, va_rf v7), (0, .ref a0), (1, .int x1), (2, .int x2)]) (fun _ _ _ _ _ L => lv_astoreq_n hx hb dX2_deviceWrites_15 rfl L (by decide) rfl) ?_
      refine x_up (pc' := 17) (fun _ _ _ _ _ L => lv_iconst (v := (0 : Int32)) hx hb dX2_deviceWrites_16 (by decide)) ?_
      refine x_st (pc' := 19) ([(4, .int (0 : Int32)), (3, va_rf v7), (0, .ref a0), (1, .int x1), (2, .int x2)]) rfl (by simp [x_catq, x_cati, x_catr, x_catn]) (fun _ _ _ _ _ L => lv_istore hx hb dX2_deviceWrites_17 L (by decide) rfl) ?_
      refine x_up (pc' := 20) (fun _ _ _ _ _ L => lv_aloadq_n hx hb dX2_deviceWrites_19 rfl (lv_at L 1 rfl)) ?_
      rcases v7 with _ | b9
      · have hp4 := hp3.1 rfl
        refine x_up (pc' := 34) (fun _ _ _ _ _ L => lv_ifnullN (tgt := 34) hx hb dX2_deviceWrites_20 (by decide)) ?_
        refine x_up (pc' := 35) (fun _ _ _ _ _ L => lv_aload_n hx hb dX2_deviceWrites_34 rfl (lv_at L 2 rfl)) ?_
        refine x_gq X (kX2 hG) 0 (by decide) q458 (fun _ h => h) dX2_deviceWrites_35 hp4 (fun v10 hp5 => ?_)
        refine x_pc (pc' := 38) rfl ?_
        refine x_up (pc' := 39) (fun _ _ _ _ _ L => lv_iload_n hx hb dX2_deviceWrites_38 rfl (lv_at L 3 rfl)) ?_
        refine x_up (pc' := 40) (fun _ _ _ _ _ L => lv_iload_n hx hb dX2_deviceWrites_39 rfl (lv_at L 4 rfl)) ?_
        obtain ⟨b11, rfl, hp6⟩ := hp5
        refine x_iast X dX2_deviceWrites_40 hp6 (fun σ12 hp7 => ?_)
        refine x_pc (pc' := 41) rfl ?_
        refine x_up (pc' := 42) (fun _ _ _ _ _ L => lv_aload_n hx hb dX2_deviceWrites_41 rfl (lv_at L 2 rfl)) ?_
        refine x_gq X (kX2 hG) 1 (by decide) q460 (fun _ h => h) dX2_deviceWrites_42 hp7 (fun v13 hp8 => ?_)
        refine x_pc (pc' := 45) rfl ?_
        refine x_up (pc' := 46) (fun _ _ _ _ _ L => lv_iload_n hx hb dX2_deviceWrites_45 rfl (lv_at L 3 rfl)) ?_
        refine x_callS (em := emQ) (fun r st => va_rf r :: st) (fun _ _ => rfl) 1 X (fun σ' KK h => R_J23_valueOf l hl G hG x1 σ' KK h) (lw_S q2424 q2425 q128 q2426) mdJ23_valueOf ⟨Nat.le_of_ble_eq_true rfl, Nat.le_of_ble_eq_true rfl⟩ rfl rfl (by simp only [List.map_cons, List.map_nil, List.sum_cons, List.sum_nil, x_catq, x_cati, x_catr, x_catn] <;> decide) dX2_deviceWrites_46 hp8 (fun v14 σ15 hp9 => ?_)
        refine x_pc (pc' := 49) rfl ?_
        refine x_up (pc' := 50) (fun _ _ _ _ _ L => lv_iload_n hx hb dX2_deviceWrites_49 rfl (lv_at L 4 rfl)) ?_
        refine x_callS (em := emQ) (fun r st => va_rf r :: st) (fun _ _ => rfl) 1 X (fun σ' KK h => R_J23_valueOf l hl G hG x2 σ' KK h) (lw_S q2424 q2425 q128 q2426) mdJ23_valueOf ⟨Nat.le_of_ble_eq_true rfl, Nat.le_of_ble_eq_true rfl⟩ rfl rfl (by simp only [List.map_cons, List.map_nil, List.sum_cons, List.sum_nil, x_catq, x_cati, x_catr, x_catn] <;> decide) dX2_deviceWrites_50 hp9 (fun v16 σ17 hp10 => ?_)
        refine x_pc (pc' := 53) rfl ?_
        obtain ⟨b18, rfl, hp11⟩ := hp10
        refine x_callV (em := emQ) (fun r st => va_rf r :: st) (fun _ _ => rfl) 2 X (kJ1 hG) (fun σ' KK h => R_J1_put l hl G hG b18 v14 v16 σ' KK h) (lw_V q2508 q1386 q3699 q102 q1387) ⟨rfl, mdJ1_put⟩ ⟨Nat.le_of_ble_eq_true rfl, Nat.le_of_ble_eq_true rfl⟩ rfl rfl (Nat.le_of_ble_eq_true rfl) dX2_deviceWrites_53 hp11.1 hp11.2 (fun v19 σ20 hp12 => ?_)
        refine x_pc (pc' := 56) rfl ?_
        refine x_up (pc' := 57) (fun _ _ _ _ _ L => lv_pop hx hb dX2_deviceWrites_56 (x_catq _)) ?_
        refine x_up (pc' := 58) (fun _ _ _ _ _ L => lv_aload_n hx hb dX2_deviceWrites_57 rfl (lv_at L 2 rfl)) ?_
        refine x_up (pc' := 59) (fun _ _ _ _ _ L => lv_dup hx hb dX2_deviceWrites_58 rfl) ?_
        refine x_gi X (kX2 hG) 19 (by decide) q493 (fun _ h => h) dX2_deviceWrites_59 hp12 (fun v21 hp13 => ?_)
        refine x_pc (pc' := 62) rfl ?_
        refine x_up (pc' := 63) (fun _ _ _ _ _ L => lv_iconst (v := (1 : Int32)) hx hb dX2_deviceWrites_62 (by decide)) ?_
        refine x_up (pc' := 64) (fun _ _ _ _ _ L => lv_iadd hx hb dX2_deviceWrites_63) ?_
        refine x_pi X (kX2 hG) 19 (by decide) q493 (fun _ h => h) rfl rfl rfl dX2_deviceWrites_64 hp13 (fun σ22 hp14 => ?_)
        refine x_pc (pc' := 67) rfl ?_
        refine x_up (pc' := 69) (fun _ _ _ _ _ L => lv_iload hx hb dX2_deviceWrites_67 (lv_at L 0 rfl)) ?_
        refine x_vx ?_; exact x_iret X hr rfl dX2_deviceWrites_69 hp14
      · have hp15 := hp3.2 _ rfl
        refine x_up (pc' := 23) (fun _ _ _ _ _ L => lv_ifnull hx hb dX2_deviceWrites_20) ?_
        refine x_up (pc' := 24) (fun _ _ _ _ _ L => lv_aload_n hx hb dX2_deviceWrites_23 rfl (lv_at L 2 rfl)) ?_
        refine x_up (pc' := 25) (fun _ _ _ _ _ L => lv_aload_n hx hb dX2_deviceWrites_24 rfl (lv_at L 1 rfl)) ?_
        refine x_callV (em := emI) (fun r st => .int r :: st) (fun _ _ => rfl) 1 X (kX2 hG) (fun σ' KK h => R_X2_writesBack l hl G hG a0 (some b9) σ' KK h) (lw_V q2448 q2450 qs31 q100 q2451) ⟨rfl, mdX2_writesBack⟩ ⟨Nat.le_of_ble_eq_true rfl, Nat.le_of_ble_eq_true rfl⟩ rfl rfl (Nat.le_of_ble_eq_true rfl) dX2_deviceWrites_25 hp15.1 hp15.2 (fun v23 σ24 hp16 => ?_)
        refine x_pc (pc' := 28) rfl ?_
        refine x_upL (pc' := 30) (lo' := [(4, .int v23), (3, .ref b9), (0, .ref a0), (1, .int x1), (2, .int x2)]) (fun _ _ _ _ _ L => lv_istore hx hb dX2_deviceWrites_28 L (by decide) rfl) ?_
        refine x_up (pc' := 31) (fun _ _ _ _ _ L => lv_aload_n hx hb dX2_deviceWrites_30 rfl (lv_at L 1 rfl)) ?_
        refine x_callV (em := emV) (fun r st => st) (fun _ _ => rfl) 0 X (kX3 hG) (fun σ' KK h => R_X3_becomesEmpty l hl G hG b9 σ' KK h) (lw_V q2539 q2540 q2541 q108 q2542) ⟨rfl, mdX3_becomesEmpty⟩ ⟨Nat.le_of_ble_eq_true rfl, Nat.le_of_ble_eq_true rfl⟩ rfl rfl (Nat.le_of_ble_eq_true rfl) dX2_deviceWrites_31 hp16.1 hp16.2 (fun _ σ25 hp17 => ?_)
        refine x_pc (pc' := 34) rfl ?_
        refine x_up (pc' := 35) (fun _ _ _ _ _ L => lv_aload_n hx hb dX2_deviceWrites_34 rfl (lv_at L 2 rfl)) ?_
        refine x_gq X (kX2 hG) 0 (by decide) q458 (fun _ h => h) dX2_deviceWrites_35 hp17 (fun v26 hp18 => ?_)
        refine x_pc (pc' := 38) rfl ?_
        refine x_up (pc' := 39) (fun _ _ _ _ _ L => lv_iload_n hx hb dX2_deviceWrites_38 rfl (lv_at L 3 rfl)) ?_
        refine x_up (pc' := 40) (fun _ _ _ _ _ L => lv_iload_n hx hb dX2_deviceWrites_39 rfl (lv_at L 4 rfl)) ?_
        obtain ⟨b27, rfl, hp19⟩ := hp18
        refine x_iast X dX2_deviceWrites_40 hp19 (fun σ28 hp20 => ?_)
        refine x_pc (pc' := 41) rfl ?_
        refine x_up (pc' := 42) (fun _ _ _ _ _ L => lv_aload_n hx hb dX2_deviceWrites_41 rfl (lv_at L 2 rfl)) ?_
        refine x_gq X (kX2 hG) 1 (by decide) q460 (fun _ h => h) dX2_deviceWrites_42 hp20 (fun v29 hp21 => ?_)
        refine x_pc (pc' := 45) rfl ?_
        refine x_up (pc' := 46) (fun _ _ _ _ _ L => lv_iload_n hx hb dX2_deviceWrites_45 rfl (lv_at L 3 rfl)) ?_
        refine x_callS (em := emQ) (fun r st => va_rf r :: st) (fun _ _ => rfl) 1 X (fun σ' KK h => R_J23_valueOf l hl G hG x1 σ' KK h) (lw_S q2424 q2425 q128 q2426) mdJ23_valueOf ⟨Nat.le_of_ble_eq_true rfl, Nat.le_of_ble_eq_true rfl⟩ rfl rfl (by simp only [List.map_cons, List.map_nil, List.sum_cons, List.sum_nil, x_catq, x_cati, x_catr, x_catn] <;> decide) dX2_deviceWrites_46 hp21 (fun v30 σ31 hp22 => ?_)
        refine x_pc (pc' := 49) rfl ?_
        refine x_up (pc' := 50) (fun _ _ _ _ _ L => lv_iload_n hx hb dX2_deviceWrites_49 rfl (lv_at L 4 rfl)) ?_
        refine x_callS (em := emQ) (fun r st => va_rf r :: st) (fun _ _ => rfl) 1 X (fun σ' KK h => R_J23_valueOf l hl G hG x2 σ' KK h) (lw_S q2424 q2425 q128 q2426) mdJ23_valueOf ⟨Nat.le_of_ble_eq_true rfl, Nat.le_of_ble_eq_true rfl⟩ rfl rfl (by simp only [List.map_cons, List.map_nil, List.sum_cons, List.sum_nil, x_catq, x_cati, x_catr, x_catn] <;> decide) dX2_deviceWrites_50 hp22 (fun v32 σ33 hp23 => ?_)
        refine x_pc (pc' := 53) rfl ?_
        obtain ⟨b34, rfl, hp24⟩ := hp23
        refine x_callV (em := emQ) (fun r st => va_rf r :: st) (fun _ _ => rfl) 2 X (kJ1 hG) (fun σ' KK h => R_J1_put l hl G hG b34 v30 v32 σ' KK h) (lw_V q2508 q1386 q3699 q102 q1387) ⟨rfl, mdJ1_put⟩ ⟨Nat.le_of_ble_eq_true rfl, Nat.le_of_ble_eq_true rfl⟩ rfl rfl (Nat.le_of_ble_eq_true rfl) dX2_deviceWrites_53 hp24.1 hp24.2 (fun v35 σ36 hp25 => ?_)
        refine x_pc (pc' := 56) rfl ?_
        refine x_up (pc' := 57) (fun _ _ _ _ _ L => lv_pop hx hb dX2_deviceWrites_56 (x_catq _)) ?_
        refine x_up (pc' := 58) (fun _ _ _ _ _ L => lv_aload_n hx hb dX2_deviceWrites_57 rfl (lv_at L 2 rfl)) ?_
        refine x_up (pc' := 59) (fun _ _ _ _ _ L => lv_dup hx hb dX2_deviceWrites_58 rfl) ?_
        refine x_gi X (kX2 hG) 19 (by decide) q493 (fun _ h => h) dX2_deviceWrites_59 hp25 (fun v37 hp26 => ?_)
        refine x_pc (pc' := 62) rfl ?_
        refine x_up (pc' := 63) (fun _ _ _ _ _ L => lv_iconst (v := (1 : Int32)) hx hb dX2_deviceWrites_62 (by decide)) ?_
        refine x_up (pc' := 64) (fun _ _ _ _ _ L => lv_iadd hx hb dX2_deviceWrites_63) ?_
        refine x_pi X (kX2 hG) 19 (by decide) q493 (fun _ h => h) rfl rfl rfl dX2_deviceWrites_64 hp26 (fun σ38 hp27 => ?_)
        refine x_pc (pc' := 67) rfl ?_
        refine x_up (pc' := 69) (fun _ _ _ _ _ L => lv_iload hx hb dX2_deviceWrites_67 (lv_at L 0 rfl)) ?_
        refine x_vx ?_; exact x_iret X hr rfl dX2_deviceWrites_69 hp27
    · have hp28 := hpB5
      obtain ⟨hq5, hp29⟩ := hp28
      obtain ⟨hr5, hp30⟩ := hp29
      exact x_out X (kX6 hG) (hout 5) hr5 hq5 hp30
  · have hp31 := hpB1
    obtain ⟨hq1, hp32⟩ := hp31
    obtain ⟨hr1, hp33⟩ := hp32
    exact x_out X (kX6 hG) (hout 1) hr1 hq1 hp33
-- X2_flushes
def P_X2_flushes (κ : Nat → Nat) (a0 : Nat) (σ : xS) (K : Int32 → xH → Prop) (KX : Nat → xH → Prop) : Prop :=
  xrc σ a0 1 ∧ xcall (fun τ L => P_X2_dirtyWords κ a0 τ L) σ fun v1 σ2 => ((v1 ≤ 0 → (xcallX (fun τ L LX => P_X1_check κ (0 : Int32) (6 : Int32) (0 : Int32) τ L LX) σ2 (fun _ σ3 => xrc σ3 a0 1 ∧ xcall (fun τ L => P_X2_writesAllBack κ a0 τ L) σ3 fun v6 σ7 => K v6 σ7.1) (fun q4 σ5 => κ 0 ≤ q4 ∧ ((xrc σ5 q4 26 ∧ (KX q4 σ5.1)))))) ∧ (¬ v1 ≤ 0 → (xcallX (fun τ L LX => P_X1_check κ (1 : Int32) (6 : Int32) (0 : Int32) τ L LX) σ2 (fun _ σ8 => xrc σ8 a0 1 ∧ xcall (fun τ L => P_X2_writesAllBack κ a0 τ L) σ8 fun v11 σ12 => K v11 σ12.1) (fun q9 σ10 => κ 0 ≤ q9 ∧ ((xrc σ10 q9 26 ∧ (KX q9 σ10.1)))))))
theorem mdX2_flushes : yX2_flushes.cls ≠ "java/lang/invoke/MethodHandle" ∧ yX2_flushes.cls ≠ "java/lang/invoke/VarHandle" ∧ (parseMethodDescriptor yX2_flushes.desc).map (fun d => d.parameters.length) = some 0 := by decide +kernel
set_option maxHeartbeats 4000000 in
set_option maxRecDepth 100000 in
theorem R_X2_flushes (l : Launch) (hl : l.stackTraces = false) (G : xG) (hG : G.1.2 = x_cl) (a0 : Nat) (σ : xS) (K : Int32 → xH → Prop) (KX : Nat → xH → Prop) (hp : P_X2_flushes G.2 a0 σ K KX) : xMX l yX2_flushes cX2_flushes 1 (Option.some Jvm.ClassFile.FieldType.int) 8 198 G [(.ref a0)] σ (xlift emI K) KX := by
  refine x_entryX (by decide) (Nat.le_of_ble_eq_true rfl) ?_
  intro p e s m args below meth c X hr hin hno
  have X : xX p s m args meth c G cX2_flushes 1 RX2 := X
  have hx := X.1
  have hb := X.2.1
  have hts := X.2.2.2.2.1
  have hown := X.2.2.2.1
  have hout : ∀ pc, ∀ x ∈ c.exceptionTable.toList, covers x pc = false := fun _ x hx => (hno x hx).elim
  unfold P_X2_flushes at hp
  refine x_same (lo' := [(0, .ref a0)]) rfl ?_
  refine x_up (pc' := 1) (fun _ _ _ _ _ L => lv_aload_n hx hb dX2_flushes_0 rfl (lv_at L 0 rfl)) ?_
  refine x_callV (em := emI) (fun r st => .int r :: st) (fun _ _ => rfl) 0 X (kX2 hG) (fun σ' KK h => R_X2_dirtyWords l hl G hG a0 σ' KK h) (lw_V q2530 q2031 q2032 q100 q2033) ⟨rfl, mdX2_dirtyWords⟩ ⟨Nat.le_of_ble_eq_true rfl, Nat.le_of_ble_eq_true rfl⟩ rfl rfl (Nat.le_of_ble_eq_true rfl) dX2_flushes_1 hp.1 hp.2 (fun v1 σ2 hp1 => ?_)
  refine x_pc (pc' := 4) rfl ?_
  refine x_if (C := v1 ≤ 0) (pt := 11) (pc' := 7) (fun _ _ _ _ _ => lv_if_le (tgt := 11) hx hb dX2_flushes_4 (by decide)) (fun c4 => ?_) (fun c4 => ?_)
  · have hp2 := hp1.1 c4
    refine x_up (pc' := 12) (fun _ _ _ _ _ L => lv_iconst (v := (0 : Int32)) hx hb dX2_flushes_11 (by decide)) ?_
    refine x_up (pc' := 14) (fun _ _ _ _ _ L => lv_bipush (v := (6 : Int32)) hx hb dX2_flushes_12 (by decide)) ?_
    refine x_up (pc' := 15) (fun _ _ _ _ _ L => lv_iconst (v := (0 : Int32)) hx hb dX2_flushes_14 (by decide)) ?_
    refine x_callSNX (host := "WordCache") (em := emV) (fun r st => st) (fun _ _ => rfl) 3 X (fun σ' KK KX h => R_X1_check l hl G hG (0 : Int32) (6 : Int32) (0 : Int32) σ' KK KX h) q2415 q2239 q99 (lw_meth q2240) mdX1_check ⟨Nat.le_of_ble_eq_true rfl, Nat.le_of_ble_eq_true rfl⟩ rfl rfl (Nat.le_of_ble_eq_true rfl) dX2_flushes_15 hp2 (fun _ σ3 hpA15 => ?_) (fun q4 σ5 hpB15 => ?_)
    · have hp3 := hpA15
      refine x_pc (pc' := 18) rfl ?_
      refine x_up (pc' := 19) (fun _ _ _ _ _ L => lv_aload_n hx hb dX2_flushes_18 rfl (lv_at L 0 rfl)) ?_
      refine x_callV (em := emI) (fun r st => .int r :: st) (fun _ _ => rfl) 0 X (kX2 hG) (fun σ' KK h => R_X2_writesAllBack l hl G hG a0 σ' KK h) (lw_V q2531 q2533 qs38 q100 q2534) ⟨rfl, mdX2_writesAllBack⟩ ⟨Nat.le_of_ble_eq_true rfl, Nat.le_of_ble_eq_true rfl⟩ rfl rfl (Nat.le_of_ble_eq_true rfl) dX2_flushes_19 hp3.1 hp3.2 (fun v6 σ7 hp4 => ?_)
      refine x_pc (pc' := 22) rfl ?_
      refine x_vx ?_; exact x_iret X hr rfl dX2_flushes_22 hp4
    · have hp5 := hpB15
      obtain ⟨hq15, hp6⟩ := hp5
      obtain ⟨hr15, hp7⟩ := hp6
      exact x_out X (kX6 hG) (hout 15) hr15 hq15 hp7
  · have hp8 := hp1.2 c4
    refine x_up (pc' := 8) (fun _ _ _ _ _ L => lv_iconst (v := (1 : Int32)) hx hb dX2_flushes_7 (by decide)) ?_
    refine x_up (pc' := 12) (fun _ _ _ _ _ L => lv_goto (tgt := 12) hx hb dX2_flushes_8 (by decide)) ?_
    refine x_up (pc' := 14) (fun _ _ _ _ _ L => lv_bipush (v := (6 : Int32)) hx hb dX2_flushes_12 (by decide)) ?_
    refine x_up (pc' := 15) (fun _ _ _ _ _ L => lv_iconst (v := (0 : Int32)) hx hb dX2_flushes_14 (by decide)) ?_
    refine x_callSNX (host := "WordCache") (em := emV) (fun r st => st) (fun _ _ => rfl) 3 X (fun σ' KK KX h => R_X1_check l hl G hG (1 : Int32) (6 : Int32) (0 : Int32) σ' KK KX h) q2415 q2239 q99 (lw_meth q2240) mdX1_check ⟨Nat.le_of_ble_eq_true rfl, Nat.le_of_ble_eq_true rfl⟩ rfl rfl (Nat.le_of_ble_eq_true rfl) dX2_flushes_15 hp8 (fun _ σ8 hpA15 => ?_) (fun q9 σ10 hpB15 => ?_)
    · have hp9 := hpA15
      refine x_pc (pc' := 18) rfl ?_
      refine x_up (pc' := 19) (fun _ _ _ _ _ L => lv_aload_n hx hb dX2_flushes_18 rfl (lv_at L 0 rfl)) ?_
      refine x_callV (em := emI) (fun r st => .int r :: st) (fun _ _ => rfl) 0 X (kX2 hG) (fun σ' KK h => R_X2_writesAllBack l hl G hG a0 σ' KK h) (lw_V q2531 q2533 qs38 q100 q2534) ⟨rfl, mdX2_writesAllBack⟩ ⟨Nat.le_of_ble_eq_true rfl, Nat.le_of_ble_eq_true rfl⟩ rfl rfl (Nat.le_of_ble_eq_true rfl) dX2_flushes_19 hp9.1 hp9.2 (fun v11 σ12 hp10 => ?_)
      refine x_pc (pc' := 22) rfl ?_
      refine x_vx ?_; exact x_iret X hr rfl dX2_flushes_22 hp10
    · have hp11 := hpB15
      obtain ⟨hq15, hp12⟩ := hp11
      obtain ⟨hr15, hp13⟩ := hp12
      exact x_out X (kX6 hG) (hout 15) hr15 hq15 hp13
-- X2_checkHeld
def P_X2_checkHeld (κ : Nat → Nat) (a0 : Nat) (x1 : Int32) (σ : xS) (K : Option Nat → xH → Prop) (KX : Nat → xH → Prop) : Prop :=
  xcallX (fun τ L LX => P_X1_checkRange κ x1 (0 : Int32) (15 : Int32) τ L LX) σ (fun _ σ1 => xrc σ1 a0 1 ∧ xcall (fun τ L => P_X2_holder κ a0 x1 τ L) σ1 fun v4 σ5 => ((v4 = none → (xcallX (fun τ L LX => P_X1_check κ (0 : Int32) (3 : Int32) x1 τ L LX) σ5 (fun _ σ7 => K none σ7.1) (fun q8 σ9 => κ 0 ≤ q8 ∧ ((xrc σ9 q8 26 ∧ (KX q8 σ9.1)))))) ∧ (∀ b6 : Nat, v4 = some b6 → (xcallX (fun τ L LX => P_X1_check κ (1 : Int32) (3 : Int32) x1 τ L LX) σ5 (fun _ σ10 => K (some b6) σ10.1) (fun q11 σ12 => κ 0 ≤ q11 ∧ ((xrc σ12 q11 26 ∧ (KX q11 σ12.1)))))))) (fun q2 σ3 => κ 0 ≤ q2 ∧ ((xrc σ3 q2 26 ∧ (KX q2 σ3.1))))
theorem mdX2_checkHeld : yX2_checkHeld.cls ≠ "java/lang/invoke/MethodHandle" ∧ yX2_checkHeld.cls ≠ "java/lang/invoke/VarHandle" ∧ (parseMethodDescriptor yX2_checkHeld.desc).map (fun d => d.parameters.length) = some 1 := by decide +kernel
set_option maxHeartbeats 4000000 in
set_option maxRecDepth 100000 in
theorem R_X2_checkHeld (l : Launch) (hl : l.stackTraces = false) (G : xG) (hG : G.1.2 = x_cl) (a0 : Nat) (x1 : Int32) (σ : xS) (K : Option Nat → xH → Prop) (KX : Nat → xH → Prop) (hp : P_X2_checkHeld G.2 a0 x1 σ K KX) : xMX l yX2_checkHeld cX2_checkHeld 3 (Option.some (Jvm.ClassFile.FieldType.object "WordCache$Line")) 9 189 G [(.ref a0), .int x1] σ (xlift emQ K) KX := by
  refine x_entryX (by decide) (Nat.le_of_ble_eq_true rfl) ?_
  intro p e s m args below meth c X hr hin hno
  have X : xX p s m args meth c G cX2_checkHeld 3 RX2 := X
  have hx := X.1
  have hb := X.2.1
  have hts := X.2.2.2.2.1
  have hown := X.2.2.2.1
  have hout : ∀ pc, ∀ x ∈ c.exceptionTable.toList, covers x pc = false := fun _ x hx => (hno x hx).elim
  unfold P_X2_checkHeld at hp
  refine x_same (lo' := [(0, .ref a0), (1, .int x1)]) rfl ?_
  refine x_up (pc' := 1) (fun _ _ _ _ _ L => lv_iload_n hx hb dX2_checkHeld_0 rfl (lv_at L 1 rfl)) ?_
  refine x_up (pc' := 2) (fun _ _ _ _ _ L => lv_iconst (v := (0 : Int32)) hx hb dX2_checkHeld_1 (by decide)) ?_
  refine x_up (pc' := 4) (fun _ _ _ _ _ L => lv_bipush (v := (15 : Int32)) hx hb dX2_checkHeld_2 (by decide)) ?_
  refine x_callSNX (host := "WordCache") (em := emV) (fun r st => st) (fun _ _ => rfl) 3 X (fun σ' KK KX h => R_X1_checkRange l hl G hG x1 (0 : Int32) (15 : Int32) σ' KK KX h) q2517 q2233 q99 (lw_meth q2234) mdX1_checkRange ⟨Nat.le_of_ble_eq_true rfl, Nat.le_of_ble_eq_true rfl⟩ rfl rfl (Nat.le_of_ble_eq_true rfl) dX2_checkHeld_4 hp (fun _ σ1 hpA4 => ?_) (fun q2 σ3 hpB4 => ?_)
  · have hp1 := hpA4
    refine x_pc (pc' := 7) rfl ?_
    refine x_up (pc' := 8) (fun _ _ _ _ _ L => lv_aload_n hx hb dX2_checkHeld_7 rfl (lv_at L 0 rfl)) ?_
    refine x_up (pc' := 9) (fun _ _ _ _ _ L => lv_iload_n hx hb dX2_checkHeld_8 rfl (lv_at L 1 rfl)) ?_
    refine x_callV (em := emQ) (fun r st => va_rf r :: st) (fun _ _ => rfl) 1 X (kX2 hG) (fun σ' KK h => R_X2_holder l hl G hG a0 x1 σ' KK h) (lw_V q2066 q2067 q2068 q100 q2069) ⟨rfl, mdX2_holder⟩ ⟨Nat.le_of_ble_eq_true rfl, Nat.le_of_ble_eq_true rfl⟩ rfl rfl (Nat.le_of_ble_eq_true rfl) dX2_checkHeld_9 hp1.1 hp1.2 (fun v4 σ5 hp2 => ?_)
    refine x_pc (pc' := 12) rfl ?_
    refine x_upL (pc' := 13) (lo' := [(2, va_rf v4), (0, .ref a0), (1, .int x1)]) (fun _ _ _ _ _ L => lv_astoreq_n hx hb dX2_checkHeld_12 rfl L (by decide) rfl) ?_
    refine x_up (pc' := 14) (fun _ _ _ _ _ L => lv_aloadq_n hx hb dX2_checkHeld_13 rfl (lv_at L 0 rfl)) ?_
    rcases v4 with _ | b6
    · have hp3 := hp2.1 rfl
      refine x_up (pc' := 21) (fun _ _ _ _ _ L => lv_ifnullN (tgt := 21) hx hb dX2_checkHeld_14 (by decide)) ?_
      refine x_up (pc' := 22) (fun _ _ _ _ _ L => lv_iconst (v := (0 : Int32)) hx hb dX2_checkHeld_21 (by decide)) ?_
      refine x_up (pc' := 23) (fun _ _ _ _ _ L => lv_iconst (v := (3 : Int32)) hx hb dX2_checkHeld_22 (by decide)) ?_
      refine x_up (pc' := 24) (fun _ _ _ _ _ L => lv_iload_n hx hb dX2_checkHeld_23 rfl (lv_at L 2 rfl)) ?_
      refine x_callSNX (host := "WordCache") (em := emV) (fun r st => st) (fun _ _ => rfl) 3 X (fun σ' KK KX h => R_X1_check l hl G hG (0 : Int32) (3 : Int32) x1 σ' KK KX h) q2415 q2239 q99 (lw_meth q2240) mdX1_check ⟨Nat.le_of_ble_eq_true rfl, Nat.le_of_ble_eq_true rfl⟩ rfl rfl (Nat.le_of_ble_eq_true rfl) dX2_checkHeld_24 hp3 (fun _ σ7 hpA24 => ?_) (fun q8 σ9 hpB24 => ?_)
      · have hp4 := hpA24
        refine x_pc (pc' := 27) rfl ?_
        refine x_up (pc' := 28) (fun _ _ _ _ _ L => lv_aload_nN hx hb dX2_checkHeld_27 rfl (lv_at L 0 rfl)) ?_
        refine x_vx ?_; exact x_aret X hr (Or.inl ⟨_, rfl⟩) dX2_checkHeld_28 none hp4
      · have hp5 := hpB24
        obtain ⟨hq24, hp6⟩ := hp5
        obtain ⟨hr24, hp7⟩ := hp6
        exact x_out X (kX6 hG) (hout 24) hr24 hq24 hp7
    · have hp8 := hp2.2 _ rfl
      refine x_up (pc' := 17) (fun _ _ _ _ _ L => lv_ifnull hx hb dX2_checkHeld_14) ?_
      refine x_up (pc' := 18) (fun _ _ _ _ _ L => lv_iconst (v := (1 : Int32)) hx hb dX2_checkHeld_17 (by decide)) ?_
      refine x_up (pc' := 22) (fun _ _ _ _ _ L => lv_goto (tgt := 22) hx hb dX2_checkHeld_18 (by decide)) ?_
      refine x_up (pc' := 23) (fun _ _ _ _ _ L => lv_iconst (v := (3 : Int32)) hx hb dX2_checkHeld_22 (by decide)) ?_
      refine x_up (pc' := 24) (fun _ _ _ _ _ L => lv_iload_n hx hb dX2_checkHeld_23 rfl (lv_at L 2 rfl)) ?_
      refine x_callSNX (host := "WordCache") (em := emV) (fun r st => st) (fun _ _ => rfl) 3 X (fun σ' KK KX h => R_X1_check l hl G hG (1 : Int32) (3 : Int32) x1 σ' KK KX h) q2415 q2239 q99 (lw_meth q2240) mdX1_check ⟨Nat.le_of_ble_eq_true rfl, Nat.le_of_ble_eq_true rfl⟩ rfl rfl (Nat.le_of_ble_eq_true rfl) dX2_checkHeld_24 hp8 (fun _ σ10 hpA24 => ?_) (fun q11 σ12 hpB24 => ?_)
      · have hp9 := hpA24
        refine x_pc (pc' := 27) rfl ?_
        refine x_up (pc' := 28) (fun _ _ _ _ _ L => lv_aload_n hx hb dX2_checkHeld_27 rfl (lv_at L 0 rfl)) ?_
        refine x_vx ?_; exact x_aret X hr (Or.inl ⟨_, rfl⟩) dX2_checkHeld_28 (some b6) hp9
      · have hp10 := hpB24
        obtain ⟨hq24, hp11⟩ := hp10
        obtain ⟨hr24, hp12⟩ := hp11
        exact x_out X (kX6 hG) (hout 24) hr24 hq24 hp12
  · have hp13 := hpB4
    obtain ⟨hq4, hp14⟩ := hp13
    obtain ⟨hr4, hp15⟩ := hp14
    exact x_out X (kX6 hG) (hout 4) hr4 hq4 hp15
-- X2_pinned
def B_X2_pinned_21 (κ : Nat → Nat) (K : Int32 → xH → Prop) (f3 : Option Nat) : (Int32 → xS → Prop) → Int32 → xS → Prop := fun self22003 w22001 σ22002 =>
  xnn f3 fun b22004 => xrc σ22002 b22004 21 ∧ xcall (fun τ L => P_J35_hasNext κ b22004 τ L) σ22002 fun v22005 σ22006 => ((v22005 = 0 → (K w22001 σ22006.1)) ∧ (¬ v22005 = 0 → (xrc σ22006 b22004 21 ∧ xcall (fun τ L => P_J35_next κ b22004 τ L) σ22006 fun v22007 σ22008 => xnn v22007 fun b22009 => xrc σ22008 b22009 5 ∧ xgi σ22008 b22009 5 4 fun v22010 => ((v22010 = 0 → (self22003 (w22001 + (0 : Int32)) σ22008)) ∧ (¬ v22010 = 0 → (self22003 (w22001 + (1 : Int32)) σ22008))))))
def P_X2_pinned (κ : Nat → Nat) (a0 : Nat) (x1 : Int32) (σ : xS) (K : Int32 → xH → Prop) : Prop :=
  xgq σ a0 1 2 fun v1 => xnn v1 fun b2 => xrc σ b2 3 ∧ xcall (fun τ L => P_J4_get κ b2 x1 τ L) σ fun v3 σ4 => xnn v3 fun b5 => xrc σ4 b5 3 ∧ xrc σ4 b5 3 ∧ xcall (fun τ L => P_J4_iterator κ b5 τ L) σ4 fun v6 σ7 => xwhile (B_X2_pinned_21 κ K v6) (0 : Int32) σ7
theorem mdX2_pinned : yX2_pinned.cls ≠ "java/lang/invoke/MethodHandle" ∧ yX2_pinned.cls ≠ "java/lang/invoke/VarHandle" ∧ (parseMethodDescriptor yX2_pinned.desc).map (fun d => d.parameters.length) = some 1 := by decide +kernel
set_option maxHeartbeats 4000000 in
set_option maxRecDepth 100000 in
theorem R_X2_pinned (l : Launch) (hl : l.stackTraces = false) (G : xG) (hG : G.1.2 = x_cl) (a0 : Nat) (x1 : Int32) (σ : xS) (K : Int32 → xH → Prop) (hp : P_X2_pinned G.2 a0 x1 σ K) : xM l yX2_pinned cX2_pinned 5 (Option.some Jvm.ClassFile.FieldType.int) 3 64 G [(.ref a0), .int x1] σ (xlift emI K) := by
  refine x_entry (by decide) (Nat.le_of_ble_eq_true rfl) ?_
  intro p e s m args below meth c X hr hin
  have X : xX p s m args meth c G cX2_pinned 5 RX2 := X
  have hx := X.1
  have hb := X.2.1
  have hts := X.2.2.2.2.1
  have hown := X.2.2.2.1
  unfold P_X2_pinned at hp
  refine x_same (lo' := [(0, .ref a0), (1, .int x1)]) rfl ?_
  refine x_up (pc' := 1) (fun _ _ _ _ _ L => lv_iconst (v := (0 : Int32)) hx hb dX2_pinned_0 (by decide)) ?_
  refine x_upL (pc' := 2) (lo' := [(2, .int (0 : Int32)), (0, .ref a0), (1, .int x1)]) (fun _ _ _ _ _ L => lv_istore_n hx hb dX2_pinned_1 rfl L (by decide) rfl) ?_
  refine x_up (pc' := 3) (fun _ _ _ _ _ L => lv_aload_n hx hb dX2_pinned_2 rfl (lv_at L 1 rfl)) ?_
  refine x_gq X (kX2 hG) 2 (by decide) q462 (fun _ h => h) dX2_pinned_3 hp (fun v1 hp1 => ?_)
  refine x_pc (pc' := 6) rfl ?_
  refine x_up (pc' := 7) (fun _ _ _ _ _ L => lv_iload_n hx hb dX2_pinned_6 rfl (lv_at L 2 rfl)) ?_
  obtain ⟨b2, rfl, hp2⟩ := hp1
  refine x_callF (x := ⟨"java/util/List", "get", "(I)Ljava/lang/Object;"⟩) (em := emQ) (fun r st => va_rf r :: st) (fun _ _ => rfl) 1 X (kJ4 hG) (fun σ' KK h => R_J4_get l hl G hG b2 x1 σ' KK h) q2083 q2086 q784 q105 q785 ⟨⟨q2085, q2084, q2088, q2087, q275⟩, by decide, by decide⟩ (by decide +kernel) ⟨Nat.le_of_ble_eq_true rfl, Nat.le_of_ble_eq_true rfl⟩ rfl rfl (Nat.le_of_ble_eq_true rfl) dX2_pinned_7 hp2.1 hp2.2 (fun v3 σ4 hp3 => ?_)
  refine x_pc (pc' := 12) rfl ?_
  obtain ⟨b5, rfl, hp4⟩ := hp3
  refine x_castY X (kJ4 hG) q1814 q275 hp4.1 dX2_pinned_12 ?_
  have hp5 := hp4.2
  refine x_pc (pc' := 15) rfl ?_
  refine x_callF (x := ⟨"java/util/List", "iterator", "()Ljava/util/Iterator;"⟩) (em := emQ) (fun r st => va_rf r :: st) (fun _ _ => rfl) 0 X (kJ4 hG) (fun σ' KK h => R_J4_iterator l hl G hG b5 σ' KK h) q1698 q1701 q1703 q105 q1705 ⟨⟨q1700, q1699, q1704, q1702, q275⟩, by decide, by decide⟩ (by decide +kernel) ⟨Nat.le_of_ble_eq_true rfl, Nat.le_of_ble_eq_true rfl⟩ rfl rfl (Nat.le_of_ble_eq_true rfl) dX2_pinned_15 hp5.1 hp5.2 (fun v6 σ7 hp6 => ?_)
  refine x_pc (pc' := 20) rfl ?_
  refine x_upL (pc' := 21) (lo' := [(3, va_rf v6), (2, .int (0 : Int32)), (0, .ref a0), (1, .int x1)]) (fun _ _ _ _ _ L => lv_astoreq_n hx hb dX2_pinned_20 rfl L (by decide) rfl) ?_
  refine x_lo (lo' := [(2, .int (0 : Int32)), (3, va_rf v6)]) [1, 0] rfl ?_
  refine x_while (v0 := (0 : Int32)) (fun w8 => [(2, .int w8), (3, va_rf v6)]) hp6 (fun self9 hself10 => ?_)
  rintro y12 σ11 hp7
  unfold B_X2_pinned_21 at hp7
  refine x_same (lo' := [(2, .int y12), (3, va_rf v6)]) rfl ?_
  refine x_up (pc' := 22) (fun _ _ _ _ _ L => lv_aloadq_n hx hb dX2_pinned_21 rfl (lv_at L 1 rfl)) ?_
  obtain ⟨b13, rfl, hp8⟩ := hp7
  refine x_callF (x := ⟨"java/util/Iterator", "hasNext", "()Z"⟩) (em := emI) (fun r st => .int r :: st) (fun _ _ => rfl) 0 X (kJ35 hG) (fun σ' KK h => R_J35_hasNext l hl G hG b13 σ' KK h) q1811 q1351 q1353 q141 q1355 ⟨⟨q1331, q1330, q1354, q1352, q1198⟩, by decide, by decide⟩ (by decide +kernel) ⟨Nat.le_of_ble_eq_true rfl, Nat.le_of_ble_eq_true rfl⟩ rfl rfl (Nat.le_of_ble_eq_true rfl) dX2_pinned_22 hp8.1 hp8.2 (fun v14 σ15 hp9 => ?_)
  refine x_pc (pc' := 27) rfl ?_
  refine x_if (C := v14 = 0) (pt := 60) (pc' := 30) (fun _ _ _ _ _ => lv_if_eq (tgt := 60) hx hb dX2_pinned_27 (by decide)) (fun c27 => ?_) (fun c27 => ?_)
  · have hp10 := hp9.1 c27
    refine x_up (pc' := 61) (fun _ _ _ _ _ L => lv_iload_n hx hb dX2_pinned_60 rfl (lv_at L 0 rfl)) ?_
    exact x_iret X hr rfl dX2_pinned_61 hp10
  · have hp11 := hp9.2 c27
    refine x_up (pc' := 31) (fun _ _ _ _ _ L => lv_aload_n hx hb dX2_pinned_30 rfl (lv_at L 1 rfl)) ?_
    refine x_callF (x := ⟨"java/util/Iterator", "next", "()Ljava/lang/Object;"⟩) (em := emQ) (fun r st => va_rf r :: st) (fun _ _ => rfl) 0 X (kJ35 hG) (fun σ' KK h => R_J35_next l hl G hG b13 σ' KK h) q1813 q1199 q1201 q141 q1203 ⟨⟨q768, q767, q1202, q1200, q1198⟩, by decide, by decide⟩ (by decide +kernel) ⟨Nat.le_of_ble_eq_true rfl, Nat.le_of_ble_eq_true rfl⟩ rfl rfl (Nat.le_of_ble_eq_true rfl) dX2_pinned_31 hp11.1 hp11.2 (fun v16 σ17 hp12 => ?_)
    refine x_pc (pc' := 36) rfl ?_
    obtain ⟨b18, rfl, hp13⟩ := hp12
    refine x_castS X (kX3 hG) q287 hp13.1 dX2_pinned_36 ?_
    have hp14 := hp13.2
    refine x_pc (pc' := 39) rfl ?_
    refine x_upL (pc' := 41) (lo' := [(4, .ref b18), (2, .int y12), (3, .ref b13)]) (fun _ _ _ _ _ L => lv_astore hx hb dX2_pinned_39 L (by decide) rfl) ?_
    refine x_up (pc' := 42) (fun _ _ _ _ _ L => lv_iload_n hx hb dX2_pinned_41 rfl (lv_at L 1 rfl)) ?_
    refine x_up (pc' := 44) (fun _ _ _ _ _ L => lv_aload hx hb dX2_pinned_42 (lv_at L 0 rfl)) ?_
    refine x_giN X (kX3 hG) 4 (by decide) q305 (fun _ h => h) dX2_pinned_44 hp14 (fun v19 hp15 => ?_)
    refine x_pc (pc' := 47) rfl ?_
    refine x_if (C := v19 = 0) (pt := 54) (pc' := 50) (fun _ _ _ _ _ => lv_if_eq (tgt := 54) hx hb dX2_pinned_47 (by decide)) (fun c47 => ?_) (fun c47 => ?_)
    · have hp16 := hp15.1 c47
      refine x_up (pc' := 55) (fun _ _ _ _ _ L => lv_iconst (v := (0 : Int32)) hx hb dX2_pinned_54 (by decide)) ?_
      refine x_up (pc' := 56) (fun _ _ _ _ _ L => lv_iadd hx hb dX2_pinned_55) ?_
      refine x_upL (pc' := 57) (lo' := [(2, .int (y12 + (0 : Int32))), (4, .ref b18), (3, .ref b13)]) (fun _ _ _ _ _ L => lv_istore_n hx hb dX2_pinned_56 rfl L (by decide) rfl) ?_
      refine x_up (pc' := 21) (fun _ _ _ _ _ L => lv_goto (tgt := 21) hx hb dX2_pinned_57 (by decide)) ?_
      refine x_lo (lo' := [(2, .int (y12 + (0 : Int32))), (3, .ref b13)]) [0, 2] rfl ?_
      exact hself10 (y12 + (0 : Int32)) σ17 hp16
    · have hp17 := hp15.2 c47
      refine x_up (pc' := 51) (fun _ _ _ _ _ L => lv_iconst (v := (1 : Int32)) hx hb dX2_pinned_50 (by decide)) ?_
      refine x_up (pc' := 55) (fun _ _ _ _ _ L => lv_goto (tgt := 55) hx hb dX2_pinned_51 (by decide)) ?_
      refine x_up (pc' := 56) (fun _ _ _ _ _ L => lv_iadd hx hb dX2_pinned_55) ?_
      refine x_upL (pc' := 57) (lo' := [(2, .int (y12 + (1 : Int32))), (4, .ref b18), (3, .ref b13)]) (fun _ _ _ _ _ L => lv_istore_n hx hb dX2_pinned_56 rfl L (by decide) rfl) ?_
      refine x_up (pc' := 21) (fun _ _ _ _ _ L => lv_goto (tgt := 21) hx hb dX2_pinned_57 (by decide)) ?_
      refine x_lo (lo' := [(2, .int (y12 + (1 : Int32))), (3, .ref b13)]) [0, 2] rfl ?_
      exact hself10 (y12 + (1 : Int32)) σ17 hp17
-- X2_frees
def P_X2_frees (κ : Nat → Nat) (a0 : Nat) (x1 : Int32) (σ : xS) (K : Int32 → xH → Prop) (KX : Nat → xH → Prop) : Prop :=
  xrc σ a0 1 ∧ xcallX (fun τ L LX => P_X2_checkHeld κ a0 x1 τ L LX) σ (fun v1 σ2 => xnn v1 fun b5 => xgi σ2 b5 5 4 fun v6 => xgi σ2 b5 5 0 fun v7 => xcallX (fun τ L LX => P_X1_check κ v6 (5 : Int32) v7 τ L LX) σ2 (fun _ σ8 => xpi κ σ8 b5 5 4 (0 : Int32) fun σ11 => xrc σ11 a0 1 ∧ xcall (fun τ L => P_X2_setOf κ a0 x1 τ L) σ11 fun v12 σ13 => xrc σ13 a0 1 ∧ xcall (fun τ L => P_X2_pinned κ a0 v12 τ L) σ13 fun v14 σ15 => K v14 σ15.1) (fun q9 σ10 => κ 0 ≤ q9 ∧ ((xrc σ10 q9 26 ∧ (KX q9 σ10.1))))) (fun q3 σ4 => κ 0 ≤ q3 ∧ ((xrc σ4 q3 26 ∧ (KX q3 σ4.1))))
theorem mdX2_frees : yX2_frees.cls ≠ "java/lang/invoke/MethodHandle" ∧ yX2_frees.cls ≠ "java/lang/invoke/VarHandle" ∧ (parseMethodDescriptor yX2_frees.desc).map (fun d => d.parameters.length) = some 1 := by decide +kernel
set_option maxHeartbeats 4000000 in
set_option maxRecDepth 100000 in
theorem R_X2_frees (l : Launch) (hl : l.stackTraces = false) (G : xG) (hG : G.1.2 = x_cl) (a0 : Nat) (x1 : Int32) (σ : xS) (K : Int32 → xH → Prop) (KX : Nat → xH → Prop) (hp : P_X2_frees G.2 a0 x1 σ K KX) : xMX l yX2_frees cX2_frees 3 (Option.some Jvm.ClassFile.FieldType.int) 10 211 G [(.ref a0), .int x1] σ (xlift emI K) KX := by
  refine x_entryX (by decide) (Nat.le_of_ble_eq_true rfl) ?_
  intro p e s m args below meth c X hr hin hno
  have X : xX p s m args meth c G cX2_frees 3 RX2 := X
  have hx := X.1
  have hb := X.2.1
  have hts := X.2.2.2.2.1
  have hown := X.2.2.2.1
  have hout : ∀ pc, ∀ x ∈ c.exceptionTable.toList, covers x pc = false := fun _ x hx => (hno x hx).elim
  unfold P_X2_frees at hp
  refine x_same (lo' := [(0, .ref a0), (1, .int x1)]) rfl ?_
  refine x_up (pc' := 1) (fun _ _ _ _ _ L => lv_aload_n hx hb dX2_frees_0 rfl (lv_at L 0 rfl)) ?_
  refine x_up (pc' := 2) (fun _ _ _ _ _ L => lv_iload_n hx hb dX2_frees_1 rfl (lv_at L 1 rfl)) ?_
  refine x_callVX (em := emQ) (fun r st => va_rf r :: st) (fun _ _ => rfl) 1 X (kX2 hG) (fun σ' KK KX h => R_X2_checkHeld l hl G hG a0 x1 σ' KK KX h) (lw_V q2513 q2515 qs37 q100 q2516) ⟨rfl, mdX2_checkHeld⟩ ⟨Nat.le_of_ble_eq_true rfl, Nat.le_of_ble_eq_true rfl⟩ rfl rfl (Nat.le_of_ble_eq_true rfl) dX2_frees_2 hp.1 hp.2 (fun v1 σ2 hpA2 => ?_) (fun q3 σ4 hpB2 => ?_)
  · have hp1 := hpA2
    refine x_pc (pc' := 5) rfl ?_
    refine x_upL (pc' := 6) (lo' := [(2, va_rf v1), (0, .ref a0), (1, .int x1)]) (fun _ _ _ _ _ L => lv_astoreq_n hx hb dX2_frees_5 rfl L (by decide) rfl) ?_
    refine x_up (pc' := 7) (fun _ _ _ _ _ L => lv_aloadq_n hx hb dX2_frees_6 rfl (lv_at L 0 rfl)) ?_
    obtain ⟨b5, rfl, hp2⟩ := hp1
    refine x_giN X (kX3 hG) 4 (by decide) q305 (fun _ h => h) dX2_frees_7 hp2 (fun v6 hp3 => ?_)
    refine x_pc (pc' := 10) rfl ?_
    refine x_up (pc' := 11) (fun _ _ _ _ _ L => lv_iconst (v := (5 : Int32)) hx hb dX2_frees_10 (by decide)) ?_
    refine x_up (pc' := 12) (fun _ _ _ _ _ L => lv_aload_n hx hb dX2_frees_11 rfl (lv_at L 0 rfl)) ?_
    refine x_giN X (kX3 hG) 0 (by decide) q294 (fun _ h => h) dX2_frees_12 hp3 (fun v7 hp4 => ?_)
    refine x_pc (pc' := 15) rfl ?_
    refine x_callSNX (host := "WordCache") (em := emV) (fun r st => st) (fun _ _ => rfl) 3 X (fun σ' KK KX h => R_X1_check l hl G hG v6 (5 : Int32) v7 σ' KK KX h) q2415 q2239 q99 (lw_meth q2240) mdX1_check ⟨Nat.le_of_ble_eq_true rfl, Nat.le_of_ble_eq_true rfl⟩ rfl rfl (Nat.le_of_ble_eq_true rfl) dX2_frees_15 hp4 (fun _ σ8 hpA15 => ?_) (fun q9 σ10 hpB15 => ?_)
    · have hp5 := hpA15
      refine x_pc (pc' := 18) rfl ?_
      refine x_up (pc' := 19) (fun _ _ _ _ _ L => lv_aload_n hx hb dX2_frees_18 rfl (lv_at L 0 rfl)) ?_
      refine x_up (pc' := 20) (fun _ _ _ _ _ L => lv_iconst (v := (0 : Int32)) hx hb dX2_frees_19 (by decide)) ?_
      refine x_piN X (kX3 hG) 4 (by decide) q305 (fun _ h => h) rfl rfl rfl dX2_frees_20 hp5 (fun σ11 hp6 => ?_)
      refine x_pc (pc' := 23) rfl ?_
      refine x_up (pc' := 24) (fun _ _ _ _ _ L => lv_aload_n hx hb dX2_frees_23 rfl (lv_at L 1 rfl)) ?_
      refine x_up (pc' := 25) (fun _ _ _ _ _ L => lv_aload_n hx hb dX2_frees_24 rfl (lv_at L 1 rfl)) ?_
      refine x_up (pc' := 26) (fun _ _ _ _ _ L => lv_iload_n hx hb dX2_frees_25 rfl (lv_at L 2 rfl)) ?_
      refine x_callV (em := emI) (fun r st => .int r :: st) (fun _ _ => rfl) 1 X (kX2 hG) (fun σ' KK h => R_X2_setOf l hl G hG a0 x1 σ' KK h) (lw_V q2070 q2071 q2072 q100 q2073) ⟨rfl, mdX2_setOf⟩ ⟨Nat.le_of_ble_eq_true rfl, Nat.le_of_ble_eq_true rfl⟩ rfl rfl (Nat.le_of_ble_eq_true rfl) dX2_frees_26 hp6.1 hp6.2 (fun v12 σ13 hp7 => ?_)
      refine x_pc (pc' := 29) rfl ?_
      refine x_callV (em := emI) (fun r st => .int r :: st) (fun _ _ => rfl) 1 X (kX2 hG) (fun σ' KK h => R_X2_pinned l hl G hG a0 v12 σ' KK h) (lw_V q2518 q2519 q2520 q100 q2521) ⟨rfl, mdX2_pinned⟩ ⟨Nat.le_of_ble_eq_true rfl, Nat.le_of_ble_eq_true rfl⟩ rfl rfl (Nat.le_of_ble_eq_true rfl) dX2_frees_29 hp7.1 hp7.2 (fun v14 σ15 hp8 => ?_)
      refine x_pc (pc' := 32) rfl ?_
      refine x_vx ?_; exact x_iret X hr rfl dX2_frees_32 hp8
    · have hp9 := hpB15
      obtain ⟨hq15, hp10⟩ := hp9
      obtain ⟨hr15, hp11⟩ := hp10
      exact x_out X (kX6 hG) (hout 15) hr15 hq15 hp11
  · have hp12 := hpB2
    obtain ⟨hq2, hp13⟩ := hp12
    obtain ⟨hr2, hp14⟩ := hp13
    exact x_out X (kX6 hG) (hout 2) hr2 hq2 hp14
-- X2_pins
def P_X2_pins (κ : Nat → Nat) (a0 : Nat) (x1 : Int32) (σ : xS) (K : Int32 → xH → Prop) (KX : Nat → xH → Prop) : Prop :=
  xrc σ a0 1 ∧ xcallX (fun τ L LX => P_X2_checkHeld κ a0 x1 τ L LX) σ (fun v1 σ2 => xnn v1 fun b5 => xgi σ2 b5 5 4 fun v6 => ((v6 = 0 → (xgi σ2 b5 5 0 fun v7 => xcallX (fun τ L LX => P_X1_check κ (1 : Int32) (4 : Int32) v7 τ L LX) σ2 (fun _ σ8 => xpi κ σ8 b5 5 4 (1 : Int32) fun σ11 => xrc σ11 a0 1 ∧ xcall (fun τ L => P_X2_setOf κ a0 x1 τ L) σ11 fun v12 σ13 => xrc σ13 a0 1 ∧ xcall (fun τ L => P_X2_pinned κ a0 v12 τ L) σ13 fun v14 σ15 => K v14 σ15.1) (fun q9 σ10 => κ 0 ≤ q9 ∧ ((xrc σ10 q9 26 ∧ (KX q9 σ10.1)))))) ∧ (¬ v6 = 0 → (xgi σ2 b5 5 0 fun v16 => xcallX (fun τ L LX => P_X1_check κ (0 : Int32) (4 : Int32) v16 τ L LX) σ2 (fun _ σ17 => xpi κ σ17 b5 5 4 (1 : Int32) fun σ20 => xrc σ20 a0 1 ∧ xcall (fun τ L => P_X2_setOf κ a0 x1 τ L) σ20 fun v21 σ22 => xrc σ22 a0 1 ∧ xcall (fun τ L => P_X2_pinned κ a0 v21 τ L) σ22 fun v23 σ24 => K v23 σ24.1) (fun q18 σ19 => κ 0 ≤ q18 ∧ ((xrc σ19 q18 26 ∧ (KX q18 σ19.1)))))))) (fun q3 σ4 => κ 0 ≤ q3 ∧ ((xrc σ4 q3 26 ∧ (KX q3 σ4.1))))
theorem mdX2_pins : yX2_pins.cls ≠ "java/lang/invoke/MethodHandle" ∧ yX2_pins.cls ≠ "java/lang/invoke/VarHandle" ∧ (parseMethodDescriptor yX2_pins.desc).map (fun d => d.parameters.length) = some 1 := by decide +kernel
set_option maxHeartbeats 4000000 in
set_option maxRecDepth 100000 in
theorem R_X2_pins (l : Launch) (hl : l.stackTraces = false) (G : xG) (hG : G.1.2 = x_cl) (a0 : Nat) (x1 : Int32) (σ : xS) (K : Int32 → xH → Prop) (KX : Nat → xH → Prop) (hp : P_X2_pins G.2 a0 x1 σ K KX) : xMX l yX2_pins cX2_pins 3 (Option.some Jvm.ClassFile.FieldType.int) 10 211 G [(.ref a0), .int x1] σ (xlift emI K) KX := by
  refine x_entryX (by decide) (Nat.le_of_ble_eq_true rfl) ?_
  intro p e s m args below meth c X hr hin hno
  have X : xX p s m args meth c G cX2_pins 3 RX2 := X
  have hx := X.1
  have hb := X.2.1
  have hts := X.2.2.2.2.1
  have hown := X.2.2.2.1
  have hout : ∀ pc, ∀ x ∈ c.exceptionTable.toList, covers x pc = false := fun _ x hx => (hno x hx).elim
  unfold P_X2_pins at hp
  refine x_same (lo' := [(0, .ref a0), (1, .int x1)]) rfl ?_
  refine x_up (pc' := 1) (fun _ _ _ _ _ L => lv_aload_n hx hb dX2_pins_0 rfl (lv_at L 0 rfl)) ?_
  refine x_up (pc' := 2) (fun _ _ _ _ _ L => lv_iload_n hx hb dX2_pins_1 rfl (lv_at L 1 rfl)) ?_
  refine x_callVX (em := emQ) (fun r st => va_rf r :: st) (fun _ _ => rfl) 1 X (kX2 hG) (fun σ' KK KX h => R_X2_checkHeld l hl G hG a0 x1 σ' KK KX h) (lw_V q2513 q2515 qs37 q100 q2516) ⟨rfl, mdX2_checkHeld⟩ ⟨Nat.le_of_ble_eq_true rfl, Nat.le_of_ble_eq_true rfl⟩ rfl rfl (Nat.le_of_ble_eq_true rfl) dX2_pins_2 hp.1 hp.2 (fun v1 σ2 hpA2 => ?_) (fun q3 σ4 hpB2 => ?_)
  · have hp1 := hpA2
    refine x_pc (pc' := 5) rfl ?_
    refine x_upL (pc' := 6) (lo' := [(2, va_rf v1), (0, .ref a0), (1, .int x1)]) (fun _ _ _ _ _ L => lv_astoreq_n hx hb dX2_pins_5 rfl L (by decide) rfl) ?_
    refine x_up (pc' := 7) (fun _ _ _ _ _ L => lv_aloadq_n hx hb dX2_pins_6 rfl (lv_at L 0 rfl)) ?_
    obtain ⟨b5, rfl, hp2⟩ := hp1
    refine x_giN X (kX3 hG) 4 (by decide) q305 (fun _ h => h) dX2_pins_7 hp2 (fun v6 hp3 => ?_)
    refine x_pc (pc' := 10) rfl ?_
    refine x_ifn (C := v6 = 0) (pt := 17) (pc' := 13) (fun _ _ _ _ _ => lv_if_ne (tgt := 17) hx hb dX2_pins_10 (by decide)) (fun c10 => ?_) (fun c10 => ?_)
    · have hp4 := hp3.1 c10
      refine x_up (pc' := 14) (fun _ _ _ _ _ L => lv_iconst (v := (1 : Int32)) hx hb dX2_pins_13 (by decide)) ?_
      refine x_up (pc' := 18) (fun _ _ _ _ _ L => lv_goto (tgt := 18) hx hb dX2_pins_14 (by decide)) ?_
      refine x_up (pc' := 19) (fun _ _ _ _ _ L => lv_iconst (v := (4 : Int32)) hx hb dX2_pins_18 (by decide)) ?_
      refine x_up (pc' := 20) (fun _ _ _ _ _ L => lv_aload_n hx hb dX2_pins_19 rfl (lv_at L 0 rfl)) ?_
      refine x_giN X (kX3 hG) 0 (by decide) q294 (fun _ h => h) dX2_pins_20 hp4 (fun v7 hp5 => ?_)
      refine x_pc (pc' := 23) rfl ?_
      refine x_callSNX (host := "WordCache") (em := emV) (fun r st => st) (fun _ _ => rfl) 3 X (fun σ' KK KX h => R_X1_check l hl G hG (1 : Int32) (4 : Int32) v7 σ' KK KX h) q2415 q2239 q99 (lw_meth q2240) mdX1_check ⟨Nat.le_of_ble_eq_true rfl, Nat.le_of_ble_eq_true rfl⟩ rfl rfl (Nat.le_of_ble_eq_true rfl) dX2_pins_23 hp5 (fun _ σ8 hpA23 => ?_) (fun q9 σ10 hpB23 => ?_)
      · have hp6 := hpA23
        refine x_pc (pc' := 26) rfl ?_
        refine x_up (pc' := 27) (fun _ _ _ _ _ L => lv_aload_n hx hb dX2_pins_26 rfl (lv_at L 0 rfl)) ?_
        refine x_up (pc' := 28) (fun _ _ _ _ _ L => lv_iconst (v := (1 : Int32)) hx hb dX2_pins_27 (by decide)) ?_
        refine x_piN X (kX3 hG) 4 (by decide) q305 (fun _ h => h) rfl rfl rfl dX2_pins_28 hp6 (fun σ11 hp7 => ?_)
        refine x_pc (pc' := 31) rfl ?_
        refine x_up (pc' := 32) (fun _ _ _ _ _ L => lv_aload_n hx hb dX2_pins_31 rfl (lv_at L 1 rfl)) ?_
        refine x_up (pc' := 33) (fun _ _ _ _ _ L => lv_aload_n hx hb dX2_pins_32 rfl (lv_at L 1 rfl)) ?_
        refine x_up (pc' := 34) (fun _ _ _ _ _ L => lv_iload_n hx hb dX2_pins_33 rfl (lv_at L 2 rfl)) ?_
        refine x_callV (em := emI) (fun r st => .int r :: st) (fun _ _ => rfl) 1 X (kX2 hG) (fun σ' KK h => R_X2_setOf l hl G hG a0 x1 σ' KK h) (lw_V q2070 q2071 q2072 q100 q2073) ⟨rfl, mdX2_setOf⟩ ⟨Nat.le_of_ble_eq_true rfl, Nat.le_of_ble_eq_true rfl⟩ rfl rfl (Nat.le_of_ble_eq_true rfl) dX2_pins_34 hp7.1 hp7.2 (fun v12 σ13 hp8 => ?_)
        refine x_pc (pc' := 37) rfl ?_
        refine x_callV (em := emI) (fun r st => .int r :: st) (fun _ _ => rfl) 1 X (kX2 hG) (fun σ' KK h => R_X2_pinned l hl G hG a0 v12 σ' KK h) (lw_V q2518 q2519 q2520 q100 q2521) ⟨rfl, mdX2_pinned⟩ ⟨Nat.le_of_ble_eq_true rfl, Nat.le_of_ble_eq_true rfl⟩ rfl rfl (Nat.le_of_ble_eq_true rfl) dX2_pins_37 hp8.1 hp8.2 (fun v14 σ15 hp9 => ?_)
        refine x_pc (pc' := 40) rfl ?_
        refine x_vx ?_; exact x_iret X hr rfl dX2_pins_40 hp9
      · have hp10 := hpB23
        obtain ⟨hq23, hp11⟩ := hp10
        obtain ⟨hr23, hp12⟩ := hp11
        exact x_out X (kX6 hG) (hout 23) hr23 hq23 hp12
    · have hp13 := hp3.2 c10
      refine x_up (pc' := 18) (fun _ _ _ _ _ L => lv_iconst (v := (0 : Int32)) hx hb dX2_pins_17 (by decide)) ?_
      refine x_up (pc' := 19) (fun _ _ _ _ _ L => lv_iconst (v := (4 : Int32)) hx hb dX2_pins_18 (by decide)) ?_
      refine x_up (pc' := 20) (fun _ _ _ _ _ L => lv_aload_n hx hb dX2_pins_19 rfl (lv_at L 0 rfl)) ?_
      refine x_giN X (kX3 hG) 0 (by decide) q294 (fun _ h => h) dX2_pins_20 hp13 (fun v16 hp14 => ?_)
      refine x_pc (pc' := 23) rfl ?_
      refine x_callSNX (host := "WordCache") (em := emV) (fun r st => st) (fun _ _ => rfl) 3 X (fun σ' KK KX h => R_X1_check l hl G hG (0 : Int32) (4 : Int32) v16 σ' KK KX h) q2415 q2239 q99 (lw_meth q2240) mdX1_check ⟨Nat.le_of_ble_eq_true rfl, Nat.le_of_ble_eq_true rfl⟩ rfl rfl (Nat.le_of_ble_eq_true rfl) dX2_pins_23 hp14 (fun _ σ17 hpA23 => ?_) (fun q18 σ19 hpB23 => ?_)
      · have hp15 := hpA23
        refine x_pc (pc' := 26) rfl ?_
        refine x_up (pc' := 27) (fun _ _ _ _ _ L => lv_aload_n hx hb dX2_pins_26 rfl (lv_at L 0 rfl)) ?_
        refine x_up (pc' := 28) (fun _ _ _ _ _ L => lv_iconst (v := (1 : Int32)) hx hb dX2_pins_27 (by decide)) ?_
        refine x_piN X (kX3 hG) 4 (by decide) q305 (fun _ h => h) rfl rfl rfl dX2_pins_28 hp15 (fun σ20 hp16 => ?_)
        refine x_pc (pc' := 31) rfl ?_
        refine x_up (pc' := 32) (fun _ _ _ _ _ L => lv_aload_n hx hb dX2_pins_31 rfl (lv_at L 1 rfl)) ?_
        refine x_up (pc' := 33) (fun _ _ _ _ _ L => lv_aload_n hx hb dX2_pins_32 rfl (lv_at L 1 rfl)) ?_
        refine x_up (pc' := 34) (fun _ _ _ _ _ L => lv_iload_n hx hb dX2_pins_33 rfl (lv_at L 2 rfl)) ?_
        refine x_callV (em := emI) (fun r st => .int r :: st) (fun _ _ => rfl) 1 X (kX2 hG) (fun σ' KK h => R_X2_setOf l hl G hG a0 x1 σ' KK h) (lw_V q2070 q2071 q2072 q100 q2073) ⟨rfl, mdX2_setOf⟩ ⟨Nat.le_of_ble_eq_true rfl, Nat.le_of_ble_eq_true rfl⟩ rfl rfl (Nat.le_of_ble_eq_true rfl) dX2_pins_34 hp16.1 hp16.2 (fun v21 σ22 hp17 => ?_)
        refine x_pc (pc' := 37) rfl ?_
        refine x_callV (em := emI) (fun r st => .int r :: st) (fun _ _ => rfl) 1 X (kX2 hG) (fun σ' KK h => R_X2_pinned l hl G hG a0 v21 σ' KK h) (lw_V q2518 q2519 q2520 q100 q2521) ⟨rfl, mdX2_pinned⟩ ⟨Nat.le_of_ble_eq_true rfl, Nat.le_of_ble_eq_true rfl⟩ rfl rfl (Nat.le_of_ble_eq_true rfl) dX2_pins_37 hp17.1 hp17.2 (fun v23 σ24 hp18 => ?_)
        refine x_pc (pc' := 40) rfl ?_
        refine x_vx ?_; exact x_iret X hr rfl dX2_pins_40 hp18
      · have hp19 := hpB23
        obtain ⟨hq23, hp20⟩ := hp19
        obtain ⟨hr23, hp21⟩ := hp20
        exact x_out X (kX6 hG) (hout 23) hr23 hq23 hp21
  · have hp22 := hpB2
    obtain ⟨hq2, hp23⟩ := hp22
    obtain ⟨hr2, hp24⟩ := hp23
    exact x_out X (kX6 hG) (hout 2) hr2 hq2 hp24
-- X7_init
def P_X7_init (κ : Nat → Nat) (a0 : Nat) (σ : xS) (K : Unit → xH → Prop) : Prop :=
  K () σ.1
theorem mdX7_init : yX7_init.cls ≠ "java/lang/invoke/MethodHandle" ∧ yX7_init.cls ≠ "java/lang/invoke/VarHandle" ∧ (parseMethodDescriptor yX7_init.desc).map (fun d => d.parameters.length) = some 0 := by decide +kernel
set_option maxHeartbeats 4000000 in
set_option maxRecDepth 100000 in
theorem R_X7_init (l : Launch) (hl : l.stackTraces = false) (G : xG) (hG : G.1.2 = x_cl) (a0 : Nat) (σ : xS) (K : Unit → xH → Prop) (hp : P_X7_init G.2 a0 σ K) : xM l yX7_init cX7_init 1 (Option.none : Option Jvm.ClassFile.FieldType) 1 20 G [(.ref a0)] σ (xlift emV K) := by
  refine x_entry (by decide) (Nat.le_of_ble_eq_true rfl) ?_
  intro p e s m args below meth c X hr hin
  have X : xX p s m args meth c G cX7_init 1 RX7 := X
  have hx := X.1
  have hb := X.2.1
  have hts := X.2.2.2.2.1
  have hown := X.2.2.2.1
  unfold P_X7_init at hp
  refine x_same (lo' := [(0, .ref a0)]) rfl ?_
  refine x_up (pc' := 1) (fun _ _ _ _ _ L => lv_aload_n hx hb dX7_init_0 rfl (lv_at L 0 rfl)) ?_
  refine x_objInit X q2292 q170 q171 dX7_init_1 (Nat.le_of_ble_eq_true rfl) ⟨Nat.le_of_ble_eq_true rfl, Nat.le_of_ble_eq_true rfl⟩ ?_
  refine x_pc (pc' := 4) rfl ?_
  exact x_vret X hr dX7_init_4 hp
-- X10_init
def P_X10_init (κ : Nat → Nat) (a0 : Nat) (σ : xS) (K : Unit → xH → Prop) : Prop :=
  xcall (fun τ L => P_X7_init κ a0 τ L) σ fun _ σ1 => K () σ1.1
theorem mdX10_init : yX10_init.cls ≠ "java/lang/invoke/MethodHandle" ∧ yX10_init.cls ≠ "java/lang/invoke/VarHandle" ∧ (parseMethodDescriptor yX10_init.desc).map (fun d => d.parameters.length) = some 0 := by decide +kernel
set_option maxHeartbeats 4000000 in
set_option maxRecDepth 100000 in
theorem R_X10_init (l : Launch) (hl : l.stackTraces = false) (G : xG) (hG : G.1.2 = x_cl) (a0 : Nat) (σ : xS) (K : Unit → xH → Prop) (hp : P_X10_init G.2 a0 σ K) : xM l yX10_init cX10_init 1 (Option.none : Option Jvm.ClassFile.FieldType) 2 40 G [(.ref a0)] σ (xlift emV K) := by
  refine x_entry (by decide) (Nat.le_of_ble_eq_true rfl) ?_
  intro p e s m args below meth c X hr hin
  have X : xX p s m args meth c G cX10_init 1 RX10 := X
  have hx := X.1
  have hb := X.2.1
  have hts := X.2.2.2.2.1
  have hown := X.2.2.2.1
  unfold P_X10_init at hp
  refine x_same (lo' := [(0, .ref a0)]) rfl ?_
  refine x_up (pc' := 1) (fun _ _ _ _ _ L => lv_aload_n hx hb dX10_init_0 rfl (lv_at L 0 rfl)) ?_
  refine x_callIN (host := "WordCache") 0 X (fun σ' KK h => R_X7_init l hl G hG a0 σ' KK h) q2312 q2290 q151 (lw_meth q2291) rfl mdX7_init ⟨Nat.le_of_ble_eq_true rfl, Nat.le_of_ble_eq_true rfl⟩ rfl rfl (Nat.le_of_ble_eq_true rfl) dX10_init_1 hp (fun σ1 hp1 => ?_)
  refine x_pc (pc' := 4) rfl ?_
  exact x_vret X hr dX10_init_4 hp1
-- X9_init
def P_X9_init (κ : Nat → Nat) (a0 : Nat) (σ : xS) (K : Unit → xH → Prop) : Prop :=
  xcall (fun τ L => P_X7_init κ a0 τ L) σ fun _ σ1 => K () σ1.1
theorem mdX9_init : yX9_init.cls ≠ "java/lang/invoke/MethodHandle" ∧ yX9_init.cls ≠ "java/lang/invoke/VarHandle" ∧ (parseMethodDescriptor yX9_init.desc).map (fun d => d.parameters.length) = some 0 := by decide +kernel
set_option maxHeartbeats 4000000 in
set_option maxRecDepth 100000 in
theorem R_X9_init (l : Launch) (hl : l.stackTraces = false) (G : xG) (hG : G.1.2 = x_cl) (a0 : Nat) (σ : xS) (K : Unit → xH → Prop) (hp : P_X9_init G.2 a0 σ K) : xM l yX9_init cX9_init 1 (Option.none : Option Jvm.ClassFile.FieldType) 2 40 G [(.ref a0)] σ (xlift emV K) := by
  refine x_entry (by decide) (Nat.le_of_ble_eq_true rfl) ?_
  intro p e s m args below meth c X hr hin
  have X : xX p s m args meth c G cX9_init 1 RX9 := X
  have hx := X.1
  have hb := X.2.1
  have hts := X.2.2.2.2.1
  have hown := X.2.2.2.1
  unfold P_X9_init at hp
  refine x_same (lo' := [(0, .ref a0)]) rfl ?_
  refine x_up (pc' := 1) (fun _ _ _ _ _ L => lv_aload_n hx hb dX9_init_0 rfl (lv_at L 0 rfl)) ?_
  refine x_callIN (host := "WordCache") 0 X (fun σ' KK h => R_X7_init l hl G hG a0 σ' KK h) q2306 q2290 q151 (lw_meth q2291) rfl mdX7_init ⟨Nat.le_of_ble_eq_true rfl, Nat.le_of_ble_eq_true rfl⟩ rfl rfl (Nat.le_of_ble_eq_true rfl) dX9_init_1 hp (fun σ1 hp1 => ?_)
  refine x_pc (pc' := 4) rfl ?_
  exact x_vret X hr dX9_init_4 hp1
-- X8_init
def P_X8_init (κ : Nat → Nat) (a0 : Nat) (σ : xS) (K : Unit → xH → Prop) : Prop :=
  K () σ.1
theorem mdX8_init : yX8_init.cls ≠ "java/lang/invoke/MethodHandle" ∧ yX8_init.cls ≠ "java/lang/invoke/VarHandle" ∧ (parseMethodDescriptor yX8_init.desc).map (fun d => d.parameters.length) = some 0 := by decide +kernel
set_option maxHeartbeats 4000000 in
set_option maxRecDepth 100000 in
theorem R_X8_init (l : Launch) (hl : l.stackTraces = false) (G : xG) (hG : G.1.2 = x_cl) (a0 : Nat) (σ : xS) (K : Unit → xH → Prop) (hp : P_X8_init G.2 a0 σ K) : xM l yX8_init cX8_init 1 (Option.none : Option Jvm.ClassFile.FieldType) 1 20 G [(.ref a0)] σ (xlift emV K) := by
  refine x_entry (by decide) (Nat.le_of_ble_eq_true rfl) ?_
  intro p e s m args below meth c X hr hin
  have X : xX p s m args meth c G cX8_init 1 RX8 := X
  have hx := X.1
  have hb := X.2.1
  have hts := X.2.2.2.2.1
  have hown := X.2.2.2.1
  unfold P_X8_init at hp
  refine x_same (lo' := [(0, .ref a0)]) rfl ?_
  refine x_up (pc' := 1) (fun _ _ _ _ _ L => lv_aload_n hx hb dX8_init_0 rfl (lv_at L 0 rfl)) ?_
  refine x_objInit X q2299 q170 q171 dX8_init_1 (Nat.le_of_ble_eq_true rfl) ⟨Nat.le_of_ble_eq_true rfl, Nat.le_of_ble_eq_true rfl⟩ ?_
  refine x_pc (pc' := 4) rfl ?_
  exact x_vret X hr dX8_init_4 hp
-- X1_byRule
def P_X1_byRule (κ : Nat → Nat) (x0 : Int32) (σ : xS) (K : Option Nat → xH → Prop) : Prop :=
  ((x0 = (0 : Int32) → (xnew κ σ 28 0 [] fun q10 σ11 => xcall (fun τ L => P_X7_init κ q10 τ L) σ11 fun _ σ12 => K (some q10) σ12.1)) ∧ (¬ x0 = (0 : Int32) → ((x0 = (1 : Int32) → (xnew κ σ 29 0 [] fun q7 σ8 => xcall (fun τ L => P_X8_init κ q7 τ L) σ8 fun _ σ9 => K (some q7) σ9.1)) ∧ (¬ x0 = (1 : Int32) → ((x0 = (2 : Int32) → (xnew κ σ 30 0 [] fun q4 σ5 => xcall (fun τ L => P_X9_init κ q4 τ L) σ5 fun _ σ6 => K (some q4) σ6.1)) ∧ (¬ x0 = (2 : Int32) → (xnew κ σ 31 0 [] fun q1 σ2 => xcall (fun τ L => P_X10_init κ q1 τ L) σ2 fun _ σ3 => K (some q1) σ3.1)))))))
theorem mdX1_byRule : yX1_byRule.cls ≠ "java/lang/invoke/MethodHandle" ∧ yX1_byRule.cls ≠ "java/lang/invoke/VarHandle" ∧ (parseMethodDescriptor yX1_byRule.desc).map (fun d => d.parameters.length) = some 1 := by decide +kernel
set_option maxHeartbeats 4000000 in
set_option maxRecDepth 100000 in
theorem R_X1_byRule (l : Launch) (hl : l.stackTraces = false) (G : xG) (hG : G.1.2 = x_cl) (x0 : Int32) (σ : xS) (K : Option Nat → xH → Prop) (hp : P_X1_byRule G.2 x0 σ K) : xM l yX1_byRule cX1_byRule 1 (Option.some (Jvm.ClassFile.FieldType.object "java/util/Comparator")) 3 60 G [.int x0] σ (xlift emQ K) := by
  refine x_entry (by decide) (Nat.le_of_ble_eq_true rfl) ?_
  intro p e s m args below meth c X hr hin
  have X : xX p s m args meth c G cX1_byRule 1 RX1 := X
  have hx := X.1
  have hb := X.2.1
  have hts := X.2.2.2.2.1
  have hown := X.2.2.2.1
  unfold P_X1_byRule at hp
  refine x_same (lo' := [(0, .int x0)]) rfl ?_
  refine x_up (pc' := 1) (fun _ _ _ _ _ L => lv_iload_n hx hb dX1_byRule_0 rfl (lv_at L 0 rfl)) ?_
  by_cases c1_0 : x0 = (0 : Int32)
  · have hp1 := hp.1 c1_0
    refine x_up (pc' := 28) (fun _ _ _ _ _ L => lv_tableIn (off := 27) (tgt := 28) hx hb dX1_byRule_1 (by rw [c1_0]; decide) (by rw [c1_0]; decide) (by rw [c1_0]; rfl) (by decide)) ?_
    refine x_new X (kX7 hG) q2287 q2288 q151 (fs := []) x_dflt_X7 dX1_byRule_28 hp1 (fun q1 σ2 hp2 => ?_)
    refine x_pc (pc' := 31) rfl ?_
    refine x_up (pc' := 32) (fun _ _ _ _ _ L => lv_dup hx hb dX1_byRule_31 rfl) ?_
    refine x_callIN (host := "WordCache") 0 X (fun σ' KK h => R_X7_init l hl G hG q1 σ' KK h) q2289 q2290 q151 (lw_meth q2291) rfl mdX7_init ⟨Nat.le_of_ble_eq_true rfl, Nat.le_of_ble_eq_true rfl⟩ rfl rfl (Nat.le_of_ble_eq_true rfl) dX1_byRule_32 hp2 (fun σ3 hp3 => ?_)
    refine x_pc (pc' := 35) rfl ?_
    exact x_aret X hr (Or.inl ⟨_, rfl⟩) dX1_byRule_35 (some q1) hp3
  have hp4 := hp.2 c1_0
  by_cases c1_1 : x0 = (1 : Int32)
  · have hp5 := hp4.1 c1_1
    refine x_up (pc' := 36) (fun _ _ _ _ _ L => lv_tableIn (off := 35) (tgt := 36) hx hb dX1_byRule_1 (by rw [c1_1]; decide) (by rw [c1_1]; decide) (by rw [c1_1]; rfl) (by decide)) ?_
    refine x_new X (kX8 hG) q2294 q2295 q152 (fs := []) x_dflt_X8 dX1_byRule_36 hp5 (fun q4 σ5 hp6 => ?_)
    refine x_pc (pc' := 39) rfl ?_
    refine x_up (pc' := 40) (fun _ _ _ _ _ L => lv_dup hx hb dX1_byRule_39 rfl) ?_
    refine x_callIN (host := "WordCache") 0 X (fun σ' KK h => R_X8_init l hl G hG q4 σ' KK h) q2296 q2297 q152 (lw_meth q2298) rfl mdX8_init ⟨Nat.le_of_ble_eq_true rfl, Nat.le_of_ble_eq_true rfl⟩ rfl rfl (Nat.le_of_ble_eq_true rfl) dX1_byRule_40 hp6 (fun σ6 hp7 => ?_)
    refine x_pc (pc' := 43) rfl ?_
    exact x_aret X hr (Or.inl ⟨_, rfl⟩) dX1_byRule_43 (some q4) hp7
  have hp8 := hp4.2 c1_1
  by_cases c1_2 : x0 = (2 : Int32)
  · have hp9 := hp8.1 c1_2
    refine x_up (pc' := 44) (fun _ _ _ _ _ L => lv_tableIn (off := 43) (tgt := 44) hx hb dX1_byRule_1 (by rw [c1_2]; decide) (by rw [c1_2]; decide) (by rw [c1_2]; rfl) (by decide)) ?_
    refine x_new X (kX9 hG) q2301 q2302 q153 (fs := []) x_dflt_X9 dX1_byRule_44 hp9 (fun q7 σ8 hp10 => ?_)
    refine x_pc (pc' := 47) rfl ?_
    refine x_up (pc' := 48) (fun _ _ _ _ _ L => lv_dup hx hb dX1_byRule_47 rfl) ?_
    refine x_callIN (host := "WordCache") 0 X (fun σ' KK h => R_X9_init l hl G hG q7 σ' KK h) q2303 q2304 q153 (lw_meth q2305) rfl mdX9_init ⟨Nat.le_of_ble_eq_true rfl, Nat.le_of_ble_eq_true rfl⟩ rfl rfl (Nat.le_of_ble_eq_true rfl) dX1_byRule_48 hp10 (fun σ9 hp11 => ?_)
    refine x_pc (pc' := 51) rfl ?_
    exact x_aret X hr (Or.inl ⟨_, rfl⟩) dX1_byRule_51 (some q7) hp11
  have hp12 := hp8.2 c1_2
  refine x_up (pc' := 52) (fun _ _ _ _ _ L => lv_tableOut (tgt := 52) hx hb dX1_byRule_1 (x_tabOut 0 3 (by decide) (by decide) (by decide) (lt_s (lt_s (lt_s lt_0 c1_0) c1_1) c1_2)) (by decide)) ?_
  refine x_new X (kX10 hG) q2307 q2308 q154 (fs := []) x_dflt_X10 dX1_byRule_52 hp12 (fun q10 σ11 hp13 => ?_)
  refine x_pc (pc' := 55) rfl ?_
  refine x_up (pc' := 56) (fun _ _ _ _ _ L => lv_dup hx hb dX1_byRule_55 rfl) ?_
  refine x_callIN (host := "WordCache") 0 X (fun σ' KK h => R_X10_init l hl G hG q10 σ' KK h) q2309 q2310 q154 (lw_meth q2311) rfl mdX10_init ⟨Nat.le_of_ble_eq_true rfl, Nat.le_of_ble_eq_true rfl⟩ rfl rfl (Nat.le_of_ble_eq_true rfl) dX1_byRule_56 hp13 (fun σ12 hp14 => ?_)
  refine x_pc (pc' := 59) rfl ?_
  exact x_aret X hr (Or.inl ⟨_, rfl⟩) dX1_byRule_59 (some q10) hp14
-- J2_init
def P_J2_init (κ : Nat → Nat) (a0 : Nat) (σ : xS) (K : Unit → xH → Prop) : Prop :=
  K () σ.1
set_option maxHeartbeats 4000000 in
set_option maxRecDepth 100000 in
theorem R_J2_init (l : Launch) (hl : l.stackTraces = false) (G : xG) (hG : G.1.2 = x_cl) (a0 : Nat) (σ : xS) (K : Unit → xH → Prop) (hp : P_J2_init G.2 a0 σ K) : xM l yJ2_init cJ2_init 1 (Option.none : Option Jvm.ClassFile.FieldType) 1 20 G [(.ref a0)] σ (xlift emV K) := by
  refine x_entry (by decide) (Nat.le_of_ble_eq_true rfl) ?_
  intro p e s m args below meth c X hr hin
  have X : xX p s m args meth c G cJ2_init 1 RJ2 := X
  have hx := X.1
  have hb := X.2.1
  have hts := X.2.2.2.2.1
  have hown := X.2.2.2.1
  unfold P_J2_init at hp
  refine x_same (lo' := [(0, .ref a0)]) rfl ?_
  refine x_up (pc' := 1) (fun _ _ _ _ _ L => lv_aload_n hx hb dJ2_init_0 rfl (lv_at L 0 rfl)) ?_
  refine x_objInit X q224 q170 q171 dJ2_init_1 (Nat.le_of_ble_eq_true rfl) ⟨Nat.le_of_ble_eq_true rfl, Nat.le_of_ble_eq_true rfl⟩ ?_
  refine x_pc (pc' := 4) rfl ?_
  exact x_vret X hr dJ2_init_4 hp
-- J41_init
def P_J41_init (κ : Nat → Nat) (a0 : Nat) (σ : xS) (K : Unit → xH → Prop) : Prop :=
  xcall (fun τ L => P_J2_init κ a0 τ L) σ fun _ σ1 => K () σ1.1
theorem mdJ41_init : yJ41_init.cls ≠ "java/lang/invoke/MethodHandle" ∧ yJ41_init.cls ≠ "java/lang/invoke/VarHandle" ∧ (parseMethodDescriptor yJ41_init.desc).map (fun d => d.parameters.length) = some 0 := by decide +kernel
set_option maxHeartbeats 4000000 in
set_option maxRecDepth 100000 in
theorem R_J41_init (l : Launch) (hl : l.stackTraces = false) (G : xG) (hG : G.1.2 = x_cl) (a0 : Nat) (σ : xS) (K : Unit → xH → Prop) (hp : P_J41_init G.2 a0 σ K) : xM l yJ41_init cJ41_init 1 (Option.none : Option Jvm.ClassFile.FieldType) 2 40 G [(.ref a0)] σ (xlift emV K) := by
  refine x_entry (by decide) (Nat.le_of_ble_eq_true rfl) ?_
  intro p e s m args below meth c X hr hin
  have X : xX p s m args meth c G cJ41_init 1 RJ41 := X
  have hx := X.1
  have hb := X.2.1
  have hts := X.2.2.2.2.1
  have hown := X.2.2.2.1
  unfold P_J41_init at hp
  refine x_same (lo' := [(0, .ref a0)]) rfl ?_
  refine x_up (pc' := 1) (fun _ _ _ _ _ L => lv_aload_n hx hb dJ41_init_0 rfl (lv_at L 0 rfl)) ?_
  refine x_callI 0 X (fun σ' KK h => R_J2_init l hl G hG a0 σ' KK h) (lw_meth q223) q103 q2322 q222 rfl mdJ2_init ⟨Nat.le_of_ble_eq_true rfl, Nat.le_of_ble_eq_true rfl⟩ rfl rfl (Nat.le_of_ble_eq_true rfl) dJ41_init_1 hp (fun σ1 hp1 => ?_)
  refine x_pc (pc' := 4) rfl ?_
  exact x_vret X hr dJ41_init_4 hp1
-- J42_init_2
def P_J42_init_2 (κ : Nat → Nat) (a0 : Nat) (x1 : Int32) (x2 : Option Nat) (σ : xS) (K : Unit → xH → Prop) : Prop :=
  xcall (fun τ L => P_J41_init κ a0 τ L) σ fun _ σ1 => (((1 : Int32) ≤ x1 → (xneq κ σ1 x1 fun q2 σ3 => xpq κ σ3 a0 27 0 (some q2) fun σ4 => xpq κ σ4 a0 27 2 x2 fun σ5 => K () σ5.1)) ∧ (¬ (1 : Int32) ≤ x1 → (False)))
theorem mdJ42_init_2 : yJ42_init_2.cls ≠ "java/lang/invoke/MethodHandle" ∧ yJ42_init_2.cls ≠ "java/lang/invoke/VarHandle" ∧ (parseMethodDescriptor yJ42_init_2.desc).map (fun d => d.parameters.length) = some 2 := by decide +kernel
set_option maxHeartbeats 4000000 in
set_option maxRecDepth 100000 in
theorem R_J42_init_2 (l : Launch) (hl : l.stackTraces = false) (G : xG) (hG : G.1.2 = x_cl) (a0 : Nat) (x1 : Int32) (x2 : Option Nat) (σ : xS) (K : Unit → xH → Prop) (hp : P_J42_init_2 G.2 a0 x1 x2 σ K) : xM l yJ42_init_2 cJ42_init_2 3 (Option.none : Option Jvm.ClassFile.FieldType) 3 60 G [(.ref a0), .int x1, va_rf x2] σ (xlift emV K) := by
  refine x_entry (by decide) (by simp [lg_sl, x_catq, x_cati, x_catr, x_catn]) ?_
  intro p e s m args below meth c X hr hin
  have X : xX p s m args meth c G cJ42_init_2 3 RJ42 := X
  have hx := X.1
  have hb := X.2.1
  have hts := X.2.2.2.2.1
  have hown := X.2.2.2.1
  unfold P_J42_init_2 at hp
  refine x_same (lo' := [(0, .ref a0), (1, .int x1), (2, va_rf x2)]) (by simp [lv_args, x_catq, x_cati, x_catr, x_catn]) ?_
  refine x_up (pc' := 1) (fun _ _ _ _ _ L => lv_aload_n hx hb dJ42_init_2_0 rfl (lv_at L 0 rfl)) ?_
  refine x_callI 0 X (fun σ' KK h => R_J41_init l hl G hG a0 σ' KK h) (lw_meth q2321) q149 q2319 q2320 rfl mdJ41_init ⟨Nat.le_of_ble_eq_true rfl, Nat.le_of_ble_eq_true rfl⟩ rfl rfl (Nat.le_of_ble_eq_true rfl) dJ42_init_2_1 hp (fun σ1 hp1 => ?_)
  refine x_pc (pc' := 4) rfl ?_
  refine x_up (pc' := 5) (fun _ _ _ _ _ L => lv_iload_n hx hb dJ42_init_2_4 rfl (lv_at L 1 rfl)) ?_
  refine x_up (pc' := 6) (fun _ _ _ _ _ L => lv_iconst (v := (1 : Int32)) hx hb dJ42_init_2_5 (by decide)) ?_
  refine x_if (C := (1 : Int32) ≤ x1) (pt := 17) (pc' := 9) (fun _ _ _ _ _ => lv_icmp_ge (tgt := 17) hx hb dJ42_init_2_6 (by decide)) (fun c6 => ?_) (fun c6 => ?_)
  · have hp2 := hp1.1 c6
    refine x_up (pc' := 18) (fun _ _ _ _ _ L => lv_aload_n hx hb dJ42_init_2_17 rfl (lv_at L 0 rfl)) ?_
    refine x_up (pc' := 19) (fun _ _ _ _ _ L => lv_iload_n hx hb dJ42_init_2_18 rfl (lv_at L 1 rfl)) ?_
    refine x_neq X q2328 dJ42_init_2_19 hp2 (fun q2 σ3 hp3 => ?_)
    refine x_pc (pc' := 22) rfl ?_
    refine x_pq X (kJ42 hG) 0 (by decide) q2330 (fun _ h => h) rfl (some q2) (x_nar _ (by decide)) (x_fit _ (by decide)) dJ42_init_2_22 hp3 (fun σ4 hp4 => ?_)
    refine x_pc (pc' := 25) rfl ?_
    refine x_up (pc' := 26) (fun _ _ _ _ _ L => lv_aload_n hx hb dJ42_init_2_25 rfl (lv_at L 0 rfl)) ?_
    refine x_up (pc' := 27) (fun _ _ _ _ _ L => lv_aloadq_n hx hb dJ42_init_2_26 rfl (lv_at L 2 rfl)) ?_
    refine x_pqF X (kJ42 hG) 2 (by decide) q2333 (fun _ h => h) rfl hin rfl x2 (x_nar _ (by decide)) (x_fit _ (by decide)) dJ42_init_2_27 hp4 (fun σ5 hp5 => ?_)
    refine x_pc (pc' := 30) rfl ?_
    exact x_vret X hr dJ42_init_2_30 hp5
  · have hp6 := hp1.2 c6
    exact hp6.elim
