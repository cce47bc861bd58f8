section H2
variable {κ c A An An' : Nat → Nat} {H H' H1 : xH} {a s l n r hd dq dd sb ln xa Tm Tm' i M : Nat} {sv lt : Option Nat} {f bl : Nat → Nat} {t t' : Nat → Nat → Int32} {g g' gT W ch : Nat → Int32} {w : Nat × Nat}
theorem RS.keep (kG : GL κ H c → GL κ H' c) (kM : ∀ A g, MT κ c H A g Tm → MT κ c H' A g Tm) (kc : ∀ b ci fs, H b = some (.inl (ci, fs)) → (ci = 8 ∨ ci = 9 ∨ ci = 26) → H' b = some (.inl (ci, fs))) (kb : ∀ b N (f : Nat → Int32), H b = some (.inr (.byte, N, .inl f)) → H' b = some (.inr (.byte, N, .inl f))) (hR : RS κ c H An sv n f sb ln lt t Tm) : RS κ c H' An sv n f sb ln lt t Tm := by
  obtain ⟨h1, h2, h3, h4, ⟨h5, h6, h7⟩, ⟨nt, M, ch, ⟨s1, s2, s3, v, co, mc, f1, N, s4, s5, s6⟩, h8⟩, ⟨nl, ch2, ⟨n1, v2, co2, hs, hz, N2, f2, n2, n3, n4⟩, h9⟩, h10, h11⟩ := hR
  have kR : ∀ q x y bh, RF H q x y bh → RF H' q x y bh := fun q x y bh ⟨u, v, e⟩ => ⟨u, v, kc _ _ _ e (by omega)⟩
  refine ⟨kG h1, fun i hi => ?_, kM _ _ h3, ?_, ⟨h5, h6, fun i hi => ?_⟩, ⟨nt, M, ch, ⟨s1, s2, s3, v, co, mc, f1, N, kc _ _ _ s4 (by omega), kb _ _ _ s5, s6⟩, h8⟩, ⟨nl, ch2, ⟨n1, v2, co2, hs, hz, N2, f2, kc _ _ _ n2 (by omega), kb _ _ _ n3, n4⟩, h9⟩, ?_, h11⟩
  · obtain ⟨vs, co, hs, hz, e1, e2⟩ := h2 i hi
    exact ⟨vs, co, hs, hz, kc _ _ _ e1 (by omega), e2⟩
  · rcases h4 with z | ⟨As, z1, z2, z3⟩
    · exact Or.inl z
    · exact Or.inr ⟨As, z1, z2, kM _ _ z3⟩
  · obtain ⟨Ai, z1, z2⟩ := h7 i hi
    exact ⟨Ai, z1, kM _ _ z2⟩
  · rcases h10 with z | ⟨q, bh, z1, z2, z3, z4⟩
    · exact Or.inl z
    · refine Or.inr ⟨q, bh, z1, z2, kR _ _ _ _ z3, ?_⟩
      rcases z4 with y | ⟨q2, y1, y2, y3⟩
      · exact Or.inl y
      · exact Or.inr ⟨q2, y1, y2, kR _ _ _ _ y3⟩
theorem RS.mono (hE : Ext H H') (hR : RS κ c H An sv n f sb ln lt t Tm) : RS κ c H' An sv n f sb ln lt t Tm := hR.keep (fun h => h.mono hE) (fun A g h => h.mono hE) (fun b ci fs hb _ => hE _ _ hb) (fun b N f hb => hE _ _ hb)
theorem RS.es (hE : ESr H H' a) (hR : RS κ c H An sv n f sb ln lt t Tm) : RS κ c H' An sv n f sb ln lt t Tm := by
  obtain ⟨v, w, r, x, y, e1, -⟩ := hE.2
  exact hR.keep (fun h => h.es hE) (fun A g h => h.es hE) (fun b ci fs hb hci => hE.1 _ _ hb (fun z => by
    rw [z, e1] at hb
    cases hb
    omega)) (fun b N f hb => hE.1 _ _ hb (fun z => by rw [z, e1] at hb; cases hb))
theorem RS.fr (hF : Fr H H' dd) (hR : RS κ c H An sv n f sb ln lt t Tm) : RS κ c H' An sv n f sb ln lt t Tm := hR.keep (fun h => h.fr hF) (fun A g h => h.fr hF) (fun b ci fs hb hci => hF.cl hb (by omega) (by omega)) (fun b N f hb => hF.by hb)
theorem MT.obj (hM : MT κ c H A g Tm) : ∃ fs, H (A 5) = some (.inl (1, fs)) := by
  obtain ⟨s, l, r, T, N, gc, W, bl, h1, -⟩ := hM
  exact ⟨_, h1.2.1 5 (md (by omega))⟩
/-- the deque's array may change if what else stands is kept -/
theorem Fr.of (hA : AD κ H dq dd n hd f) (hf : ∀ i, i < n → ∃ fs, H (f i) = some (.inl (1, fs))) (hk : ∀ b e, H b = some e → (∀ fs, e ≠ .inl (0, fs)) → (∀ fs, e ≠ .inl (7, fs)) → b ≠ dd → H' b = some e) : Fr H H' dd := by
  obtain ⟨e1, ⟨F, e2, e3, e8⟩, e4⟩ := hA
  refine ⟨hk, F, e2, fun j x hj => ?_⟩
  rcases e8 j with ⟨i, hi, hji⟩ | z
  · rw [hji, e3 i hi] at hj
    cases hj
    exact hf i hi
  · rw [z] at hj; cases hj
theorem t_done_2 {g : Nat → Int32} : tg (t_done t g n) g' 2 = m_hist (t 2) n g := by
  have e1 : tset (tsk t 1 g) 16 0 0 2 = t 2 := by
    funext j
    simp [tset, tsk]
  have e2 : tset (tsk t 1 g) 16 0 0 1 = g := by
    funext j
    simp [tset, tsk]
  have e : tg (t_done t g n) g' 2 = m_hist (tset (tsk t 1 g) 16 0 0 2) n (tset (tsk t 1 g) 16 0 0 1) := by
    funext j
    simp [tg, t_done, t_keep, tset, tsk]
  rw [e, e1, e2]
theorem t_done_o {g : Nat → Int32} {k : Nat} (h0 : k ≠ 0) (h1 : k ≠ 1) (h2 : k ≠ 2) (h3 : k ≠ 3) (h4 : k ≠ 16) : tg (t_done t g n) g' k = t k := by
  funext j
  simp [tg, t_done, t_keep, tset, tsk, h0, h1, h2, h3, h4]
theorem t_done_1 {g : Nat → Int32} : tg (t_done t g n) g' 1 = g := by
  funext j
  simp [tg, t_done, t_keep, tset, tsk]
theorem t_done_3 {g : Nat → Int32} : tg (t_done t g n) g' 3 0 = nI (if n = 8 then 8 else n + 1) := by
  simp [tg, t_done, t_keep, tset, tsk]
/-- the twin's history when a change is kept -/
theorem hst_keep (hn : n ≤ 8) (hz : z357 (t 0)) (i : Nat) (hi : i < (if n = 8 then 8 else n + 1)) : hst (tg (t_done t (t 0) n) g') i = if i = (if n = 8 then 7 else n) then t 0 else hst t (if n = 8 then i + 1 else i) := by
  funext j
  unfold hst
  rw [t_done_2]
  by_cases hj : j < 357
  · rw [if_pos hj]
    unfold m_hist
    by_cases h8 : n = 8
    · rw [if_pos h8] at hi
      rw [if_pos h8, if_pos h8, if_pos h8]
      by_cases h7 : i = 7
      · rw [if_pos h7, if_pos (by omega), show i * 357 + j - 2499 = j by omega]
      · rw [if_neg h7, if_neg (by omega), if_pos (by omega), if_pos hj, show (i + 1) * 357 + j = i * 357 + j + 357 by omega]
    · rw [if_neg h8] at hi
      rw [if_neg h8, if_neg h8, if_neg h8]
      by_cases hin : i = n
      · rw [if_pos hin, if_pos (by omega), show i * 357 + j - n * 357 = j by omega]
      · rw [if_neg hin, if_neg (by omega), if_pos hj]
  · rw [if_neg hj]
    by_cases hx : i = (if n = 8 then 7 else n)
    · rw [if_pos hx]
      exact (hz j (by omega)).symm
    · rw [if_neg hx, if_neg hj]
/-- the deque when a change is kept -/
def f_keep (f : Nat → Nat) (n now : Nat) : Nat → Nat := fun i => if i = (if n = 8 then 7 else n) then now else f (if n = 8 then i + 1 else i)
theorem cc_remember (hx : H xa = some (.inl (0, xFs (An 5) sv dq sb ln (t 9 0) lt))) (hκx : κ 0 ≤ xa) (hA : AD κ H dq dd n hd f) (hR : RS κ c H An sv n f sb ln lt t Tm) (hN : MT κ c H An' g' Tm) (hz' : z357 g') (K : Unit → xH → Prop) (hK : ∀ H', RR κ c H' xa (tg (t_done t (t 0) n) g') Tm → KF H H' → MT κ c H' An' g' Tm → K () H') : P_X1_remember κ xa (some (An' 5)) (H, w) K := by
  obtain ⟨r1, r2, r3, r4, ⟨r5, r6, r7⟩, r8, r9, r10, r11, r12, r13⟩ := id hR
  have hcl : ∀ i, i < n → ∃ fs, H (f i) = some (.inl (1, fs)) := fun i hi => by
    obtain ⟨Ai, z1, z2⟩ := r7 i hi
    rw [z1]
    exact z2.obj
  have hxq : xa ≠ dq := fun z => by rw [z, hA.1] at hx; cases hx
  have hxd : xa ≠ dd := fun z => by
    obtain ⟨F, e, -⟩ := hA.2.1
    rw [z, e] at hx
    cases hx
  have hdq : dq ≠ dd := fun z => by
    obtain ⟨F, e, -⟩ := hA.2.1
    have := hA.1
    rw [z, e] at this
    cases this
  obtain ⟨fsn, en⟩ := r3.obj
  -- behind the deque's change
  have fin : ∀ (H2 : xH) (hd2 : Nat) (w2 : Nat × Nat), AD κ H2 dq dd (if n = 8 then 8 else n + 1) hd2 (f_keep f n (An 5)) → (∀ b, b ≠ dq → b ≠ dd → H2 b = H b) → xpq κ (H2, w2) xa 0 0 (some (An' 5)) fun σ => K () σ.1 := by
    intro H2 hd2 w2 hA2 hfr
    have ex : H2 xa = some (.inl (0, xFs (An 5) sv dq sb ln (t 9 0) lt)) := (hfr xa hxq hxd).trans hx
    rw [g_pq ex hκx (by simp [xFs])]
    have hF : Fr H (xup H2 xa (.inl (0, xFs (An' 5) sv dq sb ln (t 9 0) lt))) dd := Fr.of hA hcl (fun b e hb h0 h7 hbd => by
      rw [xup_ne (fun z => by rw [z, hx] at hb; exact h0 _ (Option.some.inj hb).symm), hfr b (fun z => by rw [z, hA.1] at hb; exact h7 _ (Option.some.inj hb).symm) hbd]
      exact hb)
    have hRS := hR.fr hF
    have hN' := hN.fr hF
    have hA3 : AD κ (xup H2 xa (.inl (0, xFs (An' 5) sv dq sb ln (t 9 0) lt))) dq dd (if n = 8 then 8 else n + 1) hd2 (f_keep f n (An 5)) := by
      obtain ⟨e1, ⟨F, e2, e3⟩, e4⟩ := hA2
      exact ⟨(xup_ne (Ne.symm hxq)).trans e1, ⟨F, (xup_ne (Ne.symm hxd)).trans e2, e3⟩, e4⟩
    obtain ⟨q1, q2, q3, q4, ⟨q5, q6, q7⟩, q8, q9, q10, q11, q12, q13⟩ := hRS
    have o : ∀ k, k ≠ 0 → k ≠ 1 → k ≠ 2 → k ≠ 3 → k ≠ 16 → tg (t_done t (t 0) n) g' k = t k := fun k h0 h1 h2 h3 h4 => t_done_o h0 h1 h2 h3 h4
    refine hK (xup H2 xa (.inl (0, xFs (An' 5) sv dq sb ln (t 9 0) lt))) ⟨An', sv, dq, dd, if n = 8 then 8 else n + 1, hd2, f_keep f n (An 5), sb, ln, lt, ?_, hκx, hA3, ⟨q1, q2, hN', ?_, ⟨t_done_3, ?_, fun i hi => ?_⟩, ?_, ?_, ?_, hz', ?_, ?_⟩⟩ hF.kf hN'
    · rw [xup_eq, o 9 (by omega) (by omega) (by omega) (by omega) (by omega)]
    · rw [o 5 (by omega) (by omega) (by omega) (by omega) (by omega), o 4 (by omega) (by omega) (by omega) (by omega) (by omega)]
      exact q4
    · split <;> omega
    · rw [hst_keep q6 r11 i hi]
      unfold f_keep
      by_cases hx2 : i = (if n = 8 then 7 else n)
      · rw [if_pos hx2, if_pos hx2]
        exact ⟨An, rfl, q3⟩
      · rw [if_neg hx2, if_neg hx2]
        refine q7 _ ?_
        by_cases h8 : n = 8
        · rw [if_pos h8] at hi hx2 ⊢
          omega
        · rw [if_neg h8] at hi hx2 ⊢
          omega
    · rw [o 8 (by omega) (by omega) (by omega) (by omega) (by omega), o 7 (by omega) (by omega) (by omega) (by omega) (by omega)]
      exact q8
    · rw [o 15 (by omega) (by omega) (by omega) (by omega) (by omega), o 14 (by omega) (by omega) (by omega) (by omega) (by omega)]
      exact q9
    · rw [o 10 (by omega) (by omega) (by omega) (by omega) (by omega), o 11 (by omega) (by omega) (by omega) (by omega) (by omega), o 12 (by omega) (by omega) (by omega) (by omega) (by omega), o 13 (by omega) (by omega) (by omega) (by omega) (by omega)]
      exact q10
    · rw [t_done_1]; exact r11
    · rw [o 4 (by omega) (by omega) (by omega) (by omega) (by omega)]; exact q13
  unfold P_X1_remember
  rw [g_gq (r := some dq) hx rfl, t_nn, hA.rc, true_and]
  refine c_pure (r := nI n) (fun w K hk => cc_size11 hA K hk) ?_
  have e8 : (nI n = 8) ↔ n = 8 := nI_eq (b := 8) (by omega) (by omega)
  rw [e8]
  refine ⟨fun h8 => ?_, fun h8 => ?_⟩
  · rw [g_gq (r := some dq) hx rfl, t_nn, hA.rc, true_and]
    refine ⟨0, 0, Nat.zero_le _, Nat.zero_le _, cc_removeFirst11 hA (by omega) _ (fun H1 hA1 hf1 => ?_)⟩
    have ex1 : H1 xa = some (.inl (0, xFs (An 5) sv dq sb ln (t 9 0) lt)) := (hf1 xa hxq hxd).trans hx
    show xgq (H1, _) xa 0 2 _
    rw [g_gq (r := some dq) ex1 rfl, g_gq (r := some (An 5)) ex1 rfl, t_nn, hA1.rc, true_and]
    have en1 : H1 (An 5) = some (.inl (1, fsn)) := (hf1 _ (fun z => by rw [z, hA.1] at en; cases en) (fun z => by
      obtain ⟨F, e, -⟩ := hA.2.1
      rw [z, e] at en
      cases en)).trans en
    refine ⟨0, 0, Nat.zero_le _, Nat.zero_le _, cc_addLast11 hA1 (by omega) (fun b hb => by cases hb; exact ⟨1, _, en1, rfl, by omega⟩) _ (fun H2 hA2 hf2 => ?_)⟩
    refine fin H2 ((hd + 1) % 17) _ ?_ (fun b b1 b2 => (hf2 b b1 b2).trans (hf1 b b1 b2))
    rw [if_pos h8]
    have e7 : n - 1 + 1 = 8 := by omega
    rw [e7] at hA2
    have ef : (fun i => if i = n - 1 then An 5 else f (i + 1)) = f_keep f n (An 5) := by
      funext i
      unfold f_keep
      rw [if_pos h8, if_pos h8, show n - 1 = 7 by omega]
    rw [← ef]
    exact hA2
  · rw [g_gq (r := some dq) hx rfl, g_gq (r := some (An 5)) hx rfl, t_nn, hA.rc, true_and]
    refine ⟨0, 0, Nat.zero_le _, Nat.zero_le _, cc_addLast11 hA (by omega) (fun b hb => by cases hb; exact ⟨1, _, en, rfl, by omega⟩) _ (fun H2 hA2 hf2 => ?_)⟩
    refine fin H2 hd _ ?_ hf2
    rw [if_neg h8]
    have ef : (fun i => if i = n then An 5 else f i) = f_keep f n (An 5) := by
      funext i
      unfold f_keep
      rw [if_neg h8, if_neg h8]
    rw [← ef]
    exact hA2
end H2
