-- the nine orders, as one
def m_ord (i : Nat) (g : Nat → Int32) (x y : Int32) (s l r : Nat) : mO :=
  if i = 0 then m_reads g x s l r else if i = 1 then m_writes g x y s l r else if i = 2 then m_pins g x 1 else if i = 3 then m_pins g x 0 else if i = 4 then m_flushes g s l else if i = 5 then m_devices g x y
  else if i = 6 then m_passes g x else if i = 7 then m_shape g x y s l else m_rule g x
section H4
variable {κ c A An An' : Nat → Nat} {H H' H1 h h0 : xH} {a s l n r s' l' r' hd dq dd sb ln xa oa Tm Tm' T N T' N' i M : Nat} {sv lt : Option Nat} {f bl : Nat → Nat} {t t' : Nat → Nat → Int32} {g g' gT gc W ch : Nat → Int32} {w : Nat × Nat} {x y : Int32}
theorem GI.uq (h1 : GI g T N s l r) (h2 : GI g T' N' s' l' r') : s = s' ∧ l = l' ∧ r = r' := by
  obtain ⟨⟨⟨a1, a2⟩, ⟨a3, a4, a5⟩, ⟨a6, a7, a8⟩, -⟩, -⟩ := h1
  obtain ⟨⟨⟨b1, b2⟩, ⟨b3, b4, b5⟩, ⟨b6, b7, b8⟩, -⟩, -⟩ := h2
  exact ⟨(nI_eq (by omega) (by omega)).mp (a3.symm.trans b3), (nI_eq (by omega) (by omega)).mp (a6.symm.trans b6), (nI_eq (by omega) (by omega)).mp (a1.symm.trans b1)⟩
theorem m_ord_re (hi : i < 9) {a b : Int32} (h : m_ord i g x y s l r = .inl (a, b)) : a ≠ 0 := by
  have k : ∀ {a b a' b' : Int32}, (Sum.inl (a, b) : mO) = .inl (a', b') → a = a' := fun h => by cases h; rfl
  unfold m_ord m_reads m_writes m_pins m_flushes m_devices m_passes m_shape m_rule at h
  repeat' (first | split at h | (dsimp only at h; split at h))
  all_goals first | (cases h; done) | (have := k h; subst this; first | decide | (split <;> decide))
theorem m_ord_nx (hi : i < 9) (hT : T < 2 ^ 28) {p : Int32 × (Nat → Int32)} (hG : GI g T N s l r) (h : m_ord i g x y s l r = .inr p) : ∃ s' l' r' T' N', GI p.2 T' N' s' l' r' ∧ T' ≤ T + 200 ∧ N' ≤ N + 1 := by
  have nx : nxt p.2 T N s l → ∃ s' l' r' T' N', GI p.2 T' N' s' l' r' ∧ T' ≤ T + 200 ∧ N' ≤ N + 1 := fun ⟨T', N', r', h1, h2, h3⟩ => ⟨s, l, r', T', N', h3, h1, h2⟩
  unfold m_ord at h
  by_cases e : i = 0
  · rw [if_pos e] at h; exact nx (hG.reads hT h)
  rw [if_neg e] at h
  by_cases e : i = 1
  · rw [if_pos e] at h; exact nx (hG.writes hT h)
  rw [if_neg e] at h
  by_cases e : i = 2
  · rw [if_pos e] at h; exact nx (hG.pins (Or.inr rfl) h)
  rw [if_neg e] at h
  by_cases e : i = 3
  · rw [if_pos e] at h; exact nx (hG.pins (Or.inl rfl) h)
  rw [if_neg e] at h
  by_cases e : i = 4
  · rw [if_pos e] at h; exact nx (hG.flushes hT h)
  rw [if_neg e] at h
  by_cases e : i = 5
  · rw [if_pos e] at h; exact nx (hG.devices hT h)
  rw [if_neg e] at h
  by_cases e : i = 6
  · rw [if_pos e] at h; exact nx (hG.passes h)
  rw [if_neg e] at h
  by_cases e : i = 7
  · rw [if_pos e] at h
    obtain ⟨T', x', y', -, -, h1, h2⟩ := hG.shape hT h
    exact ⟨x', y', 0, T', N, h2, h1, by omega⟩
  rw [if_neg e] at h
  exact nx (hG.rule h)
theorem cc_does (hi : i < 9) (hM : MM κ A s l c W h0 r bl h) (hR : RX gc g W bl s l r) (hG : GI g T N s l r) (hT : T < 2 ^ 28) {c0 s0 : Nat} (hc : 90 ≤ c0) (hs : 50000 ≤ s0) (hW : WS κ (mput h A s l gc)) (ho : mput h A s l gc oa = some (.inl (11, [.ref (κ (11 + i)), .int x, .int y]))) (K : Int32 → xH → Prop) (KX : Nat → xH → Prop)
    (hO : ORD κ c h0 (A 5) (m_ord i g x y s l r) K (fun q h' => κ 0 ≤ q ∧ xrc (h', 0, 0) q 26 ∧ KX q h')) : P_X5_does κ oa (some (A 5)) (mput h A s l gc, c0, s0) K KX := by
  obtain ⟨vs, co, hs', hz, e, eh⟩ := hW i hi
  have hm : mput h A s l gc (A 5) = some (.inl (1, mFs A gc)) := mput_k (k := 5) hM.1.1 (md (by omega))
  unfold m_ord at hO
  by_cases q : i = 0
  · rw [if_pos q] at hO eh; subst q eh; exact cc_does_read ho e hm K KX (o_read hM hR hG hT x hc hs _ _ hO)
  rw [if_neg q] at hO eh
  by_cases q : i = 1
  · rw [if_pos q] at hO eh; subst q eh; exact cc_does_write ho e hm K KX (o_write hM hR hG hT x y hc hs _ _ hO)
  rw [if_neg q] at hO eh
  by_cases q : i = 2
  · rw [if_pos q] at hO eh; subst q eh; exact cc_does_pin ho e hm K KX (o_pins hM hR hG x hc hs _ _ hO)
  rw [if_neg q] at hO eh
  by_cases q : i = 3
  · rw [if_pos q] at hO eh; subst q eh; exact cc_does_free ho e hm K KX (o_frees hM hR hG x hc hs _ _ hO)
  rw [if_neg q] at hO eh
  by_cases q : i = 4
  · rw [if_pos q] at hO eh; subst q eh; exact cc_does_flush ho e hm K KX (o_flushes hM hR hG hT hc hs _ _ hO)
  rw [if_neg q] at hO eh
  by_cases q : i = 5
  · rw [if_pos q] at hO eh; subst q eh; exact cc_does_device ho e hm K KX (o_device hM hR hG hT x y hc hs _ _ hO)
  rw [if_neg q] at hO eh
  by_cases q : i = 6
  · rw [if_pos q] at hO eh; subst q eh; exact cc_does_ticks ho e hm K KX (o_waits hM hR hG x hc hs _ _ hO)
  rw [if_neg q] at hO eh
  by_cases q : i = 7
  · rw [if_pos q] at hO eh; subst q eh; exact cc_does_shape ho e hm K KX (o_shapes hM hR hG hT x y hc hs _ _ hO)
  rw [if_neg q] at hO eh
  have q : i = 8 := by omega
  subst q eh
  exact cc_does_rule ho e hm K KX (o_rules hM hR hG x hc hs _ _ hO)
/-- a change by an order of its own -/
theorem cc_order (hi : i < 9) (hR : RR κ c H xa t Tm) (hG : GI (t 0) T N s l r) (hT : Tm < 2 ^ 27) {c0 s0 : Nat} (hc : 400 ≤ c0) (hs : 200000 ≤ s0) (K : Int32 → xH → Prop) (KX : Nat → xH → Prop) (hK : kC κ c xa H (m_ord i (t 0) x y s l r) t Tm K KX) :
    xnew κ (H, c0, s0) 11 3 [va_rf none, .int 0, .int 0] fun q1 σ2 => xcall (fun τ L => P_X5_init κ q1 (some (κ (11 + i))) x y τ L) σ2 fun _ σ3 => xrc σ3 xa 0 ∧ xcallX (fun τ L LX => P_X1_done κ xa (some q1) τ L LX) σ3 (fun v4 σ5 => K v4 σ5.1) (fun q6 σ7 => κ 0 ≤ q6 ∧ ((xrc σ7 q6 20 ∧ (KX q6 σ7.1)))) := by
  refine ⟨by dsimp only; omega, by dsimp only; omega, fun q1 hq hκ => ?_⟩
  have hq : H q1 = none := hq
  show xcall _ (xup H q1 (.inl (11, [va_rf none, .int 0, .int 0])), c0 - 1, s0 - 3) _
  refine c_call 0 0 (by omega) (by omega) ?_
  unfold P_X5_init
  rw [g_pq xup_eq hκ (by simp), xup_xup, g_pi xup_eq hκ (by simp), xup_xup, g_pi xup_eq hκ (by simp), xup_xup]
  have hE1 : Ext H (xup H q1 (.inl (11, [.ref (κ (11 + i)), .int x, .int y]))) := Ext.new hq
  have hR1 := hR.mono hE1
  show xrc (xup H q1 (.inl (11, [.ref (κ (11 + i)), .int x, .int y])), _) xa 0 ∧ _
  obtain ⟨An, sv, dq, dd, n, hd, f, sb, ln, lt, e1, -⟩ := id hR1
  refine ⟨⟨_, e1⟩, ?_⟩
  refine c_callX 390 190000 (by omega) (by omega) (cc_done hR1 hT (o := fun s l r => m_ord i (t 0) x y s l r) (oo := m_ord i (t 0) x y s l r) (fun T' N' s' l' r' _ hG' => ?_) (fun a b h => m_ord_re hi h) (fun T' N' s' l' r' p hT' hG' h => ?_) xup_eq (fun A s l r gc W bl h h0 c0 s0 T N K KX k1 k2 k3 k4 k5 k6 k7 k8 _ k9 => cc_does hi k1 k2 k3 k4 k5 k6 k7 k8 K KX k9) (by omega) (by omega) _ _ ((kC.to (fun q H' h1 h2 h3 => ⟨h1, ⟨_, h2⟩, h3⟩) hK).fr (Ext.kf hE1)))
  · obtain ⟨rfl, rfl, rfl⟩ := hG.uq hG'
    rfl
  · obtain ⟨rfl, rfl, rfl⟩ := hG.uq hG'
    exact m_ord_nx hi (by omega) hG' h
theorem cc_read1 (hR : RR κ c H xa t Tm) (hG : GI (t 0) T N s l r) (hT : Tm < 2 ^ 27) (x : Int32) {c0 s0 : Nat} (hc : 400 ≤ c0) (hs : 200000 ≤ s0) (K : Int32 → xH → Prop) (KX : Nat → xH → Prop) (hK : kC κ c xa H (m_reads (t 0) x s l r) t Tm K KX) : P_X1_read κ xa x (H, c0, s0) K KX := cc_order (i := 0) (y := 0) (by omega) hR hG hT hc hs K KX hK
theorem cc_write1 (hR : RR κ c H xa t Tm) (hG : GI (t 0) T N s l r) (hT : Tm < 2 ^ 27) (x y : Int32) {c0 s0 : Nat} (hc : 400 ≤ c0) (hs : 200000 ≤ s0) (K : Int32 → xH → Prop) (KX : Nat → xH → Prop) (hK : kC κ c xa H (m_writes (t 0) x y s l r) t Tm K KX) : P_X1_write κ xa x y (H, c0, s0) K KX := cc_order (i := 1) (by omega) hR hG hT hc hs K KX hK
theorem cc_pin1 (hR : RR κ c H xa t Tm) (hG : GI (t 0) T N s l r) (hT : Tm < 2 ^ 27) (x : Int32) {c0 s0 : Nat} (hc : 400 ≤ c0) (hs : 200000 ≤ s0) (K : Int32 → xH → Prop) (KX : Nat → xH → Prop) (hK : kC κ c xa H (m_pins (t 0) x 1) t Tm K KX) : P_X1_pin κ xa x (H, c0, s0) K KX := cc_order (i := 2) (y := 0) (by omega) hR hG hT hc hs K KX hK
theorem cc_free1 (hR : RR κ c H xa t Tm) (hG : GI (t 0) T N s l r) (hT : Tm < 2 ^ 27) (x : Int32) {c0 s0 : Nat} (hc : 400 ≤ c0) (hs : 200000 ≤ s0) (K : Int32 → xH → Prop) (KX : Nat → xH → Prop) (hK : kC κ c xa H (m_pins (t 0) x 0) t Tm K KX) : P_X1_free κ xa x (H, c0, s0) K KX := cc_order (i := 3) (y := 0) (by omega) hR hG hT hc hs K KX hK
theorem cc_flush1 (hR : RR κ c H xa t Tm) (hG : GI (t 0) T N s l r) (hT : Tm < 2 ^ 27) {c0 s0 : Nat} (hc : 400 ≤ c0) (hs : 200000 ≤ s0) (K : Int32 → xH → Prop) (KX : Nat → xH → Prop) (hK : kC κ c xa H (m_flushes (t 0) s l) t Tm K KX) : P_X1_flush κ xa (H, c0, s0) K KX := cc_order (i := 4) (x := 0) (y := 0) (by omega) hR hG hT hc hs K KX hK
theorem cc_device1 (hR : RR κ c H xa t Tm) (hG : GI (t 0) T N s l r) (hT : Tm < 2 ^ 27) (x y : Int32) {c0 s0 : Nat} (hc : 400 ≤ c0) (hs : 200000 ≤ s0) (K : Int32 → xH → Prop) (KX : Nat → xH → Prop) (hK : kC κ c xa H (m_devices (t 0) x y) t Tm K KX) : P_X1_device κ xa x y (H, c0, s0) K KX := cc_order (i := 5) (by omega) hR hG hT hc hs K KX hK
theorem cc_pass1 (hR : RR κ c H xa t Tm) (hG : GI (t 0) T N s l r) (hT : Tm < 2 ^ 27) (x : Int32) {c0 s0 : Nat} (hc : 400 ≤ c0) (hs : 200000 ≤ s0) (K : Int32 → xH → Prop) (KX : Nat → xH → Prop) (hK : kC κ c xa H (m_passes (t 0) x) t Tm K KX) : P_X1_pass κ xa x (H, c0, s0) K KX := cc_order (i := 6) (y := 0) (by omega) hR hG hT hc hs K KX hK
theorem cc_shape1 (hR : RR κ c H xa t Tm) (hG : GI (t 0) T N s l r) (hT : Tm < 2 ^ 27) (x y : Int32) {c0 s0 : Nat} (hc : 400 ≤ c0) (hs : 200000 ≤ s0) (K : Int32 → xH → Prop) (KX : Nat → xH → Prop) (hK : kC κ c xa H (m_shape (t 0) x y s l) t Tm K KX) : P_X1_shape κ xa x y (H, c0, s0) K KX := cc_order (i := 7) (by omega) hR hG hT hc hs K KX hK
theorem cc_rule1 (hR : RR κ c H xa t Tm) (hG : GI (t 0) T N s l r) (hT : Tm < 2 ^ 27) (x : Int32) {c0 s0 : Nat} (hc : 400 ≤ c0) (hs : 200000 ≤ s0) (K : Int32 → xH → Prop) (KX : Nat → xH → Prop) (hK : kC κ c xa H (m_rule (t 0) x) t Tm K KX) : P_X1_rule κ xa x (H, c0, s0) K KX := cc_order (i := 8) (y := 0) (by omega) hR hG hT hc hs K KX hK
end H4
