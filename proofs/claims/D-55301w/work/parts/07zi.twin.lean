-- TreeMap.putAll: a tree built from sorted entries
/-- the places u .. t - 1 make a tree below r -/
def TR (u t r : Nat) (T : Nat → Nat → Option Nat) (lo hi : Nat → Nat) : Prop :=
  (u ≤ r ∧ r < t ∧ lo r = u ∧ hi r = t ∧ T 2 r = none) ∧ (∀ i, u ≤ i → i < t → lo i ≤ i ∧ i < hi i ∧ u ≤ lo i ∧ hi i ≤ t) ∧ (∀ i, u ≤ i → i < t → T 0 i = none → lo i = i) ∧ (∀ i j, u ≤ i → i < t → T 0 i = some j → lo i ≤ j ∧ j < i ∧ lo j = lo i ∧ hi j = i ∧ T 2 j = some i) ∧
  (∀ i, u ≤ i → i < t → T 1 i = none → hi i = i + 1) ∧ (∀ i j, u ≤ i → i < t → T 1 i = some j → i < j ∧ j < hi i ∧ lo j = i + 1 ∧ hi j = hi i ∧ T 2 j = some i) ∧ (∀ i, u ≤ i → i < t → T 2 i = none → i = r) ∧ (∀ i p, u ≤ i → i < t → T 2 i = some p → u ≤ p ∧ p < t ∧ (T 0 p = some i ∨ T 1 p = some i))
/-- m with what hangs below it -/
def hangT (m : Nat) (rL rR : Option Nat) (TL TR' : Nat → Nat → Option Nat) : Nat → Nat → Option Nat := fun k i =>
  if i < m then (if k = 2 ∧ rL = some i then some m else TL k i) else if m < i then (if k = 2 ∧ rR = some i then some m else TR' k i) else if k = 0 then rL else if k = 1 then rR else none
def hangN (m u : Nat) (f g : Nat → Nat) : Nat → Nat := fun i => if i < m then f i else if m < i then g i else u
theorem TR_hang {u t m : Nat} {rL rR : Option Nat} {TL TR' : Nat → Nat → Option Nat} {loL hiL loR hiR : Nat → Nat} (hum : u ≤ m) (hmt : m < t) (hL : (u = m ∧ rL = none) ∨ ∃ r, rL = some r ∧ TR u m r TL loL hiL) (hR : (m + 1 = t ∧ rR = none) ∨ ∃ r, rR = some r ∧ TR (m + 1) t r TR' loR hiR) :
    TR u t m (hangT m rL rR TL TR') (hangN m u loL loR) (hangN m t hiL hiR) := by
  have c0 : ∀ k i, i < m → hangT m rL rR TL TR' k i = if k = 2 ∧ rL = some i then some m else TL k i := fun k i h => by unfold hangT; rw [if_pos h]
  have c1 : ∀ k i, m < i → hangT m rL rR TL TR' k i = if k = 2 ∧ rR = some i then some m else TR' k i := fun k i h => by unfold hangT; rw [if_neg (by omega), if_pos h]
  have c2 : hangT m rL rR TL TR' 0 m = rL ∧ hangT m rL rR TL TR' 1 m = rR ∧ hangT m rL rR TL TR' 2 m = none := by unfold hangT; simp
  have l0 : ∀ f g v i, i < m → hangN m v f g i = f i := fun f g v i h => by unfold hangN; rw [if_pos h]
  have l1 : ∀ f g v i, m < i → hangN m v f g i = g i := fun f g v i h => by unfold hangN; rw [if_neg (by omega), if_pos h]
  have l2 : ∀ f g v, hangN m v f g m = v := fun f g v => by unfold hangN; simp
  have cL : ∀ i, i < m → hangT m rL rR TL TR' 0 i = TL 0 i ∧ hangT m rL rR TL TR' 1 i = TL 1 i := fun i h => by rw [c0 0 i h, c0 1 i h, if_neg (by omega), if_neg (by omega)]; exact ⟨rfl, rfl⟩
  have cR : ∀ i, m < i → hangT m rL rR TL TR' 0 i = TR' 0 i ∧ hangT m rL rR TL TR' 1 i = TR' 1 i := fun i h => by rw [c1 0 i h, c1 1 i h, if_neg (by omega), if_neg (by omega)]; exact ⟨rfl, rfl⟩
  have cpL : ∀ i, i < m → TL 2 i ≠ none → (∀ r, rL = some r → TL 2 r = none) → hangT m rL rR TL TR' 2 i = TL 2 i := fun i h1 h2 h3 => by
    rw [c0 2 i h1, if_neg]
    rintro ⟨-, z⟩
    exact h2 (h3 i z)
  have cpR : ∀ i, m < i → TR' 2 i ≠ none → (∀ r, rR = some r → TR' 2 r = none) → hangT m rL rR TL TR' 2 i = TR' 2 i := fun i h1 h2 h3 => by
    rw [c1 2 i h1, if_neg]
    rintro ⟨-, z⟩
    exact h2 (h3 i z)
  have hrL : ∀ r, rL = some r → TL 2 r = none := fun r z => by
    rcases hL with ⟨-, y⟩ | ⟨r', y, hT⟩
    · rw [y] at z; cases z
    · rw [y] at z; cases z; exact hT.1.2.2.2.2
  have hrR : ∀ r, rR = some r → TR' 2 r = none := fun r z => by
    rcases hR with ⟨-, y⟩ | ⟨r', y, hT⟩
    · rw [y] at z; cases z
    · rw [y] at z; cases z; exact hT.1.2.2.2.2
  have iL : ∀ i, u ≤ i → i < m → ∃ r, rL = some r ∧ TR u m r TL loL hiL := fun i h1 h2 => by
    rcases hL with ⟨y, -⟩ | hT
    · omega
    · exact hT
  have iR : ∀ i, m < i → i < t → ∃ r, rR = some r ∧ TR (m + 1) t r TR' loR hiR := fun i h1 h2 => by
    rcases hR with ⟨y, -⟩ | hT
    · omega
    · exact hT
  refine ⟨⟨hum, hmt, l2 _ _ _, l2 _ _ _, c2.2.2⟩, fun i h1 h2 => ?_, fun i h1 h2 e => ?_, fun i j h1 h2 e => ?_, fun i h1 h2 e => ?_, fun i j h1 h2 e => ?_, fun i h1 h2 e => ?_, fun i p h1 h2 e => ?_⟩
  · rcases Nat.lt_trichotomy i m with q | q | q
    · obtain ⟨r, -, hT⟩ := iL i h1 q
      have := hT.2.1 i h1 q
      rw [l0 _ _ _ _ q, l0 _ _ _ _ q]; omega
    · subst q; rw [l2, l2]; omega
    · obtain ⟨r, -, hT⟩ := iR i q h2
      have := hT.2.1 i (by omega) h2
      rw [l1 _ _ _ _ q, l1 _ _ _ _ q]; omega
  · rcases Nat.lt_trichotomy i m with q | q | q
    · obtain ⟨r, -, hT⟩ := iL i h1 q
      rw [(cL i q).1] at e
      rw [l0 _ _ _ _ q]; exact hT.2.2.1 i h1 q e
    · subst q
      rw [c2.1] at e
      rw [l2]
      rcases hL with ⟨y, -⟩ | ⟨r, y, -⟩
      · exact y
      · rw [y] at e; cases e
    · obtain ⟨r, -, hT⟩ := iR i q h2
      rw [(cR i q).1] at e
      rw [l1 _ _ _ _ q]; exact hT.2.2.1 i (by omega) h2 e
  · rcases Nat.lt_trichotomy i m with q | q | q
    · obtain ⟨r, -, hT⟩ := iL i h1 q
      rw [(cL i q).1] at e
      have := hT.2.2.2.1 i j h1 q e
      rw [l0 _ _ _ _ q, l0 _ _ _ j (by omega), l0 _ _ _ j (by omega), cpL j (by omega) (by rw [this.2.2.2.2]; intro z; cases z) hrL]
      exact this
    · subst q
      rw [c2.1] at e
      obtain ⟨r, y, hT⟩ : ∃ r, rL = some r ∧ TR u i r TL loL hiL := by
        rcases hL with ⟨-, y⟩ | hT
        · rw [y] at e; cases e
        · exact hT
      rw [y] at e
      cases e
      obtain ⟨b1, b2, b3, b4, b5⟩ := hT.1
      rw [l2, l0 _ _ _ j b2, l0 _ _ _ j b2, c0 2 j b2, if_pos ⟨rfl, y⟩]
      exact ⟨b1, b2, b3, b4, rfl⟩
    · obtain ⟨r, -, hT⟩ := iR i q h2
      rw [(cR i q).1] at e
      have := hT.2.2.2.1 i j (by omega) h2 e
      have b := hT.2.1 i (by omega) h2
      rw [l1 _ _ _ _ q, l1 _ _ _ j (by omega), l1 _ _ _ j (by omega), cpR j (by omega) (by rw [this.2.2.2.2]; intro z; cases z) hrR]
      exact this
  · rcases Nat.lt_trichotomy i m with q | q | q
    · obtain ⟨r, -, hT⟩ := iL i h1 q
      rw [(cL i q).2] at e
      rw [l0 _ _ _ _ q]; exact hT.2.2.2.2.1 i h1 q e
    · subst q
      rw [c2.2.1] at e
      rw [l2]
      rcases hR with ⟨y, -⟩ | ⟨r, y, -⟩
      · exact y.symm
      · rw [y] at e; cases e
    · obtain ⟨r, -, hT⟩ := iR i q h2
      rw [(cR i q).2] at e
      rw [l1 _ _ _ _ q]; exact hT.2.2.2.2.1 i (by omega) h2 e
  · rcases Nat.lt_trichotomy i m with q | q | q
    · obtain ⟨r, -, hT⟩ := iL i h1 q
      rw [(cL i q).2] at e
      have := hT.2.2.2.2.2.1 i j h1 q e
      have b := hT.2.1 i h1 q
      rw [l0 _ _ _ _ q, l0 _ _ _ j (by omega), l0 _ _ _ j (by omega), cpL j (by omega) (by rw [this.2.2.2.2]; intro z; cases z) hrL]
      exact this
    · subst q
      rw [c2.2.1] at e
      obtain ⟨r, y, hT⟩ : ∃ r, rR = some r ∧ TR (i + 1) t r TR' loR hiR := by
        rcases hR with ⟨-, y⟩ | hT
        · rw [y] at e; cases e
        · exact hT
      rw [y] at e
      cases e
      obtain ⟨b1, b2, b3, b4, b5⟩ := hT.1
      rw [l2, l1 _ _ _ j (by omega), l1 _ _ _ j (by omega), c1 2 j (by omega), if_pos ⟨rfl, y⟩]
      exact ⟨by omega, b2, b3, b4, rfl⟩
    · obtain ⟨r, -, hT⟩ := iR i q h2
      rw [(cR i q).2] at e
      have := hT.2.2.2.2.2.1 i j (by omega) h2 e
      have b := hT.2.1 i (by omega) h2
      rw [l1 _ _ _ _ q, l1 _ _ _ j (by omega), l1 _ _ _ j (by omega), cpR j (by omega) (by rw [this.2.2.2.2]; intro z; cases z) hrR]
      exact this
  · rcases Nat.lt_trichotomy i m with q | q | q
    · obtain ⟨r, y, hT⟩ := iL i h1 q
      rw [c0 2 i q] at e
      by_cases c : rL = some i
      · rw [if_pos ⟨rfl, c⟩] at e; cases e
      · rw [if_neg (fun z => c z.2)] at e
        have := hT.2.2.2.2.2.2.1 i h1 q e
        exact absurd (by rw [y, this]) c
    · exact q
    · obtain ⟨r, y, hT⟩ := iR i q h2
      rw [c1 2 i q] at e
      by_cases c : rR = some i
      · rw [if_pos ⟨rfl, c⟩] at e; cases e
      · rw [if_neg (fun z => c z.2)] at e
        have := hT.2.2.2.2.2.2.1 i (by omega) h2 e
        exact absurd (by rw [y, this]) c
  · rcases Nat.lt_trichotomy i m with q | q | q
    · obtain ⟨r, y, hT⟩ := iL i h1 q
      rw [c0 2 i q] at e
      by_cases c : rL = some i
      · rw [if_pos ⟨rfl, c⟩] at e
        cases e
        exact ⟨hum, hmt, Or.inl (by rw [c2.1, c])⟩
      · rw [if_neg (fun z => c z.2)] at e
        have := hT.2.2.2.2.2.2.2 i p h1 q e
        refine ⟨this.1, by omega, ?_⟩
        rw [(cL p this.2.1).1, (cL p this.2.1).2]
        exact this.2.2
    · subst q; rw [c2.2.2] at e; cases e
    · obtain ⟨r, y, hT⟩ := iR i q h2
      rw [c1 2 i q] at e
      by_cases c : rR = some i
      · rw [if_pos ⟨rfl, c⟩] at e
        cases e
        exact ⟨hum, hmt, Or.inr (by rw [c2.2.1, c])⟩
      · rw [if_neg (fun z => c z.2)] at e
        have := hT.2.2.2.2.2.2.2 i p (by omega) h2 e
        refine ⟨by omega, this.2.1, ?_⟩
        rw [(cR p (by omega)).1, (cR p (by omega)).2]
        exact this.2.2
theorem TR.toTQ {n r : Nat} {T : Nat → Nat → Option Nat} {lo hi : Nat → Nat} (h : TR 0 n r T lo hi) (h3 : T 3 0 = some r) : TQ n T lo hi := by
  obtain ⟨⟨a1, a2, a3, a4, a5⟩, b1, b2, b3, b4, b5, b6, b7⟩ := h
  refine ⟨fun i hi' => ?_, fun i hi' e => b2 i (Nat.zero_le _) hi' e, fun i j hi' e => b3 i j (Nat.zero_le _) hi' e, fun i hi' e => b4 i (Nat.zero_le _) hi' e, fun i j hi' e => b5 i j (Nat.zero_le _) hi' e, fun j e => ?_, fun e => ?_, fun i hi' e => ?_, fun i p hi' e => (b7 i p (Nat.zero_le _) hi' e).2⟩
  · have := b1 i (Nat.zero_le _) hi'; omega
  · rw [h3] at e; cases e; exact ⟨a2, a3, a4, a5⟩
  · rw [h3] at e; cases e
  · have := b6 i (Nat.zero_le _) hi' e
    subst this
    exact ⟨a3, a4⟩
