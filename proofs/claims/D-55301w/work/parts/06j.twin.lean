section U1
variable {κ A : Nat → Nat} {h : xH} {t : Nat → Nat → Int32} {g : Nat → Int32} {w : Nat × Nat}
/-- what uses, writesBack, misses leave: SETS, LINES, RECENT and what lies between -/
theorem m_wB_o (g : Nat → Int32) (a o j : Nat) (ho : ¬ m_ones (g (89 + a)) = 0 → o < 16) (h1 : 73 ≤ j) (h2 : j ≠ 89 + a) (h3 : j ≠ 289) (h4 : j ≠ 291) : m_wB g a o j = g j := by
  unfold m_wB
  split
  · rfl
  · rename_i hn
    simp only [m_wb]
    rw [upd_ne h3, upd_ne h2, m_back_hi _ _ _ (ho hn) _ _ (by omega) _ (by omega), m_uses_hi _ (o % 4) (Nat.mod_lt _ (by decide)) _ _ h1 h4]
theorem m_uses_low (g : Nat → Int32) (k : Nat) (hk : k < 4) (n : Int32) (j : Nat) (h0 : 0 < j) (h1 : j < 69) : m_uses g k n j = g j := by
  simp only [m_uses]
  rw [upd_ne (by omega), upd_ne (by omega)]
  split
  · rfl
  · rw [upd_ne (by omega), upd_ne (by omega)]
theorem m_back_low (g : Nat → Int32) (a b : Nat) (d : Int32) (k : Nat) (j : Nat) (hj : j < 5) : m_back g a b d k j = g j := by
  induction k with
  | zero => rfl
  | succ k ih =>
    unfold m_back
    split
    · rw [upd_ne (by omega)]; exact ih
    · exact ih
theorem m_wB_low (g : Nat → Int32) (a o j : Nat) (h0 : 0 < j) (h5 : j < 5) : m_wB g a o j = g j := by
  unfold m_wB
  split
  · rfl
  · simp only [m_wb]
    rw [upd_ne (by omega), upd_ne (by omega), m_back_low _ _ _ _ _ _ h5, m_uses_low _ (o % 4) (Nat.mod_lt _ (by decide)) _ _ h0 (by omega)]
theorem m_emptiesLine_o (g : Nat → Int32) (a j : Nat) (ha : a < 16) (hj : j < 73 ∨ 233 ≤ j) : m_emptiesLine g a j = g j := by
  simp only [m_emptiesLine]
  rw [upd_ne (by omega), upd_ne (by omega), upd_ne (by omega), upd_ne (by omega), upd_ne (by omega), upd_ne (by omega), upd_ne (by omega), upd_ne (by omega), upd_ne (by omega), upd_ne (by omega)]
theorem m_load_o (g : Nat → Int32) (a b k j : Nat) (ha : a < 16) (hk : k ≤ 4) (hj : 233 ≤ j) : m_load g a b k j = g j := by
  induction k with
  | zero => rfl
  | succ k ih => rw [m_load, upd_ne (by omega)]; exact ih (by omega)
theorem m_misses_234 (g : Nat → Int32) (b a o c : Nat) (hb : b < 16) (ha : a < 16) (hc : c < 3) (ho : ¬ m_ones (g (89 + a)) = 0 → o < 16) : m_misses g b a o c 234 = g 234 := by
  have hd : m_miss0 g b c (89 + a) = g (89 + a) := m_miss0_o g b c _ (by omega) (by omega)
  simp only [m_misses]
  rw [upd_ne (by omega), m_load_o _ _ _ _ _ ha (by omega) (by omega), upd_ne (by omega), upd_ne (by omega), m_emptiesLine_o _ _ _ ha (by omega), m_uses_hi _ (b % 4) (Nat.mod_lt _ (by decide)) _ _ (by omega) (by omega), m_wB_o _ _ _ _ (by rw [hd]; exact ho) (by omega) (by omega) (by omega) (by omega), m_miss0_o _ _ _ _ (by omega) (by omega)]
/-- line a is the one used: LAST, COUNT, ASKED, LATEST -/
def m_touch (g : Nat → Int32) (a b r : Nat) (begun : Int32) : Nat → Int32 :=
  let g3 := upd g (121 + a) begun
  let g4 := upd g3 (153 + a) (g3 (153 + a) + 1)
  let g5 := upd g4 (251 + b) (g4 (251 + b) + 1)
  m_latest g5 r b
def m_hits (g : Nat → Int32) : Nat → Int32 :=
  let g1 := upd g 285 (g 285 + 1)
  upd g1 0 (g1 0 + 1)
end U1
