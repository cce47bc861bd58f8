set_option maxRecDepth 100000
def TX7 : u_T := fun _ => ("", "", "", false)
def tyX7 : Nat → FieldType := fun _ => .int
def TX8 : u_T := fun _ => ("", "", "", false)
def tyX8 : Nat → FieldType := fun _ => .int
def TX9 : u_T := fun _ => ("", "", "", false)
def tyX9 : Nat → FieldType := fun _ => .int
def TX10 : u_T := fun _ => ("", "", "", false)
def tyX10 : Nat → FieldType := fun _ => .int
def TX11 : u_T := fun _ => ("", "", "", false)
def tyX11 : Nat → FieldType := fun _ => .int
def x_cl : List vw_C := [(RX1, TX1, 7), (RX2, TX2, 20), (RJ1, TJ1, 9), (RJ4, TJ4, 3), (RJ6, TJ6, 4), (RX3, TX3, 8), (RJ10, TJ10, 3), (RJ11, TJ11, 3), (RJ13, TJ13, 4), (RJ14, TJ14, 4), (RX4, TX4, 20), (RX5, TX5, 3), (RJ19, TJ19, 1), (RJ21, TJ21, 4), (RJ23, TJ23, 1), (RJ25, TJ25, 5), (RJ28, TJ28, 0), (RJ29, TJ29, 0), (RJ30, TJ30, 0), (RJ31, TJ31, 6), (RJ32, TJ32, 0), (RJ35, TJ35, 4), (RJ37, TJ37, 5), (RJ38, TJ38, 5), (RJ39, TJ39, 4), (RJ40, TJ40, 6), (RX6, TX6, 9), (RJ42, TJ42, 4), (RX7, TX7, 0), (RX8, TX8, 0), (RX9, TX9, 0), (RX10, TX10, 0), (RJ43, TJ43, 0), (RJ44, TJ44, 6), (RX11, TX11, 0), (RX12, TX12, 3), (RX13, TX13, 2), (RJ45, TJ45, 6), (RX14, TX14, 7), (RJ46, TJ46, 0)]
theorem kX1 {G : xG} (hG : G.1.2 = x_cl) : xCl G 0 RX1 TX1 7 tyX1 := ⟨⟨by rw [hG]; rfl, by decide⟩, in_X1, tyX1_ok, nmX1⟩
theorem x_dflt_X1 : ∀ j, j < 7 → defaultValue (tyX1 j) = vp_V [va_rf none, va_rf none, va_rf none, va_rf none, va_rf none, .int 0, va_rf none] j := by
  intro j hj
  match j, hj with
  | 0, _ => rfl
  | 1, _ => rfl
  | 2, _ => rfl
  | 3, _ => rfl
  | 4, _ => rfl
  | 5, _ => rfl
  | 6, _ => rfl
  | j + 7, hj => exact absurd hj (by omega)
theorem kX2 {G : xG} (hG : G.1.2 = x_cl) : xCl G 1 RX2 TX2 20 tyX2 := ⟨⟨by rw [hG]; rfl, by decide⟩, in_X2, tyX2_ok, nmX2⟩
theorem x_dflt_X2 : ∀ j, j < 20 → defaultValue (tyX2 j) = vp_V [va_rf none, va_rf none, va_rf none, va_rf none, va_rf none, va_rf none, va_rf none, va_rf none, .int 0, .int 0, .int 0, .int 0, .int 0, .int 0, .int 0, .int 0, .int 0, .int 0, .int 0, .int 0] j := by
  intro j hj
  match j, hj with
  | 0, _ => rfl
  | 1, _ => rfl
  | 2, _ => rfl
  | 3, _ => rfl
  | 4, _ => rfl
  | 5, _ => rfl
  | 6, _ => rfl
  | 7, _ => rfl
  | 8, _ => rfl
  | 9, _ => rfl
  | 10, _ => rfl
  | 11, _ => rfl
  | 12, _ => rfl
  | 13, _ => rfl
  | 14, _ => rfl
  | 15, _ => rfl
  | 16, _ => rfl
  | 17, _ => rfl
  | 18, _ => rfl
  | 19, _ => rfl
  | j + 20, hj => exact absurd hj (by omega)
theorem kJ1 {G : xG} (hG : G.1.2 = x_cl) : xCl G 2 RJ1 TJ1 9 tyJ1 := ⟨⟨by rw [hG]; rfl, by decide⟩, in_J1, tyJ1_ok, nmJ1⟩
theorem x_dflt_J1 : ∀ j, j < 9 → defaultValue (tyJ1 j) = vp_V [va_rf none, va_rf none, va_rf none, va_rf none, .int 0, .int 0, va_rf none, va_rf none, va_rf none] j := by
  intro j hj
  match j, hj with
  | 0, _ => rfl
  | 1, _ => rfl
  | 2, _ => rfl
  | 3, _ => rfl
  | 4, _ => rfl
  | 5, _ => rfl
  | 6, _ => rfl
  | 7, _ => rfl
  | 8, _ => rfl
  | j + 9, hj => exact absurd hj (by omega)
theorem kJ4 {G : xG} (hG : G.1.2 = x_cl) : xCl G 3 RJ4 TJ4 3 tyJ4 := ⟨⟨by rw [hG]; rfl, by decide⟩, in_J4, tyJ4_ok, nmJ4⟩
theorem x_dflt_J4 : ∀ j, j < 3 → defaultValue (tyJ4 j) = vp_V [.int 0, va_rf none, .int 0] j := by
  intro j hj
  match j, hj with
  | 0, _ => rfl
  | 1, _ => rfl
  | 2, _ => rfl
  | j + 3, hj => exact absurd hj (by omega)
theorem kJ6 {G : xG} (hG : G.1.2 = x_cl) : xCl G 4 RJ6 TJ6 4 tyJ6 := ⟨⟨by rw [hG]; rfl, by decide⟩, in_J6, tyJ6_ok, nmJ6⟩
theorem x_dflt_J6 : ∀ j, j < 4 → defaultValue (tyJ6 j) = vp_V [.int 0, .int 0, va_rf none, va_rf none] j := by
  intro j hj
  match j, hj with
  | 0, _ => rfl
  | 1, _ => rfl
  | 2, _ => rfl
  | 3, _ => rfl
  | j + 4, hj => exact absurd hj (by omega)
theorem kX3 {G : xG} (hG : G.1.2 = x_cl) : xCl G 5 RX3 TX3 8 tyX3 := ⟨⟨by rw [hG]; rfl, by decide⟩, in_X3, tyX3_ok, nmX3⟩
theorem x_dflt_X3 : ∀ j, j < 8 → defaultValue (tyX3 j) = vp_V [.int 0, va_rf none, .int 0, .int 0, .int 0, .int 0, .int 0, .int 0] j := by
  intro j hj
  match j, hj with
  | 0, _ => rfl
  | 1, _ => rfl
  | 2, _ => rfl
  | 3, _ => rfl
  | 4, _ => rfl
  | 5, _ => rfl
  | 6, _ => rfl
  | 7, _ => rfl
  | j + 8, hj => exact absurd hj (by omega)
theorem kJ10 {G : xG} (hG : G.1.2 = x_cl) : xCl G 6 RJ10 TJ10 3 tyJ10 := ⟨⟨by rw [hG]; rfl, by decide⟩, in_J10, tyJ10_ok, nmJ10⟩
theorem x_dflt_J10 : ∀ j, j < 3 → defaultValue (tyJ10 j) = vp_V [va_rf none, va_rf none, va_rf none] j := by
  intro j hj
  match j, hj with
  | 0, _ => rfl
  | 1, _ => rfl
  | 2, _ => rfl
  | j + 3, hj => exact absurd hj (by omega)
theorem kJ11 {G : xG} (hG : G.1.2 = x_cl) : xCl G 7 RJ11 TJ11 3 tyJ11 := ⟨⟨by rw [hG]; rfl, by decide⟩, in_J11, tyJ11_ok, nmJ11⟩
theorem x_dflt_J11 : ∀ j, j < 3 → defaultValue (tyJ11 j) = vp_V [va_rf none, .int 0, .int 0] j := by
  intro j hj
  match j, hj with
  | 0, _ => rfl
  | 1, _ => rfl
  | 2, _ => rfl
  | j + 3, hj => exact absurd hj (by omega)
theorem kJ13 {G : xG} (hG : G.1.2 = x_cl) : xCl G 8 RJ13 TJ13 4 tyJ13 := ⟨⟨by rw [hG]; rfl, by decide⟩, in_J13, tyJ13_ok, nmJ13⟩
theorem x_dflt_J13 : ∀ j, j < 4 → defaultValue (tyJ13 j) = vp_V [va_rf none, .int 0, .int 0, .int 0] j := by
  intro j hj
  match j, hj with
  | 0, _ => rfl
  | 1, _ => rfl
  | 2, _ => rfl
  | 3, _ => rfl
  | j + 4, hj => exact absurd hj (by omega)
theorem kJ14 {G : xG} (hG : G.1.2 = x_cl) : xCl G 9 RJ14 TJ14 4 tyJ14 := ⟨⟨by rw [hG]; rfl, by decide⟩, in_J14, tyJ14_ok, nmJ14⟩
theorem x_dflt_J14 : ∀ j, j < 4 → defaultValue (tyJ14 j) = vp_V [va_rf none, .int 0, .int 0, .int 0] j := by
  intro j hj
  match j, hj with
  | 0, _ => rfl
  | 1, _ => rfl
  | 2, _ => rfl
  | 3, _ => rfl
  | j + 4, hj => exact absurd hj (by omega)
theorem kX4 {G : xG} (hG : G.1.2 = x_cl) : xCl G 10 RX4 TX4 20 tyX4 := ⟨⟨by rw [hG]; rfl, by decide⟩, in_X4, tyX4_ok, nmX4⟩
theorem x_dflt_X4 : ∀ j, j < 20 → defaultValue (tyX4 j) = vp_V [va_rf none, va_rf none, va_rf none, .int 0, va_rf none, .int 0, va_rf none, va_rf none, .int 0, .int 0, .int 0, .int 0, .int 0, .int 0, va_rf none, .int 0, .int 0, .int 0, .int 0, va_rf none] j := by
  intro j hj
  match j, hj with
  | 0, _ => rfl
  | 1, _ => rfl
  | 2, _ => rfl
  | 3, _ => rfl
  | 4, _ => rfl
  | 5, _ => rfl
  | 6, _ => rfl
  | 7, _ => rfl
  | 8, _ => rfl
  | 9, _ => rfl
  | 10, _ => rfl
  | 11, _ => rfl
  | 12, _ => rfl
  | 13, _ => rfl
  | 14, _ => rfl
  | 15, _ => rfl
  | 16, _ => rfl
  | 17, _ => rfl
  | 18, _ => rfl
  | 19, _ => rfl
  | j + 20, hj => exact absurd hj (by omega)
theorem kX5 {G : xG} (hG : G.1.2 = x_cl) : xCl G 11 RX5 TX5 3 tyX5 := ⟨⟨by rw [hG]; rfl, by decide⟩, in_X5, tyX5_ok, nmX5⟩
theorem x_dflt_X5 : ∀ j, j < 3 → defaultValue (tyX5 j) = vp_V [va_rf none, .int 0, .int 0] j := by
  intro j hj
  match j, hj with
  | 0, _ => rfl
  | 1, _ => rfl
  | 2, _ => rfl
  | j + 3, hj => exact absurd hj (by omega)
theorem kJ19 {G : xG} (hG : G.1.2 = x_cl) : xCl G 12 RJ19 TJ19 1 tyJ19 := ⟨⟨by rw [hG]; rfl, by decide⟩, in_J19, tyJ19_ok, (fun a ha b hb h => absurd (show a = b by omega) h)⟩
theorem x_dflt_J19 : ∀ j, j < 1 → defaultValue (tyJ19 j) = vp_V [va_rf none] j := by
  intro j hj
  match j, hj with
  | 0, _ => rfl
  | j + 1, hj => exact absurd hj (by omega)
theorem kJ21 {G : xG} (hG : G.1.2 = x_cl) : xCl G 13 RJ21 TJ21 4 tyJ21 := ⟨⟨by rw [hG]; rfl, by decide⟩, in_J21, tyJ21_ok, nmJ21⟩
theorem x_dflt_J21 : ∀ j, j < 4 → defaultValue (tyJ21 j) = vp_V [va_rf none, va_rf none, .int 0, va_rf none] j := by
  intro j hj
  match j, hj with
  | 0, _ => rfl
  | 1, _ => rfl
  | 2, _ => rfl
  | 3, _ => rfl
  | j + 4, hj => exact absurd hj (by omega)
theorem kJ23 {G : xG} (hG : G.1.2 = x_cl) : xCl G 14 RJ23 TJ23 1 tyJ23 := ⟨⟨by rw [hG]; rfl, by decide⟩, in_J23, tyJ23_ok, (fun a ha b hb h => absurd (show a = b by omega) h)⟩
theorem x_dflt_J23 : ∀ j, j < 1 → defaultValue (tyJ23 j) = vp_V [.int 0] j := by
  intro j hj
  match j, hj with
  | 0, _ => rfl
  | j + 1, hj => exact absurd hj (by omega)
theorem kJ25 {G : xG} (hG : G.1.2 = x_cl) : xCl G 15 RJ25 TJ25 5 tyJ25 := ⟨⟨by rw [hG]; rfl, by decide⟩, in_J25, tyJ25_ok, nmJ25⟩
theorem x_dflt_J25 : ∀ j, j < 5 → defaultValue (tyJ25 j) = vp_V [va_rf none, va_rf none, va_rf none, va_rf none, va_rf none] j := by
  intro j hj
  match j, hj with
  | 0, _ => rfl
  | 1, _ => rfl
  | 2, _ => rfl
  | 3, _ => rfl
  | 4, _ => rfl
  | j + 5, hj => exact absurd hj (by omega)
theorem kJ28 {G : xG} (hG : G.1.2 = x_cl) : xCl G 16 RJ28 TJ28 0 tyJ28 := ⟨⟨by rw [hG]; rfl, by decide⟩, fun w h => by simp [u_ws] at h, fun k h => absurd h (Nat.not_lt_zero _), fun a h => absurd h (Nat.not_lt_zero _)⟩
theorem x_dflt_J28 : ∀ j, j < 0 → defaultValue (tyJ28 j) = vp_V [] j := fun j h => absurd h (Nat.not_lt_zero _)
theorem kJ29 {G : xG} (hG : G.1.2 = x_cl) : xCl G 17 RJ29 TJ29 0 tyJ29 := ⟨⟨by rw [hG]; rfl, by decide⟩, fun w h => by simp [u_ws] at h, fun k h => absurd h (Nat.not_lt_zero _), fun a h => absurd h (Nat.not_lt_zero _)⟩
theorem x_dflt_J29 : ∀ j, j < 0 → defaultValue (tyJ29 j) = vp_V [] j := fun j h => absurd h (Nat.not_lt_zero _)
theorem kJ30 {G : xG} (hG : G.1.2 = x_cl) : xCl G 18 RJ30 TJ30 0 tyJ30 := ⟨⟨by rw [hG]; rfl, by decide⟩, fun w h => by simp [u_ws] at h, fun k h => absurd h (Nat.not_lt_zero _), fun a h => absurd h (Nat.not_lt_zero _)⟩
theorem x_dflt_J30 : ∀ j, j < 0 → defaultValue (tyJ30 j) = vp_V [] j := fun j h => absurd h (Nat.not_lt_zero _)
theorem kJ31 {G : xG} (hG : G.1.2 = x_cl) : xCl G 19 RJ31 TJ31 6 tyJ31 := ⟨⟨by rw [hG]; rfl, by decide⟩, in_J31, tyJ31_ok, nmJ31⟩
theorem x_dflt_J31 : ∀ j, j < 6 → defaultValue (tyJ31 j) = vp_V [va_rf none, va_rf none, va_rf none, va_rf none, va_rf none, .int 0] j := by
  intro j hj
  match j, hj with
  | 0, _ => rfl
  | 1, _ => rfl
  | 2, _ => rfl
  | 3, _ => rfl
  | 4, _ => rfl
  | 5, _ => rfl
  | j + 6, hj => exact absurd hj (by omega)
theorem kJ32 {G : xG} (hG : G.1.2 = x_cl) : xCl G 20 RJ32 TJ32 0 tyJ32 := ⟨⟨by rw [hG]; rfl, by decide⟩, fun w h => by simp [u_ws] at h, fun k h => absurd h (Nat.not_lt_zero _), fun a h => absurd h (Nat.not_lt_zero _)⟩
theorem x_dflt_J32 : ∀ j, j < 0 → defaultValue (tyJ32 j) = vp_V [] j := fun j h => absurd h (Nat.not_lt_zero _)
theorem kJ35 {G : xG} (hG : G.1.2 = x_cl) : xCl G 21 RJ35 TJ35 4 tyJ35 := ⟨⟨by rw [hG]; rfl, by decide⟩, in_J35, tyJ35_ok, nmJ35⟩
theorem x_dflt_J35 : ∀ j, j < 4 → defaultValue (tyJ35 j) = vp_V [.int 0, .int 0, .int 0, va_rf none] j := by
  intro j hj
  match j, hj with
  | 0, _ => rfl
  | 1, _ => rfl
  | 2, _ => rfl
  | 3, _ => rfl
  | j + 4, hj => exact absurd hj (by omega)
theorem kJ38 {G : xG} (hG : G.1.2 = x_cl) : xCl G 23 RJ38 TJ38 5 tyJ38 := ⟨⟨by rw [hG]; rfl, by decide⟩, in_J38, tyJ38_ok, nmJ38⟩
theorem x_dflt_J38 : ∀ j, j < 5 → defaultValue (tyJ38 j) = vp_V [va_rf none, va_rf none, .int 0, .int 0, va_rf none] j := by
  intro j hj
  match j, hj with
  | 0, _ => rfl
  | 1, _ => rfl
  | 2, _ => rfl
  | 3, _ => rfl
  | 4, _ => rfl
  | j + 5, hj => exact absurd hj (by omega)
theorem kJ39 {G : xG} (hG : G.1.2 = x_cl) : xCl G 24 RJ39 TJ39 4 tyJ39 := ⟨⟨by rw [hG]; rfl, by decide⟩, in_J39, tyJ39_ok, nmJ39⟩
theorem x_dflt_J39 : ∀ j, j < 4 → defaultValue (tyJ39 j) = vp_V [.int 0, .int 0, .int 0, va_rf none] j := by
  intro j hj
  match j, hj with
  | 0, _ => rfl
  | 1, _ => rfl
  | 2, _ => rfl
  | 3, _ => rfl
  | j + 4, hj => exact absurd hj (by omega)
theorem kJ40 {G : xG} (hG : G.1.2 = x_cl) : xCl G 25 RJ40 TJ40 6 tyJ40 := ⟨⟨by rw [hG]; rfl, by decide⟩, in_J40, tyJ40_ok, nmJ40⟩
theorem x_dflt_J40 : ∀ j, j < 6 → defaultValue (tyJ40 j) = vp_V [.int 0, .int 0, va_rf none, va_rf none, .int 0, va_rf none] j := by
  intro j hj
  match j, hj with
  | 0, _ => rfl
  | 1, _ => rfl
  | 2, _ => rfl
  | 3, _ => rfl
  | 4, _ => rfl
  | 5, _ => rfl
  | j + 6, hj => exact absurd hj (by omega)
theorem kX6 {G : xG} (hG : G.1.2 = x_cl) : xCl G 26 RX6 TX6 9 tyX6 := ⟨⟨by rw [hG]; rfl, by decide⟩, in_X6, tyX6_ok, nmX6⟩
theorem x_dflt_X6 : ∀ j, j < 9 → defaultValue (tyX6 j) = vp_V [va_rf none, va_rf none, va_rf none, va_rf none, va_rf none, .int 0, .int 0, .int 0, va_rf none] j := by
  intro j hj
  match j, hj with
  | 0, _ => rfl
  | 1, _ => rfl
  | 2, _ => rfl
  | 3, _ => rfl
  | 4, _ => rfl
  | 5, _ => rfl
  | 6, _ => rfl
  | 7, _ => rfl
  | 8, _ => rfl
  | j + 9, hj => exact absurd hj (by omega)
theorem kJ42 {G : xG} (hG : G.1.2 = x_cl) : xCl G 27 RJ42 TJ42 4 tyJ42 := ⟨⟨by rw [hG]; rfl, by decide⟩, in_J42, tyJ42_ok, nmJ42⟩
theorem x_dflt_J42 : ∀ j, j < 4 → defaultValue (tyJ42 j) = vp_V [va_rf none, .int 0, va_rf none, .int 0] j := by
  intro j hj
  match j, hj with
  | 0, _ => rfl
  | 1, _ => rfl
  | 2, _ => rfl
  | 3, _ => rfl
  | j + 4, hj => exact absurd hj (by omega)
theorem kX7 {G : xG} (hG : G.1.2 = x_cl) : xCl G 28 RX7 TX7 0 tyX7 := ⟨⟨by rw [hG]; rfl, by decide⟩, fun w h => by simp [u_ws] at h, fun k h => absurd h (Nat.not_lt_zero _), fun a h => absurd h (Nat.not_lt_zero _)⟩
theorem x_dflt_X7 : ∀ j, j < 0 → defaultValue (tyX7 j) = vp_V [] j := fun j h => absurd h (Nat.not_lt_zero _)
theorem kX8 {G : xG} (hG : G.1.2 = x_cl) : xCl G 29 RX8 TX8 0 tyX8 := ⟨⟨by rw [hG]; rfl, by decide⟩, fun w h => by simp [u_ws] at h, fun k h => absurd h (Nat.not_lt_zero _), fun a h => absurd h (Nat.not_lt_zero _)⟩
theorem x_dflt_X8 : ∀ j, j < 0 → defaultValue (tyX8 j) = vp_V [] j := fun j h => absurd h (Nat.not_lt_zero _)
theorem kX9 {G : xG} (hG : G.1.2 = x_cl) : xCl G 30 RX9 TX9 0 tyX9 := ⟨⟨by rw [hG]; rfl, by decide⟩, fun w h => by simp [u_ws] at h, fun k h => absurd h (Nat.not_lt_zero _), fun a h => absurd h (Nat.not_lt_zero _)⟩
theorem x_dflt_X9 : ∀ j, j < 0 → defaultValue (tyX9 j) = vp_V [] j := fun j h => absurd h (Nat.not_lt_zero _)
theorem kX10 {G : xG} (hG : G.1.2 = x_cl) : xCl G 31 RX10 TX10 0 tyX10 := ⟨⟨by rw [hG]; rfl, by decide⟩, fun w h => by simp [u_ws] at h, fun k h => absurd h (Nat.not_lt_zero _), fun a h => absurd h (Nat.not_lt_zero _)⟩
theorem x_dflt_X10 : ∀ j, j < 0 → defaultValue (tyX10 j) = vp_V [] j := fun j h => absurd h (Nat.not_lt_zero _)
theorem kJ43 {G : xG} (hG : G.1.2 = x_cl) : xCl G 32 RJ43 TJ43 0 tyJ43 := ⟨⟨by rw [hG]; rfl, by decide⟩, fun w h => by simp [u_ws] at h, fun k h => absurd h (Nat.not_lt_zero _), fun a h => absurd h (Nat.not_lt_zero _)⟩
theorem x_dflt_J43 : ∀ j, j < 0 → defaultValue (tyJ43 j) = vp_V [] j := fun j h => absurd h (Nat.not_lt_zero _)
theorem kJ44 {G : xG} (hG : G.1.2 = x_cl) : xCl G 33 RJ44 TJ44 6 tyJ44 := ⟨⟨by rw [hG]; rfl, by decide⟩, in_J44, tyJ44_ok, nmJ44⟩
theorem x_dflt_J44 : ∀ j, j < 6 → defaultValue (tyJ44 j) = vp_V [va_rf none, va_rf none, va_rf none, va_rf none, .int 0, va_rf none] j := by
  intro j hj
  match j, hj with
  | 0, _ => rfl
  | 1, _ => rfl
  | 2, _ => rfl
  | 3, _ => rfl
  | 4, _ => rfl
  | 5, _ => rfl
  | j + 6, hj => exact absurd hj (by omega)
theorem kX11 {G : xG} (hG : G.1.2 = x_cl) : xCl G 34 RX11 TX11 0 tyX11 := ⟨⟨by rw [hG]; rfl, by decide⟩, fun w h => by simp [u_ws] at h, fun k h => absurd h (Nat.not_lt_zero _), fun a h => absurd h (Nat.not_lt_zero _)⟩
theorem x_dflt_X11 : ∀ j, j < 0 → defaultValue (tyX11 j) = vp_V [] j := fun j h => absurd h (Nat.not_lt_zero _)
theorem kX12 {G : xG} (hG : G.1.2 = x_cl) : xCl G 35 RX12 TX12 3 tyX12 := ⟨⟨by rw [hG]; rfl, by decide⟩, in_X12, tyX12_ok, nmX12⟩
theorem x_dflt_X12 : ∀ j, j < 3 → defaultValue (tyX12 j) = vp_V [.int 0, .int 0, .int 0] j := by
  intro j hj
  match j, hj with
  | 0, _ => rfl
  | 1, _ => rfl
  | 2, _ => rfl
  | j + 3, hj => exact absurd hj (by omega)
theorem kX13 {G : xG} (hG : G.1.2 = x_cl) : xCl G 36 RX13 TX13 2 tyX13 := ⟨⟨by rw [hG]; rfl, by decide⟩, in_X13, tyX13_ok, nmX13⟩
theorem x_dflt_X13 : ∀ j, j < 2 → defaultValue (tyX13 j) = vp_V [va_rf none, .int 0] j := by
  intro j hj
  match j, hj with
  | 0, _ => rfl
  | 1, _ => rfl
  | j + 2, hj => exact absurd hj (by omega)
theorem kJ45 {G : xG} (hG : G.1.2 = x_cl) : xCl G 37 RJ45 TJ45 6 tyJ45 := ⟨⟨by rw [hG]; rfl, by decide⟩, in_J45, tyJ45_ok, nmJ45⟩
theorem x_dflt_J45 : ∀ j, j < 6 → defaultValue (tyJ45 j) = vp_V [va_rf none, va_rf none, va_rf none, va_rf none, .int 0, va_rf none] j := by
  intro j hj
  match j, hj with
  | 0, _ => rfl
  | 1, _ => rfl
  | 2, _ => rfl
  | 3, _ => rfl
  | 4, _ => rfl
  | 5, _ => rfl
  | j + 6, hj => exact absurd hj (by omega)
theorem kX14 {G : xG} (hG : G.1.2 = x_cl) : xCl G 38 RX14 TX14 7 tyX14 := ⟨⟨by rw [hG]; rfl, by decide⟩, in_X14, tyX14_ok, nmX14⟩
theorem x_dflt_X14 : ∀ j, j < 7 → defaultValue (tyX14 j) = vp_V [va_rf none, va_rf none, va_rf none, va_rf none, va_rf none, .int 0, .int 0] j := by
  intro j hj
  match j, hj with
  | 0, _ => rfl
  | 1, _ => rfl
  | 2, _ => rfl
  | 3, _ => rfl
  | 4, _ => rfl
  | 5, _ => rfl
  | 6, _ => rfl
  | j + 7, hj => exact absurd hj (by omega)
theorem kJ46 {G : xG} (hG : G.1.2 = x_cl) : xCl G 39 RJ46 TJ46 0 tyJ46 := ⟨⟨by rw [hG]; rfl, by decide⟩, fun w h => by simp [u_ws] at h, fun k h => absurd h (Nat.not_lt_zero _), fun a h => absurd h (Nat.not_lt_zero _)⟩
theorem x_dflt_J46 : ∀ j, j < 0 → defaultValue (tyJ46 j) = vp_V [] j := fun j h => absurd h (Nat.not_lt_zero _)
section X4
variable {p : Program} {l : Launch} {e : Env} {R : Room} {s : State} {m : MethodId} {args : Array Value} {below : List Frame} {meth : Method} {c : Code} {Q : State → Prop} {G : xG} {nL : Nat} {cc : ByteArray} {own : String}
variable {σ : xS} {pc pc' : Nat} {lo lo' : List (Nat × Value)} {st st' : List Value}
theorem x_pc (h : pc = pc') (k : xW p l e R s m args below meth c G nL Q σ pc' lo st) : xW p l e R s m args below meth c G nL Q σ pc lo st := h ▸ k
theorem x_same (h : lo = lo') (k : xW p l e R s m args below meth c G nL Q σ pc lo' st) : xW p l e R s m args below meth c G nL Q σ pc lo st := h ▸ k
theorem x_ifn {pt : Nat} {C : Prop} (f : ∀ (H : Heap) (locs : List Loc) (cells slots : Nat) (ls : Array Slot), (¬ C → W p l e R s m args below meth c H locs cells slots Q (F0 m pt ls st')) → (C → W p l e R s m args below meth c H locs cells slots Q (F0 m pc' ls st')) → W p l e R s m args below meth c H locs cells slots Q (F0 m pc ls st))
    (k2 : C → xW p l e R s m args below meth c G nL Q σ pc' lo st') (k1 : ¬ C → xW p l e R s m args below meth c G nL Q σ pt lo st') : xW p l e R s m args below meth c G nL Q σ pc lo st :=
  fun H locs cells slots ls h1 h2 h3 h4 h5 => f H locs cells slots ls (fun q => k1 q H locs cells slots ls h1 h2 h3 h4 h5) (fun q => k2 q H locs cells slots ls h1 h2 h3 h4 h5)
end X4
theorem x_cati (x : Int32) : (Value.int x).category = 1 := rfl
theorem x_catr (x : Nat) : (Value.ref x).category = 1 := rfl
theorem x_catn : Value.null.category = 1 := rfl
theorem x_sameF {args : Array Value} {s : State} {ref owner name desc : String} (h : (Cond.sameField ref owner name desc).before args s = true) (x : ClassId × Class × Nat × Field) (ho : s.fieldFound? owner name desc = some x) : s.fieldFound? ref name desc = some x := u_same h x ho
def x_rty : FieldType → Bool
  | .object _ => true
  | .array _ => true
  | _ => false
theorem x_nar {ty : FieldType} (r : Option Nat) (h : x_rty ty = true) : narrow ty (va_rf r) = va_rf r := by
  cases ty <;> cases r <;> first | rfl | cases h
theorem x_fit {ty : FieldType} (r : Option Nat) (h : x_rty ty = true) : fits ty (va_rf r) = true := by
  cases ty <;> cases r <;> first | rfl | cases h
theorem x_tabOut {x : Int32} {lo hi : Int} (L N : Nat) (e1 : lo = (L : Int)) (e2 : hi = (L : Int) + N - 1) (hb : L + N < 1000) (h : ∀ k, k < N → ¬ x = nI (L + k)) : x.toInt < lo ∨ hi < x.toInt := by
  subst e1 e2
  refine Classical.byContradiction fun hn => ?_
  have h1 : (L : Int) ≤ x.toInt := by omega
  have h2 : x.toInt ≤ (L : Int) + N - 1 := by omega
  refine h (x.toInt - L).toNat (by omega) ?_
  rw [← Int32.toInt_inj, nI_toInt (by omega)]
  omega
