noncomputable def xo_J2_size_Ld (z_Ld_size : Int32) : Option (Int32) :=
  some (z_Ld_size)
noncomputable def xo_X1_digit (a_UNIT : Nat → Int32) (x0 : Int32) (x1 : Int32) : Option (Int32) :=
  (rdI a_UNIT 7 x1).bind fun v1 =>
  (dvI x0 v1).bind fun v2 =>
  (rmI v2 3).bind fun v3 =>
  some (v3)
noncomputable def xo_X1_with (a_UNIT : Nat → Int32) (x0 : Int32) (x1 : Int32) (x2 : Int32) : Option (Int32) :=
  (rdI a_UNIT 7 x1).bind fun v1 =>
  some (x0 + (x2 * v1))
noncomputable def xo_X1_seeing_J66 (y2 : Int32) (y7 : Int32) : Option ((Int32 × Int32) ⊕ ((Int32))) :=
  (some (y2 + 1)).bind fun v8 =>
  some (.inl ((y7, v8)))
noncomputable def xo_X1_seeing_L6 (z_Ld_size : Int32) (a_UNIT : Nat → Int32) (a_L_seen : Nat → Int32) (x1 : Int32) (x3 : Int32) : (Int32 × Int32) → Option ((Int32 × Int32) ⊕ ((Int32))) := fun (y1, y2) =>
  (xo_J2_size_Ld z_Ld_size).bind fun v3 =>
  if v3 ≤ y2 then (some (.inr y1)) else ((rdI a_L_seen 10 x1).bind fun v6 =>
  if (v6 >>> (y2 &&& 31)) &&& 1 = 1 then ((xo_X1_digit a_UNIT y1 y2).bind fun v10 =>
  if v10 = 0 then ((xo_X1_with a_UNIT y1 y2 (1 + ((x3 >>> (y2 &&& 31)) &&& 1))).bind fun v13 =>
  xo_X1_seeing_J66 y2 v13) else (xo_X1_seeing_J66 y2 y1)) else (xo_X1_seeing_J66 y2 y1))
noncomputable def xo_X1_seeing (z_Ld_size : Int32) (a_UNIT : Nat → Int32) (a_L_seen : Nat → Int32) (x1 : Int32) (x2 : Int32) (x3 : Int32) : Option (Int32) :=
  (loop (xo_X1_seeing_L6 z_Ld_size a_UNIT a_L_seen x1 x3) (x2, 0)).bind fun y15 =>
  some (y15)
noncomputable def xo_X5_value_TB (a_TB_value : Nat → Int64) (x1 : Int32) (x2 : Int32) : Option (Int64) :=
  (rdL a_TB_value 7290 ((10 * x2) + x1)).bind fun v1 =>
  some (v1)
noncomputable def xo_X3_between (g_grid : Nat → Nat → Int32) (x1 : Int32) (x2 : Int32) : Option (Int32) :=
  (ixI 10 x1).bind fun v1 =>
  (rd2 g_grid v1 x2).bind fun v2 =>
  some (v2)
noncomputable def xo_X3_cost_J38 (n_r : Nat) (p_road_hours : Nat → Int32) (v1 : Int32) : Option (Int32) :=
  (rdI p_road_hours n_r v1).bind fun v5 =>
  some (v5)
noncomputable def xo_X3_cost_J81  : Option (Int32) :=
  some (1000000)
noncomputable def xo_X3_cost (a_UNIT : Nat → Int32) (n_r : Nat) (p_road_hours : Nat → Int32) (p_road_wait : Nat → Int32) (p_road_number : Nat → Int32) (g_grid : Nat → Nat → Int32) (x1 : Int32) (x2 : Int32) (x3 : Int32) : Option (Int32) :=
  (xo_X3_between g_grid x1 x2).bind fun v1 =>
  if v1 < 0 then (some (1000000)) else ((rdI p_road_number n_r v1).bind fun v4 =>
  if v4 = (-1) then (xo_X3_cost_J38 n_r p_road_hours v1) else ((rdI p_road_number n_r v1).bind fun v7 =>
  (xo_X1_digit a_UNIT x3 v7).bind fun v8 =>
  if v8 = 1 then (xo_X3_cost_J38 n_r p_road_hours v1) else ((rdI p_road_number n_r v1).bind fun v11 =>
  (xo_X1_digit a_UNIT x3 v11).bind fun v12 =>
  if v12 = 2 then ((rdI p_road_wait n_r v1).bind fun v15 =>
  if v15 ≤ 0 then (xo_X3_cost_J81) else ((rdI p_road_hours n_r v1).bind fun v17 =>
  (rdI p_road_wait n_r v1).bind fun v18 =>
  some (v17 + v18))) else (xo_X3_cost_J81))))
noncomputable def xo_X6_end_TB  (x1 : Int32) : Option (Int64) :=
  some (0)
noncomputable def xo_X3_unseen_J48 (y2 : Int32) (y7 : Int32) : Option ((Int32 × Int32) ⊕ ((Int32))) :=
  (some (y2 + 1)).bind fun v8 =>
  some (.inl ((y7, v8)))
noncomputable def xo_X3_unseen_L5 (z_Ld_size : Int32) (a_UNIT : Nat → Int32) (a_L_seen : Nat → Int32) (x1 : Int32) (x2 : Int32) : (Int32 × Int32) → Option ((Int32 × Int32) ⊕ ((Int32))) := fun (y1, y2) =>
  (xo_J2_size_Ld z_Ld_size).bind fun v3 =>
  if v3 ≤ y2 then (some (.inr y1)) else ((rdI a_L_seen 10 x1).bind fun v6 =>
  if (v6 >>> (y2 &&& 31)) &&& 1 = 1 then ((xo_X1_digit a_UNIT x2 y2).bind fun v10 =>
  if v10 = 0 then ((some (y1 ||| (1 <<< (y2 &&& 31)))).bind fun v13 =>
  xo_X3_unseen_J48 y2 v13) else (xo_X3_unseen_J48 y2 y1)) else (xo_X3_unseen_J48 y2 y1))
noncomputable def xo_X3_unseen (z_Ld_size : Int32) (a_UNIT : Nat → Int32) (a_L_seen : Nat → Int32) (x1 : Int32) (x2 : Int32) : Option (Int32) :=
  (loop (xo_X3_unseen_L5 z_Ld_size a_UNIT a_L_seen x1 x2) (0, 0)).bind fun y14 =>
  some (y14)
noncomputable def xo_J17_numberOfTrailingZeros_J74  (y9 : Int32) (y10 : Int32) : Option (Int32) :=
  some (y10 + ((y9.toUInt32 >>> ((1 : Int32).toUInt32 &&& Int32.toUInt32 31)).toInt32))
noncomputable def xo_J17_numberOfTrailingZeros_J62  (y7 : Int32) (y8 : Int32) : Option (Int32) :=
  if y7 ≤ 4 then (xo_J17_numberOfTrailingZeros_J74 y7 y8) else ((some (y8 + 2)).bind fun v12 =>
  (some ((y7.toUInt32 >>> ((2 : Int32).toUInt32 &&& Int32.toUInt32 31)).toInt32)).bind fun v13 =>
  xo_J17_numberOfTrailingZeros_J74 v13 v12)
noncomputable def xo_J17_numberOfTrailingZeros_J49  (y5 : Int32) (y6 : Int32) : Option (Int32) :=
  if y5 ≤ 16 then (xo_J17_numberOfTrailingZeros_J62 y5 y6) else ((some (y6 + 4)).bind fun v15 =>
  (some ((y5.toUInt32 >>> ((4 : Int32).toUInt32 &&& Int32.toUInt32 31)).toInt32)).bind fun v16 =>
  xo_J17_numberOfTrailingZeros_J62 v16 v15)
noncomputable def xo_J17_numberOfTrailingZeros_J34  (y3 : Int32) (y4 : Int32) : Option (Int32) :=
  if y3 ≤ 256 then (xo_J17_numberOfTrailingZeros_J49 y3 y4) else ((some (y4 + 8)).bind fun v18 =>
  (some ((y3.toUInt32 >>> ((8 : Int32).toUInt32 &&& Int32.toUInt32 31)).toInt32)).bind fun v19 =>
  xo_J17_numberOfTrailingZeros_J49 v19 v18)
noncomputable def xo_J17_numberOfTrailingZeros  (x0 : Int32) : Option (Int32) :=
  (some ((x0 ^^^ (-1)) &&& (x0 - 1))).bind fun v1 =>
  if 0 < v1 then (if v1 ≤ 65536 then (xo_J17_numberOfTrailingZeros_J34 v1 1) else ((some (1 + 16)).bind fun v21 =>
  (some ((v1.toUInt32 >>> ((16 : Int32).toUInt32 &&& Int32.toUInt32 31)).toInt32)).bind fun v22 =>
  xo_J17_numberOfTrailingZeros_J34 v22 v21)) else (some (v1 &&& 32))
noncomputable def xo_X6_both_TB  (x1 : Int64) (x3 : Int64) : Option (Int64) :=
  some (x1 + x3)
noncomputable def xo_X5_over_TB_J107 (z_TB_none : Int64) : Option (Int64) :=
  some (z_TB_none)
noncomputable def xo_X5_over_TB_B (f_X5_over : Int32 → Int32 → Int32 → Option (Int64)) (f_X5_shown : Int32 → Int32 → Int32 → Int32 → Int32 → Option (Int64)) (f_X5_arrived : Int32 → Int32 → Option (Int64)) (z_TB_by : Int32) (z_L_to : Int32) (z_Ld_size : Int32) (z_TB_none : Int64) (a_UNIT : Nat → Int32) (a_L_seen : Nat → Int32) (a_W_likely : Nat → Int64) (a_TB_value : Nat → Int64) (x1 : Int32) (x2 : Int32) (x3 : Int32) : Option (Int64) :=
  if x1 = 0 then ((f_X5_arrived x2 x3).bind fun v22 =>
  some (v22)) else ((xo_J17_numberOfTrailingZeros x1).bind fun v2 =>
  (f_X5_shown x1 v2 1 x2 x3).bind fun v4 =>
  (f_X5_shown x1 v2 2 x2 x3).bind fun v6 =>
  (ckz z_TB_by).bind fun v8 =>
  (xo_X1_with a_UNIT x3 v2 1).bind fun v9 =>
  (rdL a_W_likely 729 v9).bind fun v11 =>
  if v11 = 0 then (some (v6)) else ((ckz z_TB_by).bind fun v13 =>
  (xo_X1_with a_UNIT x3 v2 2).bind fun v14 =>
  (rdL a_W_likely 729 v14).bind fun v16 =>
  if v16 = 0 then (some (v4)) else (if v4 = z_TB_none then (xo_X5_over_TB_J107 z_TB_none) else (if v6 = z_TB_none then (xo_X5_over_TB_J107 z_TB_none) else ((xo_X6_both_TB v4 v6).bind fun v20 =>
  some (v20))))))
noncomputable def xo_X5_shown_TB_B (f_X5_over : Int32 → Int32 → Int32 → Option (Int64)) (f_X5_shown : Int32 → Int32 → Int32 → Int32 → Int32 → Option (Int64)) (f_X5_arrived : Int32 → Int32 → Option (Int64)) (z_TB_by : Int32) (z_L_to : Int32) (z_Ld_size : Int32) (z_TB_none : Int64) (a_UNIT : Nat → Int32) (a_L_seen : Nat → Int32) (a_W_likely : Nat → Int64) (a_TB_value : Nat → Int64) (x1 : Int32) (x2 : Int32) (x3 : Int32) (x4 : Int32) (x5 : Int32) : Option (Int64) :=
  (ckz z_TB_by).bind fun v1 =>
  (xo_X1_with a_UNIT x5 x2 x3).bind fun v2 =>
  (rdL a_W_likely 729 v2).bind fun v4 =>
  if v4 = 0 then (some (z_TB_none)) else ((xo_X1_with a_UNIT x5 x2 x3).bind fun v6 =>
  (f_X5_over (x1 &&& ((1 <<< (x2 &&& 31)) ^^^ (-1))) x4 v6).bind fun v8 =>
  some (v8))
noncomputable def xo_X5_arrived_TB_B (f_X5_over : Int32 → Int32 → Int32 → Option (Int64)) (f_X5_shown : Int32 → Int32 → Int32 → Int32 → Int32 → Option (Int64)) (f_X5_arrived : Int32 → Int32 → Option (Int64)) (z_TB_by : Int32) (z_L_to : Int32) (z_Ld_size : Int32) (z_TB_none : Int64) (a_UNIT : Nat → Int32) (a_L_seen : Nat → Int32) (a_W_likely : Nat → Int64) (a_TB_value : Nat → Int64) (x1 : Int32) (x2 : Int32) : Option (Int64) :=
  if x1 = z_L_to then ((xo_X6_end_TB x2).bind fun v11 =>
  some (v11)) else ((xo_X3_unseen z_Ld_size a_UNIT a_L_seen x1 x2).bind fun v2 =>
  if v2 = 0 then ((xo_X5_value_TB a_TB_value x1 x2).bind fun v9 =>
  some (v9)) else ((xo_X3_unseen z_Ld_size a_UNIT a_L_seen x1 x2).bind fun v5 =>
  (f_X5_over v5 x1 x2).bind fun v7 =>
  some (v7)))
noncomputable def xg_T_TB (z_TB_by : Int32) (z_L_to : Int32) (z_Ld_size : Int32) (z_TB_none : Int64) (a_UNIT : Nat → Int32) (a_L_seen : Nat → Int32) (a_W_likely : Nat → Int64) (a_TB_value : Nat → Int64) : Nat → ((Int32 → Int32 → Int32 → Option (Int64)) × (Int32 → Int32 → Int32 → Int32 → Int32 → Option (Int64)) × (Int32 → Int32 → Option (Int64)))
  | 0 => ((fun _ _ _ => none), (fun _ _ _ _ _ => none), (fun _ _ => none))
  | d + 1 => (xo_X5_over_TB_B (xg_T_TB z_TB_by z_L_to z_Ld_size z_TB_none a_UNIT a_L_seen a_W_likely a_TB_value d).1 (xg_T_TB z_TB_by z_L_to z_Ld_size z_TB_none a_UNIT a_L_seen a_W_likely a_TB_value d).2.1 (xg_T_TB z_TB_by z_L_to z_Ld_size z_TB_none a_UNIT a_L_seen a_W_likely a_TB_value d).2.2 z_TB_by z_L_to z_Ld_size z_TB_none a_UNIT a_L_seen a_W_likely a_TB_value, xo_X5_shown_TB_B (xg_T_TB z_TB_by z_L_to z_Ld_size z_TB_none a_UNIT a_L_seen a_W_likely a_TB_value d).1 (xg_T_TB z_TB_by z_L_to z_Ld_size z_TB_none a_UNIT a_L_seen a_W_likely a_TB_value d).2.1 (xg_T_TB z_TB_by z_L_to z_Ld_size z_TB_none a_UNIT a_L_seen a_W_likely a_TB_value d).2.2 z_TB_by z_L_to z_Ld_size z_TB_none a_UNIT a_L_seen a_W_likely a_TB_value, xo_X5_arrived_TB_B (xg_T_TB z_TB_by z_L_to z_Ld_size z_TB_none a_UNIT a_L_seen a_W_likely a_TB_value d).1 (xg_T_TB z_TB_by z_L_to z_Ld_size z_TB_none a_UNIT a_L_seen a_W_likely a_TB_value d).2.1 (xg_T_TB z_TB_by z_L_to z_Ld_size z_TB_none a_UNIT a_L_seen a_W_likely a_TB_value d).2.2 z_TB_by z_L_to z_Ld_size z_TB_none a_UNIT a_L_seen a_W_likely a_TB_value)
noncomputable def xo_X5_arriving_TB (z_TB_by : Int32) (z_L_to : Int32) (z_Ld_size : Int32) (z_TB_none : Int64) (a_UNIT : Nat → Int32) (a_L_seen : Nat → Int32) (a_W_likely : Nat → Int64) (a_TB_value : Nat → Int64) (x1 : Int32) (x2 : Int32) : Option (Int64) :=
  if x1 = z_L_to then ((xo_X6_end_TB x2).bind fun v6 =>
  some (v6)) else ((xo_X3_unseen z_Ld_size a_UNIT a_L_seen x1 x2).bind fun v2 =>
  ((xg_T_TB z_TB_by z_L_to z_Ld_size z_TB_none a_UNIT a_L_seen a_W_likely a_TB_value 40).1 v2 x1 x2).bind fun v4 =>
  some (v4))
noncomputable def xo_X6_ahead_TB (z_TB_by : Int32) (a_W_likely : Nat → Int64) (x1 : Int64) (x3 : Int32) (x4 : Int32) : Option (Int64) :=
  (ckz z_TB_by).bind fun v1 =>
  (rdL a_W_likely 729 x4).bind fun v2 =>
  some (x1 + (v2 * (x3.toInt64)))
noncomputable def xo_X5_going_TB (z_TB_by : Int32) (z_L_to : Int32) (z_Ld_size : Int32) (z_TB_none : Int64) (a_UNIT : Nat → Int32) (a_L_seen : Nat → Int32) (a_W_likely : Nat → Int64) (a_TB_value : Nat → Int64) (n_r : Nat) (p_road_hours : Nat → Int32) (p_road_wait : Nat → Int32) (p_road_number : Nat → Int32) (g_grid : Nat → Nat → Int32) (x1 : Int32) (x2 : Int32) (x3 : Int32) : Option (Int64) :=
  (xo_X3_cost a_UNIT n_r p_road_hours p_road_wait p_road_number g_grid x1 x2 x3).bind fun v1 =>
  if v1 = 1000000 then (some (z_TB_none)) else ((xo_X5_arriving_TB z_TB_by z_L_to z_Ld_size z_TB_none a_UNIT a_L_seen a_W_likely a_TB_value x2 x3).bind fun v4 =>
  if v4 = z_TB_none then (some (z_TB_none)) else ((xo_X6_ahead_TB z_TB_by a_W_likely v4 v1 x3).bind fun v7 =>
  some (v7)))
noncomputable def xo_J2_size_Lw (z_Lw_size : Int32) : Option (Int32) :=
  some (z_Lw_size)
noncomputable def xo_J5_checkIndex  (x0 : Int32) (x1 : Int32) : Option (Int32) :=
  if x0 < 0 then (none) else (if x0 < x1 then (some (x0)) else (none))
noncomputable def xo_J15_checkIndex  (x0 : Int32) (x1 : Int32) : Option (Int32) :=
  (xo_J5_checkIndex x0 x1).bind fun v1 =>
  some (v1)
noncomputable def xo_J2_elementData_Lw (a_Lw_data : Nat → Int32) (x1 : Int32) : Option (Int32) :=
  (rdI a_Lw_data 6 x1).bind fun v1 =>
  some (v1)
noncomputable def xo_J2_get_Lw (z_Lw_size : Int32) (a_Lw_data : Nat → Int32) (x1 : Int32) : Option (Int32) :=
  (xo_J15_checkIndex x1 z_Lw_size).bind fun v1 =>
  (xo_J2_elementData_Lw a_Lw_data x1).bind fun v3 =>
  some (v3)
noncomputable def xo_X5_buying_TB_J40 (z_TB_none : Int64) : Option (Int64) :=
  some (z_TB_none)
noncomputable def xo_X5_buying_TB (z_TB_by : Int32) (z_L_to : Int32) (z_Ld_size : Int32) (z_Lw_size : Int32) (z_TB_none : Int64) (a_UNIT : Nat → Int32) (a_Lw_data : Nat → Int32) (a_L_seen : Nat → Int32) (a_W_likely : Nat → Int64) (a_TB_value : Nat → Int64) (n_w : Nat) (p_word_place : Nat → Int32) (p_word_road : Nat → Int32) (p_word_hours : Nat → Int32) (x1 : Int32) (x2 : Int32) (x3 : Int32) : Option (Int64) :=
  (xo_J2_get_Lw z_Lw_size a_Lw_data x2).bind fun v1 =>
  (ixI n_w v1).bind fun v3 =>
  (rdI p_word_place n_w v3).bind fun v4 =>
  if v4 = x1 then ((rdI p_word_road n_w v3).bind fun v6 =>
  (xo_X1_digit a_UNIT x3 v6).bind fun v7 =>
  if v7 = 0 then ((rdI p_word_road n_w v3).bind fun v10 =>
  ((xg_T_TB z_TB_by z_L_to z_Ld_size z_TB_none a_UNIT a_L_seen a_W_likely a_TB_value 40).1 (1 <<< (v10 &&& 31)) x1 x3).bind fun v11 =>
  if v11 = z_TB_none then (some (z_TB_none)) else ((rdI p_word_hours n_w v3).bind fun v14 =>
  (xo_X6_ahead_TB z_TB_by a_W_likely v11 v14 x3).bind fun v15 =>
  some (v15))) else (xo_X5_buying_TB_J40 z_TB_none)) else (xo_X5_buying_TB_J40 z_TB_none)
noncomputable def xo_X5_next_TB_L33 (z_TB_by : Int32) (z_L_places : Int32) (z_L_to : Int32) (z_Ld_size : Int32) (z_TB_none : Int64) (a_UNIT : Nat → Int32) (a_L_seen : Nat → Int32) (a_W_likely : Nat → Int64) (a_TB_value : Nat → Int64) (n_r : Nat) (p_road_hours : Nat → Int32) (p_road_wait : Nat → Int32) (p_road_number : Nat → Int32) (g_grid : Nat → Nat → Int32) (x1 : Int32) (x2 : Int32) : (Int32) → Option ((Int32) ⊕ ((Int32) ⊕ (Unit))) := fun y5 =>
  if z_L_places ≤ y5 then (some (.inr (.inr ()))) else ((xo_X5_going_TB z_TB_by z_L_to z_Ld_size z_TB_none a_UNIT a_L_seen a_W_likely a_TB_value n_r p_road_hours p_road_wait p_road_number g_grid x1 y5 x2).bind fun v7 =>
  (xo_X5_value_TB a_TB_value x1 x2).bind fun v9 =>
  if v7 = v9 then (some (.inr (.inl y5))) else ((some (y5 + 1)).bind fun v12 =>
  some (.inl v12)))
noncomputable def xo_X5_next_TB_L74 (z_TB_by : Int32) (z_L_to : Int32) (z_Ld_size : Int32) (z_Lw_size : Int32) (z_TB_none : Int64) (a_UNIT : Nat → Int32) (a_Lw_data : Nat → Int32) (a_L_seen : Nat → Int32) (a_W_likely : Nat → Int64) (a_TB_value : Nat → Int64) (n_w : Nat) (p_word_place : Nat → Int32) (p_word_road : Nat → Int32) (p_word_hours : Nat → Int32) (x1 : Int32) (x2 : Int32) : (Int32) → Option ((Int32) ⊕ ((Int32) ⊕ (Unit))) := fun y14 =>
  (xo_J2_size_Lw z_Lw_size).bind fun v15 =>
  if v15 ≤ y14 then (some (.inr (.inr ()))) else ((xo_X5_buying_TB z_TB_by z_L_to z_Ld_size z_Lw_size z_TB_none a_UNIT a_Lw_data a_L_seen a_W_likely a_TB_value n_w p_word_place p_word_road p_word_hours x1 y14 x2).bind fun v18 =>
  (xo_X5_value_TB a_TB_value x1 x2).bind fun v20 =>
  if v18 = v20 then (some (.inr (.inl y14))) else ((some (y14 + 1)).bind fun v23 =>
  some (.inl v23)))
noncomputable def xo_X5_next_TB (z_TB_by : Int32) (z_L_places : Int32) (z_L_to : Int32) (z_Ld_size : Int32) (z_Lw_size : Int32) (z_TB_none : Int64) (a_UNIT : Nat → Int32) (a_Lw_data : Nat → Int32) (a_L_seen : Nat → Int32) (a_W_likely : Nat → Int64) (a_TB_value : Nat → Int64) (n_r : Nat) (n_w : Nat) (p_road_hours : Nat → Int32) (p_road_wait : Nat → Int32) (p_road_number : Nat → Int32) (p_word_place : Nat → Int32) (p_word_road : Nat → Int32) (p_word_hours : Nat → Int32) (g_grid : Nat → Nat → Int32) (x1 : Int32) (x2 : Int32) : Option (Int32) :=
  if x1 = z_L_to then (some ((-2))) else ((xo_X5_value_TB a_TB_value x1 x2).bind fun v2 =>
  if v2 = z_TB_none then (some ((-2))) else ((loop (xo_X5_next_TB_L33 z_TB_by z_L_places z_L_to z_Ld_size z_TB_none a_UNIT a_L_seen a_W_likely a_TB_value n_r p_road_hours p_road_wait p_road_number g_grid x1 x2) 0).bind (sE (fun y13 =>
  some (y13)) (fun _ =>
  (loop (xo_X5_next_TB_L74 z_TB_by z_L_to z_Ld_size z_Lw_size z_TB_none a_UNIT a_Lw_data a_L_seen a_W_likely a_TB_value n_w p_word_place p_word_road p_word_hours x1 x2) 0).bind (sE (fun y24 =>
  some (100 + y24)) (fun _ =>
  some ((-2))))))))
noncomputable def xo_X14_next_p0 (z_TB_by : Int32) (z_L_places : Int32) (z_L_to : Int32) (z_Ld_size : Int32) (z_Lw_size : Int32) (z_TB_none : Int64) (a_UNIT : Nat → Int32) (a_Lw_data : Nat → Int32) (a_L_seen : Nat → Int32) (a_W_likely : Nat → Int64) (a_TB_value : Nat → Int64) (n_r : Nat) (n_w : Nat) (p_road_hours : Nat → Int32) (p_road_wait : Nat → Int32) (p_road_number : Nat → Int32) (p_word_place : Nat → Int32) (p_word_road : Nat → Int32) (p_word_hours : Nat → Int32) (g_grid : Nat → Nat → Int32) (x1 : Int32) (x2 : Int32) : Option (Int32) :=
  (xo_X5_next_TB z_TB_by z_L_places z_L_to z_Ld_size z_Lw_size z_TB_none a_UNIT a_Lw_data a_L_seen a_W_likely a_TB_value n_r n_w p_road_hours p_road_wait p_road_number p_word_place p_word_road p_word_hours g_grid x1 x2).bind fun v1 =>
  some (v1)
noncomputable def xo_X9_hours_p0_J181 (y12 : Int32) (y13 : Int32) (y14 : Int32) (k15 : Int32) : Option ((Int32 × Int32 × Int32 × Int32) ⊕ ((Unit) ⊕ (Int32))) :=
  some (.inl ((y12, y13, y14, k15)))
noncomputable def xo_X9_hours_p0_J167 (y4 : Int32) (y6 : Int32) (y12 : Int32) (y13 : Int32) (y14 : Int32) : Option ((Int32 × Int32 × Int32 × Int32) ⊕ ((Unit) ⊕ (Int32))) :=
  if y13 = y4 then (xo_X9_hours_p0_J181 y12 y13 y14 (y6 + 1)) else (xo_X9_hours_p0_J181 y12 y13 y14 0)
noncomputable def xo_X9_hours_p0_L28 (z_TB_by : Int32) (z_L_places : Int32) (z_L_to : Int32) (z_Ld_size : Int32) (z_Lw_size : Int32) (z_TB_none : Int64) (a_UNIT : Nat → Int32) (a_Lw_data : Nat → Int32) (a_L_seen : Nat → Int32) (a_W_likely : Nat → Int64) (a_TB_value : Nat → Int64) (n_r : Nat) (n_w : Nat) (p_road_hours : Nat → Int32) (p_road_wait : Nat → Int32) (p_road_number : Nat → Int32) (p_word_place : Nat → Int32) (p_word_road : Nat → Int32) (p_word_hours : Nat → Int32) (g_grid : Nat → Nat → Int32) (x1 : Int32) : (Int32 × Int32 × Int32 × Int32) → Option ((Int32 × Int32 × Int32 × Int32) ⊕ ((Unit) ⊕ (Int32))) := fun (y3, y4, y5, y6) =>
  if y3 = z_L_to then (some (.inr (.inr y5))) else ((xo_X14_next_p0 z_TB_by z_L_places z_L_to z_Ld_size z_Lw_size z_TB_none a_UNIT a_Lw_data a_L_seen a_W_likely a_TB_value n_r n_w p_road_hours p_road_wait p_road_number p_word_place p_word_road p_word_hours g_grid y3 y4).bind fun v8 =>
  if v8 = (-2) then (some (.inr (.inl (())))) else (if y6 ≤ 10 then (if v8 < 100 then ((xo_X3_cost a_UNIT n_r p_road_hours p_road_wait p_road_number g_grid y3 v8 y4).bind fun v18 =>
  (some (y5 + v18)).bind fun v20 =>
  (xo_X1_seeing z_Ld_size a_UNIT a_L_seen v8 y4 x1).bind fun v21 =>
  xo_X9_hours_p0_J167 y4 y6 v8 v21 v20) else ((xo_J2_get_Lw z_Lw_size a_Lw_data (v8 - 100)).bind fun v23 =>
  (ixI n_w v23).bind fun v25 =>
  (rdI p_word_hours n_w v25).bind fun v26 =>
  (some (y5 + v26)).bind fun v27 =>
  (rdI p_word_road n_w v25).bind fun v28 =>
  (rdI p_word_road n_w v25).bind fun v29 =>
  (xo_X1_with a_UNIT y4 v28 (1 + ((x1 >>> (v29 &&& 31)) &&& 1))).bind fun v30 =>
  xo_X9_hours_p0_J167 y4 y6 y3 v30 v27)) else (some (.inr (.inl (()))))))
noncomputable def xo_X9_hours_p0 (z_TB_by : Int32) (z_L_places : Int32) (z_L_from : Int32) (z_L_to : Int32) (z_Ld_size : Int32) (z_Lw_size : Int32) (z_TB_none : Int64) (a_UNIT : Nat → Int32) (a_Lw_data : Nat → Int32) (a_L_seen : Nat → Int32) (a_W_likely : Nat → Int64) (a_TB_value : Nat → Int64) (n_r : Nat) (n_w : Nat) (p_road_hours : Nat → Int32) (p_road_wait : Nat → Int32) (p_road_number : Nat → Int32) (p_word_place : Nat → Int32) (p_word_road : Nat → Int32) (p_word_hours : Nat → Int32) (g_grid : Nat → Nat → Int32) (x1 : Int32) : Option (Int32) :=
  (xo_X1_seeing z_Ld_size a_UNIT a_L_seen z_L_from 0 x1).bind fun v1 =>
  (loop (xo_X9_hours_p0_L28 z_TB_by z_L_places z_L_to z_Ld_size z_Lw_size z_TB_none a_UNIT a_Lw_data a_L_seen a_W_likely a_TB_value n_r n_w p_road_hours p_road_wait p_road_number p_word_place p_word_road p_word_hours g_grid x1) (z_L_from, v1, 0, 0)).bind (sE (fun _ =>
  some ((-2))) (fun y32 =>
  some (y32)))
noncomputable def xo_X5_value_TS (a_TS_value : Nat → Int64) (x1 : Int32) (x2 : Int32) : Option (Int64) :=
  (rdL a_TS_value 7290 ((10 * x2) + x1)).bind fun v1 =>
  some (v1)
noncomputable def xo_X6_end_TS  (x1 : Int32) : Option (Int64) :=
  some (0)
noncomputable def xo_X7_both_TS  (x1 : Int64) (x3 : Int64) : Option (Int64) :=
  (some (if x3 < x1 then x1 else x3)).bind fun v1 =>
  some (v1)
noncomputable def xo_X5_over_TS_J107 (z_TS_none : Int64) : Option (Int64) :=
  some (z_TS_none)
noncomputable def xo_X5_over_TS_B (f_X5_over : Int32 → Int32 → Int32 → Option (Int64)) (f_X5_shown : Int32 → Int32 → Int32 → Int32 → Int32 → Option (Int64)) (f_X5_arrived : Int32 → Int32 → Option (Int64)) (z_TS_by : Int32) (z_L_to : Int32) (z_Ld_size : Int32) (z_TS_none : Int64) (a_UNIT : Nat → Int32) (a_L_seen : Nat → Int32) (a_W_likely : Nat → Int64) (a_TS_value : Nat → Int64) (x1 : Int32) (x2 : Int32) (x3 : Int32) : Option (Int64) :=
  if x1 = 0 then ((f_X5_arrived x2 x3).bind fun v22 =>
  some (v22)) else ((xo_J17_numberOfTrailingZeros x1).bind fun v2 =>
  (f_X5_shown x1 v2 1 x2 x3).bind fun v4 =>
  (f_X5_shown x1 v2 2 x2 x3).bind fun v6 =>
  (ckz z_TS_by).bind fun v8 =>
  (xo_X1_with a_UNIT x3 v2 1).bind fun v9 =>
  (rdL a_W_likely 729 v9).bind fun v11 =>
  if v11 = 0 then (some (v6)) else ((ckz z_TS_by).bind fun v13 =>
  (xo_X1_with a_UNIT x3 v2 2).bind fun v14 =>
  (rdL a_W_likely 729 v14).bind fun v16 =>
  if v16 = 0 then (some (v4)) else (if v4 = z_TS_none then (xo_X5_over_TS_J107 z_TS_none) else (if v6 = z_TS_none then (xo_X5_over_TS_J107 z_TS_none) else ((xo_X7_both_TS v4 v6).bind fun v20 =>
  some (v20))))))
noncomputable def xo_X5_shown_TS_B (f_X5_over : Int32 → Int32 → Int32 → Option (Int64)) (f_X5_shown : Int32 → Int32 → Int32 → Int32 → Int32 → Option (Int64)) (f_X5_arrived : Int32 → Int32 → Option (Int64)) (z_TS_by : Int32) (z_L_to : Int32) (z_Ld_size : Int32) (z_TS_none : Int64) (a_UNIT : Nat → Int32) (a_L_seen : Nat → Int32) (a_W_likely : Nat → Int64) (a_TS_value : Nat → Int64) (x1 : Int32) (x2 : Int32) (x3 : Int32) (x4 : Int32) (x5 : Int32) : Option (Int64) :=
  (ckz z_TS_by).bind fun v1 =>
  (xo_X1_with a_UNIT x5 x2 x3).bind fun v2 =>
  (rdL a_W_likely 729 v2).bind fun v4 =>
  if v4 = 0 then (some (z_TS_none)) else ((xo_X1_with a_UNIT x5 x2 x3).bind fun v6 =>
  (f_X5_over (x1 &&& ((1 <<< (x2 &&& 31)) ^^^ (-1))) x4 v6).bind fun v8 =>
  some (v8))
noncomputable def xo_X5_arrived_TS_B (f_X5_over : Int32 → Int32 → Int32 → Option (Int64)) (f_X5_shown : Int32 → Int32 → Int32 → Int32 → Int32 → Option (Int64)) (f_X5_arrived : Int32 → Int32 → Option (Int64)) (z_TS_by : Int32) (z_L_to : Int32) (z_Ld_size : Int32) (z_TS_none : Int64) (a_UNIT : Nat → Int32) (a_L_seen : Nat → Int32) (a_W_likely : Nat → Int64) (a_TS_value : Nat → Int64) (x1 : Int32) (x2 : Int32) : Option (Int64) :=
  if x1 = z_L_to then ((xo_X6_end_TS x2).bind fun v11 =>
  some (v11)) else ((xo_X3_unseen z_Ld_size a_UNIT a_L_seen x1 x2).bind fun v2 =>
  if v2 = 0 then ((xo_X5_value_TS a_TS_value x1 x2).bind fun v9 =>
  some (v9)) else ((xo_X3_unseen z_Ld_size a_UNIT a_L_seen x1 x2).bind fun v5 =>
  (f_X5_over v5 x1 x2).bind fun v7 =>
  some (v7)))
noncomputable def xg_T_TS (z_TS_by : Int32) (z_L_to : Int32) (z_Ld_size : Int32) (z_TS_none : Int64) (a_UNIT : Nat → Int32) (a_L_seen : Nat → Int32) (a_W_likely : Nat → Int64) (a_TS_value : Nat → Int64) : Nat → ((Int32 → Int32 → Int32 → Option (Int64)) × (Int32 → Int32 → Int32 → Int32 → Int32 → Option (Int64)) × (Int32 → Int32 → Option (Int64)))
  | 0 => ((fun _ _ _ => none), (fun _ _ _ _ _ => none), (fun _ _ => none))
  | d + 1 => (xo_X5_over_TS_B (xg_T_TS z_TS_by z_L_to z_Ld_size z_TS_none a_UNIT a_L_seen a_W_likely a_TS_value d).1 (xg_T_TS z_TS_by z_L_to z_Ld_size z_TS_none a_UNIT a_L_seen a_W_likely a_TS_value d).2.1 (xg_T_TS z_TS_by z_L_to z_Ld_size z_TS_none a_UNIT a_L_seen a_W_likely a_TS_value d).2.2 z_TS_by z_L_to z_Ld_size z_TS_none a_UNIT a_L_seen a_W_likely a_TS_value, xo_X5_shown_TS_B (xg_T_TS z_TS_by z_L_to z_Ld_size z_TS_none a_UNIT a_L_seen a_W_likely a_TS_value d).1 (xg_T_TS z_TS_by z_L_to z_Ld_size z_TS_none a_UNIT a_L_seen a_W_likely a_TS_value d).2.1 (xg_T_TS z_TS_by z_L_to z_Ld_size z_TS_none a_UNIT a_L_seen a_W_likely a_TS_value d).2.2 z_TS_by z_L_to z_Ld_size z_TS_none a_UNIT a_L_seen a_W_likely a_TS_value, xo_X5_arrived_TS_B (xg_T_TS z_TS_by z_L_to z_Ld_size z_TS_none a_UNIT a_L_seen a_W_likely a_TS_value d).1 (xg_T_TS z_TS_by z_L_to z_Ld_size z_TS_none a_UNIT a_L_seen a_W_likely a_TS_value d).2.1 (xg_T_TS z_TS_by z_L_to z_Ld_size z_TS_none a_UNIT a_L_seen a_W_likely a_TS_value d).2.2 z_TS_by z_L_to z_Ld_size z_TS_none a_UNIT a_L_seen a_W_likely a_TS_value)
noncomputable def xo_X5_arriving_TS (z_TS_by : Int32) (z_L_to : Int32) (z_Ld_size : Int32) (z_TS_none : Int64) (a_UNIT : Nat → Int32) (a_L_seen : Nat → Int32) (a_W_likely : Nat → Int64) (a_TS_value : Nat → Int64) (x1 : Int32) (x2 : Int32) : Option (Int64) :=
  if x1 = z_L_to then ((xo_X6_end_TS x2).bind fun v6 =>
  some (v6)) else ((xo_X3_unseen z_Ld_size a_UNIT a_L_seen x1 x2).bind fun v2 =>
  ((xg_T_TS z_TS_by z_L_to z_Ld_size z_TS_none a_UNIT a_L_seen a_W_likely a_TS_value 40).1 v2 x1 x2).bind fun v4 =>
  some (v4))
noncomputable def xo_X7_ahead_TS  (x1 : Int64) (x3 : Int32) (x4 : Int32) : Option (Int64) :=
  some (x1 + (x3.toInt64))
noncomputable def xo_X5_going_TS (z_TS_by : Int32) (z_L_to : Int32) (z_Ld_size : Int32) (z_TS_none : Int64) (a_UNIT : Nat → Int32) (a_L_seen : Nat → Int32) (a_W_likely : Nat → Int64) (a_TS_value : Nat → Int64) (n_r : Nat) (p_road_hours : Nat → Int32) (p_road_wait : Nat → Int32) (p_road_number : Nat → Int32) (g_grid : Nat → Nat → Int32) (x1 : Int32) (x2 : Int32) (x3 : Int32) : Option (Int64) :=
  (xo_X3_cost a_UNIT n_r p_road_hours p_road_wait p_road_number g_grid x1 x2 x3).bind fun v1 =>
  if v1 = 1000000 then (some (z_TS_none)) else ((xo_X5_arriving_TS z_TS_by z_L_to z_Ld_size z_TS_none a_UNIT a_L_seen a_W_likely a_TS_value x2 x3).bind fun v4 =>
  if v4 = z_TS_none then (some (z_TS_none)) else ((xo_X7_ahead_TS v4 v1 x3).bind fun v7 =>
  some (v7)))
noncomputable def xo_X5_buying_TS_J40 (z_TS_none : Int64) : Option (Int64) :=
  some (z_TS_none)
noncomputable def xo_X5_buying_TS (z_TS_by : Int32) (z_L_to : Int32) (z_Ld_size : Int32) (z_Lw_size : Int32) (z_TS_none : Int64) (a_UNIT : Nat → Int32) (a_Lw_data : Nat → Int32) (a_L_seen : Nat → Int32) (a_W_likely : Nat → Int64) (a_TS_value : Nat → Int64) (n_w : Nat) (p_word_place : Nat → Int32) (p_word_road : Nat → Int32) (p_word_hours : Nat → Int32) (x1 : Int32) (x2 : Int32) (x3 : Int32) : Option (Int64) :=
  (xo_J2_get_Lw z_Lw_size a_Lw_data x2).bind fun v1 =>
  (ixI n_w v1).bind fun v3 =>
  (rdI p_word_place n_w v3).bind fun v4 =>
  if v4 = x1 then ((rdI p_word_road n_w v3).bind fun v6 =>
  (xo_X1_digit a_UNIT x3 v6).bind fun v7 =>
  if v7 = 0 then ((rdI p_word_road n_w v3).bind fun v10 =>
  ((xg_T_TS z_TS_by z_L_to z_Ld_size z_TS_none a_UNIT a_L_seen a_W_likely a_TS_value 40).1 (1 <<< (v10 &&& 31)) x1 x3).bind fun v11 =>
  if v11 = z_TS_none then (some (z_TS_none)) else ((rdI p_word_hours n_w v3).bind fun v14 =>
  (xo_X7_ahead_TS v11 v14 x3).bind fun v15 =>
  some (v15))) else (xo_X5_buying_TS_J40 z_TS_none)) else (xo_X5_buying_TS_J40 z_TS_none)
noncomputable def xo_X5_next_TS_L33 (z_TS_by : Int32) (z_L_places : Int32) (z_L_to : Int32) (z_Ld_size : Int32) (z_TS_none : Int64) (a_UNIT : Nat → Int32) (a_L_seen : Nat → Int32) (a_W_likely : Nat → Int64) (a_TS_value : Nat → Int64) (n_r : Nat) (p_road_hours : Nat → Int32) (p_road_wait : Nat → Int32) (p_road_number : Nat → Int32) (g_grid : Nat → Nat → Int32) (x1 : Int32) (x2 : Int32) : (Int32) → Option ((Int32) ⊕ ((Int32) ⊕ (Unit))) := fun y5 =>
  if z_L_places ≤ y5 then (some (.inr (.inr ()))) else ((xo_X5_going_TS z_TS_by z_L_to z_Ld_size z_TS_none a_UNIT a_L_seen a_W_likely a_TS_value n_r p_road_hours p_road_wait p_road_number g_grid x1 y5 x2).bind fun v7 =>
  (xo_X5_value_TS a_TS_value x1 x2).bind fun v9 =>
  if v7 = v9 then (some (.inr (.inl y5))) else ((some (y5 + 1)).bind fun v12 =>
  some (.inl v12)))
noncomputable def xo_X5_next_TS_L74 (z_TS_by : Int32) (z_L_to : Int32) (z_Ld_size : Int32) (z_Lw_size : Int32) (z_TS_none : Int64) (a_UNIT : Nat → Int32) (a_Lw_data : Nat → Int32) (a_L_seen : Nat → Int32) (a_W_likely : Nat → Int64) (a_TS_value : Nat → Int64) (n_w : Nat) (p_word_place : Nat → Int32) (p_word_road : Nat → Int32) (p_word_hours : Nat → Int32) (x1 : Int32) (x2 : Int32) : (Int32) → Option ((Int32) ⊕ ((Int32) ⊕ (Unit))) := fun y14 =>
  (xo_J2_size_Lw z_Lw_size).bind fun v15 =>
  if v15 ≤ y14 then (some (.inr (.inr ()))) else ((xo_X5_buying_TS z_TS_by z_L_to z_Ld_size z_Lw_size z_TS_none a_UNIT a_Lw_data a_L_seen a_W_likely a_TS_value n_w p_word_place p_word_road p_word_hours x1 y14 x2).bind fun v18 =>
  (xo_X5_value_TS a_TS_value x1 x2).bind fun v20 =>
  if v18 = v20 then (some (.inr (.inl y14))) else ((some (y14 + 1)).bind fun v23 =>
  some (.inl v23)))
noncomputable def xo_X5_next_TS (z_TS_by : Int32) (z_L_places : Int32) (z_L_to : Int32) (z_Ld_size : Int32) (z_Lw_size : Int32) (z_TS_none : Int64) (a_UNIT : Nat → Int32) (a_Lw_data : Nat → Int32) (a_L_seen : Nat → Int32) (a_W_likely : Nat → Int64) (a_TS_value : Nat → Int64) (n_r : Nat) (n_w : Nat) (p_road_hours : Nat → Int32) (p_road_wait : Nat → Int32) (p_road_number : Nat → Int32) (p_word_place : Nat → Int32) (p_word_road : Nat → Int32) (p_word_hours : Nat → Int32) (g_grid : Nat → Nat → Int32) (x1 : Int32) (x2 : Int32) : Option (Int32) :=
  if x1 = z_L_to then (some ((-2))) else ((xo_X5_value_TS a_TS_value x1 x2).bind fun v2 =>
  if v2 = z_TS_none then (some ((-2))) else ((loop (xo_X5_next_TS_L33 z_TS_by z_L_places z_L_to z_Ld_size z_TS_none a_UNIT a_L_seen a_W_likely a_TS_value n_r p_road_hours p_road_wait p_road_number g_grid x1 x2) 0).bind (sE (fun y13 =>
  some (y13)) (fun _ =>
  (loop (xo_X5_next_TS_L74 z_TS_by z_L_to z_Ld_size z_Lw_size z_TS_none a_UNIT a_Lw_data a_L_seen a_W_likely a_TS_value n_w p_word_place p_word_road p_word_hours x1 x2) 0).bind (sE (fun y24 =>
  some (100 + y24)) (fun _ =>
  some ((-2))))))))
noncomputable def xo_X14_next_p1 (z_TS_by : Int32) (z_L_places : Int32) (z_L_to : Int32) (z_Ld_size : Int32) (z_Lw_size : Int32) (z_TS_none : Int64) (a_UNIT : Nat → Int32) (a_Lw_data : Nat → Int32) (a_L_seen : Nat → Int32) (a_W_likely : Nat → Int64) (a_TS_value : Nat → Int64) (n_r : Nat) (n_w : Nat) (p_road_hours : Nat → Int32) (p_road_wait : Nat → Int32) (p_road_number : Nat → Int32) (p_word_place : Nat → Int32) (p_word_road : Nat → Int32) (p_word_hours : Nat → Int32) (g_grid : Nat → Nat → Int32) (x1 : Int32) (x2 : Int32) : Option (Int32) :=
  (xo_X5_next_TS z_TS_by z_L_places z_L_to z_Ld_size z_Lw_size z_TS_none a_UNIT a_Lw_data a_L_seen a_W_likely a_TS_value n_r n_w p_road_hours p_road_wait p_road_number p_word_place p_word_road p_word_hours g_grid x1 x2).bind fun v1 =>
  some (v1)
noncomputable def xo_X9_hours_p1_J181 (y12 : Int32) (y13 : Int32) (y14 : Int32) (k15 : Int32) : Option ((Int32 × Int32 × Int32 × Int32) ⊕ ((Unit) ⊕ (Int32))) :=
  some (.inl ((y12, y13, y14, k15)))
noncomputable def xo_X9_hours_p1_J167 (y4 : Int32) (y6 : Int32) (y12 : Int32) (y13 : Int32) (y14 : Int32) : Option ((Int32 × Int32 × Int32 × Int32) ⊕ ((Unit) ⊕ (Int32))) :=
  if y13 = y4 then (xo_X9_hours_p1_J181 y12 y13 y14 (y6 + 1)) else (xo_X9_hours_p1_J181 y12 y13 y14 0)
noncomputable def xo_X9_hours_p1_L28 (z_TS_by : Int32) (z_L_places : Int32) (z_L_to : Int32) (z_Ld_size : Int32) (z_Lw_size : Int32) (z_TS_none : Int64) (a_UNIT : Nat → Int32) (a_Lw_data : Nat → Int32) (a_L_seen : Nat → Int32) (a_W_likely : Nat → Int64) (a_TS_value : Nat → Int64) (n_r : Nat) (n_w : Nat) (p_road_hours : Nat → Int32) (p_road_wait : Nat → Int32) (p_road_number : Nat → Int32) (p_word_place : Nat → Int32) (p_word_road : Nat → Int32) (p_word_hours : Nat → Int32) (g_grid : Nat → Nat → Int32) (x1 : Int32) : (Int32 × Int32 × Int32 × Int32) → Option ((Int32 × Int32 × Int32 × Int32) ⊕ ((Unit) ⊕ (Int32))) := fun (y3, y4, y5, y6) =>
  if y3 = z_L_to then (some (.inr (.inr y5))) else ((xo_X14_next_p1 z_TS_by z_L_places z_L_to z_Ld_size z_Lw_size z_TS_none a_UNIT a_Lw_data a_L_seen a_W_likely a_TS_value n_r n_w p_road_hours p_road_wait p_road_number p_word_place p_word_road p_word_hours g_grid y3 y4).bind fun v8 =>
  if v8 = (-2) then (some (.inr (.inl (())))) else (if y6 ≤ 10 then (if v8 < 100 then ((xo_X3_cost a_UNIT n_r p_road_hours p_road_wait p_road_number g_grid y3 v8 y4).bind fun v18 =>
  (some (y5 + v18)).bind fun v20 =>
  (xo_X1_seeing z_Ld_size a_UNIT a_L_seen v8 y4 x1).bind fun v21 =>
  xo_X9_hours_p1_J167 y4 y6 v8 v21 v20) else ((xo_J2_get_Lw z_Lw_size a_Lw_data (v8 - 100)).bind fun v23 =>
  (ixI n_w v23).bind fun v25 =>
  (rdI p_word_hours n_w v25).bind fun v26 =>
  (some (y5 + v26)).bind fun v27 =>
  (rdI p_word_road n_w v25).bind fun v28 =>
  (rdI p_word_road n_w v25).bind fun v29 =>
  (xo_X1_with a_UNIT y4 v28 (1 + ((x1 >>> (v29 &&& 31)) &&& 1))).bind fun v30 =>
  xo_X9_hours_p1_J167 y4 y6 y3 v30 v27)) else (some (.inr (.inl (()))))))
noncomputable def xo_X9_hours_p1 (z_TS_by : Int32) (z_L_places : Int32) (z_L_from : Int32) (z_L_to : Int32) (z_Ld_size : Int32) (z_Lw_size : Int32) (z_TS_none : Int64) (a_UNIT : Nat → Int32) (a_Lw_data : Nat → Int32) (a_L_seen : Nat → Int32) (a_W_likely : Nat → Int64) (a_TS_value : Nat → Int64) (n_r : Nat) (n_w : Nat) (p_road_hours : Nat → Int32) (p_road_wait : Nat → Int32) (p_road_number : Nat → Int32) (p_word_place : Nat → Int32) (p_word_road : Nat → Int32) (p_word_hours : Nat → Int32) (g_grid : Nat → Nat → Int32) (x1 : Int32) : Option (Int32) :=
  (xo_X1_seeing z_Ld_size a_UNIT a_L_seen z_L_from 0 x1).bind fun v1 =>
  (loop (xo_X9_hours_p1_L28 z_TS_by z_L_places z_L_to z_Ld_size z_Lw_size z_TS_none a_UNIT a_Lw_data a_L_seen a_W_likely a_TS_value n_r n_w p_road_hours p_road_wait p_road_number p_word_place p_word_road p_word_hours g_grid x1) (z_L_from, v1, 0, 0)).bind (sE (fun _ =>
  some ((-2))) (fun y32 =>
  some (y32)))
noncomputable def xo_X5_value_TF (a_TF_value : Nat → Int64) (x1 : Int32) (x2 : Int32) : Option (Int64) :=
  (rdL a_TF_value 7290 ((10 * x2) + x1)).bind fun v1 =>
  some (v1)
noncomputable def xo_X3_worlds (z_Ld_size : Int32) : Option (Int32) :=
  (xo_J2_size_Ld z_Ld_size).bind fun v1 =>
  some (1 <<< (v1 &&& 31))
noncomputable def xo_X4_agrees_J38 (y1 : Int32) : Option ((Int32) ⊕ ((Unit) ⊕ (Unit))) :=
  (some (y1 + 1)).bind fun v7 =>
  some (.inl v7)
noncomputable def xo_X4_agrees_L2 (z_Ld_size : Int32) (a_UNIT : Nat → Int32) (x1 : Int32) (x2 : Int32) : (Int32) → Option ((Int32) ⊕ ((Unit) ⊕ (Unit))) := fun y1 =>
  (xo_J2_size_Ld z_Ld_size).bind fun v2 =>
  if v2 ≤ y1 then (some (.inr (.inr ()))) else ((xo_X1_digit a_UNIT x2 y1).bind fun v5 =>
  if v5 = 0 then (xo_X4_agrees_J38 y1) else ((xo_X1_digit a_UNIT x2 y1).bind fun v9 =>
  if v9 = 1 + ((x1 >>> (y1 &&& 31)) &&& 1) then (xo_X4_agrees_J38 y1) else (some (.inr (.inl (()))))))
noncomputable def xo_X4_agrees (z_Ld_size : Int32) (a_UNIT : Nat → Int32) (x1 : Int32) (x2 : Int32) : Option (Int32) :=
  (loop (xo_X4_agrees_L2 z_Ld_size a_UNIT x1 x2) 0).bind (sE (fun _ =>
  some (0)) (fun _ =>
  some (1)))
noncomputable def xo_X8_end_TF_J81 (y2 : Int32) (y8 : Int64) : Option ((Int64 × Int32) ⊕ ((Int64))) :=
  (some (y2 + 1)).bind fun v9 =>
  some (.inl ((y8, v9)))
noncomputable def xo_X8_end_TF_L7 (z_TF_by : Int32) (z_TF_times : Int32) (z_TF_of : Int32) (z_Ld_size : Int32) (a_X_knowing : Nat → Int32) (a_UNIT : Nat → Int32) (a_W_world : Nat → Int64) (x1 : Int32) : (Int64 × Int32) → Option ((Int64 × Int32) ⊕ ((Int64))) := fun (y1, y2) =>
  (xo_X3_worlds z_Ld_size).bind fun v3 =>
  if v3 ≤ y2 then (some (.inr y1)) else ((ckz z_TF_by).bind fun v6 =>
  (rdL a_W_world 64 y2).bind fun v7 =>
  if v7 ≤ 0 then (xo_X8_end_TF_J81 y2 y1) else ((xo_X4_agrees z_Ld_size a_UNIT y2 x1).bind fun v11 =>
  if v11 = 0 then (xo_X8_end_TF_J81 y2 y1) else ((rdI a_X_knowing 64 y2).bind fun v14 =>
  (dvL ((z_TF_times.toInt64) * (v14.toInt64)) (z_TF_of.toInt64)).bind fun v15 =>
  (some (if v15 < y1 then v15 else y1)).bind fun v16 =>
  xo_X8_end_TF_J81 y2 v16)))
noncomputable def xo_X8_end_TF (z_TF_by : Int32) (z_TF_times : Int32) (z_TF_of : Int32) (z_Ld_size : Int32) (a_X_knowing : Nat → Int32) (a_UNIT : Nat → Int32) (a_W_world : Nat → Int64) (x1 : Int32) : Option (Int64) :=
  (loop (xo_X8_end_TF_L7 z_TF_by z_TF_times z_TF_of z_Ld_size a_X_knowing a_UNIT a_W_world x1) (9223372036854775807, 0)).bind fun y17 =>
  some (y17)
noncomputable def xo_X8_both_TF  (x1 : Int64) (x3 : Int64) : Option (Int64) :=
  (some (if x3 < x1 then x3 else x1)).bind fun v1 =>
  some (v1)
noncomputable def xo_X5_over_TF_J107 (z_TF_none : Int64) : Option (Int64) :=
  some (z_TF_none)
noncomputable def xo_X5_over_TF_B (f_X5_over : Int32 → Int32 → Int32 → Option (Int64)) (f_X5_shown : Int32 → Int32 → Int32 → Int32 → Int32 → Option (Int64)) (f_X5_arrived : Int32 → Int32 → Option (Int64)) (z_TF_by : Int32) (z_TF_times : Int32) (z_TF_of : Int32) (z_L_to : Int32) (z_Ld_size : Int32) (z_TF_none : Int64) (a_X_knowing : Nat → Int32) (a_UNIT : Nat → Int32) (a_L_seen : Nat → Int32) (a_W_world : Nat → Int64) (a_W_likely : Nat → Int64) (a_TF_value : Nat → Int64) (x1 : Int32) (x2 : Int32) (x3 : Int32) : Option (Int64) :=
  if x1 = 0 then ((f_X5_arrived x2 x3).bind fun v22 =>
  some (v22)) else ((xo_J17_numberOfTrailingZeros x1).bind fun v2 =>
  (f_X5_shown x1 v2 1 x2 x3).bind fun v4 =>
  (f_X5_shown x1 v2 2 x2 x3).bind fun v6 =>
  (ckz z_TF_by).bind fun v8 =>
  (xo_X1_with a_UNIT x3 v2 1).bind fun v9 =>
  (rdL a_W_likely 729 v9).bind fun v11 =>
  if v11 = 0 then (some (v6)) else ((ckz z_TF_by).bind fun v13 =>
  (xo_X1_with a_UNIT x3 v2 2).bind fun v14 =>
  (rdL a_W_likely 729 v14).bind fun v16 =>
  if v16 = 0 then (some (v4)) else (if v4 = z_TF_none then (xo_X5_over_TF_J107 z_TF_none) else (if v6 = z_TF_none then (xo_X5_over_TF_J107 z_TF_none) else ((xo_X8_both_TF v4 v6).bind fun v20 =>
  some (v20))))))
noncomputable def xo_X5_shown_TF_B (f_X5_over : Int32 → Int32 → Int32 → Option (Int64)) (f_X5_shown : Int32 → Int32 → Int32 → Int32 → Int32 → Option (Int64)) (f_X5_arrived : Int32 → Int32 → Option (Int64)) (z_TF_by : Int32) (z_TF_times : Int32) (z_TF_of : Int32) (z_L_to : Int32) (z_Ld_size : Int32) (z_TF_none : Int64) (a_X_knowing : Nat → Int32) (a_UNIT : Nat → Int32) (a_L_seen : Nat → Int32) (a_W_world : Nat → Int64) (a_W_likely : Nat → Int64) (a_TF_value : Nat → Int64) (x1 : Int32) (x2 : Int32) (x3 : Int32) (x4 : Int32) (x5 : Int32) : Option (Int64) :=
  (ckz z_TF_by).bind fun v1 =>
  (xo_X1_with a_UNIT x5 x2 x3).bind fun v2 =>
  (rdL a_W_likely 729 v2).bind fun v4 =>
  if v4 = 0 then (some (z_TF_none)) else ((xo_X1_with a_UNIT x5 x2 x3).bind fun v6 =>
  (f_X5_over (x1 &&& ((1 <<< (x2 &&& 31)) ^^^ (-1))) x4 v6).bind fun v8 =>
  some (v8))
noncomputable def xo_X5_arrived_TF_B (f_X5_over : Int32 → Int32 → Int32 → Option (Int64)) (f_X5_shown : Int32 → Int32 → Int32 → Int32 → Int32 → Option (Int64)) (f_X5_arrived : Int32 → Int32 → Option (Int64)) (z_TF_by : Int32) (z_TF_times : Int32) (z_TF_of : Int32) (z_L_to : Int32) (z_Ld_size : Int32) (z_TF_none : Int64) (a_X_knowing : Nat → Int32) (a_UNIT : Nat → Int32) (a_L_seen : Nat → Int32) (a_W_world : Nat → Int64) (a_W_likely : Nat → Int64) (a_TF_value : Nat → Int64) (x1 : Int32) (x2 : Int32) : Option (Int64) :=
  if x1 = z_L_to then ((xo_X8_end_TF z_TF_by z_TF_times z_TF_of z_Ld_size a_X_knowing a_UNIT a_W_world x2).bind fun v11 =>
  some (v11)) else ((xo_X3_unseen z_Ld_size a_UNIT a_L_seen x1 x2).bind fun v2 =>
  if v2 = 0 then ((xo_X5_value_TF a_TF_value x1 x2).bind fun v9 =>
  some (v9)) else ((xo_X3_unseen z_Ld_size a_UNIT a_L_seen x1 x2).bind fun v5 =>
  (f_X5_over v5 x1 x2).bind fun v7 =>
  some (v7)))
noncomputable def xg_T_TF (z_TF_by : Int32) (z_TF_times : Int32) (z_TF_of : Int32) (z_L_to : Int32) (z_Ld_size : Int32) (z_TF_none : Int64) (a_X_knowing : Nat → Int32) (a_UNIT : Nat → Int32) (a_L_seen : Nat → Int32) (a_W_world : Nat → Int64) (a_W_likely : Nat → Int64) (a_TF_value : Nat → Int64) : Nat → ((Int32 → Int32 → Int32 → Option (Int64)) × (Int32 → Int32 → Int32 → Int32 → Int32 → Option (Int64)) × (Int32 → Int32 → Option (Int64)))
  | 0 => ((fun _ _ _ => none), (fun _ _ _ _ _ => none), (fun _ _ => none))
  | d + 1 => (xo_X5_over_TF_B (xg_T_TF z_TF_by z_TF_times z_TF_of z_L_to z_Ld_size z_TF_none a_X_knowing a_UNIT a_L_seen a_W_world a_W_likely a_TF_value d).1 (xg_T_TF z_TF_by z_TF_times z_TF_of z_L_to z_Ld_size z_TF_none a_X_knowing a_UNIT a_L_seen a_W_world a_W_likely a_TF_value d).2.1 (xg_T_TF z_TF_by z_TF_times z_TF_of z_L_to z_Ld_size z_TF_none a_X_knowing a_UNIT a_L_seen a_W_world a_W_likely a_TF_value d).2.2 z_TF_by z_TF_times z_TF_of z_L_to z_Ld_size z_TF_none a_X_knowing a_UNIT a_L_seen a_W_world a_W_likely a_TF_value, xo_X5_shown_TF_B (xg_T_TF z_TF_by z_TF_times z_TF_of z_L_to z_Ld_size z_TF_none a_X_knowing a_UNIT a_L_seen a_W_world a_W_likely a_TF_value d).1 (xg_T_TF z_TF_by z_TF_times z_TF_of z_L_to z_Ld_size z_TF_none a_X_knowing a_UNIT a_L_seen a_W_world a_W_likely a_TF_value d).2.1 (xg_T_TF z_TF_by z_TF_times z_TF_of z_L_to z_Ld_size z_TF_none a_X_knowing a_UNIT a_L_seen a_W_world a_W_likely a_TF_value d).2.2 z_TF_by z_TF_times z_TF_of z_L_to z_Ld_size z_TF_none a_X_knowing a_UNIT a_L_seen a_W_world a_W_likely a_TF_value, xo_X5_arrived_TF_B (xg_T_TF z_TF_by z_TF_times z_TF_of z_L_to z_Ld_size z_TF_none a_X_knowing a_UNIT a_L_seen a_W_world a_W_likely a_TF_value d).1 (xg_T_TF z_TF_by z_TF_times z_TF_of z_L_to z_Ld_size z_TF_none a_X_knowing a_UNIT a_L_seen a_W_world a_W_likely a_TF_value d).2.1 (xg_T_TF z_TF_by z_TF_times z_TF_of z_L_to z_Ld_size z_TF_none a_X_knowing a_UNIT a_L_seen a_W_world a_W_likely a_TF_value d).2.2 z_TF_by z_TF_times z_TF_of z_L_to z_Ld_size z_TF_none a_X_knowing a_UNIT a_L_seen a_W_world a_W_likely a_TF_value)
noncomputable def xo_X5_arriving_TF (z_TF_by : Int32) (z_TF_times : Int32) (z_TF_of : Int32) (z_L_to : Int32) (z_Ld_size : Int32) (z_TF_none : Int64) (a_X_knowing : Nat → Int32) (a_UNIT : Nat → Int32) (a_L_seen : Nat → Int32) (a_W_world : Nat → Int64) (a_W_likely : Nat → Int64) (a_TF_value : Nat → Int64) (x1 : Int32) (x2 : Int32) : Option (Int64) :=
  if x1 = z_L_to then ((xo_X8_end_TF z_TF_by z_TF_times z_TF_of z_Ld_size a_X_knowing a_UNIT a_W_world x2).bind fun v6 =>
  some (v6)) else ((xo_X3_unseen z_Ld_size a_UNIT a_L_seen x1 x2).bind fun v2 =>
  ((xg_T_TF z_TF_by z_TF_times z_TF_of z_L_to z_Ld_size z_TF_none a_X_knowing a_UNIT a_L_seen a_W_world a_W_likely a_TF_value 40).1 v2 x1 x2).bind fun v4 =>
  some (v4))
noncomputable def xo_X8_ahead_TF  (x1 : Int64) (x3 : Int32) (x4 : Int32) : Option (Int64) :=
  some (x1 - (x3.toInt64))
noncomputable def xo_X5_going_TF (z_TF_by : Int32) (z_TF_times : Int32) (z_TF_of : Int32) (z_L_to : Int32) (z_Ld_size : Int32) (z_TF_none : Int64) (a_X_knowing : Nat → Int32) (a_UNIT : Nat → Int32) (a_L_seen : Nat → Int32) (a_W_world : Nat → Int64) (a_W_likely : Nat → Int64) (a_TF_value : Nat → Int64) (n_r : Nat) (p_road_hours : Nat → Int32) (p_road_wait : Nat → Int32) (p_road_number : Nat → Int32) (g_grid : Nat → Nat → Int32) (x1 : Int32) (x2 : Int32) (x3 : Int32) : Option (Int64) :=
  (xo_X3_cost a_UNIT n_r p_road_hours p_road_wait p_road_number g_grid x1 x2 x3).bind fun v1 =>
  if v1 = 1000000 then (some (z_TF_none)) else ((xo_X5_arriving_TF z_TF_by z_TF_times z_TF_of z_L_to z_Ld_size z_TF_none a_X_knowing a_UNIT a_L_seen a_W_world a_W_likely a_TF_value x2 x3).bind fun v4 =>
  if v4 = z_TF_none then (some (z_TF_none)) else ((xo_X8_ahead_TF v4 v1 x3).bind fun v7 =>
  some (v7)))
noncomputable def xo_X5_buying_TF_J40 (z_TF_none : Int64) : Option (Int64) :=
  some (z_TF_none)
noncomputable def xo_X5_buying_TF (z_TF_by : Int32) (z_TF_times : Int32) (z_TF_of : Int32) (z_L_to : Int32) (z_Ld_size : Int32) (z_Lw_size : Int32) (z_TF_none : Int64) (a_X_knowing : Nat → Int32) (a_UNIT : Nat → Int32) (a_Lw_data : Nat → Int32) (a_L_seen : Nat → Int32) (a_W_world : Nat → Int64) (a_W_likely : Nat → Int64) (a_TF_value : Nat → Int64) (n_w : Nat) (p_word_place : Nat → Int32) (p_word_road : Nat → Int32) (p_word_hours : Nat → Int32) (x1 : Int32) (x2 : Int32) (x3 : Int32) : Option (Int64) :=
  (xo_J2_get_Lw z_Lw_size a_Lw_data x2).bind fun v1 =>
  (ixI n_w v1).bind fun v3 =>
  (rdI p_word_place n_w v3).bind fun v4 =>
  if v4 = x1 then ((rdI p_word_road n_w v3).bind fun v6 =>
  (xo_X1_digit a_UNIT x3 v6).bind fun v7 =>
  if v7 = 0 then ((rdI p_word_road n_w v3).bind fun v10 =>
  ((xg_T_TF z_TF_by z_TF_times z_TF_of z_L_to z_Ld_size z_TF_none a_X_knowing a_UNIT a_L_seen a_W_world a_W_likely a_TF_value 40).1 (1 <<< (v10 &&& 31)) x1 x3).bind fun v11 =>
  if v11 = z_TF_none then (some (z_TF_none)) else ((rdI p_word_hours n_w v3).bind fun v14 =>
  (xo_X8_ahead_TF v11 v14 x3).bind fun v15 =>
  some (v15))) else (xo_X5_buying_TF_J40 z_TF_none)) else (xo_X5_buying_TF_J40 z_TF_none)
noncomputable def xo_X5_next_TF_L33 (z_TF_by : Int32) (z_TF_times : Int32) (z_TF_of : Int32) (z_L_places : Int32) (z_L_to : Int32) (z_Ld_size : Int32) (z_TF_none : Int64) (a_X_knowing : Nat → Int32) (a_UNIT : Nat → Int32) (a_L_seen : Nat → Int32) (a_W_world : Nat → Int64) (a_W_likely : Nat → Int64) (a_TF_value : Nat → Int64) (n_r : Nat) (p_road_hours : Nat → Int32) (p_road_wait : Nat → Int32) (p_road_number : Nat → Int32) (g_grid : Nat → Nat → Int32) (x1 : Int32) (x2 : Int32) : (Int32) → Option ((Int32) ⊕ ((Int32) ⊕ (Unit))) := fun y5 =>
  if z_L_places ≤ y5 then (some (.inr (.inr ()))) else ((xo_X5_going_TF z_TF_by z_TF_times z_TF_of z_L_to z_Ld_size z_TF_none a_X_knowing a_UNIT a_L_seen a_W_world a_W_likely a_TF_value n_r p_road_hours p_road_wait p_road_number g_grid x1 y5 x2).bind fun v7 =>
  (xo_X5_value_TF a_TF_value x1 x2).bind fun v9 =>
  if v7 = v9 then (some (.inr (.inl y5))) else ((some (y5 + 1)).bind fun v12 =>
  some (.inl v12)))
noncomputable def xo_X5_next_TF_L74 (z_TF_by : Int32) (z_TF_times : Int32) (z_TF_of : Int32) (z_L_to : Int32) (z_Ld_size : Int32) (z_Lw_size : Int32) (z_TF_none : Int64) (a_X_knowing : Nat → Int32) (a_UNIT : Nat → Int32) (a_Lw_data : Nat → Int32) (a_L_seen : Nat → Int32) (a_W_world : Nat → Int64) (a_W_likely : Nat → Int64) (a_TF_value : Nat → Int64) (n_w : Nat) (p_word_place : Nat → Int32) (p_word_road : Nat → Int32) (p_word_hours : Nat → Int32) (x1 : Int32) (x2 : Int32) : (Int32) → Option ((Int32) ⊕ ((Int32) ⊕ (Unit))) := fun y14 =>
  (xo_J2_size_Lw z_Lw_size).bind fun v15 =>
  if v15 ≤ y14 then (some (.inr (.inr ()))) else ((xo_X5_buying_TF z_TF_by z_TF_times z_TF_of z_L_to z_Ld_size z_Lw_size z_TF_none a_X_knowing a_UNIT a_Lw_data a_L_seen a_W_world a_W_likely a_TF_value n_w p_word_place p_word_road p_word_hours x1 y14 x2).bind fun v18 =>
  (xo_X5_value_TF a_TF_value x1 x2).bind fun v20 =>
  if v18 = v20 then (some (.inr (.inl y14))) else ((some (y14 + 1)).bind fun v23 =>
  some (.inl v23)))
noncomputable def xo_X5_next_TF (z_TF_by : Int32) (z_TF_times : Int32) (z_TF_of : Int32) (z_L_places : Int32) (z_L_to : Int32) (z_Ld_size : Int32) (z_Lw_size : Int32) (z_TF_none : Int64) (a_X_knowing : Nat → Int32) (a_UNIT : Nat → Int32) (a_Lw_data : Nat → Int32) (a_L_seen : Nat → Int32) (a_W_world : Nat → Int64) (a_W_likely : Nat → Int64) (a_TF_value : Nat → Int64) (n_r : Nat) (n_w : Nat) (p_road_hours : Nat → Int32) (p_road_wait : Nat → Int32) (p_road_number : Nat → Int32) (p_word_place : Nat → Int32) (p_word_road : Nat → Int32) (p_word_hours : Nat → Int32) (g_grid : Nat → Nat → Int32) (x1 : Int32) (x2 : Int32) : Option (Int32) :=
  if x1 = z_L_to then (some ((-2))) else ((xo_X5_value_TF a_TF_value x1 x2).bind fun v2 =>
  if v2 = z_TF_none then (some ((-2))) else ((loop (xo_X5_next_TF_L33 z_TF_by z_TF_times z_TF_of z_L_places z_L_to z_Ld_size z_TF_none a_X_knowing a_UNIT a_L_seen a_W_world a_W_likely a_TF_value n_r p_road_hours p_road_wait p_road_number g_grid x1 x2) 0).bind (sE (fun y13 =>
  some (y13)) (fun _ =>
  (loop (xo_X5_next_TF_L74 z_TF_by z_TF_times z_TF_of z_L_to z_Ld_size z_Lw_size z_TF_none a_X_knowing a_UNIT a_Lw_data a_L_seen a_W_world a_W_likely a_TF_value n_w p_word_place p_word_road p_word_hours x1 x2) 0).bind (sE (fun y24 =>
  some (100 + y24)) (fun _ =>
  some ((-2))))))))
noncomputable def xo_X14_next_p2 (z_TF_by : Int32) (z_TF_times : Int32) (z_TF_of : Int32) (z_L_places : Int32) (z_L_to : Int32) (z_Ld_size : Int32) (z_Lw_size : Int32) (z_TF_none : Int64) (a_X_knowing : Nat → Int32) (a_UNIT : Nat → Int32) (a_Lw_data : Nat → Int32) (a_L_seen : Nat → Int32) (a_W_world : Nat → Int64) (a_W_likely : Nat → Int64) (a_TF_value : Nat → Int64) (n_r : Nat) (n_w : Nat) (p_road_hours : Nat → Int32) (p_road_wait : Nat → Int32) (p_road_number : Nat → Int32) (p_word_place : Nat → Int32) (p_word_road : Nat → Int32) (p_word_hours : Nat → Int32) (g_grid : Nat → Nat → Int32) (x1 : Int32) (x2 : Int32) : Option (Int32) :=
  (xo_X5_next_TF z_TF_by z_TF_times z_TF_of z_L_places z_L_to z_Ld_size z_Lw_size z_TF_none a_X_knowing a_UNIT a_Lw_data a_L_seen a_W_world a_W_likely a_TF_value n_r n_w p_road_hours p_road_wait p_road_number p_word_place p_word_road p_word_hours g_grid x1 x2).bind fun v1 =>
  some (v1)
noncomputable def xo_X9_hours_p2_J181 (y12 : Int32) (y13 : Int32) (y14 : Int32) (k15 : Int32) : Option ((Int32 × Int32 × Int32 × Int32) ⊕ ((Unit) ⊕ (Int32))) :=
  some (.inl ((y12, y13, y14, k15)))
noncomputable def xo_X9_hours_p2_J167 (y4 : Int32) (y6 : Int32) (y12 : Int32) (y13 : Int32) (y14 : Int32) : Option ((Int32 × Int32 × Int32 × Int32) ⊕ ((Unit) ⊕ (Int32))) :=
  if y13 = y4 then (xo_X9_hours_p2_J181 y12 y13 y14 (y6 + 1)) else (xo_X9_hours_p2_J181 y12 y13 y14 0)
noncomputable def xo_X9_hours_p2_L28 (z_TF_by : Int32) (z_TF_times : Int32) (z_TF_of : Int32) (z_L_places : Int32) (z_L_to : Int32) (z_Ld_size : Int32) (z_Lw_size : Int32) (z_TF_none : Int64) (a_X_knowing : Nat → Int32) (a_UNIT : Nat → Int32) (a_Lw_data : Nat → Int32) (a_L_seen : Nat → Int32) (a_W_world : Nat → Int64) (a_W_likely : Nat → Int64) (a_TF_value : Nat → Int64) (n_r : Nat) (n_w : Nat) (p_road_hours : Nat → Int32) (p_road_wait : Nat → Int32) (p_road_number : Nat → Int32) (p_word_place : Nat → Int32) (p_word_road : Nat → Int32) (p_word_hours : Nat → Int32) (g_grid : Nat → Nat → Int32) (x1 : Int32) : (Int32 × Int32 × Int32 × Int32) → Option ((Int32 × Int32 × Int32 × Int32) ⊕ ((Unit) ⊕ (Int32))) := fun (y3, y4, y5, y6) =>
  if y3 = z_L_to then (some (.inr (.inr y5))) else ((xo_X14_next_p2 z_TF_by z_TF_times z_TF_of z_L_places z_L_to z_Ld_size z_Lw_size z_TF_none a_X_knowing a_UNIT a_Lw_data a_L_seen a_W_world a_W_likely a_TF_value n_r n_w p_road_hours p_road_wait p_road_number p_word_place p_word_road p_word_hours g_grid y3 y4).bind fun v8 =>
  if v8 = (-2) then (some (.inr (.inl (())))) else (if y6 ≤ 10 then (if v8 < 100 then ((xo_X3_cost a_UNIT n_r p_road_hours p_road_wait p_road_number g_grid y3 v8 y4).bind fun v18 =>
  (some (y5 + v18)).bind fun v20 =>
  (xo_X1_seeing z_Ld_size a_UNIT a_L_seen v8 y4 x1).bind fun v21 =>
  xo_X9_hours_p2_J167 y4 y6 v8 v21 v20) else ((xo_J2_get_Lw z_Lw_size a_Lw_data (v8 - 100)).bind fun v23 =>
  (ixI n_w v23).bind fun v25 =>
  (rdI p_word_hours n_w v25).bind fun v26 =>
  (some (y5 + v26)).bind fun v27 =>
  (rdI p_word_road n_w v25).bind fun v28 =>
  (rdI p_word_road n_w v25).bind fun v29 =>
  (xo_X1_with a_UNIT y4 v28 (1 + ((x1 >>> (v29 &&& 31)) &&& 1))).bind fun v30 =>
  xo_X9_hours_p2_J167 y4 y6 y3 v30 v27)) else (some (.inr (.inl (()))))))
noncomputable def xo_X9_hours_p2 (z_TF_by : Int32) (z_TF_times : Int32) (z_TF_of : Int32) (z_L_places : Int32) (z_L_from : Int32) (z_L_to : Int32) (z_Ld_size : Int32) (z_Lw_size : Int32) (z_TF_none : Int64) (a_X_knowing : Nat → Int32) (a_UNIT : Nat → Int32) (a_Lw_data : Nat → Int32) (a_L_seen : Nat → Int32) (a_W_world : Nat → Int64) (a_W_likely : Nat → Int64) (a_TF_value : Nat → Int64) (n_r : Nat) (n_w : Nat) (p_road_hours : Nat → Int32) (p_road_wait : Nat → Int32) (p_road_number : Nat → Int32) (p_word_place : Nat → Int32) (p_word_road : Nat → Int32) (p_word_hours : Nat → Int32) (g_grid : Nat → Nat → Int32) (x1 : Int32) : Option (Int32) :=
  (xo_X1_seeing z_Ld_size a_UNIT a_L_seen z_L_from 0 x1).bind fun v1 =>
  (loop (xo_X9_hours_p2_L28 z_TF_by z_TF_times z_TF_of z_L_places z_L_to z_Ld_size z_Lw_size z_TF_none a_X_knowing a_UNIT a_Lw_data a_L_seen a_W_world a_W_likely a_TF_value n_r n_w p_road_hours p_road_wait p_road_number p_word_place p_word_road p_word_hours g_grid x1) (z_L_from, v1, 0, 0)).bind (sE (fun _ =>
  some ((-2))) (fun y32 =>
  some (y32)))
noncomputable def xo_X13_isOpen_p3  (x1 : Int32) (x2 : Int32) : Option (Int32) :=
  some (1)
noncomputable def xo_X10_cost_p3_J40 (a_UNIT : Nat → Int32) (n_r : Nat) (p_road_hours : Nat → Int32) (p_road_wait : Nat → Int32) (p_road_number : Nat → Int32) (g_grid : Nat → Nat → Int32) (x1 : Int32) (x2 : Int32) (x3 : Int32) : Option (Int32) :=
  (xo_X3_cost a_UNIT n_r p_road_hours p_road_wait p_road_number g_grid x1 x2 x3).bind fun v3 =>
  some (v3)
noncomputable def xo_X10_cost_p3 (a_UNIT : Nat → Int32) (n_r : Nat) (p_road_hours : Nat → Int32) (p_road_wait : Nat → Int32) (p_road_number : Nat → Int32) (g_grid : Nat → Nat → Int32) (x1 : Int32) (x2 : Int32) (x3 : Int32) : Option (Int32) :=
  (xo_X3_between g_grid x1 x2).bind fun v1 =>
  if v1 < 0 then (xo_X10_cost_p3_J40 a_UNIT n_r p_road_hours p_road_wait p_road_number g_grid x1 x2 x3) else ((rdI p_road_number n_r v1).bind fun v6 =>
  if v6 = (-1) then (xo_X10_cost_p3_J40 a_UNIT n_r p_road_hours p_road_wait p_road_number g_grid x1 x2 x3) else ((rdI p_road_number n_r v1).bind fun v8 =>
  (xo_X1_digit a_UNIT x3 v8).bind fun v9 =>
  if v9 = 0 then ((rdI p_road_number n_r v1).bind fun v12 =>
  (xo_X13_isOpen_p3 v12 x3).bind fun v13 =>
  if v13 = 0 then ((rdI p_road_wait n_r v1).bind fun v16 =>
  if v16 ≤ 0 then (some (1000000)) else ((rdI p_road_hours n_r v1).bind fun v18 =>
  (rdI p_road_wait n_r v1).bind fun v19 =>
  some (v18 + v19))) else ((rdI p_road_hours n_r v1).bind fun v20 =>
  some (v20))) else (xo_X10_cost_p3_J40 a_UNIT n_r p_road_hours p_road_wait p_road_number g_grid x1 x2 x3)))
noncomputable def xo_X10_next_p3_J58 (y2 : Int32) (a3 : Nat → Int32) (k5 : Int32) (k6 : Int32) : Option ((Int32 × (Nat → Int32)) ⊕ (((Nat → Int32)))) :=
  (wrI a3 10 k6 k5).bind fun a7 =>
  (some (y2 + 1)).bind fun v8 =>
  some (.inl ((v8, a7)))
noncomputable def xo_X10_next_p3_L19 (z_L_places : Int32) (z_L_to : Int32) : (Int32 × (Nat → Int32)) → Option ((Int32 × (Nat → Int32)) ⊕ (((Nat → Int32)))) := fun (y2, a3) =>
  if z_L_places ≤ y2 then (some (.inr a3)) else (if y2 = z_L_to then (xo_X10_next_p3_J58 y2 a3 0 y2) else (xo_X10_next_p3_J58 y2 a3 1000000 y2))
noncomputable def xo_X10_next_p3_J186 (y19 : Int32) (y24 : Int32) (a25 : Nat → Int32) : Option ((Int32 × Int32 × (Nat → Int32)) ⊕ ((Int32 × (Nat → Int32)))) :=
  (some (y19 + 1)).bind fun v26 =>
  some (.inl ((y24, v26, a25)))
noncomputable def xo_X10_next_p3_J135 (y15 : Int32) (y18 : Int32) (y19 : Int32) (a20 : Nat → Int32) (k23 : Int32) : Option ((Int32 × Int32 × (Nat → Int32)) ⊕ ((Int32 × (Nat → Int32)))) :=
  if k23 = 1000000 then (xo_X10_next_p3_J186 y19 y18 a20) else ((rdI a20 10 y19).bind fun v28 =>
  (rdI a20 10 y15).bind fun v29 =>
  if v28 + k23 < v29 then ((rdI a20 10 y19).bind fun v31 =>
  (wrI a20 10 y15 (v31 + k23)).bind fun a32 =>
  xo_X10_next_p3_J186 y19 1 a32) else (xo_X10_next_p3_J186 y19 y18 a20))
noncomputable def xo_X10_next_p3_L94 (z_L_places : Int32) (a_UNIT : Nat → Int32) (n_r : Nat) (p_road_hours : Nat → Int32) (p_road_wait : Nat → Int32) (p_road_number : Nat → Int32) (g_grid : Nat → Nat → Int32) (x2 : Int32) (y15 : Int32) : (Int32 × Int32 × (Nat → Int32)) → Option ((Int32 × Int32 × (Nat → Int32)) ⊕ ((Int32 × (Nat → Int32)))) := fun (y18, y19, a20) =>
  if z_L_places ≤ y19 then (some (.inr (y18, a20))) else ((rdI a20 10 y19).bind fun v22 =>
  if v22 = 1000000 then (xo_X10_next_p3_J135 y15 y18 y19 a20 1000000) else ((xo_X10_cost_p3 a_UNIT n_r p_road_hours p_road_wait p_road_number g_grid y15 y19 x2).bind fun v34 =>
  xo_X10_next_p3_J135 y15 y18 y19 a20 v34))
noncomputable def xo_X10_next_p3_L76 (z_L_places : Int32) (a_UNIT : Nat → Int32) (n_r : Nat) (p_road_hours : Nat → Int32) (p_road_wait : Nat → Int32) (p_road_number : Nat → Int32) (g_grid : Nat → Nat → Int32) (x2 : Int32) : (Int32 × Int32 × (Nat → Int32)) → Option ((Int32 × Int32 × (Nat → Int32)) ⊕ ((Int32 × (Nat → Int32)))) := fun (y14, y15, a16) =>
  if z_L_places ≤ y15 then (some (.inr (y14, a16))) else ((loop (xo_X10_next_p3_L94 z_L_places a_UNIT n_r p_road_hours p_road_wait p_road_number g_grid x2 y15) (y14, 0, a16)).bind fun (y36, a37) =>
  (some (y15 + 1)).bind fun v38 =>
  some (.inl ((y36, v38, a37))))
noncomputable def xo_X10_next_p3_L67 (z_L_places : Int32) (a_UNIT : Nat → Int32) (n_r : Nat) (p_road_hours : Nat → Int32) (p_road_wait : Nat → Int32) (p_road_number : Nat → Int32) (g_grid : Nat → Nat → Int32) (x2 : Int32) : (Int32 × (Nat → Int32)) → Option ((Int32 × (Nat → Int32)) ⊕ (((Nat → Int32)))) := fun (y11, a12) =>
  if y11 = 0 then (some (.inr a12)) else ((loop (xo_X10_next_p3_L76 z_L_places a_UNIT n_r p_road_hours p_road_wait p_road_number g_grid x2) (0, 0, a12)).bind fun (y39, a40) =>
  some (.inl ((y39, a40))))
noncomputable def xo_X10_next_p3_J283 (y42 : Int32) : Option ((Int32) ⊕ ((Int32) ⊕ (Unit))) :=
  (some (y42 + 1)).bind fun v47 =>
  some (.inl v47)
noncomputable def xo_X10_next_p3_L204 (z_L_places : Int32) (a_UNIT : Nat → Int32) (n_r : Nat) (p_road_hours : Nat → Int32) (p_road_wait : Nat → Int32) (p_road_number : Nat → Int32) (g_grid : Nat → Nat → Int32) (x1 : Int32) (x2 : Int32) (a41 : Nat → Int32) : (Int32) → Option ((Int32) ⊕ ((Int32) ⊕ (Unit))) := fun y42 =>
  if z_L_places ≤ y42 then (some (.inr (.inr ()))) else ((rdI a41 10 x1).bind fun v44 =>
  if 1000000 ≤ v44 then (some (.inr (.inr ()))) else ((rdI a41 10 y42).bind fun v46 =>
  if 1000000 ≤ v46 then (xo_X10_next_p3_J283 y42) else ((xo_X10_cost_p3 a_UNIT n_r p_road_hours p_road_wait p_road_number g_grid x1 y42 x2).bind fun v49 =>
  if 1000000 ≤ v49 then (xo_X10_next_p3_J283 y42) else ((xo_X10_cost_p3 a_UNIT n_r p_road_hours p_road_wait p_road_number g_grid x1 y42 x2).bind fun v52 =>
  (rdI a41 10 y42).bind fun v54 =>
  (rdI a41 10 x1).bind fun v55 =>
  if v52 + v54 = v55 then (some (.inr (.inl y42))) else (xo_X10_next_p3_J283 y42)))))
noncomputable def xo_X10_next_p3 (z_L_places : Int32) (z_L_to : Int32) (a_p3_far : Nat → Int32) (a_UNIT : Nat → Int32) (n_r : Nat) (p_road_hours : Nat → Int32) (p_road_wait : Nat → Int32) (p_road_number : Nat → Int32) (g_grid : Nat → Nat → Int32) (x1 : Int32) (x2 : Int32) : Option (Int32 × (Nat → Int32)) :=
  if x1 = z_L_to then (some ((-2), a_p3_far)) else ((loop (xo_X10_next_p3_L19 z_L_places z_L_to) (0, a_p3_far)).bind fun a10 =>
  (loop (xo_X10_next_p3_L67 z_L_places a_UNIT n_r p_road_hours p_road_wait p_road_number g_grid x2) (1, a10)).bind fun a41 =>
  (loop (xo_X10_next_p3_L204 z_L_places a_UNIT n_r p_road_hours p_road_wait p_road_number g_grid x1 x2 a41) 0).bind (sE (fun y57 =>
  some (y57, a41)) (fun _ =>
  some ((-2), a41))))
noncomputable def xo_X9_hours_p3_J181 (a10 : Nat → Int32) (y14 : Int32) (y15 : Int32) (y16 : Int32) (k17 : Int32) : Option ((Int32 × Int32 × Int32 × Int32 × (Nat → Int32)) ⊕ (((Nat → Int32)) ⊕ (Int32 × (Nat → Int32)))) :=
  some (.inl ((y14, y15, y16, k17, a10)))
noncomputable def xo_X9_hours_p3_J167 (y4 : Int32) (y6 : Int32) (a10 : Nat → Int32) (y14 : Int32) (y15 : Int32) (y16 : Int32) : Option ((Int32 × Int32 × Int32 × Int32 × (Nat → Int32)) ⊕ (((Nat → Int32)) ⊕ (Int32 × (Nat → Int32)))) :=
  if y15 = y4 then (xo_X9_hours_p3_J181 a10 y14 y15 y16 (y6 + 1)) else (xo_X9_hours_p3_J181 a10 y14 y15 y16 0)
noncomputable def xo_X9_hours_p3_L28 (z_L_places : Int32) (z_L_to : Int32) (z_Ld_size : Int32) (z_Lw_size : Int32) (a_UNIT : Nat → Int32) (a_Lw_data : Nat → Int32) (a_L_seen : Nat → Int32) (n_r : Nat) (n_w : Nat) (p_road_hours : Nat → Int32) (p_road_wait : Nat → Int32) (p_road_number : Nat → Int32) (p_word_road : Nat → Int32) (p_word_hours : Nat → Int32) (g_grid : Nat → Nat → Int32) (x1 : Int32) : (Int32 × Int32 × Int32 × Int32 × (Nat → Int32)) → Option ((Int32 × Int32 × Int32 × Int32 × (Nat → Int32)) ⊕ (((Nat → Int32)) ⊕ (Int32 × (Nat → Int32)))) := fun (y3, y4, y5, y6, a7) =>
  if y3 = z_L_to then (some (.inr (.inr (y5, a7)))) else ((xo_X10_next_p3 z_L_places z_L_to a7 a_UNIT n_r p_road_hours p_road_wait p_road_number g_grid y3 y4).bind fun (v9, a10) =>
  if v9 = (-2) then (some (.inr (.inl a10))) else (if y6 ≤ 10 then (if v9 < 100 then ((xo_X3_cost a_UNIT n_r p_road_hours p_road_wait p_road_number g_grid y3 v9 y4).bind fun v20 =>
  (some (y5 + v20)).bind fun v22 =>
  (xo_X1_seeing z_Ld_size a_UNIT a_L_seen v9 y4 x1).bind fun v23 =>
  xo_X9_hours_p3_J167 y4 y6 a10 v9 v23 v22) else ((xo_J2_get_Lw z_Lw_size a_Lw_data (v9 - 100)).bind fun v25 =>
  (ixI n_w v25).bind fun v27 =>
  (rdI p_word_hours n_w v27).bind fun v28 =>
  (some (y5 + v28)).bind fun v29 =>
  (rdI p_word_road n_w v27).bind fun v30 =>
  (rdI p_word_road n_w v27).bind fun v31 =>
  (xo_X1_with a_UNIT y4 v30 (1 + ((x1 >>> (v31 &&& 31)) &&& 1))).bind fun v32 =>
  xo_X9_hours_p3_J167 y4 y6 a10 y3 v32 v29)) else (some (.inr (.inl a10)))))
noncomputable def xo_X9_hours_p3 (z_L_places : Int32) (z_L_from : Int32) (z_L_to : Int32) (z_Ld_size : Int32) (z_Lw_size : Int32) (a_p3_far : Nat → Int32) (a_UNIT : Nat → Int32) (a_Lw_data : Nat → Int32) (a_L_seen : Nat → Int32) (n_r : Nat) (n_w : Nat) (p_road_hours : Nat → Int32) (p_road_wait : Nat → Int32) (p_road_number : Nat → Int32) (p_word_road : Nat → Int32) (p_word_hours : Nat → Int32) (g_grid : Nat → Nat → Int32) (x1 : Int32) : Option (Int32 × (Nat → Int32)) :=
  (xo_X1_seeing z_Ld_size a_UNIT a_L_seen z_L_from 0 x1).bind fun v1 =>
  (loop (xo_X9_hours_p3_L28 z_L_places z_L_to z_Ld_size z_Lw_size a_UNIT a_Lw_data a_L_seen n_r n_w p_road_hours p_road_wait p_road_number p_word_road p_word_hours g_grid x1) (z_L_from, v1, 0, 0, a_p3_far)).bind (sE (fun a34 =>
  some ((-2), a34)) (fun (y35, a36) =>
  some (y35, a36)))
noncomputable def xo_X11_isOpen_p4  (x1 : Int32) (x2 : Int32) : Option (Int32) :=
  some (0)
noncomputable def xo_X10_cost_p4_J40 (a_UNIT : Nat → Int32) (n_r : Nat) (p_road_hours : Nat → Int32) (p_road_wait : Nat → Int32) (p_road_number : Nat → Int32) (g_grid : Nat → Nat → Int32) (x1 : Int32) (x2 : Int32) (x3 : Int32) : Option (Int32) :=
  (xo_X3_cost a_UNIT n_r p_road_hours p_road_wait p_road_number g_grid x1 x2 x3).bind fun v3 =>
  some (v3)
noncomputable def xo_X10_cost_p4 (a_UNIT : Nat → Int32) (n_r : Nat) (p_road_hours : Nat → Int32) (p_road_wait : Nat → Int32) (p_road_number : Nat → Int32) (g_grid : Nat → Nat → Int32) (x1 : Int32) (x2 : Int32) (x3 : Int32) : Option (Int32) :=
  (xo_X3_between g_grid x1 x2).bind fun v1 =>
  if v1 < 0 then (xo_X10_cost_p4_J40 a_UNIT n_r p_road_hours p_road_wait p_road_number g_grid x1 x2 x3) else ((rdI p_road_number n_r v1).bind fun v6 =>
  if v6 = (-1) then (xo_X10_cost_p4_J40 a_UNIT n_r p_road_hours p_road_wait p_road_number g_grid x1 x2 x3) else ((rdI p_road_number n_r v1).bind fun v8 =>
  (xo_X1_digit a_UNIT x3 v8).bind fun v9 =>
  if v9 = 0 then ((rdI p_road_number n_r v1).bind fun v12 =>
  (xo_X11_isOpen_p4 v12 x3).bind fun v13 =>
  if v13 = 0 then ((rdI p_road_wait n_r v1).bind fun v16 =>
  if v16 ≤ 0 then (some (1000000)) else ((rdI p_road_hours n_r v1).bind fun v18 =>
  (rdI p_road_wait n_r v1).bind fun v19 =>
  some (v18 + v19))) else ((rdI p_road_hours n_r v1).bind fun v20 =>
  some (v20))) else (xo_X10_cost_p4_J40 a_UNIT n_r p_road_hours p_road_wait p_road_number g_grid x1 x2 x3)))
noncomputable def xo_X10_next_p4_J58 (y2 : Int32) (a3 : Nat → Int32) (k5 : Int32) (k6 : Int32) : Option ((Int32 × (Nat → Int32)) ⊕ (((Nat → Int32)))) :=
  (wrI a3 10 k6 k5).bind fun a7 =>
  (some (y2 + 1)).bind fun v8 =>
  some (.inl ((v8, a7)))
noncomputable def xo_X10_next_p4_L19 (z_L_places : Int32) (z_L_to : Int32) : (Int32 × (Nat → Int32)) → Option ((Int32 × (Nat → Int32)) ⊕ (((Nat → Int32)))) := fun (y2, a3) =>
  if z_L_places ≤ y2 then (some (.inr a3)) else (if y2 = z_L_to then (xo_X10_next_p4_J58 y2 a3 0 y2) else (xo_X10_next_p4_J58 y2 a3 1000000 y2))
noncomputable def xo_X10_next_p4_J186 (y19 : Int32) (y24 : Int32) (a25 : Nat → Int32) : Option ((Int32 × Int32 × (Nat → Int32)) ⊕ ((Int32 × (Nat → Int32)))) :=
  (some (y19 + 1)).bind fun v26 =>
  some (.inl ((y24, v26, a25)))
noncomputable def xo_X10_next_p4_J135 (y15 : Int32) (y18 : Int32) (y19 : Int32) (a20 : Nat → Int32) (k23 : Int32) : Option ((Int32 × Int32 × (Nat → Int32)) ⊕ ((Int32 × (Nat → Int32)))) :=
  if k23 = 1000000 then (xo_X10_next_p4_J186 y19 y18 a20) else ((rdI a20 10 y19).bind fun v28 =>
  (rdI a20 10 y15).bind fun v29 =>
  if v28 + k23 < v29 then ((rdI a20 10 y19).bind fun v31 =>
  (wrI a20 10 y15 (v31 + k23)).bind fun a32 =>
  xo_X10_next_p4_J186 y19 1 a32) else (xo_X10_next_p4_J186 y19 y18 a20))
noncomputable def xo_X10_next_p4_L94 (z_L_places : Int32) (a_UNIT : Nat → Int32) (n_r : Nat) (p_road_hours : Nat → Int32) (p_road_wait : Nat → Int32) (p_road_number : Nat → Int32) (g_grid : Nat → Nat → Int32) (x2 : Int32) (y15 : Int32) : (Int32 × Int32 × (Nat → Int32)) → Option ((Int32 × Int32 × (Nat → Int32)) ⊕ ((Int32 × (Nat → Int32)))) := fun (y18, y19, a20) =>
  if z_L_places ≤ y19 then (some (.inr (y18, a20))) else ((rdI a20 10 y19).bind fun v22 =>
  if v22 = 1000000 then (xo_X10_next_p4_J135 y15 y18 y19 a20 1000000) else ((xo_X10_cost_p4 a_UNIT n_r p_road_hours p_road_wait p_road_number g_grid y15 y19 x2).bind fun v34 =>
  xo_X10_next_p4_J135 y15 y18 y19 a20 v34))
noncomputable def xo_X10_next_p4_L76 (z_L_places : Int32) (a_UNIT : Nat → Int32) (n_r : Nat) (p_road_hours : Nat → Int32) (p_road_wait : Nat → Int32) (p_road_number : Nat → Int32) (g_grid : Nat → Nat → Int32) (x2 : Int32) : (Int32 × Int32 × (Nat → Int32)) → Option ((Int32 × Int32 × (Nat → Int32)) ⊕ ((Int32 × (Nat → Int32)))) := fun (y14, y15, a16) =>
  if z_L_places ≤ y15 then (some (.inr (y14, a16))) else ((loop (xo_X10_next_p4_L94 z_L_places a_UNIT n_r p_road_hours p_road_wait p_road_number g_grid x2 y15) (y14, 0, a16)).bind fun (y36, a37) =>
  (some (y15 + 1)).bind fun v38 =>
  some (.inl ((y36, v38, a37))))
noncomputable def xo_X10_next_p4_L67 (z_L_places : Int32) (a_UNIT : Nat → Int32) (n_r : Nat) (p_road_hours : Nat → Int32) (p_road_wait : Nat → Int32) (p_road_number : Nat → Int32) (g_grid : Nat → Nat → Int32) (x2 : Int32) : (Int32 × (Nat → Int32)) → Option ((Int32 × (Nat → Int32)) ⊕ (((Nat → Int32)))) := fun (y11, a12) =>
  if y11 = 0 then (some (.inr a12)) else ((loop (xo_X10_next_p4_L76 z_L_places a_UNIT n_r p_road_hours p_road_wait p_road_number g_grid x2) (0, 0, a12)).bind fun (y39, a40) =>
  some (.inl ((y39, a40))))
noncomputable def xo_X10_next_p4_J283 (y42 : Int32) : Option ((Int32) ⊕ ((Int32) ⊕ (Unit))) :=
  (some (y42 + 1)).bind fun v47 =>
  some (.inl v47)
noncomputable def xo_X10_next_p4_L204 (z_L_places : Int32) (a_UNIT : Nat → Int32) (n_r : Nat) (p_road_hours : Nat → Int32) (p_road_wait : Nat → Int32) (p_road_number : Nat → Int32) (g_grid : Nat → Nat → Int32) (x1 : Int32) (x2 : Int32) (a41 : Nat → Int32) : (Int32) → Option ((Int32) ⊕ ((Int32) ⊕ (Unit))) := fun y42 =>
  if z_L_places ≤ y42 then (some (.inr (.inr ()))) else ((rdI a41 10 x1).bind fun v44 =>
  if 1000000 ≤ v44 then (some (.inr (.inr ()))) else ((rdI a41 10 y42).bind fun v46 =>
  if 1000000 ≤ v46 then (xo_X10_next_p4_J283 y42) else ((xo_X10_cost_p4 a_UNIT n_r p_road_hours p_road_wait p_road_number g_grid x1 y42 x2).bind fun v49 =>
  if 1000000 ≤ v49 then (xo_X10_next_p4_J283 y42) else ((xo_X10_cost_p4 a_UNIT n_r p_road_hours p_road_wait p_road_number g_grid x1 y42 x2).bind fun v52 =>
  (rdI a41 10 y42).bind fun v54 =>
  (rdI a41 10 x1).bind fun v55 =>
  if v52 + v54 = v55 then (some (.inr (.inl y42))) else (xo_X10_next_p4_J283 y42)))))
noncomputable def xo_X10_next_p4 (z_L_places : Int32) (z_L_to : Int32) (a_p4_far : Nat → Int32) (a_UNIT : Nat → Int32) (n_r : Nat) (p_road_hours : Nat → Int32) (p_road_wait : Nat → Int32) (p_road_number : Nat → Int32) (g_grid : Nat → Nat → Int32) (x1 : Int32) (x2 : Int32) : Option (Int32 × (Nat → Int32)) :=
  if x1 = z_L_to then (some ((-2), a_p4_far)) else ((loop (xo_X10_next_p4_L19 z_L_places z_L_to) (0, a_p4_far)).bind fun a10 =>
  (loop (xo_X10_next_p4_L67 z_L_places a_UNIT n_r p_road_hours p_road_wait p_road_number g_grid x2) (1, a10)).bind fun a41 =>
  (loop (xo_X10_next_p4_L204 z_L_places a_UNIT n_r p_road_hours p_road_wait p_road_number g_grid x1 x2 a41) 0).bind (sE (fun y57 =>
  some (y57, a41)) (fun _ =>
  some ((-2), a41))))
noncomputable def xo_X9_hours_p4_J181 (a10 : Nat → Int32) (y14 : Int32) (y15 : Int32) (y16 : Int32) (k17 : Int32) : Option ((Int32 × Int32 × Int32 × Int32 × (Nat → Int32)) ⊕ (((Nat → Int32)) ⊕ (Int32 × (Nat → Int32)))) :=
  some (.inl ((y14, y15, y16, k17, a10)))
noncomputable def xo_X9_hours_p4_J167 (y4 : Int32) (y6 : Int32) (a10 : Nat → Int32) (y14 : Int32) (y15 : Int32) (y16 : Int32) : Option ((Int32 × Int32 × Int32 × Int32 × (Nat → Int32)) ⊕ (((Nat → Int32)) ⊕ (Int32 × (Nat → Int32)))) :=
  if y15 = y4 then (xo_X9_hours_p4_J181 a10 y14 y15 y16 (y6 + 1)) else (xo_X9_hours_p4_J181 a10 y14 y15 y16 0)
noncomputable def xo_X9_hours_p4_L28 (z_L_places : Int32) (z_L_to : Int32) (z_Ld_size : Int32) (z_Lw_size : Int32) (a_UNIT : Nat → Int32) (a_Lw_data : Nat → Int32) (a_L_seen : Nat → Int32) (n_r : Nat) (n_w : Nat) (p_road_hours : Nat → Int32) (p_road_wait : Nat → Int32) (p_road_number : Nat → Int32) (p_word_road : Nat → Int32) (p_word_hours : Nat → Int32) (g_grid : Nat → Nat → Int32) (x1 : Int32) : (Int32 × Int32 × Int32 × Int32 × (Nat → Int32)) → Option ((Int32 × Int32 × Int32 × Int32 × (Nat → Int32)) ⊕ (((Nat → Int32)) ⊕ (Int32 × (Nat → Int32)))) := fun (y3, y4, y5, y6, a7) =>
  if y3 = z_L_to then (some (.inr (.inr (y5, a7)))) else ((xo_X10_next_p4 z_L_places z_L_to a7 a_UNIT n_r p_road_hours p_road_wait p_road_number g_grid y3 y4).bind fun (v9, a10) =>
  if v9 = (-2) then (some (.inr (.inl a10))) else (if y6 ≤ 10 then (if v9 < 100 then ((xo_X3_cost a_UNIT n_r p_road_hours p_road_wait p_road_number g_grid y3 v9 y4).bind fun v20 =>
  (some (y5 + v20)).bind fun v22 =>
  (xo_X1_seeing z_Ld_size a_UNIT a_L_seen v9 y4 x1).bind fun v23 =>
  xo_X9_hours_p4_J167 y4 y6 a10 v9 v23 v22) else ((xo_J2_get_Lw z_Lw_size a_Lw_data (v9 - 100)).bind fun v25 =>
  (ixI n_w v25).bind fun v27 =>
  (rdI p_word_hours n_w v27).bind fun v28 =>
  (some (y5 + v28)).bind fun v29 =>
  (rdI p_word_road n_w v27).bind fun v30 =>
  (rdI p_word_road n_w v27).bind fun v31 =>
  (xo_X1_with a_UNIT y4 v30 (1 + ((x1 >>> (v31 &&& 31)) &&& 1))).bind fun v32 =>
  xo_X9_hours_p4_J167 y4 y6 a10 y3 v32 v29)) else (some (.inr (.inl a10)))))
noncomputable def xo_X9_hours_p4 (z_L_places : Int32) (z_L_from : Int32) (z_L_to : Int32) (z_Ld_size : Int32) (z_Lw_size : Int32) (a_p4_far : Nat → Int32) (a_UNIT : Nat → Int32) (a_Lw_data : Nat → Int32) (a_L_seen : Nat → Int32) (n_r : Nat) (n_w : Nat) (p_road_hours : Nat → Int32) (p_road_wait : Nat → Int32) (p_road_number : Nat → Int32) (p_word_road : Nat → Int32) (p_word_hours : Nat → Int32) (g_grid : Nat → Nat → Int32) (x1 : Int32) : Option (Int32 × (Nat → Int32)) :=
  (xo_X1_seeing z_Ld_size a_UNIT a_L_seen z_L_from 0 x1).bind fun v1 =>
  (loop (xo_X9_hours_p4_L28 z_L_places z_L_to z_Ld_size z_Lw_size a_UNIT a_Lw_data a_L_seen n_r n_w p_road_hours p_road_wait p_road_number p_word_road p_word_hours g_grid x1) (z_L_from, v1, 0, 0, a_p4_far)).bind (sE (fun a34 =>
  some ((-2), a34)) (fun (y35, a36) =>
  some (y35, a36)))
noncomputable def xo_X12_isOpen_p5_L2 (z_p5_many : Int32) (a_p5_row : Nat → Int32) (a_UNIT : Nat → Int32) (x2 : Int32) : (Int32) → Option ((Int32) ⊕ ((Int32))) := fun y1 =>
  if z_p5_many ≤ y1 then (some (.inr y1)) else ((rdI a_p5_row 6 y1).bind fun v3 =>
  (xo_X1_digit a_UNIT x2 v3).bind fun v4 =>
  if v4 = 0 then (some (.inr y1)) else ((some (y1 + 1)).bind fun v7 =>
  some (.inl v7)))
noncomputable def xo_X12_isOpen_p5_J51  : Option (Int32) :=
  some (0)
noncomputable def xo_X12_isOpen_p5 (z_p5_many : Int32) (a_p5_row : Nat → Int32) (a_UNIT : Nat → Int32) (x1 : Int32) (x2 : Int32) : Option (Int32) :=
  (loop (xo_X12_isOpen_p5_L2 z_p5_many a_p5_row a_UNIT x2) 0).bind fun y8 =>
  if z_p5_many ≤ y8 then (xo_X12_isOpen_p5_J51) else ((rdI a_p5_row 6 y8).bind fun v10 =>
  if v10 = x1 then (some (1)) else (xo_X12_isOpen_p5_J51))
noncomputable def xo_X10_cost_p5_J40 (a_UNIT : Nat → Int32) (n_r : Nat) (p_road_hours : Nat → Int32) (p_road_wait : Nat → Int32) (p_road_number : Nat → Int32) (g_grid : Nat → Nat → Int32) (x1 : Int32) (x2 : Int32) (x3 : Int32) : Option (Int32) :=
  (xo_X3_cost a_UNIT n_r p_road_hours p_road_wait p_road_number g_grid x1 x2 x3).bind fun v3 =>
  some (v3)
noncomputable def xo_X10_cost_p5 (z_p5_many : Int32) (a_p5_row : Nat → Int32) (a_UNIT : Nat → Int32) (n_r : Nat) (p_road_hours : Nat → Int32) (p_road_wait : Nat → Int32) (p_road_number : Nat → Int32) (g_grid : Nat → Nat → Int32) (x1 : Int32) (x2 : Int32) (x3 : Int32) : Option (Int32) :=
  (xo_X3_between g_grid x1 x2).bind fun v1 =>
  if v1 < 0 then (xo_X10_cost_p5_J40 a_UNIT n_r p_road_hours p_road_wait p_road_number g_grid x1 x2 x3) else ((rdI p_road_number n_r v1).bind fun v6 =>
  if v6 = (-1) then (xo_X10_cost_p5_J40 a_UNIT n_r p_road_hours p_road_wait p_road_number g_grid x1 x2 x3) else ((rdI p_road_number n_r v1).bind fun v8 =>
  (xo_X1_digit a_UNIT x3 v8).bind fun v9 =>
  if v9 = 0 then ((rdI p_road_number n_r v1).bind fun v12 =>
  (xo_X12_isOpen_p5 z_p5_many a_p5_row a_UNIT v12 x3).bind fun v13 =>
  if v13 = 0 then ((rdI p_road_wait n_r v1).bind fun v16 =>
  if v16 ≤ 0 then (some (1000000)) else ((rdI p_road_hours n_r v1).bind fun v18 =>
  (rdI p_road_wait n_r v1).bind fun v19 =>
  some (v18 + v19))) else ((rdI p_road_hours n_r v1).bind fun v20 =>
  some (v20))) else (xo_X10_cost_p5_J40 a_UNIT n_r p_road_hours p_road_wait p_road_number g_grid x1 x2 x3)))
noncomputable def xo_X10_next_p5_J58 (y2 : Int32) (a3 : Nat → Int32) (k5 : Int32) (k6 : Int32) : Option ((Int32 × (Nat → Int32)) ⊕ (((Nat → Int32)))) :=
  (wrI a3 10 k6 k5).bind fun a7 =>
  (some (y2 + 1)).bind fun v8 =>
  some (.inl ((v8, a7)))
noncomputable def xo_X10_next_p5_L19 (z_L_places : Int32) (z_L_to : Int32) : (Int32 × (Nat → Int32)) → Option ((Int32 × (Nat → Int32)) ⊕ (((Nat → Int32)))) := fun (y2, a3) =>
  if z_L_places ≤ y2 then (some (.inr a3)) else (if y2 = z_L_to then (xo_X10_next_p5_J58 y2 a3 0 y2) else (xo_X10_next_p5_J58 y2 a3 1000000 y2))
noncomputable def xo_X10_next_p5_J186 (y19 : Int32) (y24 : Int32) (a25 : Nat → Int32) : Option ((Int32 × Int32 × (Nat → Int32)) ⊕ ((Int32 × (Nat → Int32)))) :=
  (some (y19 + 1)).bind fun v26 =>
  some (.inl ((y24, v26, a25)))
noncomputable def xo_X10_next_p5_J135 (y15 : Int32) (y18 : Int32) (y19 : Int32) (a20 : Nat → Int32) (k23 : Int32) : Option ((Int32 × Int32 × (Nat → Int32)) ⊕ ((Int32 × (Nat → Int32)))) :=
  if k23 = 1000000 then (xo_X10_next_p5_J186 y19 y18 a20) else ((rdI a20 10 y19).bind fun v28 =>
  (rdI a20 10 y15).bind fun v29 =>
  if v28 + k23 < v29 then ((rdI a20 10 y19).bind fun v31 =>
  (wrI a20 10 y15 (v31 + k23)).bind fun a32 =>
  xo_X10_next_p5_J186 y19 1 a32) else (xo_X10_next_p5_J186 y19 y18 a20))
noncomputable def xo_X10_next_p5_L94 (z_p5_many : Int32) (z_L_places : Int32) (a_p5_row : Nat → Int32) (a_UNIT : Nat → Int32) (n_r : Nat) (p_road_hours : Nat → Int32) (p_road_wait : Nat → Int32) (p_road_number : Nat → Int32) (g_grid : Nat → Nat → Int32) (x2 : Int32) (y15 : Int32) : (Int32 × Int32 × (Nat → Int32)) → Option ((Int32 × Int32 × (Nat → Int32)) ⊕ ((Int32 × (Nat → Int32)))) := fun (y18, y19, a20) =>
  if z_L_places ≤ y19 then (some (.inr (y18, a20))) else ((rdI a20 10 y19).bind fun v22 =>
  if v22 = 1000000 then (xo_X10_next_p5_J135 y15 y18 y19 a20 1000000) else ((xo_X10_cost_p5 z_p5_many a_p5_row a_UNIT n_r p_road_hours p_road_wait p_road_number g_grid y15 y19 x2).bind fun v34 =>
  xo_X10_next_p5_J135 y15 y18 y19 a20 v34))
noncomputable def xo_X10_next_p5_L76 (z_p5_many : Int32) (z_L_places : Int32) (a_p5_row : Nat → Int32) (a_UNIT : Nat → Int32) (n_r : Nat) (p_road_hours : Nat → Int32) (p_road_wait : Nat → Int32) (p_road_number : Nat → Int32) (g_grid : Nat → Nat → Int32) (x2 : Int32) : (Int32 × Int32 × (Nat → Int32)) → Option ((Int32 × Int32 × (Nat → Int32)) ⊕ ((Int32 × (Nat → Int32)))) := fun (y14, y15, a16) =>
  if z_L_places ≤ y15 then (some (.inr (y14, a16))) else ((loop (xo_X10_next_p5_L94 z_p5_many z_L_places a_p5_row a_UNIT n_r p_road_hours p_road_wait p_road_number g_grid x2 y15) (y14, 0, a16)).bind fun (y36, a37) =>
  (some (y15 + 1)).bind fun v38 =>
  some (.inl ((y36, v38, a37))))
noncomputable def xo_X10_next_p5_L67 (z_p5_many : Int32) (z_L_places : Int32) (a_p5_row : Nat → Int32) (a_UNIT : Nat → Int32) (n_r : Nat) (p_road_hours : Nat → Int32) (p_road_wait : Nat → Int32) (p_road_number : Nat → Int32) (g_grid : Nat → Nat → Int32) (x2 : Int32) : (Int32 × (Nat → Int32)) → Option ((Int32 × (Nat → Int32)) ⊕ (((Nat → Int32)))) := fun (y11, a12) =>
  if y11 = 0 then (some (.inr a12)) else ((loop (xo_X10_next_p5_L76 z_p5_many z_L_places a_p5_row a_UNIT n_r p_road_hours p_road_wait p_road_number g_grid x2) (0, 0, a12)).bind fun (y39, a40) =>
  some (.inl ((y39, a40))))
noncomputable def xo_X10_next_p5_J283 (y42 : Int32) : Option ((Int32) ⊕ ((Int32) ⊕ (Unit))) :=
  (some (y42 + 1)).bind fun v47 =>
  some (.inl v47)
noncomputable def xo_X10_next_p5_L204 (z_p5_many : Int32) (z_L_places : Int32) (a_p5_row : Nat → Int32) (a_UNIT : Nat → Int32) (n_r : Nat) (p_road_hours : Nat → Int32) (p_road_wait : Nat → Int32) (p_road_number : Nat → Int32) (g_grid : Nat → Nat → Int32) (x1 : Int32) (x2 : Int32) (a41 : Nat → Int32) : (Int32) → Option ((Int32) ⊕ ((Int32) ⊕ (Unit))) := fun y42 =>
  if z_L_places ≤ y42 then (some (.inr (.inr ()))) else ((rdI a41 10 x1).bind fun v44 =>
  if 1000000 ≤ v44 then (some (.inr (.inr ()))) else ((rdI a41 10 y42).bind fun v46 =>
  if 1000000 ≤ v46 then (xo_X10_next_p5_J283 y42) else ((xo_X10_cost_p5 z_p5_many a_p5_row a_UNIT n_r p_road_hours p_road_wait p_road_number g_grid x1 y42 x2).bind fun v49 =>
  if 1000000 ≤ v49 then (xo_X10_next_p5_J283 y42) else ((xo_X10_cost_p5 z_p5_many a_p5_row a_UNIT n_r p_road_hours p_road_wait p_road_number g_grid x1 y42 x2).bind fun v52 =>
  (rdI a41 10 y42).bind fun v54 =>
  (rdI a41 10 x1).bind fun v55 =>
  if v52 + v54 = v55 then (some (.inr (.inl y42))) else (xo_X10_next_p5_J283 y42)))))
noncomputable def xo_X10_next_p5 (z_p5_many : Int32) (z_L_places : Int32) (z_L_to : Int32) (a_p5_far : Nat → Int32) (a_p5_row : Nat → Int32) (a_UNIT : Nat → Int32) (n_r : Nat) (p_road_hours : Nat → Int32) (p_road_wait : Nat → Int32) (p_road_number : Nat → Int32) (g_grid : Nat → Nat → Int32) (x1 : Int32) (x2 : Int32) : Option (Int32 × (Nat → Int32)) :=
  if x1 = z_L_to then (some ((-2), a_p5_far)) else ((loop (xo_X10_next_p5_L19 z_L_places z_L_to) (0, a_p5_far)).bind fun a10 =>
  (loop (xo_X10_next_p5_L67 z_p5_many z_L_places a_p5_row a_UNIT n_r p_road_hours p_road_wait p_road_number g_grid x2) (1, a10)).bind fun a41 =>
  (loop (xo_X10_next_p5_L204 z_p5_many z_L_places a_p5_row a_UNIT n_r p_road_hours p_road_wait p_road_number g_grid x1 x2 a41) 0).bind (sE (fun y57 =>
  some (y57, a41)) (fun _ =>
  some ((-2), a41))))
noncomputable def xo_X9_hours_p5_J181 (a10 : Nat → Int32) (y14 : Int32) (y15 : Int32) (y16 : Int32) (k17 : Int32) : Option ((Int32 × Int32 × Int32 × Int32 × (Nat → Int32)) ⊕ (((Nat → Int32)) ⊕ (Int32 × (Nat → Int32)))) :=
  some (.inl ((y14, y15, y16, k17, a10)))
noncomputable def xo_X9_hours_p5_J167 (y4 : Int32) (y6 : Int32) (a10 : Nat → Int32) (y14 : Int32) (y15 : Int32) (y16 : Int32) : Option ((Int32 × Int32 × Int32 × Int32 × (Nat → Int32)) ⊕ (((Nat → Int32)) ⊕ (Int32 × (Nat → Int32)))) :=
  if y15 = y4 then (xo_X9_hours_p5_J181 a10 y14 y15 y16 (y6 + 1)) else (xo_X9_hours_p5_J181 a10 y14 y15 y16 0)
noncomputable def xo_X9_hours_p5_L28 (z_p5_many : Int32) (z_L_places : Int32) (z_L_to : Int32) (z_Ld_size : Int32) (z_Lw_size : Int32) (a_p5_row : Nat → Int32) (a_UNIT : Nat → Int32) (a_Lw_data : Nat → Int32) (a_L_seen : Nat → Int32) (n_r : Nat) (n_w : Nat) (p_road_hours : Nat → Int32) (p_road_wait : Nat → Int32) (p_road_number : Nat → Int32) (p_word_road : Nat → Int32) (p_word_hours : Nat → Int32) (g_grid : Nat → Nat → Int32) (x1 : Int32) : (Int32 × Int32 × Int32 × Int32 × (Nat → Int32)) → Option ((Int32 × Int32 × Int32 × Int32 × (Nat → Int32)) ⊕ (((Nat → Int32)) ⊕ (Int32 × (Nat → Int32)))) := fun (y3, y4, y5, y6, a7) =>
  if y3 = z_L_to then (some (.inr (.inr (y5, a7)))) else ((xo_X10_next_p5 z_p5_many z_L_places z_L_to a7 a_p5_row a_UNIT n_r p_road_hours p_road_wait p_road_number g_grid y3 y4).bind fun (v9, a10) =>
  if v9 = (-2) then (some (.inr (.inl a10))) else (if y6 ≤ 10 then (if v9 < 100 then ((xo_X3_cost a_UNIT n_r p_road_hours p_road_wait p_road_number g_grid y3 v9 y4).bind fun v20 =>
  (some (y5 + v20)).bind fun v22 =>
  (xo_X1_seeing z_Ld_size a_UNIT a_L_seen v9 y4 x1).bind fun v23 =>
  xo_X9_hours_p5_J167 y4 y6 a10 v9 v23 v22) else ((xo_J2_get_Lw z_Lw_size a_Lw_data (v9 - 100)).bind fun v25 =>
  (ixI n_w v25).bind fun v27 =>
  (rdI p_word_hours n_w v27).bind fun v28 =>
  (some (y5 + v28)).bind fun v29 =>
  (rdI p_word_road n_w v27).bind fun v30 =>
  (rdI p_word_road n_w v27).bind fun v31 =>
  (xo_X1_with a_UNIT y4 v30 (1 + ((x1 >>> (v31 &&& 31)) &&& 1))).bind fun v32 =>
  xo_X9_hours_p5_J167 y4 y6 a10 y3 v32 v29)) else (some (.inr (.inl a10)))))
noncomputable def xo_X9_hours_p5 (z_p5_many : Int32) (z_L_places : Int32) (z_L_from : Int32) (z_L_to : Int32) (z_Ld_size : Int32) (z_Lw_size : Int32) (a_p5_far : Nat → Int32) (a_p5_row : Nat → Int32) (a_UNIT : Nat → Int32) (a_Lw_data : Nat → Int32) (a_L_seen : Nat → Int32) (n_r : Nat) (n_w : Nat) (p_road_hours : Nat → Int32) (p_road_wait : Nat → Int32) (p_road_number : Nat → Int32) (p_word_road : Nat → Int32) (p_word_hours : Nat → Int32) (g_grid : Nat → Nat → Int32) (x1 : Int32) : Option (Int32 × (Nat → Int32)) :=
  (xo_X1_seeing z_Ld_size a_UNIT a_L_seen z_L_from 0 x1).bind fun v1 =>
  (loop (xo_X9_hours_p5_L28 z_p5_many z_L_places z_L_to z_Ld_size z_Lw_size a_p5_row a_UNIT a_Lw_data a_L_seen n_r n_w p_road_hours p_road_wait p_road_number p_word_road p_word_hours g_grid x1) (z_L_from, v1, 0, 0, a_p5_far)).bind (sE (fun a34 =>
  some ((-2), a34)) (fun (y35, a36) =>
  some (y35, a36)))
noncomputable def xo_J2_size_ru (z_ru_size : Int32) : Option (Int32) :=
  some (z_ru_size)
noncomputable def xo_J2_elementData_ru (a_ru_data : Nat → Int32) (x1 : Int32) : Option (Int32) :=
  (rdI a_ru_data 30 x1).bind fun v1 =>
  some (v1)
noncomputable def xo_J2_get_ru (z_ru_size : Int32) (a_ru_data : Nat → Int32) (x1 : Int32) : Option (Int32) :=
  (xo_J15_checkIndex x1 z_ru_size).bind fun v1 =>
  (xo_J2_elementData_ru a_ru_data x1).bind fun v3 =>
  some (v3)
noncomputable def xo_X15_next_p6_J109 (y1 : Int32) : Option ((Int32) ⊕ ((Int32) ⊕ (Unit))) :=
  (some (y1 + 1)).bind fun v10 =>
  some (.inl v10)
noncomputable def xo_X15_next_p6_J81 (a_UNIT : Nat → Int32) (n_r : Nat) (n_u : Nat) (p_road_hours : Nat → Int32) (p_road_wait : Nat → Int32) (p_road_number : Nat → Int32) (p_rule_to : Nat → Int32) (g_grid : Nat → Nat → Int32) (x1 : Int32) (y1 : Int32) (x2 : Int32) (v8 : Int32) : Option ((Int32) ⊕ ((Int32) ⊕ (Unit))) :=
  (rdI p_rule_to n_u v8).bind fun v13 =>
  (xo_X3_cost a_UNIT n_r p_road_hours p_road_wait p_road_number g_grid x1 v13 x2).bind fun v14 =>
  if 1000000 ≤ v14 then (xo_X15_next_p6_J109 y1) else (some (.inr (.inl v8)))
noncomputable def xo_X15_next_p6_L2 (z_ru_size : Int32) (z_L_to : Int32) (a_UNIT : Nat → Int32) (a_ru_data : Nat → Int32) (n_r : Nat) (n_u : Nat) (p_road_hours : Nat → Int32) (p_road_wait : Nat → Int32) (p_road_number : Nat → Int32) (p_rule_place : Nat → Int32) (p_rule_road : Nat → Int32) (p_rule_known : Nat → Int32) (p_rule_to : Nat → Int32) (g_grid : Nat → Nat → Int32) (x1 : Int32) (x2 : Int32) : (Int32) → Option ((Int32) ⊕ ((Int32) ⊕ (Unit))) := fun y1 =>
  (xo_J2_size_ru z_ru_size).bind fun v2 =>
  if v2 ≤ y1 then (some (.inr (.inr ()))) else (if x1 = z_L_to then (some (.inr (.inr ()))) else ((xo_J2_get_ru z_ru_size a_ru_data y1).bind fun v6 =>
  (ixI n_u v6).bind fun v8 =>
  (rdI p_rule_place n_u v8).bind fun v9 =>
  if v9 = x1 then ((rdI p_rule_road n_u v8).bind fun v12 =>
  if v12 = (-1) then (xo_X15_next_p6_J81 a_UNIT n_r n_u p_road_hours p_road_wait p_road_number p_rule_to g_grid x1 y1 x2 v8) else ((rdI p_rule_road n_u v8).bind fun v18 =>
  (xo_X1_digit a_UNIT x2 v18).bind fun v19 =>
  (rdI p_rule_known n_u v8).bind fun v21 =>
  if v19 = v21 then (xo_X15_next_p6_J81 a_UNIT n_r n_u p_road_hours p_road_wait p_road_number p_rule_to g_grid x1 y1 x2 v8) else (xo_X15_next_p6_J109 y1))) else (xo_X15_next_p6_J109 y1)))
noncomputable def xo_X15_next_p6 (z_ru_size : Int32) (z_L_to : Int32) (a_UNIT : Nat → Int32) (a_ru_data : Nat → Int32) (n_r : Nat) (n_u : Nat) (p_road_hours : Nat → Int32) (p_road_wait : Nat → Int32) (p_road_number : Nat → Int32) (p_rule_place : Nat → Int32) (p_rule_road : Nat → Int32) (p_rule_known : Nat → Int32) (p_rule_to : Nat → Int32) (g_grid : Nat → Nat → Int32) (x1 : Int32) (x2 : Int32) : Option (Int32) :=
  (loop (xo_X15_next_p6_L2 z_ru_size z_L_to a_UNIT a_ru_data n_r n_u p_road_hours p_road_wait p_road_number p_rule_place p_rule_road p_rule_known p_rule_to g_grid x1 x2) 0).bind (sE (fun y23 =>
  (rdI p_rule_to n_u y23).bind fun v24 =>
  some (v24)) (fun _ =>
  some ((-2))))
noncomputable def xo_X9_hours_p6_J181 (y12 : Int32) (y13 : Int32) (y14 : Int32) (k15 : Int32) : Option ((Int32 × Int32 × Int32 × Int32) ⊕ ((Unit) ⊕ (Int32))) :=
  some (.inl ((y12, y13, y14, k15)))
noncomputable def xo_X9_hours_p6_J167 (y4 : Int32) (y6 : Int32) (y12 : Int32) (y13 : Int32) (y14 : Int32) : Option ((Int32 × Int32 × Int32 × Int32) ⊕ ((Unit) ⊕ (Int32))) :=
  if y13 = y4 then (xo_X9_hours_p6_J181 y12 y13 y14 (y6 + 1)) else (xo_X9_hours_p6_J181 y12 y13 y14 0)
noncomputable def xo_X9_hours_p6_L28 (z_ru_size : Int32) (z_L_to : Int32) (z_Ld_size : Int32) (z_Lw_size : Int32) (a_UNIT : Nat → Int32) (a_ru_data : Nat → Int32) (a_Lw_data : Nat → Int32) (a_L_seen : Nat → Int32) (n_r : Nat) (n_w : Nat) (n_u : Nat) (p_road_hours : Nat → Int32) (p_road_wait : Nat → Int32) (p_road_number : Nat → Int32) (p_word_road : Nat → Int32) (p_word_hours : Nat → Int32) (p_rule_place : Nat → Int32) (p_rule_road : Nat → Int32) (p_rule_known : Nat → Int32) (p_rule_to : Nat → Int32) (g_grid : Nat → Nat → Int32) (x1 : Int32) : (Int32 × Int32 × Int32 × Int32) → Option ((Int32 × Int32 × Int32 × Int32) ⊕ ((Unit) ⊕ (Int32))) := fun (y3, y4, y5, y6) =>
  if y3 = z_L_to then (some (.inr (.inr y5))) else ((xo_X15_next_p6 z_ru_size z_L_to a_UNIT a_ru_data n_r n_u p_road_hours p_road_wait p_road_number p_rule_place p_rule_road p_rule_known p_rule_to g_grid y3 y4).bind fun v8 =>
  if v8 = (-2) then (some (.inr (.inl (())))) else (if y6 ≤ 10 then (if v8 < 100 then ((xo_X3_cost a_UNIT n_r p_road_hours p_road_wait p_road_number g_grid y3 v8 y4).bind fun v18 =>
  (some (y5 + v18)).bind fun v20 =>
  (xo_X1_seeing z_Ld_size a_UNIT a_L_seen v8 y4 x1).bind fun v21 =>
  xo_X9_hours_p6_J167 y4 y6 v8 v21 v20) else ((xo_J2_get_Lw z_Lw_size a_Lw_data (v8 - 100)).bind fun v23 =>
  (ixI n_w v23).bind fun v25 =>
  (rdI p_word_hours n_w v25).bind fun v26 =>
  (some (y5 + v26)).bind fun v27 =>
  (rdI p_word_road n_w v25).bind fun v28 =>
  (rdI p_word_road n_w v25).bind fun v29 =>
  (xo_X1_with a_UNIT y4 v28 (1 + ((x1 >>> (v29 &&& 31)) &&& 1))).bind fun v30 =>
  xo_X9_hours_p6_J167 y4 y6 y3 v30 v27)) else (some (.inr (.inl (()))))))
noncomputable def xo_X9_hours_p6 (z_ru_size : Int32) (z_L_from : Int32) (z_L_to : Int32) (z_Ld_size : Int32) (z_Lw_size : Int32) (a_UNIT : Nat → Int32) (a_ru_data : Nat → Int32) (a_Lw_data : Nat → Int32) (a_L_seen : Nat → Int32) (n_r : Nat) (n_w : Nat) (n_u : Nat) (p_road_hours : Nat → Int32) (p_road_wait : Nat → Int32) (p_road_number : Nat → Int32) (p_word_road : Nat → Int32) (p_word_hours : Nat → Int32) (p_rule_place : Nat → Int32) (p_rule_road : Nat → Int32) (p_rule_known : Nat → Int32) (p_rule_to : Nat → Int32) (g_grid : Nat → Nat → Int32) (x1 : Int32) : Option (Int32) :=
  (xo_X1_seeing z_Ld_size a_UNIT a_L_seen z_L_from 0 x1).bind fun v1 =>
  (loop (xo_X9_hours_p6_L28 z_ru_size z_L_to z_Ld_size z_Lw_size a_UNIT a_ru_data a_Lw_data a_L_seen n_r n_w n_u p_road_hours p_road_wait p_road_number p_word_road p_word_hours p_rule_place p_rule_road p_rule_known p_rule_to g_grid x1) (z_L_from, v1, 0, 0)).bind (sE (fun _ =>
  some ((-2))) (fun y32 =>
  some (y32)))
noncomputable def xo_D_hours (z_TB_by : Int32) (z_TS_by : Int32) (z_TF_by : Int32) (z_TF_times : Int32) (z_TF_of : Int32) (z_ru_size : Int32) (z_p5_many : Int32) (z_L_places : Int32) (z_L_from : Int32) (z_L_to : Int32) (z_Ld_size : Int32) (z_Lw_size : Int32) (z_TB_none : Int64) (z_TS_none : Int64) (z_TF_none : Int64) (a_X_knowing : Nat → Int32) (a_p5_far : Nat → Int32) (a_p3_far : Nat → Int32) (a_p4_far : Nat → Int32) (a_p5_row : Nat → Int32) (a_UNIT : Nat → Int32) (a_ru_data : Nat → Int32) (a_Lw_data : Nat → Int32) (a_L_seen : Nat → Int32) (a_W_world : Nat → Int64) (a_W_likely : Nat → Int64) (a_TB_value : Nat → Int64) (a_TS_value : Nat → Int64) (a_TF_value : Nat → Int64) (n_r : Nat) (n_w : Nat) (n_u : Nat) (p_road_hours : Nat → Int32) (p_road_wait : Nat → Int32) (p_road_number : Nat → Int32) (p_word_place : Nat → Int32) (p_word_road : Nat → Int32) (p_word_hours : Nat → Int32) (p_rule_place : Nat → Int32) (p_rule_road : Nat → Int32) (p_rule_known : Nat → Int32) (p_rule_to : Nat → Int32) (g_grid : Nat → Nat → Int32) (v : Int32) (x1 : Int32) : Option (Int32 × (Nat → Int32) × (Nat → Int32) × (Nat → Int32)) :=
  if v = 0 then ((xo_X9_hours_p0 z_TB_by z_L_places z_L_from z_L_to z_Ld_size z_Lw_size z_TB_none a_UNIT a_Lw_data a_L_seen a_W_likely a_TB_value n_r n_w p_road_hours p_road_wait p_road_number p_word_place p_word_road p_word_hours g_grid x1).bind fun r1 => some (r1, a_p5_far, a_p3_far, a_p4_far)) else if v = 1 then ((xo_X9_hours_p1 z_TS_by z_L_places z_L_from z_L_to z_Ld_size z_Lw_size z_TS_none a_UNIT a_Lw_data a_L_seen a_W_likely a_TS_value n_r n_w p_road_hours p_road_wait p_road_number p_word_place p_word_road p_word_hours g_grid x1).bind fun r1 => some (r1, a_p5_far, a_p3_far, a_p4_far)) else if v = 2 then ((xo_X9_hours_p2 z_TF_by z_TF_times z_TF_of z_L_places z_L_from z_L_to z_Ld_size z_Lw_size z_TF_none a_X_knowing a_UNIT a_Lw_data a_L_seen a_W_world a_W_likely a_TF_value n_r n_w p_road_hours p_road_wait p_road_number p_word_place p_word_road p_word_hours g_grid x1).bind fun r1 => some (r1, a_p5_far, a_p3_far, a_p4_far)) else if v = 3 then ((xo_X9_hours_p3 z_L_places z_L_from z_L_to z_Ld_size z_Lw_size a_p3_far a_UNIT a_Lw_data a_L_seen n_r n_w p_road_hours p_road_wait p_road_number p_word_road p_word_hours g_grid x1).bind fun (r1, faI1162) => some (r1, a_p5_far, faI1162, a_p4_far)) else if v = 4 then ((xo_X9_hours_p4 z_L_places z_L_from z_L_to z_Ld_size z_Lw_size a_p4_far a_UNIT a_Lw_data a_L_seen n_r n_w p_road_hours p_road_wait p_road_number p_word_road p_word_hours g_grid x1).bind fun (r1, faI1163) => some (r1, a_p5_far, a_p3_far, faI1163)) else if v = 5 then ((xo_X9_hours_p5 z_p5_many z_L_places z_L_from z_L_to z_Ld_size z_Lw_size a_p5_far a_p5_row a_UNIT a_Lw_data a_L_seen n_r n_w p_road_hours p_road_wait p_road_number p_word_road p_word_hours g_grid x1).bind fun (r1, faI1160) => some (r1, faI1160, a_p3_far, a_p4_far)) else if v = 6 then ((xo_X9_hours_p6 z_ru_size z_L_from z_L_to z_Ld_size z_Lw_size a_UNIT a_ru_data a_Lw_data a_L_seen n_r n_w n_u p_road_hours p_road_wait p_road_number p_word_road p_word_hours p_rule_place p_rule_road p_rule_known p_rule_to g_grid x1).bind fun r1 => some (r1, a_p5_far, a_p3_far, a_p4_far)) else none
noncomputable def xo_X9_mean_p0_J75 (y2 : Int32) (y7 : Int64) : Option ((Int64 × Int32) ⊕ ((Unit) ⊕ (Int64))) :=
  (some (y2 + 1)).bind fun v8 =>
  some (.inl ((y7, v8)))
noncomputable def xo_X9_mean_p0_L4 (z_TB_by : Int32) (z_L_places : Int32) (z_L_from : Int32) (z_L_to : Int32) (z_Ld_size : Int32) (z_Lw_size : Int32) (z_TB_none : Int64) (a_UNIT : Nat → Int32) (a_Lw_data : Nat → Int32) (a_L_seen : Nat → Int32) (a_W_world : Nat → Int64) (a_W_likely : Nat → Int64) (a_TB_value : Nat → Int64) (n_r : Nat) (n_w : Nat) (p_road_hours : Nat → Int32) (p_road_wait : Nat → Int32) (p_road_number : Nat → Int32) (p_word_place : Nat → Int32) (p_word_road : Nat → Int32) (p_word_hours : Nat → Int32) (g_grid : Nat → Nat → Int32) : (Int64 × Int32) → Option ((Int64 × Int32) ⊕ ((Unit) ⊕ (Int64))) := fun (y1, y2) =>
  (xo_X3_worlds z_Ld_size).bind fun v3 =>
  if v3 ≤ y2 then (some (.inr (.inr y1))) else ((rdL a_W_world 64 y2).bind fun v6 =>
  if v6 = 0 then (xo_X9_mean_p0_J75 y2 y1) else ((xo_X9_hours_p0 z_TB_by z_L_places z_L_from z_L_to z_Ld_size z_Lw_size z_TB_none a_UNIT a_Lw_data a_L_seen a_W_likely a_TB_value n_r n_w p_road_hours p_road_wait p_road_number p_word_place p_word_road p_word_hours g_grid y2).bind fun v10 =>
  if v10 = (-2) then (some (.inr (.inl (())))) else ((rdL a_W_world 64 y2).bind fun v13 =>
  (some (y1 + (v13 * (v10.toInt64)))).bind fun v14 =>
  xo_X9_mean_p0_J75 y2 v14)))
noncomputable def xo_X9_mean_p0 (z_TB_by : Int32) (z_L_places : Int32) (z_L_from : Int32) (z_L_to : Int32) (z_Ld_size : Int32) (z_Lw_size : Int32) (z_TB_none : Int64) (a_UNIT : Nat → Int32) (a_Lw_data : Nat → Int32) (a_L_seen : Nat → Int32) (a_W_world : Nat → Int64) (a_W_likely : Nat → Int64) (a_TB_value : Nat → Int64) (n_r : Nat) (n_w : Nat) (p_road_hours : Nat → Int32) (p_road_wait : Nat → Int32) (p_road_number : Nat → Int32) (p_word_place : Nat → Int32) (p_word_road : Nat → Int32) (p_word_hours : Nat → Int32) (g_grid : Nat → Nat → Int32) : Option (Int64) :=
  (loop (xo_X9_mean_p0_L4 z_TB_by z_L_places z_L_from z_L_to z_Ld_size z_Lw_size z_TB_none a_UNIT a_Lw_data a_L_seen a_W_world a_W_likely a_TB_value n_r n_w p_road_hours p_road_wait p_road_number p_word_place p_word_road p_word_hours g_grid) (0, 0)).bind (sE (fun _ =>
  some ((-2))) (fun y15 =>
  some (y15)))
noncomputable def xo_X9_mean_p1_J75 (y2 : Int32) (y7 : Int64) : Option ((Int64 × Int32) ⊕ ((Unit) ⊕ (Int64))) :=
  (some (y2 + 1)).bind fun v8 =>
  some (.inl ((y7, v8)))
noncomputable def xo_X9_mean_p1_L4 (z_TS_by : Int32) (z_L_places : Int32) (z_L_from : Int32) (z_L_to : Int32) (z_Ld_size : Int32) (z_Lw_size : Int32) (z_TS_none : Int64) (a_UNIT : Nat → Int32) (a_Lw_data : Nat → Int32) (a_L_seen : Nat → Int32) (a_W_world : Nat → Int64) (a_W_likely : Nat → Int64) (a_TS_value : Nat → Int64) (n_r : Nat) (n_w : Nat) (p_road_hours : Nat → Int32) (p_road_wait : Nat → Int32) (p_road_number : Nat → Int32) (p_word_place : Nat → Int32) (p_word_road : Nat → Int32) (p_word_hours : Nat → Int32) (g_grid : Nat → Nat → Int32) : (Int64 × Int32) → Option ((Int64 × Int32) ⊕ ((Unit) ⊕ (Int64))) := fun (y1, y2) =>
  (xo_X3_worlds z_Ld_size).bind fun v3 =>
  if v3 ≤ y2 then (some (.inr (.inr y1))) else ((rdL a_W_world 64 y2).bind fun v6 =>
  if v6 = 0 then (xo_X9_mean_p1_J75 y2 y1) else ((xo_X9_hours_p1 z_TS_by z_L_places z_L_from z_L_to z_Ld_size z_Lw_size z_TS_none a_UNIT a_Lw_data a_L_seen a_W_likely a_TS_value n_r n_w p_road_hours p_road_wait p_road_number p_word_place p_word_road p_word_hours g_grid y2).bind fun v10 =>
  if v10 = (-2) then (some (.inr (.inl (())))) else ((rdL a_W_world 64 y2).bind fun v13 =>
  (some (y1 + (v13 * (v10.toInt64)))).bind fun v14 =>
  xo_X9_mean_p1_J75 y2 v14)))
noncomputable def xo_X9_mean_p1 (z_TS_by : Int32) (z_L_places : Int32) (z_L_from : Int32) (z_L_to : Int32) (z_Ld_size : Int32) (z_Lw_size : Int32) (z_TS_none : Int64) (a_UNIT : Nat → Int32) (a_Lw_data : Nat → Int32) (a_L_seen : Nat → Int32) (a_W_world : Nat → Int64) (a_W_likely : Nat → Int64) (a_TS_value : Nat → Int64) (n_r : Nat) (n_w : Nat) (p_road_hours : Nat → Int32) (p_road_wait : Nat → Int32) (p_road_number : Nat → Int32) (p_word_place : Nat → Int32) (p_word_road : Nat → Int32) (p_word_hours : Nat → Int32) (g_grid : Nat → Nat → Int32) : Option (Int64) :=
  (loop (xo_X9_mean_p1_L4 z_TS_by z_L_places z_L_from z_L_to z_Ld_size z_Lw_size z_TS_none a_UNIT a_Lw_data a_L_seen a_W_world a_W_likely a_TS_value n_r n_w p_road_hours p_road_wait p_road_number p_word_place p_word_road p_word_hours g_grid) (0, 0)).bind (sE (fun _ =>
  some ((-2))) (fun y15 =>
  some (y15)))
noncomputable def xo_X9_mean_p2_J75 (y2 : Int32) (y7 : Int64) : Option ((Int64 × Int32) ⊕ ((Unit) ⊕ (Int64))) :=
  (some (y2 + 1)).bind fun v8 =>
  some (.inl ((y7, v8)))
noncomputable def xo_X9_mean_p2_L4 (z_TF_by : Int32) (z_TF_times : Int32) (z_TF_of : Int32) (z_L_places : Int32) (z_L_from : Int32) (z_L_to : Int32) (z_Ld_size : Int32) (z_Lw_size : Int32) (z_TF_none : Int64) (a_X_knowing : Nat → Int32) (a_UNIT : Nat → Int32) (a_Lw_data : Nat → Int32) (a_L_seen : Nat → Int32) (a_W_world : Nat → Int64) (a_W_likely : Nat → Int64) (a_TF_value : Nat → Int64) (n_r : Nat) (n_w : Nat) (p_road_hours : Nat → Int32) (p_road_wait : Nat → Int32) (p_road_number : Nat → Int32) (p_word_place : Nat → Int32) (p_word_road : Nat → Int32) (p_word_hours : Nat → Int32) (g_grid : Nat → Nat → Int32) : (Int64 × Int32) → Option ((Int64 × Int32) ⊕ ((Unit) ⊕ (Int64))) := fun (y1, y2) =>
  (xo_X3_worlds z_Ld_size).bind fun v3 =>
  if v3 ≤ y2 then (some (.inr (.inr y1))) else ((rdL a_W_world 64 y2).bind fun v6 =>
  if v6 = 0 then (xo_X9_mean_p2_J75 y2 y1) else ((xo_X9_hours_p2 z_TF_by z_TF_times z_TF_of z_L_places z_L_from z_L_to z_Ld_size z_Lw_size z_TF_none a_X_knowing a_UNIT a_Lw_data a_L_seen a_W_world a_W_likely a_TF_value n_r n_w p_road_hours p_road_wait p_road_number p_word_place p_word_road p_word_hours g_grid y2).bind fun v10 =>
  if v10 = (-2) then (some (.inr (.inl (())))) else ((rdL a_W_world 64 y2).bind fun v13 =>
  (some (y1 + (v13 * (v10.toInt64)))).bind fun v14 =>
  xo_X9_mean_p2_J75 y2 v14)))
noncomputable def xo_X9_mean_p2 (z_TF_by : Int32) (z_TF_times : Int32) (z_TF_of : Int32) (z_L_places : Int32) (z_L_from : Int32) (z_L_to : Int32) (z_Ld_size : Int32) (z_Lw_size : Int32) (z_TF_none : Int64) (a_X_knowing : Nat → Int32) (a_UNIT : Nat → Int32) (a_Lw_data : Nat → Int32) (a_L_seen : Nat → Int32) (a_W_world : Nat → Int64) (a_W_likely : Nat → Int64) (a_TF_value : Nat → Int64) (n_r : Nat) (n_w : Nat) (p_road_hours : Nat → Int32) (p_road_wait : Nat → Int32) (p_road_number : Nat → Int32) (p_word_place : Nat → Int32) (p_word_road : Nat → Int32) (p_word_hours : Nat → Int32) (g_grid : Nat → Nat → Int32) : Option (Int64) :=
  (loop (xo_X9_mean_p2_L4 z_TF_by z_TF_times z_TF_of z_L_places z_L_from z_L_to z_Ld_size z_Lw_size z_TF_none a_X_knowing a_UNIT a_Lw_data a_L_seen a_W_world a_W_likely a_TF_value n_r n_w p_road_hours p_road_wait p_road_number p_word_place p_word_road p_word_hours g_grid) (0, 0)).bind (sE (fun _ =>
  some ((-2))) (fun y15 =>
  some (y15)))
noncomputable def xo_X9_mean_p3_J75 (y2 : Int32) (y8 : Int64) (a9 : Nat → Int32) : Option ((Int64 × Int32 × (Nat → Int32)) ⊕ (((Nat → Int32)) ⊕ (Int64 × (Nat → Int32)))) :=
  (some (y2 + 1)).bind fun v10 =>
  some (.inl ((y8, v10, a9)))
noncomputable def xo_X9_mean_p3_L4 (z_L_places : Int32) (z_L_from : Int32) (z_L_to : Int32) (z_Ld_size : Int32) (z_Lw_size : Int32) (a_UNIT : Nat → Int32) (a_Lw_data : Nat → Int32) (a_L_seen : Nat → Int32) (a_W_world : Nat → Int64) (n_r : Nat) (n_w : Nat) (p_road_hours : Nat → Int32) (p_road_wait : Nat → Int32) (p_road_number : Nat → Int32) (p_word_road : Nat → Int32) (p_word_hours : Nat → Int32) (g_grid : Nat → Nat → Int32) : (Int64 × Int32 × (Nat → Int32)) → Option ((Int64 × Int32 × (Nat → Int32)) ⊕ (((Nat → Int32)) ⊕ (Int64 × (Nat → Int32)))) := fun (y1, y2, a3) =>
  (xo_X3_worlds z_Ld_size).bind fun v4 =>
  if v4 ≤ y2 then (some (.inr (.inr (y1, a3)))) else ((rdL a_W_world 64 y2).bind fun v7 =>
  if v7 = 0 then (xo_X9_mean_p3_J75 y2 y1 a3) else ((xo_X9_hours_p3 z_L_places z_L_from z_L_to z_Ld_size z_Lw_size a3 a_UNIT a_Lw_data a_L_seen n_r n_w p_road_hours p_road_wait p_road_number p_word_road p_word_hours g_grid y2).bind fun (v12, a13) =>
  if v12 = (-2) then (some (.inr (.inl a13))) else ((rdL a_W_world 64 y2).bind fun v16 =>
  (some (y1 + (v16 * (v12.toInt64)))).bind fun v17 =>
  xo_X9_mean_p3_J75 y2 v17 a13)))
noncomputable def xo_X9_mean_p3 (z_L_places : Int32) (z_L_from : Int32) (z_L_to : Int32) (z_Ld_size : Int32) (z_Lw_size : Int32) (a_p3_far : Nat → Int32) (a_UNIT : Nat → Int32) (a_Lw_data : Nat → Int32) (a_L_seen : Nat → Int32) (a_W_world : Nat → Int64) (n_r : Nat) (n_w : Nat) (p_road_hours : Nat → Int32) (p_road_wait : Nat → Int32) (p_road_number : Nat → Int32) (p_word_road : Nat → Int32) (p_word_hours : Nat → Int32) (g_grid : Nat → Nat → Int32) : Option (Int64 × (Nat → Int32)) :=
  (loop (xo_X9_mean_p3_L4 z_L_places z_L_from z_L_to z_Ld_size z_Lw_size a_UNIT a_Lw_data a_L_seen a_W_world n_r n_w p_road_hours p_road_wait p_road_number p_word_road p_word_hours g_grid) (0, 0, a_p3_far)).bind (sE (fun a18 =>
  some ((-2), a18)) (fun (y19, a20) =>
  some (y19, a20)))
noncomputable def xo_X9_mean_p4_J75 (y2 : Int32) (y8 : Int64) (a9 : Nat → Int32) : Option ((Int64 × Int32 × (Nat → Int32)) ⊕ (((Nat → Int32)) ⊕ (Int64 × (Nat → Int32)))) :=
  (some (y2 + 1)).bind fun v10 =>
  some (.inl ((y8, v10, a9)))
noncomputable def xo_X9_mean_p4_L4 (z_L_places : Int32) (z_L_from : Int32) (z_L_to : Int32) (z_Ld_size : Int32) (z_Lw_size : Int32) (a_UNIT : Nat → Int32) (a_Lw_data : Nat → Int32) (a_L_seen : Nat → Int32) (a_W_world : Nat → Int64) (n_r : Nat) (n_w : Nat) (p_road_hours : Nat → Int32) (p_road_wait : Nat → Int32) (p_road_number : Nat → Int32) (p_word_road : Nat → Int32) (p_word_hours : Nat → Int32) (g_grid : Nat → Nat → Int32) : (Int64 × Int32 × (Nat → Int32)) → Option ((Int64 × Int32 × (Nat → Int32)) ⊕ (((Nat → Int32)) ⊕ (Int64 × (Nat → Int32)))) := fun (y1, y2, a3) =>
  (xo_X3_worlds z_Ld_size).bind fun v4 =>
  if v4 ≤ y2 then (some (.inr (.inr (y1, a3)))) else ((rdL a_W_world 64 y2).bind fun v7 =>
  if v7 = 0 then (xo_X9_mean_p4_J75 y2 y1 a3) else ((xo_X9_hours_p4 z_L_places z_L_from z_L_to z_Ld_size z_Lw_size a3 a_UNIT a_Lw_data a_L_seen n_r n_w p_road_hours p_road_wait p_road_number p_word_road p_word_hours g_grid y2).bind fun (v12, a13) =>
  if v12 = (-2) then (some (.inr (.inl a13))) else ((rdL a_W_world 64 y2).bind fun v16 =>
  (some (y1 + (v16 * (v12.toInt64)))).bind fun v17 =>
  xo_X9_mean_p4_J75 y2 v17 a13)))
noncomputable def xo_X9_mean_p4 (z_L_places : Int32) (z_L_from : Int32) (z_L_to : Int32) (z_Ld_size : Int32) (z_Lw_size : Int32) (a_p4_far : Nat → Int32) (a_UNIT : Nat → Int32) (a_Lw_data : Nat → Int32) (a_L_seen : Nat → Int32) (a_W_world : Nat → Int64) (n_r : Nat) (n_w : Nat) (p_road_hours : Nat → Int32) (p_road_wait : Nat → Int32) (p_road_number : Nat → Int32) (p_word_road : Nat → Int32) (p_word_hours : Nat → Int32) (g_grid : Nat → Nat → Int32) : Option (Int64 × (Nat → Int32)) :=
  (loop (xo_X9_mean_p4_L4 z_L_places z_L_from z_L_to z_Ld_size z_Lw_size a_UNIT a_Lw_data a_L_seen a_W_world n_r n_w p_road_hours p_road_wait p_road_number p_word_road p_word_hours g_grid) (0, 0, a_p4_far)).bind (sE (fun a18 =>
  some ((-2), a18)) (fun (y19, a20) =>
  some (y19, a20)))
noncomputable def xo_X9_mean_p5_J75 (y2 : Int32) (y8 : Int64) (a9 : Nat → Int32) : Option ((Int64 × Int32 × (Nat → Int32)) ⊕ (((Nat → Int32)) ⊕ (Int64 × (Nat → Int32)))) :=
  (some (y2 + 1)).bind fun v10 =>
  some (.inl ((y8, v10, a9)))
noncomputable def xo_X9_mean_p5_L4 (z_p5_many : Int32) (z_L_places : Int32) (z_L_from : Int32) (z_L_to : Int32) (z_Ld_size : Int32) (z_Lw_size : Int32) (a_p5_row : Nat → Int32) (a_UNIT : Nat → Int32) (a_Lw_data : Nat → Int32) (a_L_seen : Nat → Int32) (a_W_world : Nat → Int64) (n_r : Nat) (n_w : Nat) (p_road_hours : Nat → Int32) (p_road_wait : Nat → Int32) (p_road_number : Nat → Int32) (p_word_road : Nat → Int32) (p_word_hours : Nat → Int32) (g_grid : Nat → Nat → Int32) : (Int64 × Int32 × (Nat → Int32)) → Option ((Int64 × Int32 × (Nat → Int32)) ⊕ (((Nat → Int32)) ⊕ (Int64 × (Nat → Int32)))) := fun (y1, y2, a3) =>
  (xo_X3_worlds z_Ld_size).bind fun v4 =>
  if v4 ≤ y2 then (some (.inr (.inr (y1, a3)))) else ((rdL a_W_world 64 y2).bind fun v7 =>
  if v7 = 0 then (xo_X9_mean_p5_J75 y2 y1 a3) else ((xo_X9_hours_p5 z_p5_many z_L_places z_L_from z_L_to z_Ld_size z_Lw_size a3 a_p5_row a_UNIT a_Lw_data a_L_seen n_r n_w p_road_hours p_road_wait p_road_number p_word_road p_word_hours g_grid y2).bind fun (v12, a13) =>
  if v12 = (-2) then (some (.inr (.inl a13))) else ((rdL a_W_world 64 y2).bind fun v16 =>
  (some (y1 + (v16 * (v12.toInt64)))).bind fun v17 =>
  xo_X9_mean_p5_J75 y2 v17 a13)))
noncomputable def xo_X9_mean_p5 (z_p5_many : Int32) (z_L_places : Int32) (z_L_from : Int32) (z_L_to : Int32) (z_Ld_size : Int32) (z_Lw_size : Int32) (a_p5_far : Nat → Int32) (a_p5_row : Nat → Int32) (a_UNIT : Nat → Int32) (a_Lw_data : Nat → Int32) (a_L_seen : Nat → Int32) (a_W_world : Nat → Int64) (n_r : Nat) (n_w : Nat) (p_road_hours : Nat → Int32) (p_road_wait : Nat → Int32) (p_road_number : Nat → Int32) (p_word_road : Nat → Int32) (p_word_hours : Nat → Int32) (g_grid : Nat → Nat → Int32) : Option (Int64 × (Nat → Int32)) :=
  (loop (xo_X9_mean_p5_L4 z_p5_many z_L_places z_L_from z_L_to z_Ld_size z_Lw_size a_p5_row a_UNIT a_Lw_data a_L_seen a_W_world n_r n_w p_road_hours p_road_wait p_road_number p_word_road p_word_hours g_grid) (0, 0, a_p5_far)).bind (sE (fun a18 =>
  some ((-2), a18)) (fun (y19, a20) =>
  some (y19, a20)))
noncomputable def xo_X9_mean_p6_J75 (y2 : Int32) (y7 : Int64) : Option ((Int64 × Int32) ⊕ ((Unit) ⊕ (Int64))) :=
  (some (y2 + 1)).bind fun v8 =>
  some (.inl ((y7, v8)))
noncomputable def xo_X9_mean_p6_L4 (z_ru_size : Int32) (z_L_from : Int32) (z_L_to : Int32) (z_Ld_size : Int32) (z_Lw_size : Int32) (a_UNIT : Nat → Int32) (a_ru_data : Nat → Int32) (a_Lw_data : Nat → Int32) (a_L_seen : Nat → Int32) (a_W_world : Nat → Int64) (n_r : Nat) (n_w : Nat) (n_u : Nat) (p_road_hours : Nat → Int32) (p_road_wait : Nat → Int32) (p_road_number : Nat → Int32) (p_word_road : Nat → Int32) (p_word_hours : Nat → Int32) (p_rule_place : Nat → Int32) (p_rule_road : Nat → Int32) (p_rule_known : Nat → Int32) (p_rule_to : Nat → Int32) (g_grid : Nat → Nat → Int32) : (Int64 × Int32) → Option ((Int64 × Int32) ⊕ ((Unit) ⊕ (Int64))) := fun (y1, y2) =>
  (xo_X3_worlds z_Ld_size).bind fun v3 =>
  if v3 ≤ y2 then (some (.inr (.inr y1))) else ((rdL a_W_world 64 y2).bind fun v6 =>
  if v6 = 0 then (xo_X9_mean_p6_J75 y2 y1) else ((xo_X9_hours_p6 z_ru_size z_L_from z_L_to z_Ld_size z_Lw_size a_UNIT a_ru_data a_Lw_data a_L_seen n_r n_w n_u p_road_hours p_road_wait p_road_number p_word_road p_word_hours p_rule_place p_rule_road p_rule_known p_rule_to g_grid y2).bind fun v10 =>
  if v10 = (-2) then (some (.inr (.inl (())))) else ((rdL a_W_world 64 y2).bind fun v13 =>
  (some (y1 + (v13 * (v10.toInt64)))).bind fun v14 =>
  xo_X9_mean_p6_J75 y2 v14)))
noncomputable def xo_X9_mean_p6 (z_ru_size : Int32) (z_L_from : Int32) (z_L_to : Int32) (z_Ld_size : Int32) (z_Lw_size : Int32) (a_UNIT : Nat → Int32) (a_ru_data : Nat → Int32) (a_Lw_data : Nat → Int32) (a_L_seen : Nat → Int32) (a_W_world : Nat → Int64) (n_r : Nat) (n_w : Nat) (n_u : Nat) (p_road_hours : Nat → Int32) (p_road_wait : Nat → Int32) (p_road_number : Nat → Int32) (p_word_road : Nat → Int32) (p_word_hours : Nat → Int32) (p_rule_place : Nat → Int32) (p_rule_road : Nat → Int32) (p_rule_known : Nat → Int32) (p_rule_to : Nat → Int32) (g_grid : Nat → Nat → Int32) : Option (Int64) :=
  (loop (xo_X9_mean_p6_L4 z_ru_size z_L_from z_L_to z_Ld_size z_Lw_size a_UNIT a_ru_data a_Lw_data a_L_seen a_W_world n_r n_w n_u p_road_hours p_road_wait p_road_number p_word_road p_word_hours p_rule_place p_rule_road p_rule_known p_rule_to g_grid) (0, 0)).bind (sE (fun _ =>
  some ((-2))) (fun y15 =>
  some (y15)))
noncomputable def xo_D_mean (z_TB_by : Int32) (z_TS_by : Int32) (z_TF_by : Int32) (z_TF_times : Int32) (z_TF_of : Int32) (z_ru_size : Int32) (z_p5_many : Int32) (z_L_places : Int32) (z_L_from : Int32) (z_L_to : Int32) (z_Ld_size : Int32) (z_Lw_size : Int32) (z_TB_none : Int64) (z_TS_none : Int64) (z_TF_none : Int64) (a_X_knowing : Nat → Int32) (a_p5_far : Nat → Int32) (a_p3_far : Nat → Int32) (a_p4_far : Nat → Int32) (a_p5_row : Nat → Int32) (a_UNIT : Nat → Int32) (a_ru_data : Nat → Int32) (a_Lw_data : Nat → Int32) (a_L_seen : Nat → Int32) (a_W_world : Nat → Int64) (a_W_likely : Nat → Int64) (a_TB_value : Nat → Int64) (a_TS_value : Nat → Int64) (a_TF_value : Nat → Int64) (n_r : Nat) (n_w : Nat) (n_u : Nat) (p_road_hours : Nat → Int32) (p_road_wait : Nat → Int32) (p_road_number : Nat → Int32) (p_word_place : Nat → Int32) (p_word_road : Nat → Int32) (p_word_hours : Nat → Int32) (p_rule_place : Nat → Int32) (p_rule_road : Nat → Int32) (p_rule_known : Nat → Int32) (p_rule_to : Nat → Int32) (g_grid : Nat → Nat → Int32) (v : Int32)  : Option (Int64 × (Nat → Int32) × (Nat → Int32) × (Nat → Int32)) :=
  if v = 0 then ((xo_X9_mean_p0 z_TB_by z_L_places z_L_from z_L_to z_Ld_size z_Lw_size z_TB_none a_UNIT a_Lw_data a_L_seen a_W_world a_W_likely a_TB_value n_r n_w p_road_hours p_road_wait p_road_number p_word_place p_word_road p_word_hours g_grid).bind fun r1 => some (r1, a_p5_far, a_p3_far, a_p4_far)) else if v = 1 then ((xo_X9_mean_p1 z_TS_by z_L_places z_L_from z_L_to z_Ld_size z_Lw_size z_TS_none a_UNIT a_Lw_data a_L_seen a_W_world a_W_likely a_TS_value n_r n_w p_road_hours p_road_wait p_road_number p_word_place p_word_road p_word_hours g_grid).bind fun r1 => some (r1, a_p5_far, a_p3_far, a_p4_far)) else if v = 2 then ((xo_X9_mean_p2 z_TF_by z_TF_times z_TF_of z_L_places z_L_from z_L_to z_Ld_size z_Lw_size z_TF_none a_X_knowing a_UNIT a_Lw_data a_L_seen a_W_world a_W_likely a_TF_value n_r n_w p_road_hours p_road_wait p_road_number p_word_place p_word_road p_word_hours g_grid).bind fun r1 => some (r1, a_p5_far, a_p3_far, a_p4_far)) else if v = 3 then ((xo_X9_mean_p3 z_L_places z_L_from z_L_to z_Ld_size z_Lw_size a_p3_far a_UNIT a_Lw_data a_L_seen a_W_world n_r n_w p_road_hours p_road_wait p_road_number p_word_road p_word_hours g_grid).bind fun (r1, faI1162) => some (r1, a_p5_far, faI1162, a_p4_far)) else if v = 4 then ((xo_X9_mean_p4 z_L_places z_L_from z_L_to z_Ld_size z_Lw_size a_p4_far a_UNIT a_Lw_data a_L_seen a_W_world n_r n_w p_road_hours p_road_wait p_road_number p_word_road p_word_hours g_grid).bind fun (r1, faI1163) => some (r1, a_p5_far, a_p3_far, faI1163)) else if v = 5 then ((xo_X9_mean_p5 z_p5_many z_L_places z_L_from z_L_to z_Ld_size z_Lw_size a_p5_far a_p5_row a_UNIT a_Lw_data a_L_seen a_W_world n_r n_w p_road_hours p_road_wait p_road_number p_word_road p_word_hours g_grid).bind fun (r1, faI1160) => some (r1, faI1160, a_p3_far, a_p4_far)) else if v = 6 then ((xo_X9_mean_p6 z_ru_size z_L_from z_L_to z_Ld_size z_Lw_size a_UNIT a_ru_data a_Lw_data a_L_seen a_W_world n_r n_w n_u p_road_hours p_road_wait p_road_number p_word_road p_word_hours p_rule_place p_rule_road p_rule_known p_rule_to g_grid).bind fun r1 => some (r1, a_p5_far, a_p3_far, a_p4_far)) else none
noncomputable def xo_D_next (z_TB_by : Int32) (z_TS_by : Int32) (z_TF_by : Int32) (z_TF_times : Int32) (z_TF_of : Int32) (z_ru_size : Int32) (z_p5_many : Int32) (z_L_places : Int32) (z_L_to : Int32) (z_Ld_size : Int32) (z_Lw_size : Int32) (z_TB_none : Int64) (z_TS_none : Int64) (z_TF_none : Int64) (a_X_knowing : Nat → Int32) (a_p5_far : Nat → Int32) (a_p3_far : Nat → Int32) (a_p4_far : Nat → Int32) (a_p5_row : Nat → Int32) (a_UNIT : Nat → Int32) (a_ru_data : Nat → Int32) (a_Lw_data : Nat → Int32) (a_L_seen : Nat → Int32) (a_W_world : Nat → Int64) (a_W_likely : Nat → Int64) (a_TB_value : Nat → Int64) (a_TS_value : Nat → Int64) (a_TF_value : Nat → Int64) (n_r : Nat) (n_w : Nat) (n_u : Nat) (p_road_hours : Nat → Int32) (p_road_wait : Nat → Int32) (p_road_number : Nat → Int32) (p_word_place : Nat → Int32) (p_word_road : Nat → Int32) (p_word_hours : Nat → Int32) (p_rule_place : Nat → Int32) (p_rule_road : Nat → Int32) (p_rule_known : Nat → Int32) (p_rule_to : Nat → Int32) (g_grid : Nat → Nat → Int32) (v : Int32) (x1 : Int32) (x2 : Int32) : Option (Int32 × (Nat → Int32) × (Nat → Int32) × (Nat → Int32)) :=
  if v = 0 then ((xo_X14_next_p0 z_TB_by z_L_places z_L_to z_Ld_size z_Lw_size z_TB_none a_UNIT a_Lw_data a_L_seen a_W_likely a_TB_value n_r n_w p_road_hours p_road_wait p_road_number p_word_place p_word_road p_word_hours g_grid x1 x2).bind fun r1 => some (r1, a_p5_far, a_p3_far, a_p4_far)) else if v = 1 then ((xo_X14_next_p1 z_TS_by z_L_places z_L_to z_Ld_size z_Lw_size z_TS_none a_UNIT a_Lw_data a_L_seen a_W_likely a_TS_value n_r n_w p_road_hours p_road_wait p_road_number p_word_place p_word_road p_word_hours g_grid x1 x2).bind fun r1 => some (r1, a_p5_far, a_p3_far, a_p4_far)) else if v = 2 then ((xo_X14_next_p2 z_TF_by z_TF_times z_TF_of z_L_places z_L_to z_Ld_size z_Lw_size z_TF_none a_X_knowing a_UNIT a_Lw_data a_L_seen a_W_world a_W_likely a_TF_value n_r n_w p_road_hours p_road_wait p_road_number p_word_place p_word_road p_word_hours g_grid x1 x2).bind fun r1 => some (r1, a_p5_far, a_p3_far, a_p4_far)) else if v = 3 then ((xo_X10_next_p3 z_L_places z_L_to a_p3_far a_UNIT n_r p_road_hours p_road_wait p_road_number g_grid x1 x2).bind fun (r1, faI1162) => some (r1, a_p5_far, faI1162, a_p4_far)) else if v = 4 then ((xo_X10_next_p4 z_L_places z_L_to a_p4_far a_UNIT n_r p_road_hours p_road_wait p_road_number g_grid x1 x2).bind fun (r1, faI1163) => some (r1, a_p5_far, a_p3_far, faI1163)) else if v = 5 then ((xo_X10_next_p5 z_p5_many z_L_places z_L_to a_p5_far a_p5_row a_UNIT n_r p_road_hours p_road_wait p_road_number g_grid x1 x2).bind fun (r1, faI1160) => some (r1, faI1160, a_p3_far, a_p4_far)) else if v = 6 then ((xo_X15_next_p6 z_ru_size z_L_to a_UNIT a_ru_data n_r n_u p_road_hours p_road_wait p_road_number p_rule_place p_rule_road p_rule_known p_rule_to g_grid x1 x2).bind fun r1 => some (r1, a_p5_far, a_p3_far, a_p4_far)) else none
noncomputable def xo_X9_worst_p0_J59 (y2 : Int32) (y7 : Int32) : Option ((Int32 × Int32) ⊕ ((Unit) ⊕ (Int32))) :=
  (some (y2 + 1)).bind fun v8 =>
  some (.inl ((y7, v8)))
noncomputable def xo_X9_worst_p0_L4 (z_TB_by : Int32) (z_L_places : Int32) (z_L_from : Int32) (z_L_to : Int32) (z_Ld_size : Int32) (z_Lw_size : Int32) (z_TB_none : Int64) (a_UNIT : Nat → Int32) (a_Lw_data : Nat → Int32) (a_L_seen : Nat → Int32) (a_W_world : Nat → Int64) (a_W_likely : Nat → Int64) (a_TB_value : Nat → Int64) (n_r : Nat) (n_w : Nat) (p_road_hours : Nat → Int32) (p_road_wait : Nat → Int32) (p_road_number : Nat → Int32) (p_word_place : Nat → Int32) (p_word_road : Nat → Int32) (p_word_hours : Nat → Int32) (g_grid : Nat → Nat → Int32) : (Int32 × Int32) → Option ((Int32 × Int32) ⊕ ((Unit) ⊕ (Int32))) := fun (y1, y2) =>
  (xo_X3_worlds z_Ld_size).bind fun v3 =>
  if v3 ≤ y2 then (some (.inr (.inr y1))) else ((rdL a_W_world 64 y2).bind fun v6 =>
  if v6 = 0 then (xo_X9_worst_p0_J59 y2 y1) else ((xo_X9_hours_p0 z_TB_by z_L_places z_L_from z_L_to z_Ld_size z_Lw_size z_TB_none a_UNIT a_Lw_data a_L_seen a_W_likely a_TB_value n_r n_w p_road_hours p_road_wait p_road_number p_word_place p_word_road p_word_hours g_grid y2).bind fun v10 =>
  if v10 = (-2) then (some (.inr (.inl (())))) else ((some (if y1 < v10 then v10 else y1)).bind fun v13 =>
  xo_X9_worst_p0_J59 y2 v13)))
noncomputable def xo_X9_worst_p0 (z_TB_by : Int32) (z_L_places : Int32) (z_L_from : Int32) (z_L_to : Int32) (z_Ld_size : Int32) (z_Lw_size : Int32) (z_TB_none : Int64) (a_UNIT : Nat → Int32) (a_Lw_data : Nat → Int32) (a_L_seen : Nat → Int32) (a_W_world : Nat → Int64) (a_W_likely : Nat → Int64) (a_TB_value : Nat → Int64) (n_r : Nat) (n_w : Nat) (p_road_hours : Nat → Int32) (p_road_wait : Nat → Int32) (p_road_number : Nat → Int32) (p_word_place : Nat → Int32) (p_word_road : Nat → Int32) (p_word_hours : Nat → Int32) (g_grid : Nat → Nat → Int32) : Option (Int32) :=
  (loop (xo_X9_worst_p0_L4 z_TB_by z_L_places z_L_from z_L_to z_Ld_size z_Lw_size z_TB_none a_UNIT a_Lw_data a_L_seen a_W_world a_W_likely a_TB_value n_r n_w p_road_hours p_road_wait p_road_number p_word_place p_word_road p_word_hours g_grid) (0, 0)).bind (sE (fun _ =>
  some ((-2))) (fun y14 =>
  some (y14)))
noncomputable def xo_X9_worst_p1_J59 (y2 : Int32) (y7 : Int32) : Option ((Int32 × Int32) ⊕ ((Unit) ⊕ (Int32))) :=
  (some (y2 + 1)).bind fun v8 =>
  some (.inl ((y7, v8)))
noncomputable def xo_X9_worst_p1_L4 (z_TS_by : Int32) (z_L_places : Int32) (z_L_from : Int32) (z_L_to : Int32) (z_Ld_size : Int32) (z_Lw_size : Int32) (z_TS_none : Int64) (a_UNIT : Nat → Int32) (a_Lw_data : Nat → Int32) (a_L_seen : Nat → Int32) (a_W_world : Nat → Int64) (a_W_likely : Nat → Int64) (a_TS_value : Nat → Int64) (n_r : Nat) (n_w : Nat) (p_road_hours : Nat → Int32) (p_road_wait : Nat → Int32) (p_road_number : Nat → Int32) (p_word_place : Nat → Int32) (p_word_road : Nat → Int32) (p_word_hours : Nat → Int32) (g_grid : Nat → Nat → Int32) : (Int32 × Int32) → Option ((Int32 × Int32) ⊕ ((Unit) ⊕ (Int32))) := fun (y1, y2) =>
  (xo_X3_worlds z_Ld_size).bind fun v3 =>
  if v3 ≤ y2 then (some (.inr (.inr y1))) else ((rdL a_W_world 64 y2).bind fun v6 =>
  if v6 = 0 then (xo_X9_worst_p1_J59 y2 y1) else ((xo_X9_hours_p1 z_TS_by z_L_places z_L_from z_L_to z_Ld_size z_Lw_size z_TS_none a_UNIT a_Lw_data a_L_seen a_W_likely a_TS_value n_r n_w p_road_hours p_road_wait p_road_number p_word_place p_word_road p_word_hours g_grid y2).bind fun v10 =>
  if v10 = (-2) then (some (.inr (.inl (())))) else ((some (if y1 < v10 then v10 else y1)).bind fun v13 =>
  xo_X9_worst_p1_J59 y2 v13)))
noncomputable def xo_X9_worst_p1 (z_TS_by : Int32) (z_L_places : Int32) (z_L_from : Int32) (z_L_to : Int32) (z_Ld_size : Int32) (z_Lw_size : Int32) (z_TS_none : Int64) (a_UNIT : Nat → Int32) (a_Lw_data : Nat → Int32) (a_L_seen : Nat → Int32) (a_W_world : Nat → Int64) (a_W_likely : Nat → Int64) (a_TS_value : Nat → Int64) (n_r : Nat) (n_w : Nat) (p_road_hours : Nat → Int32) (p_road_wait : Nat → Int32) (p_road_number : Nat → Int32) (p_word_place : Nat → Int32) (p_word_road : Nat → Int32) (p_word_hours : Nat → Int32) (g_grid : Nat → Nat → Int32) : Option (Int32) :=
  (loop (xo_X9_worst_p1_L4 z_TS_by z_L_places z_L_from z_L_to z_Ld_size z_Lw_size z_TS_none a_UNIT a_Lw_data a_L_seen a_W_world a_W_likely a_TS_value n_r n_w p_road_hours p_road_wait p_road_number p_word_place p_word_road p_word_hours g_grid) (0, 0)).bind (sE (fun _ =>
  some ((-2))) (fun y14 =>
  some (y14)))
noncomputable def xo_X9_worst_p2_J59 (y2 : Int32) (y7 : Int32) : Option ((Int32 × Int32) ⊕ ((Unit) ⊕ (Int32))) :=
  (some (y2 + 1)).bind fun v8 =>
  some (.inl ((y7, v8)))
noncomputable def xo_X9_worst_p2_L4 (z_TF_by : Int32) (z_TF_times : Int32) (z_TF_of : Int32) (z_L_places : Int32) (z_L_from : Int32) (z_L_to : Int32) (z_Ld_size : Int32) (z_Lw_size : Int32) (z_TF_none : Int64) (a_X_knowing : Nat → Int32) (a_UNIT : Nat → Int32) (a_Lw_data : Nat → Int32) (a_L_seen : Nat → Int32) (a_W_world : Nat → Int64) (a_W_likely : Nat → Int64) (a_TF_value : Nat → Int64) (n_r : Nat) (n_w : Nat) (p_road_hours : Nat → Int32) (p_road_wait : Nat → Int32) (p_road_number : Nat → Int32) (p_word_place : Nat → Int32) (p_word_road : Nat → Int32) (p_word_hours : Nat → Int32) (g_grid : Nat → Nat → Int32) : (Int32 × Int32) → Option ((Int32 × Int32) ⊕ ((Unit) ⊕ (Int32))) := fun (y1, y2) =>
  (xo_X3_worlds z_Ld_size).bind fun v3 =>
  if v3 ≤ y2 then (some (.inr (.inr y1))) else ((rdL a_W_world 64 y2).bind fun v6 =>
  if v6 = 0 then (xo_X9_worst_p2_J59 y2 y1) else ((xo_X9_hours_p2 z_TF_by z_TF_times z_TF_of z_L_places z_L_from z_L_to z_Ld_size z_Lw_size z_TF_none a_X_knowing a_UNIT a_Lw_data a_L_seen a_W_world a_W_likely a_TF_value n_r n_w p_road_hours p_road_wait p_road_number p_word_place p_word_road p_word_hours g_grid y2).bind fun v10 =>
  if v10 = (-2) then (some (.inr (.inl (())))) else ((some (if y1 < v10 then v10 else y1)).bind fun v13 =>
  xo_X9_worst_p2_J59 y2 v13)))
noncomputable def xo_X9_worst_p2 (z_TF_by : Int32) (z_TF_times : Int32) (z_TF_of : Int32) (z_L_places : Int32) (z_L_from : Int32) (z_L_to : Int32) (z_Ld_size : Int32) (z_Lw_size : Int32) (z_TF_none : Int64) (a_X_knowing : Nat → Int32) (a_UNIT : Nat → Int32) (a_Lw_data : Nat → Int32) (a_L_seen : Nat → Int32) (a_W_world : Nat → Int64) (a_W_likely : Nat → Int64) (a_TF_value : Nat → Int64) (n_r : Nat) (n_w : Nat) (p_road_hours : Nat → Int32) (p_road_wait : Nat → Int32) (p_road_number : Nat → Int32) (p_word_place : Nat → Int32) (p_word_road : Nat → Int32) (p_word_hours : Nat → Int32) (g_grid : Nat → Nat → Int32) : Option (Int32) :=
  (loop (xo_X9_worst_p2_L4 z_TF_by z_TF_times z_TF_of z_L_places z_L_from z_L_to z_Ld_size z_Lw_size z_TF_none a_X_knowing a_UNIT a_Lw_data a_L_seen a_W_world a_W_likely a_TF_value n_r n_w p_road_hours p_road_wait p_road_number p_word_place p_word_road p_word_hours g_grid) (0, 0)).bind (sE (fun _ =>
  some ((-2))) (fun y14 =>
  some (y14)))
noncomputable def xo_X9_worst_p3_J59 (y2 : Int32) (y8 : Int32) (a9 : Nat → Int32) : Option ((Int32 × Int32 × (Nat → Int32)) ⊕ (((Nat → Int32)) ⊕ (Int32 × (Nat → Int32)))) :=
  (some (y2 + 1)).bind fun v10 =>
  some (.inl ((y8, v10, a9)))
noncomputable def xo_X9_worst_p3_L4 (z_L_places : Int32) (z_L_from : Int32) (z_L_to : Int32) (z_Ld_size : Int32) (z_Lw_size : Int32) (a_UNIT : Nat → Int32) (a_Lw_data : Nat → Int32) (a_L_seen : Nat → Int32) (a_W_world : Nat → Int64) (n_r : Nat) (n_w : Nat) (p_road_hours : Nat → Int32) (p_road_wait : Nat → Int32) (p_road_number : Nat → Int32) (p_word_road : Nat → Int32) (p_word_hours : Nat → Int32) (g_grid : Nat → Nat → Int32) : (Int32 × Int32 × (Nat → Int32)) → Option ((Int32 × Int32 × (Nat → Int32)) ⊕ (((Nat → Int32)) ⊕ (Int32 × (Nat → Int32)))) := fun (y1, y2, a3) =>
  (xo_X3_worlds z_Ld_size).bind fun v4 =>
  if v4 ≤ y2 then (some (.inr (.inr (y1, a3)))) else ((rdL a_W_world 64 y2).bind fun v7 =>
  if v7 = 0 then (xo_X9_worst_p3_J59 y2 y1 a3) else ((xo_X9_hours_p3 z_L_places z_L_from z_L_to z_Ld_size z_Lw_size a3 a_UNIT a_Lw_data a_L_seen n_r n_w p_road_hours p_road_wait p_road_number p_word_road p_word_hours g_grid y2).bind fun (v12, a13) =>
  if v12 = (-2) then (some (.inr (.inl a13))) else ((some (if y1 < v12 then v12 else y1)).bind fun v16 =>
  xo_X9_worst_p3_J59 y2 v16 a13)))
noncomputable def xo_X9_worst_p3 (z_L_places : Int32) (z_L_from : Int32) (z_L_to : Int32) (z_Ld_size : Int32) (z_Lw_size : Int32) (a_p3_far : Nat → Int32) (a_UNIT : Nat → Int32) (a_Lw_data : Nat → Int32) (a_L_seen : Nat → Int32) (a_W_world : Nat → Int64) (n_r : Nat) (n_w : Nat) (p_road_hours : Nat → Int32) (p_road_wait : Nat → Int32) (p_road_number : Nat → Int32) (p_word_road : Nat → Int32) (p_word_hours : Nat → Int32) (g_grid : Nat → Nat → Int32) : Option (Int32 × (Nat → Int32)) :=
  (loop (xo_X9_worst_p3_L4 z_L_places z_L_from z_L_to z_Ld_size z_Lw_size a_UNIT a_Lw_data a_L_seen a_W_world n_r n_w p_road_hours p_road_wait p_road_number p_word_road p_word_hours g_grid) (0, 0, a_p3_far)).bind (sE (fun a17 =>
  some ((-2), a17)) (fun (y18, a19) =>
  some (y18, a19)))
noncomputable def xo_X9_worst_p4_J59 (y2 : Int32) (y8 : Int32) (a9 : Nat → Int32) : Option ((Int32 × Int32 × (Nat → Int32)) ⊕ (((Nat → Int32)) ⊕ (Int32 × (Nat → Int32)))) :=
  (some (y2 + 1)).bind fun v10 =>
  some (.inl ((y8, v10, a9)))
noncomputable def xo_X9_worst_p4_L4 (z_L_places : Int32) (z_L_from : Int32) (z_L_to : Int32) (z_Ld_size : Int32) (z_Lw_size : Int32) (a_UNIT : Nat → Int32) (a_Lw_data : Nat → Int32) (a_L_seen : Nat → Int32) (a_W_world : Nat → Int64) (n_r : Nat) (n_w : Nat) (p_road_hours : Nat → Int32) (p_road_wait : Nat → Int32) (p_road_number : Nat → Int32) (p_word_road : Nat → Int32) (p_word_hours : Nat → Int32) (g_grid : Nat → Nat → Int32) : (Int32 × Int32 × (Nat → Int32)) → Option ((Int32 × Int32 × (Nat → Int32)) ⊕ (((Nat → Int32)) ⊕ (Int32 × (Nat → Int32)))) := fun (y1, y2, a3) =>
  (xo_X3_worlds z_Ld_size).bind fun v4 =>
  if v4 ≤ y2 then (some (.inr (.inr (y1, a3)))) else ((rdL a_W_world 64 y2).bind fun v7 =>
  if v7 = 0 then (xo_X9_worst_p4_J59 y2 y1 a3) else ((xo_X9_hours_p4 z_L_places z_L_from z_L_to z_Ld_size z_Lw_size a3 a_UNIT a_Lw_data a_L_seen n_r n_w p_road_hours p_road_wait p_road_number p_word_road p_word_hours g_grid y2).bind fun (v12, a13) =>
  if v12 = (-2) then (some (.inr (.inl a13))) else ((some (if y1 < v12 then v12 else y1)).bind fun v16 =>
  xo_X9_worst_p4_J59 y2 v16 a13)))
noncomputable def xo_X9_worst_p4 (z_L_places : Int32) (z_L_from : Int32) (z_L_to : Int32) (z_Ld_size : Int32) (z_Lw_size : Int32) (a_p4_far : Nat → Int32) (a_UNIT : Nat → Int32) (a_Lw_data : Nat → Int32) (a_L_seen : Nat → Int32) (a_W_world : Nat → Int64) (n_r : Nat) (n_w : Nat) (p_road_hours : Nat → Int32) (p_road_wait : Nat → Int32) (p_road_number : Nat → Int32) (p_word_road : Nat → Int32) (p_word_hours : Nat → Int32) (g_grid : Nat → Nat → Int32) : Option (Int32 × (Nat → Int32)) :=
  (loop (xo_X9_worst_p4_L4 z_L_places z_L_from z_L_to z_Ld_size z_Lw_size a_UNIT a_Lw_data a_L_seen a_W_world n_r n_w p_road_hours p_road_wait p_road_number p_word_road p_word_hours g_grid) (0, 0, a_p4_far)).bind (sE (fun a17 =>
  some ((-2), a17)) (fun (y18, a19) =>
  some (y18, a19)))
noncomputable def xo_X9_worst_p5_J59 (y2 : Int32) (y8 : Int32) (a9 : Nat → Int32) : Option ((Int32 × Int32 × (Nat → Int32)) ⊕ (((Nat → Int32)) ⊕ (Int32 × (Nat → Int32)))) :=
  (some (y2 + 1)).bind fun v10 =>
  some (.inl ((y8, v10, a9)))
noncomputable def xo_X9_worst_p5_L4 (z_p5_many : Int32) (z_L_places : Int32) (z_L_from : Int32) (z_L_to : Int32) (z_Ld_size : Int32) (z_Lw_size : Int32) (a_p5_row : Nat → Int32) (a_UNIT : Nat → Int32) (a_Lw_data : Nat → Int32) (a_L_seen : Nat → Int32) (a_W_world : Nat → Int64) (n_r : Nat) (n_w : Nat) (p_road_hours : Nat → Int32) (p_road_wait : Nat → Int32) (p_road_number : Nat → Int32) (p_word_road : Nat → Int32) (p_word_hours : Nat → Int32) (g_grid : Nat → Nat → Int32) : (Int32 × Int32 × (Nat → Int32)) → Option ((Int32 × Int32 × (Nat → Int32)) ⊕ (((Nat → Int32)) ⊕ (Int32 × (Nat → Int32)))) := fun (y1, y2, a3) =>
  (xo_X3_worlds z_Ld_size).bind fun v4 =>
  if v4 ≤ y2 then (some (.inr (.inr (y1, a3)))) else ((rdL a_W_world 64 y2).bind fun v7 =>
  if v7 = 0 then (xo_X9_worst_p5_J59 y2 y1 a3) else ((xo_X9_hours_p5 z_p5_many z_L_places z_L_from z_L_to z_Ld_size z_Lw_size a3 a_p5_row a_UNIT a_Lw_data a_L_seen n_r n_w p_road_hours p_road_wait p_road_number p_word_road p_word_hours g_grid y2).bind fun (v12, a13) =>
  if v12 = (-2) then (some (.inr (.inl a13))) else ((some (if y1 < v12 then v12 else y1)).bind fun v16 =>
  xo_X9_worst_p5_J59 y2 v16 a13)))
noncomputable def xo_X9_worst_p5 (z_p5_many : Int32) (z_L_places : Int32) (z_L_from : Int32) (z_L_to : Int32) (z_Ld_size : Int32) (z_Lw_size : Int32) (a_p5_far : Nat → Int32) (a_p5_row : Nat → Int32) (a_UNIT : Nat → Int32) (a_Lw_data : Nat → Int32) (a_L_seen : Nat → Int32) (a_W_world : Nat → Int64) (n_r : Nat) (n_w : Nat) (p_road_hours : Nat → Int32) (p_road_wait : Nat → Int32) (p_road_number : Nat → Int32) (p_word_road : Nat → Int32) (p_word_hours : Nat → Int32) (g_grid : Nat → Nat → Int32) : Option (Int32 × (Nat → Int32)) :=
  (loop (xo_X9_worst_p5_L4 z_p5_many z_L_places z_L_from z_L_to z_Ld_size z_Lw_size a_p5_row a_UNIT a_Lw_data a_L_seen a_W_world n_r n_w p_road_hours p_road_wait p_road_number p_word_road p_word_hours g_grid) (0, 0, a_p5_far)).bind (sE (fun a17 =>
  some ((-2), a17)) (fun (y18, a19) =>
  some (y18, a19)))
noncomputable def xo_X9_worst_p6_J59 (y2 : Int32) (y7 : Int32) : Option ((Int32 × Int32) ⊕ ((Unit) ⊕ (Int32))) :=
  (some (y2 + 1)).bind fun v8 =>
  some (.inl ((y7, v8)))
noncomputable def xo_X9_worst_p6_L4 (z_ru_size : Int32) (z_L_from : Int32) (z_L_to : Int32) (z_Ld_size : Int32) (z_Lw_size : Int32) (a_UNIT : Nat → Int32) (a_ru_data : Nat → Int32) (a_Lw_data : Nat → Int32) (a_L_seen : Nat → Int32) (a_W_world : Nat → Int64) (n_r : Nat) (n_w : Nat) (n_u : Nat) (p_road_hours : Nat → Int32) (p_road_wait : Nat → Int32) (p_road_number : Nat → Int32) (p_word_road : Nat → Int32) (p_word_hours : Nat → Int32) (p_rule_place : Nat → Int32) (p_rule_road : Nat → Int32) (p_rule_known : Nat → Int32) (p_rule_to : Nat → Int32) (g_grid : Nat → Nat → Int32) : (Int32 × Int32) → Option ((Int32 × Int32) ⊕ ((Unit) ⊕ (Int32))) := fun (y1, y2) =>
  (xo_X3_worlds z_Ld_size).bind fun v3 =>
  if v3 ≤ y2 then (some (.inr (.inr y1))) else ((rdL a_W_world 64 y2).bind fun v6 =>
  if v6 = 0 then (xo_X9_worst_p6_J59 y2 y1) else ((xo_X9_hours_p6 z_ru_size z_L_from z_L_to z_Ld_size z_Lw_size a_UNIT a_ru_data a_Lw_data a_L_seen n_r n_w n_u p_road_hours p_road_wait p_road_number p_word_road p_word_hours p_rule_place p_rule_road p_rule_known p_rule_to g_grid y2).bind fun v10 =>
  if v10 = (-2) then (some (.inr (.inl (())))) else ((some (if y1 < v10 then v10 else y1)).bind fun v13 =>
  xo_X9_worst_p6_J59 y2 v13)))
noncomputable def xo_X9_worst_p6 (z_ru_size : Int32) (z_L_from : Int32) (z_L_to : Int32) (z_Ld_size : Int32) (z_Lw_size : Int32) (a_UNIT : Nat → Int32) (a_ru_data : Nat → Int32) (a_Lw_data : Nat → Int32) (a_L_seen : Nat → Int32) (a_W_world : Nat → Int64) (n_r : Nat) (n_w : Nat) (n_u : Nat) (p_road_hours : Nat → Int32) (p_road_wait : Nat → Int32) (p_road_number : Nat → Int32) (p_word_road : Nat → Int32) (p_word_hours : Nat → Int32) (p_rule_place : Nat → Int32) (p_rule_road : Nat → Int32) (p_rule_known : Nat → Int32) (p_rule_to : Nat → Int32) (g_grid : Nat → Nat → Int32) : Option (Int32) :=
  (loop (xo_X9_worst_p6_L4 z_ru_size z_L_from z_L_to z_Ld_size z_Lw_size a_UNIT a_ru_data a_Lw_data a_L_seen a_W_world n_r n_w n_u p_road_hours p_road_wait p_road_number p_word_road p_word_hours p_rule_place p_rule_road p_rule_known p_rule_to g_grid) (0, 0)).bind (sE (fun _ =>
  some ((-2))) (fun y14 =>
  some (y14)))
noncomputable def xo_D_worst (z_TB_by : Int32) (z_TS_by : Int32) (z_TF_by : Int32) (z_TF_times : Int32) (z_TF_of : Int32) (z_ru_size : Int32) (z_p5_many : Int32) (z_L_places : Int32) (z_L_from : Int32) (z_L_to : Int32) (z_Ld_size : Int32) (z_Lw_size : Int32) (z_TB_none : Int64) (z_TS_none : Int64) (z_TF_none : Int64) (a_X_knowing : Nat → Int32) (a_p5_far : Nat → Int32) (a_p3_far : Nat → Int32) (a_p4_far : Nat → Int32) (a_p5_row : Nat → Int32) (a_UNIT : Nat → Int32) (a_ru_data : Nat → Int32) (a_Lw_data : Nat → Int32) (a_L_seen : Nat → Int32) (a_W_world : Nat → Int64) (a_W_likely : Nat → Int64) (a_TB_value : Nat → Int64) (a_TS_value : Nat → Int64) (a_TF_value : Nat → Int64) (n_r : Nat) (n_w : Nat) (n_u : Nat) (p_road_hours : Nat → Int32) (p_road_wait : Nat → Int32) (p_road_number : Nat → Int32) (p_word_place : Nat → Int32) (p_word_road : Nat → Int32) (p_word_hours : Nat → Int32) (p_rule_place : Nat → Int32) (p_rule_road : Nat → Int32) (p_rule_known : Nat → Int32) (p_rule_to : Nat → Int32) (g_grid : Nat → Nat → Int32) (v : Int32)  : Option (Int32 × (Nat → Int32) × (Nat → Int32) × (Nat → Int32)) :=
  if v = 0 then ((xo_X9_worst_p0 z_TB_by z_L_places z_L_from z_L_to z_Ld_size z_Lw_size z_TB_none a_UNIT a_Lw_data a_L_seen a_W_world a_W_likely a_TB_value n_r n_w p_road_hours p_road_wait p_road_number p_word_place p_word_road p_word_hours g_grid).bind fun r1 => some (r1, a_p5_far, a_p3_far, a_p4_far)) else if v = 1 then ((xo_X9_worst_p1 z_TS_by z_L_places z_L_from z_L_to z_Ld_size z_Lw_size z_TS_none a_UNIT a_Lw_data a_L_seen a_W_world a_W_likely a_TS_value n_r n_w p_road_hours p_road_wait p_road_number p_word_place p_word_road p_word_hours g_grid).bind fun r1 => some (r1, a_p5_far, a_p3_far, a_p4_far)) else if v = 2 then ((xo_X9_worst_p2 z_TF_by z_TF_times z_TF_of z_L_places z_L_from z_L_to z_Ld_size z_Lw_size z_TF_none a_X_knowing a_UNIT a_Lw_data a_L_seen a_W_world a_W_likely a_TF_value n_r n_w p_road_hours p_road_wait p_road_number p_word_place p_word_road p_word_hours g_grid).bind fun r1 => some (r1, a_p5_far, a_p3_far, a_p4_far)) else if v = 3 then ((xo_X9_worst_p3 z_L_places z_L_from z_L_to z_Ld_size z_Lw_size a_p3_far a_UNIT a_Lw_data a_L_seen a_W_world n_r n_w p_road_hours p_road_wait p_road_number p_word_road p_word_hours g_grid).bind fun (r1, faI1162) => some (r1, a_p5_far, faI1162, a_p4_far)) else if v = 4 then ((xo_X9_worst_p4 z_L_places z_L_from z_L_to z_Ld_size z_Lw_size a_p4_far a_UNIT a_Lw_data a_L_seen a_W_world n_r n_w p_road_hours p_road_wait p_road_number p_word_road p_word_hours g_grid).bind fun (r1, faI1163) => some (r1, a_p5_far, a_p3_far, faI1163)) else if v = 5 then ((xo_X9_worst_p5 z_p5_many z_L_places z_L_from z_L_to z_Ld_size z_Lw_size a_p5_far a_p5_row a_UNIT a_Lw_data a_L_seen a_W_world n_r n_w p_road_hours p_road_wait p_road_number p_word_road p_word_hours g_grid).bind fun (r1, faI1160) => some (r1, faI1160, a_p3_far, a_p4_far)) else if v = 6 then ((xo_X9_worst_p6 z_ru_size z_L_from z_L_to z_Ld_size z_Lw_size a_UNIT a_ru_data a_Lw_data a_L_seen a_W_world n_r n_w n_u p_road_hours p_road_wait p_road_number p_word_road p_word_hours p_rule_place p_rule_road p_rule_known p_rule_to g_grid).bind fun r1 => some (r1, a_p5_far, a_p3_far, a_p4_far)) else none
noncomputable def xo_J17_bitCount  (x0 : Int32) : Option (Int32) :=
  (some (x0 - (((x0.toUInt32 >>> ((1 : Int32).toUInt32 &&& Int32.toUInt32 31)).toInt32) &&& 1431655765))).bind fun v1 =>
  (some ((v1 &&& 858993459) + (((v1.toUInt32 >>> ((2 : Int32).toUInt32 &&& Int32.toUInt32 31)).toInt32) &&& 858993459))).bind fun v2 =>
  (some ((v2 + ((v2.toUInt32 >>> ((4 : Int32).toUInt32 &&& Int32.toUInt32 31)).toInt32)) &&& 252645135)).bind fun v3 =>
  (some (v3 + ((v3.toUInt32 >>> ((8 : Int32).toUInt32 &&& Int32.toUInt32 31)).toInt32))).bind fun v4 =>
  (some (v4 + ((v4.toUInt32 >>> ((16 : Int32).toUInt32 &&& Int32.toUInt32 31)).toInt32))).bind fun v5 =>
  some (v5 &&& 63)
noncomputable def xo_J2_elementData_Ld (a_Ld_data : Nat → Int32) (x1 : Int32) : Option (Int32) :=
  (rdI a_Ld_data 6 x1).bind fun v1 =>
  some (v1)
noncomputable def xo_J2_get_Ld (z_Ld_size : Int32) (a_Ld_data : Nat → Int32) (x1 : Int32) : Option (Int32) :=
  (xo_J15_checkIndex x1 z_Ld_size).bind fun v1 =>
  (xo_J2_elementData_Ld a_Ld_data x1).bind fun v3 =>
  some (v3)
noncomputable def xo_J2_size_Lr (z_Lr_size : Int32) : Option (Int32) :=
  some (z_Lr_size)
noncomputable def xo_X1_ahead (z_TB_by : Int32) (z_L_from : Int32) (z_L_to : Int32) (z_Ld_size : Int32) (z_TB_none : Int64) (a_UNIT : Nat → Int32) (a_L_seen : Nat → Int32) (a_W_likely : Nat → Int64) (a_TB_value : Nat → Int64) (x1 : Int32) : Option (Int64) :=
  ((xg_T_TB z_TB_by z_L_to z_Ld_size z_TB_none a_UNIT a_L_seen a_W_likely a_TB_value 40).1 x1 z_L_from 0).bind fun v1 =>
  some (v1)
noncomputable def xo_X1_back (z_X_isWalking : Int32) (z_X_steps : Int32) : Option (Int32 × (Int32)) :=
  if z_X_isWalking = 0 then (some ((-1), z_X_steps)) else (if z_X_steps = 0 then (some ((-1), z_X_steps)) else ((some (z_X_steps - 1)).bind fun v3 =>
  some (v3, v3)))
noncomputable def xo_X3_isWhole_J20  : Option (Int32) :=
  some (0)
noncomputable def xo_X3_isWhole (z_L_from : Int32) (z_L_to : Int32) : Option (Int32) :=
  if z_L_from = (-1) then (xo_X3_isWhole_J20) else (if z_L_to = (-1) then (xo_X3_isWhole_J20) else (some (1)))
noncomputable def xo_X1_begin_J115 (y7 : Int32) (y15 : Int32) (y16 : Int32) : Option ((Int32 × Int32 × Int32) ⊕ ((Int32 × Int32))) :=
  (some (y7 + 1)).bind fun v17 =>
  some (.inl ((y15, y16, v17)))
noncomputable def xo_X1_begin_J113 (y7 : Int32) (v19 : Int32) (k25 : Int32) (k26 : Int32) : Option ((Int32 × Int32 × Int32) ⊕ ((Int32 × Int32))) :=
  (some (k26 ||| k25)).bind fun v27 =>
  xo_X1_begin_J115 y7 v19 v27
noncomputable def xo_X1_begin_L23 (z_Ld_size : Int32) (a_Ld_data : Nat → Int32) (n_r : Nat) (p_road_doubt : Nat → Int32) : (Int32 × Int32 × Int32) → Option ((Int32 × Int32 × Int32) ⊕ ((Int32 × Int32))) := fun (y5, y6, y7) =>
  (xo_J2_size_Ld z_Ld_size).bind fun v8 =>
  if v8 ≤ y7 then (some (.inr (y5, y6))) else ((xo_J2_get_Ld z_Ld_size a_Ld_data y7).bind fun v11 =>
  (ixI n_r v11).bind fun v13 =>
  (rdI p_road_doubt n_r v13).bind fun v14 =>
  if v14 = 0 then (xo_X1_begin_J115 y7 y5 y6) else ((some (((y5 * 1103515245) + 12345) &&& 2147483647)).bind fun v19 =>
  (rmI (v19 >>> (16 &&& 31)) 10).bind fun v20 =>
  (xo_J2_get_Ld z_Ld_size a_Ld_data y7).bind fun v21 =>
  (ixI n_r v21).bind fun v23 =>
  (rdI p_road_doubt n_r v23).bind fun v24 =>
  if v24 ≤ v20 then (xo_X1_begin_J113 y7 v19 0 y6) else (xo_X1_begin_J113 y7 v19 (1 <<< (y7 &&& 31)) y6)))
noncomputable def xo_X1_begin_J231 (y33 : Int32) (v35 : Int32) (y38 : Int32) : Option ((Int32 × Int32 × Int32) ⊕ ((Int32))) :=
  (some (y33 + 1)).bind fun v39 =>
  some (.inl ((v35, y38, v39)))
noncomputable def xo_X1_begin_J223 (y42 : Int32) (k50 : Int32) (k51 : Int32) : Option ((Int32 × Int32) ⊕ ((Int32))) :=
  (some (k51 ||| k50)).bind fun v52 =>
  (some (y42 + 1)).bind fun v53 =>
  some (.inl ((v52, v53)))
noncomputable def xo_X1_begin_L176 (z_Ld_size : Int32) (a_Ld_data : Nat → Int32) (n_r : Nat) (p_road_cause : Nat → Int32) (y33 : Int32) : (Int32 × Int32) → Option ((Int32 × Int32) ⊕ ((Int32))) := fun (y41, y42) =>
  (xo_J2_size_Ld z_Ld_size).bind fun v43 =>
  if v43 ≤ y42 then (some (.inr y41)) else ((xo_J2_get_Ld z_Ld_size a_Ld_data y42).bind fun v46 =>
  (ixI n_r v46).bind fun v48 =>
  (rdI p_road_cause n_r v48).bind fun v49 =>
  if v49 = y33 then (xo_X1_begin_J223 y42 (1 <<< (y42 &&& 31)) y41) else (xo_X1_begin_J223 y42 0 y41))
noncomputable def xo_X1_begin_L124 (z_L_causes : Int32) (z_Ld_size : Int32) (a_Ld_data : Nat → Int32) (a_L_comes : Nat → Int32) (n_r : Nat) (p_road_cause : Nat → Int32) : (Int32 × Int32 × Int32) → Option ((Int32 × Int32 × Int32) ⊕ ((Int32))) := fun (y31, y32, y33) =>
  if z_L_causes ≤ y33 then (some (.inr y32)) else ((some (((y31 * 1103515245) + 12345) &&& 2147483647)).bind fun v35 =>
  (rmI (v35 >>> (16 &&& 31)) 10).bind fun v36 =>
  (rdI a_L_comes 2 y33).bind fun v37 =>
  if v36 < v37 then ((loop (xo_X1_begin_L176 z_Ld_size a_Ld_data n_r p_road_cause y33) (y32, 0)).bind fun y55 =>
  xo_X1_begin_J231 y33 v35 y55) else (xo_X1_begin_J231 y33 v35 y32))
noncomputable def xo_X1_begin (z_X_isWalking : Int32) (z_X_world : Int32) (z_X_steps : Int32) (z_L_causes : Int32) (z_L_from : Int32) (z_L_to : Int32) (z_Ld_size : Int32) (a_X_places : Nat → Int32) (a_X_gone : Nat → Int32) (a_X_knowns : Nat → Int32) (a_UNIT : Nat → Int32) (a_Ld_data : Nat → Int32) (a_L_comes : Nat → Int32) (a_L_seen : Nat → Int32) (n_r : Nat) (p_road_doubt : Nat → Int32) (p_road_cause : Nat → Int32) (x1 : Int32) : Option (Int32 × (Int32) × (Int32) × (Int32) × (Nat → Int32) × (Nat → Int32) × (Nat → Int32)) :=
  if x1 < 0 then (some (0, z_X_isWalking, z_X_world, z_X_steps, a_X_places, a_X_gone, a_X_knowns)) else ((xo_X3_isWhole z_L_from z_L_to).bind fun v2 =>
  if v2 = 0 then (some (0, z_X_isWalking, z_X_world, z_X_steps, a_X_places, a_X_gone, a_X_knowns)) else ((loop (xo_X1_begin_L23 z_Ld_size a_Ld_data n_r p_road_doubt) (x1, 0, 0)).bind fun (y29, y30) =>
  (loop (xo_X1_begin_L124 z_L_causes z_Ld_size a_Ld_data a_L_comes n_r p_road_cause) (y29, y30, 0)).bind fun y56 =>
  (wrI a_X_places 101 0 z_L_from).bind fun a57 =>
  (wrI a_X_gone 101 0 0).bind fun a58 =>
  (xo_X1_seeing z_Ld_size a_UNIT a_L_seen z_L_from 0 y56).bind fun v59 =>
  (wrI a_X_knowns 101 0 v59).bind fun a61 =>
  some (1, 1, y56, 0, a57, a58, a61)))
noncomputable def xo_X1_in_J14  : Option (Int32) :=
  some (0)
noncomputable def xo_X1_in  (x0 : Int32) (x1 : Int32) (x2 : Int32) : Option (Int32) :=
  if x0 < x1 then (xo_X1_in_J14) else (if x2 < x0 then (xo_X1_in_J14) else (some (1)))
noncomputable def xo_X4_alone_J151 (y2 : Int32) (k15 : Int64) (k16 : Int64) : Option ((Int64 × Int32) ⊕ ((Int64))) :=
  (some (k16 * k15)).bind fun v17 =>
  (some (y2 + 1)).bind fun v18 =>
  some (.inl ((v17, v18)))
noncomputable def xo_X4_alone_J110 (y1 : Int64) (y2 : Int32) (k9 : Int32) (k11 : Int32) (k12 : Int32) (k14 : Int32) : Option ((Int64 × Int32) ⊕ ((Int64))) :=
  if k11 = 0 then (if k9 = 0 then (xo_X4_alone_J151 y2 ((k14 - k12).toInt64) y1) else (xo_X4_alone_J151 y2 (k12.toInt64) y1)) else (if k9 = 0 then (xo_X4_alone_J151 y2 0 y1) else (xo_X4_alone_J151 y2 (k14.toInt64) y1))
noncomputable def xo_X4_alone_J94 (n_r : Nat) (p_road_doubt : Nat → Int32) (y1 : Int64) (y2 : Int32) (v8 : Int32) (k9 : Int32) (k11 : Int32) (k12 : Int32) : Option ((Int64 × Int32) ⊕ ((Int64))) :=
  (rdI p_road_doubt n_r v8).bind fun v13 =>
  if v13 ≤ 0 then (xo_X4_alone_J110 y1 y2 k9 k11 k12 1) else (xo_X4_alone_J110 y1 y2 k9 k11 k12 10)
noncomputable def xo_X4_alone_J76 (n_r : Nat) (p_road_doubt : Nat → Int32) (y1 : Int64) (y2 : Int32) (x3 : Int32) (x4 : Int32) (v8 : Int32) (k9 : Int32) (k11 : Int32) : Option ((Int64 × Int32) ⊕ ((Int64))) :=
  if y2 = x3 then (xo_X4_alone_J94 n_r p_road_doubt y1 y2 v8 k9 k11 x4) else ((rdI p_road_doubt n_r v8).bind fun v24 =>
  xo_X4_alone_J94 n_r p_road_doubt y1 y2 v8 k9 k11 v24)
noncomputable def xo_X4_alone_J75 (n_r : Nat) (p_road_doubt : Nat → Int32) (y1 : Int64) (y2 : Int32) (x3 : Int32) (x4 : Int32) (v8 : Int32) (k9 : Int32) : Option ((Int64 × Int32) ⊕ ((Int64))) :=
  xo_X4_alone_J76 n_r p_road_doubt y1 y2 x3 x4 v8 k9 0
noncomputable def xo_X4_alone_J47 (n_r : Nat) (p_road_doubt : Nat → Int32) (p_road_cause : Nat → Int32) (y1 : Int64) (x2 : Int32) (y2 : Int32) (x3 : Int32) (x4 : Int32) (v8 : Int32) (k9 : Int32) : Option ((Int64 × Int32) ⊕ ((Int64))) :=
  (rdI p_road_cause n_r v8).bind fun v10 =>
  if v10 = (-1) then (xo_X4_alone_J75 n_r p_road_doubt y1 y2 x3 x4 v8 k9) else ((rdI p_road_cause n_r v8).bind fun v26 =>
  if (x2 >>> (v26 &&& 31)) &&& 1 = 1 then (xo_X4_alone_J76 n_r p_road_doubt y1 y2 x3 x4 v8 k9 1) else (xo_X4_alone_J75 n_r p_road_doubt y1 y2 x3 x4 v8 k9))
noncomputable def xo_X4_alone_L6 (z_Ld_size : Int32) (a_Ld_data : Nat → Int32) (n_r : Nat) (p_road_doubt : Nat → Int32) (p_road_cause : Nat → Int32) (x1 : Int32) (x2 : Int32) (x3 : Int32) (x4 : Int32) : (Int64 × Int32) → Option ((Int64 × Int32) ⊕ ((Int64))) := fun (y1, y2) =>
  (xo_J2_size_Ld z_Ld_size).bind fun v3 =>
  if v3 ≤ y2 then (some (.inr y1)) else ((xo_J2_get_Ld z_Ld_size a_Ld_data y2).bind fun v6 =>
  (ixI n_r v6).bind fun v8 =>
  if (x1 >>> (y2 &&& 31)) &&& 1 = 1 then (xo_X4_alone_J47 n_r p_road_doubt p_road_cause y1 x2 y2 x3 x4 v8 1) else (xo_X4_alone_J47 n_r p_road_doubt p_road_cause y1 x2 y2 x3 x4 v8 0))
noncomputable def xo_X4_alone (z_Ld_size : Int32) (a_Ld_data : Nat → Int32) (n_r : Nat) (p_road_doubt : Nat → Int32) (p_road_cause : Nat → Int32) (x1 : Int32) (x2 : Int32) (x3 : Int32) (x4 : Int32) : Option (Int64) :=
  (loop (xo_X4_alone_L6 z_Ld_size a_Ld_data n_r p_road_doubt p_road_cause x1 x2 x3 x4) (1, 0)).bind fun y29 =>
  some (y29)
noncomputable def xo_X3_knowns (z_Ld_size : Int32) (a_UNIT : Nat → Int32) : Option (Int32) :=
  (xo_J2_size_Ld z_Ld_size).bind fun v1 =>
  (rdI a_UNIT 7 v1).bind fun v3 =>
  some (v3)
noncomputable def xo_X4_join_W_J53 (y7 : Int32) (a8 : Nat → Int64) (k15 : Int64) (k16 : Int64) (k17 : Int32) : Option ((Int32 × (Nat → Int64)) ⊕ (((Nat → Int64)))) :=
  (wrL a8 729 k17 (k16 + k15)).bind fun a18 =>
  (some (y7 + 1)).bind fun v19 =>
  some (.inl ((v19, a18)))
noncomputable def xo_X4_join_W_L19 (z_Ld_size : Int32) (a_UNIT : Nat → Int32) (a_W_world : Nat → Int64) (y1 : Int32) : (Int32 × (Nat → Int64)) → Option ((Int32 × (Nat → Int64)) ⊕ (((Nat → Int64)))) := fun (y7, a8) =>
  (xo_X3_worlds z_Ld_size).bind fun v9 =>
  if v9 ≤ y7 then (some (.inr a8)) else ((rdL a8 729 y1).bind fun v12 =>
  (xo_X4_agrees z_Ld_size a_UNIT y7 y1).bind fun v13 =>
  if v13 = 0 then (xo_X4_join_W_J53 y7 a8 0 v12 y1) else ((rdL a_W_world 64 y7).bind fun v21 =>
  xo_X4_join_W_J53 y7 a8 v21 v12 y1))
noncomputable def xo_X4_join_W_L2 (z_Ld_size : Int32) (a_UNIT : Nat → Int32) (a_W_world : Nat → Int64) : (Int32 × (Nat → Int64)) → Option ((Int32 × (Nat → Int64)) ⊕ (((Nat → Int64)))) := fun (y1, a2) =>
  (xo_X3_knowns z_Ld_size a_UNIT).bind fun v3 =>
  if v3 ≤ y1 then (some (.inr a2)) else ((wrL a2 729 y1 0).bind fun a6 =>
  (loop (xo_X4_join_W_L19 z_Ld_size a_UNIT a_W_world y1) (0, a6)).bind fun a22 =>
  (some (y1 + 1)).bind fun v23 =>
  some (.inl ((v23, a22))))
noncomputable def xo_X4_join_W (z_Ld_size : Int32) (a_UNIT : Nat → Int32) (a_W_world : Nat → Int64) (a_W_likely : Nat → Int64) : Option ((Nat → Int64)) :=
  (loop (xo_X4_join_W_L2 z_Ld_size a_UNIT a_W_world) (0, a_W_likely)).bind fun a24 =>
  some (a24)
noncomputable def xo_X4_lay_W_L8  : (Int32 × (Nat → Int64)) → Option ((Int32 × (Nat → Int64)) ⊕ (((Nat → Int64)))) := fun (y1, a2) =>
  if 64 ≤ y1 then (some (.inr a2)) else ((wrL a2 64 y1 0).bind fun a4 =>
  (some (y1 + 1)).bind fun v5 =>
  some (.inl ((v5, a4))))
noncomputable def xo_X4_lay_W_J93 (y11 : Int32) (k13 : Int64) (k14 : Int64) : Option ((Int64 × Int32) ⊕ ((Int64))) :=
  (some (k14 * k13)).bind fun v15 =>
  (some (y11 + 1)).bind fun v16 =>
  some (.inl ((v15, v16)))
noncomputable def xo_X4_lay_W_L49 (z_L_causes : Int32) (a_L_comes : Nat → Int32) (y7 : Int32) : (Int64 × Int32) → Option ((Int64 × Int32) ⊕ ((Int64))) := fun (y10, y11) =>
  if z_L_causes ≤ y11 then (some (.inr y10)) else (if (y7 >>> (y11 &&& 31)) &&& 1 = 1 then ((rdI a_L_comes 2 y11).bind fun v19 =>
  xo_X4_lay_W_J93 y11 (v19.toInt64) y10) else ((rdI a_L_comes 2 y11).bind fun v18 =>
  xo_X4_lay_W_J93 y11 ((10 - v18).toInt64) y10))
noncomputable def xo_X4_lay_W_L105 (z_Ld_size : Int32) (a_Ld_data : Nat → Int32) (n_r : Nat) (p_road_doubt : Nat → Int32) (p_road_cause : Nat → Int32) (x2 : Int32) (x3 : Int32) (y7 : Int32) (y20 : Int64) : (Int32 × (Nat → Int64)) → Option ((Int32 × (Nat → Int64)) ⊕ (((Nat → Int64)))) := fun (y21, a22) =>
  (xo_X3_worlds z_Ld_size).bind fun v23 =>
  if v23 ≤ y21 then (some (.inr a22)) else ((rdL a22 64 y21).bind fun v26 =>
  (xo_X4_alone z_Ld_size a_Ld_data n_r p_road_doubt p_road_cause y21 y7 x2 x3).bind fun v27 =>
  (wrL a22 64 y21 (v26 + (y20 * v27))).bind fun a29 =>
  (some (y21 + 1)).bind fun v30 =>
  some (.inl ((v30, a29))))
noncomputable def xo_X4_lay_W_L32 (z_L_causes : Int32) (z_Ld_size : Int32) (a_Ld_data : Nat → Int32) (a_L_comes : Nat → Int32) (n_r : Nat) (p_road_doubt : Nat → Int32) (p_road_cause : Nat → Int32) (x2 : Int32) (x3 : Int32) : (Int32 × (Nat → Int64)) → Option ((Int32 × (Nat → Int64)) ⊕ (((Nat → Int64)))) := fun (y7, a8) =>
  if 1 <<< (z_L_causes &&& 31) ≤ y7 then (some (.inr a8)) else ((loop (xo_X4_lay_W_L49 z_L_causes a_L_comes y7) (1, 0)).bind fun y20 =>
  (loop (xo_X4_lay_W_L105 z_Ld_size a_Ld_data n_r p_road_doubt p_road_cause x2 x3 y7 y20) (0, a8)).bind fun a31 =>
  (some (y7 + 1)).bind fun v32 =>
  some (.inl ((v32, a31))))
noncomputable def xo_X4_lay_W_L152 (z_Ld_size : Int32) (a33 : Nat → Int64) : (Int32 × Int64) → Option ((Int32 × Int64) ⊕ ((Int64))) := fun (y34, z35) =>
  (xo_X3_worlds z_Ld_size).bind fun v36 =>
  if v36 ≤ y34 then (some (.inr z35)) else ((rdL a33 64 y34).bind fun v39 =>
  (some (z35 + v39)).bind fun v40 =>
  (some (y34 + 1)).bind fun v41 =>
  some (.inl ((v41, v40))))
noncomputable def xo_X4_lay_W (z_L_causes : Int32) (z_Ld_size : Int32) (z_W_all : Int64) (a_UNIT : Nat → Int32) (a_Ld_data : Nat → Int32) (a_L_comes : Nat → Int32) (a_W_world : Nat → Int64) (a_W_likely : Nat → Int64) (n_r : Nat) (p_road_doubt : Nat → Int32) (p_road_cause : Nat → Int32) (x2 : Int32) (x3 : Int32) : Option ((Int64) × (Nat → Int64) × (Nat → Int64)) :=
  (loop (xo_X4_lay_W_L8) (0, a_W_world)).bind fun a6 =>
  (loop (xo_X4_lay_W_L32 z_L_causes z_Ld_size a_Ld_data a_L_comes n_r p_road_doubt p_road_cause x2 x3) (0, a6)).bind fun a33 =>
  (loop (xo_X4_lay_W_L152 z_Ld_size a33) (0, 0)).bind fun z42 =>
  (xo_X4_join_W z_Ld_size a_UNIT a33 a_W_likely).bind fun a43 =>
  some (z42, a33, a43)
noncomputable def xo_X5_notKnown_TB_J35 (y2 : Int32) (k8 : Int32) (k9 : Int32) : Option ((Int32 × Int32) ⊕ ((Int32))) :=
  (some (k9 + k8)).bind fun v10 =>
  (some (y2 + 1)).bind fun v11 =>
  some (.inl ((v10, v11)))
noncomputable def xo_X5_notKnown_TB_L4 (z_Ld_size : Int32) (a_UNIT : Nat → Int32) (x1 : Int32) : (Int32 × Int32) → Option ((Int32 × Int32) ⊕ ((Int32))) := fun (y1, y2) =>
  (xo_J2_size_Ld z_Ld_size).bind fun v3 =>
  if v3 ≤ y2 then (some (.inr y1)) else ((xo_X1_digit a_UNIT x1 y2).bind fun v6 =>
  if v6 = 0 then (xo_X5_notKnown_TB_J35 y2 1 y1) else (xo_X5_notKnown_TB_J35 y2 0 y1))
noncomputable def xo_X5_notKnown_TB (z_Ld_size : Int32) (a_UNIT : Nat → Int32) (x1 : Int32) : Option (Int32) :=
  (loop (xo_X5_notKnown_TB_L4 z_Ld_size a_UNIT x1) (0, 0)).bind fun y13 =>
  some (y13)
noncomputable def xo_X6_isBetter_TB  (x1 : Int64) (x3 : Int64) : Option (Int32) :=
  if x3 ≤ x1 then (some (0)) else (some (1))
noncomputable def xo_X5_better_TB_J31 (x1 : Int64) : Option (Int64) :=
  some (x1)
noncomputable def xo_X5_better_TB_J27 (x3 : Int64) : Option (Int64) :=
  some (x3)
noncomputable def xo_X5_better_TB (z_TB_none : Int64) (x1 : Int64) (x3 : Int64) : Option (Int64) :=
  if x3 = z_TB_none then (xo_X5_better_TB_J31 x1) else (if x1 = z_TB_none then (xo_X5_better_TB_J27 x3) else ((xo_X6_isBetter_TB x3 x1).bind fun v3 =>
  if v3 = 0 then (xo_X5_better_TB_J31 x1) else (xo_X5_better_TB_J27 x3)))
noncomputable def xo_X5_betters_TB_L13 (z_TB_by : Int32) (z_L_places : Int32) (z_L_to : Int32) (z_Ld_size : Int32) (z_TB_none : Int64) (a_UNIT : Nat → Int32) (a_L_seen : Nat → Int32) (a_W_likely : Nat → Int64) (a_TB_value : Nat → Int64) (n_r : Nat) (p_road_hours : Nat → Int32) (p_road_wait : Nat → Int32) (p_road_number : Nat → Int32) (g_grid : Nat → Nat → Int32) (x1 : Int32) (x2 : Int32) : (Int64 × Int32) → Option ((Int64 × Int32) ⊕ ((Int64))) := fun (y3, y4) =>
  if z_L_places ≤ y4 then (some (.inr y3)) else ((xo_X5_going_TB z_TB_by z_L_to z_Ld_size z_TB_none a_UNIT a_L_seen a_W_likely a_TB_value n_r p_road_hours p_road_wait p_road_number g_grid x1 y4 x2).bind fun v6 =>
  (xo_X5_better_TB z_TB_none y3 v6).bind fun v8 =>
  (some (y4 + 1)).bind fun v10 =>
  some (.inl ((v8, v10))))
noncomputable def xo_X5_betters_TB_L53 (z_TB_by : Int32) (z_L_to : Int32) (z_Ld_size : Int32) (z_Lw_size : Int32) (z_TB_none : Int64) (a_UNIT : Nat → Int32) (a_Lw_data : Nat → Int32) (a_L_seen : Nat → Int32) (a_W_likely : Nat → Int64) (a_TB_value : Nat → Int64) (n_w : Nat) (p_word_place : Nat → Int32) (p_word_road : Nat → Int32) (p_word_hours : Nat → Int32) (x1 : Int32) (x2 : Int32) : (Int64 × Int32) → Option ((Int64 × Int32) ⊕ ((Int64))) := fun (y12, y13) =>
  (xo_J2_size_Lw z_Lw_size).bind fun v14 =>
  if v14 ≤ y13 then (some (.inr y12)) else ((xo_X5_buying_TB z_TB_by z_L_to z_Ld_size z_Lw_size z_TB_none a_UNIT a_Lw_data a_L_seen a_W_likely a_TB_value n_w p_word_place p_word_road p_word_hours x1 y13 x2).bind fun v17 =>
  (xo_X5_better_TB z_TB_none y12 v17).bind fun v19 =>
  (some (y13 + 1)).bind fun v21 =>
  some (.inl ((v19, v21))))
noncomputable def xo_X5_betters_TB (z_TB_by : Int32) (z_L_places : Int32) (z_L_to : Int32) (z_Ld_size : Int32) (z_Lw_size : Int32) (z_TB_none : Int64) (a_UNIT : Nat → Int32) (a_Lw_data : Nat → Int32) (a_L_seen : Nat → Int32) (a_W_likely : Nat → Int64) (a_TB_value : Nat → Int64) (n_r : Nat) (n_w : Nat) (p_road_hours : Nat → Int32) (p_road_wait : Nat → Int32) (p_road_number : Nat → Int32) (p_word_place : Nat → Int32) (p_word_road : Nat → Int32) (p_word_hours : Nat → Int32) (g_grid : Nat → Nat → Int32) (x1 : Int32) (x2 : Int32) : Option (Int32 × (Nat → Int64)) :=
  (xo_X5_value_TB a_TB_value x1 x2).bind fun v1 =>
  (loop (xo_X5_betters_TB_L13 z_TB_by z_L_places z_L_to z_Ld_size z_TB_none a_UNIT a_L_seen a_W_likely a_TB_value n_r p_road_hours p_road_wait p_road_number g_grid x1 x2) (v1, 0)).bind fun y11 =>
  (loop (xo_X5_betters_TB_L53 z_TB_by z_L_to z_Ld_size z_Lw_size z_TB_none a_UNIT a_Lw_data a_L_seen a_W_likely a_TB_value n_w p_word_place p_word_road p_word_hours x1 x2) (y11, 0)).bind fun y22 =>
  (wrL a_TB_value 7290 ((10 * x2) + x1) y22).bind fun a23 =>
  if y22 = v1 then (some (0, a23)) else (some (1, a23))
noncomputable def xo_X5_lay_2_TB_J52 (y1 : Int32) (a2 : Nat → Int64) (k4 : Int64) (k5 : Int32) : Option ((Int32 × (Nat → Int64)) ⊕ (((Nat → Int64)))) :=
  (wrL a2 7290 k5 k4).bind fun a6 =>
  (some (y1 + 1)).bind fun v7 =>
  some (.inl ((v7, a6)))
noncomputable def xo_X5_lay_2_TB_L2 (z_L_places : Int32) (z_L_to : Int32) (z_TB_none : Int64) (x1 : Int32) : (Int32 × (Nat → Int64)) → Option ((Int32 × (Nat → Int64)) ⊕ (((Nat → Int64)))) := fun (y1, a2) =>
  if z_L_places ≤ y1 then (some (.inr a2)) else (if y1 = z_L_to then ((xo_X6_end_TB x1).bind fun v9 =>
  xo_X5_lay_2_TB_J52 y1 a2 v9 ((10 * x1) + y1)) else (xo_X5_lay_2_TB_J52 y1 a2 z_TB_none ((10 * x1) + y1)))
noncomputable def xo_X5_lay_2_TB_J121 (y16 : Int32) (y19 : Int32) (a20 : Nat → Int64) : Option ((Int32 × Int32 × (Nat → Int64)) ⊕ ((Int32 × (Nat → Int64)))) :=
  (some (y16 + 1)).bind fun v21 =>
  some (.inl ((y19, v21, a20)))
noncomputable def xo_X5_lay_2_TB_L69 (z_TB_by : Int32) (z_L_places : Int32) (z_L_to : Int32) (z_Ld_size : Int32) (z_Lw_size : Int32) (z_TB_none : Int64) (a_UNIT : Nat → Int32) (a_Lw_data : Nat → Int32) (a_L_seen : Nat → Int32) (a_W_likely : Nat → Int64) (n_r : Nat) (n_w : Nat) (p_road_hours : Nat → Int32) (p_road_wait : Nat → Int32) (p_road_number : Nat → Int32) (p_word_place : Nat → Int32) (p_word_road : Nat → Int32) (p_word_hours : Nat → Int32) (g_grid : Nat → Nat → Int32) (x1 : Int32) : (Int32 × Int32 × (Nat → Int64)) → Option ((Int32 × Int32 × (Nat → Int64)) ⊕ ((Int32 × (Nat → Int64)))) := fun (y15, y16, a17) =>
  if z_L_places ≤ y16 then (some (.inr (y15, a17))) else (if y16 = z_L_to then (xo_X5_lay_2_TB_J121 y16 y15 a17) else ((xo_X3_unseen z_Ld_size a_UNIT a_L_seen y16 x1).bind fun v23 =>
  if v23 = 0 then ((xo_X5_betters_TB z_TB_by z_L_places z_L_to z_Ld_size z_Lw_size z_TB_none a_UNIT a_Lw_data a_L_seen a_W_likely a17 n_r n_w p_road_hours p_road_wait p_road_number p_word_place p_word_road p_word_hours g_grid y16 x1).bind fun (v26, a27) =>
  (some (y15 ||| v26)).bind fun v29 =>
  xo_X5_lay_2_TB_J121 y16 v29 a27) else (xo_X5_lay_2_TB_J121 y16 y15 a17)))
noncomputable def xo_X5_lay_2_TB_L61 (z_TB_by : Int32) (z_L_places : Int32) (z_L_to : Int32) (z_Ld_size : Int32) (z_Lw_size : Int32) (z_TB_none : Int64) (a_UNIT : Nat → Int32) (a_Lw_data : Nat → Int32) (a_L_seen : Nat → Int32) (a_W_likely : Nat → Int64) (n_r : Nat) (n_w : Nat) (p_road_hours : Nat → Int32) (p_road_wait : Nat → Int32) (p_road_number : Nat → Int32) (p_word_place : Nat → Int32) (p_word_road : Nat → Int32) (p_word_hours : Nat → Int32) (g_grid : Nat → Nat → Int32) (x1 : Int32) : (Int32 × (Nat → Int64)) → Option ((Int32 × (Nat → Int64)) ⊕ (((Nat → Int64)))) := fun (y12, a13) =>
  if y12 = 0 then (some (.inr a13)) else ((loop (xo_X5_lay_2_TB_L69 z_TB_by z_L_places z_L_to z_Ld_size z_Lw_size z_TB_none a_UNIT a_Lw_data a_L_seen a_W_likely n_r n_w p_road_hours p_road_wait p_road_number p_word_place p_word_road p_word_hours g_grid x1) (0, 0, a13)).bind fun (y30, a31) =>
  some (.inl ((y30, a31))))
noncomputable def xo_X5_lay_2_TB (z_TB_by : Int32) (z_L_places : Int32) (z_L_to : Int32) (z_Ld_size : Int32) (z_Lw_size : Int32) (z_TB_none : Int64) (a_UNIT : Nat → Int32) (a_Lw_data : Nat → Int32) (a_L_seen : Nat → Int32) (a_W_likely : Nat → Int64) (a_TB_value : Nat → Int64) (n_r : Nat) (n_w : Nat) (p_road_hours : Nat → Int32) (p_road_wait : Nat → Int32) (p_road_number : Nat → Int32) (p_word_place : Nat → Int32) (p_word_road : Nat → Int32) (p_word_hours : Nat → Int32) (g_grid : Nat → Nat → Int32) (x1 : Int32) : Option ((Nat → Int64)) :=
  (loop (xo_X5_lay_2_TB_L2 z_L_places z_L_to z_TB_none x1) (0, a_TB_value)).bind fun a11 =>
  (loop (xo_X5_lay_2_TB_L61 z_TB_by z_L_places z_L_to z_Ld_size z_Lw_size z_TB_none a_UNIT a_Lw_data a_L_seen a_W_likely n_r n_w p_road_hours p_road_wait p_road_number p_word_place p_word_road p_word_hours g_grid x1) (1, a11)).bind fun a32 =>
  some (a32)
noncomputable def xo_X5_lay_TB_W_J68 (y6 : Int32) (a13 : Nat → Int64) : Option ((Int32 × (Nat → Int64)) ⊕ (((Nat → Int64)))) :=
  (some (y6 + 1)).bind fun v14 =>
  some (.inl ((v14, a13)))
noncomputable def xo_X5_lay_TB_W_L26 (z_L_places : Int32) (z_L_to : Int32) (z_Ld_size : Int32) (z_Lw_size : Int32) (z_TB_none : Int64) (a_UNIT : Nat → Int32) (a_Lw_data : Nat → Int32) (a_L_seen : Nat → Int32) (a_W_likely : Nat → Int64) (n_r : Nat) (n_w : Nat) (p_road_hours : Nat → Int32) (p_road_wait : Nat → Int32) (p_road_number : Nat → Int32) (p_word_place : Nat → Int32) (p_word_road : Nat → Int32) (p_word_hours : Nat → Int32) (g_grid : Nat → Nat → Int32) (y1 : Int32) : (Int32 × (Nat → Int64)) → Option ((Int32 × (Nat → Int64)) ⊕ (((Nat → Int64)))) := fun (y6, a7) =>
  (xo_X3_knowns z_Ld_size a_UNIT).bind fun v8 =>
  if v8 ≤ y6 then (some (.inr a7)) else ((ckz 0).bind fun v11 =>
  (rdL a_W_likely 729 y6).bind fun v12 =>
  if v12 ≤ 0 then (xo_X5_lay_TB_W_J68 y6 a7) else ((xo_X5_notKnown_TB z_Ld_size a_UNIT y6).bind fun v16 =>
  if v16 = y1 then ((xo_X5_lay_2_TB 0 z_L_places z_L_to z_Ld_size z_Lw_size z_TB_none a_UNIT a_Lw_data a_L_seen a_W_likely a7 n_r n_w p_road_hours p_road_wait p_road_number p_word_place p_word_road p_word_hours g_grid y6).bind fun a19 =>
  xo_X5_lay_TB_W_J68 y6 a19) else (xo_X5_lay_TB_W_J68 y6 a7)))
noncomputable def xo_X5_lay_TB_W_L7 (z_L_places : Int32) (z_L_to : Int32) (z_Ld_size : Int32) (z_Lw_size : Int32) (z_TB_none : Int64) (a_UNIT : Nat → Int32) (a_Lw_data : Nat → Int32) (a_L_seen : Nat → Int32) (a_W_likely : Nat → Int64) (n_r : Nat) (n_w : Nat) (p_road_hours : Nat → Int32) (p_road_wait : Nat → Int32) (p_road_number : Nat → Int32) (p_word_place : Nat → Int32) (p_word_road : Nat → Int32) (p_word_hours : Nat → Int32) (g_grid : Nat → Nat → Int32) : (Int32 × (Nat → Int64)) → Option ((Int32 × (Nat → Int64)) ⊕ (((Nat → Int64)))) := fun (y1, a2) =>
  (xo_J2_size_Ld z_Ld_size).bind fun v3 =>
  if v3 < y1 then (some (.inr a2)) else ((loop (xo_X5_lay_TB_W_L26 z_L_places z_L_to z_Ld_size z_Lw_size z_TB_none a_UNIT a_Lw_data a_L_seen a_W_likely n_r n_w p_road_hours p_road_wait p_road_number p_word_place p_word_road p_word_hours g_grid y1) (0, a2)).bind fun a21 =>
  (some (y1 + 1)).bind fun v22 =>
  some (.inl ((v22, a21))))
noncomputable def xo_X5_lay_TB_W (z_TB_by : Int32) (z_L_places : Int32) (z_L_to : Int32) (z_Ld_size : Int32) (z_Lw_size : Int32) (z_TB_none : Int64) (a_UNIT : Nat → Int32) (a_Lw_data : Nat → Int32) (a_L_seen : Nat → Int32) (a_W_likely : Nat → Int64) (a_TB_value : Nat → Int64) (n_r : Nat) (n_w : Nat) (p_road_hours : Nat → Int32) (p_road_wait : Nat → Int32) (p_road_number : Nat → Int32) (p_word_place : Nat → Int32) (p_word_road : Nat → Int32) (p_word_hours : Nat → Int32) (g_grid : Nat → Nat → Int32) : Option ((Int32) × (Nat → Int64)) :=
  (loop (xo_X5_lay_TB_W_L7 z_L_places z_L_to z_Ld_size z_Lw_size z_TB_none a_UNIT a_Lw_data a_L_seen a_W_likely n_r n_w p_road_hours p_road_wait p_road_number p_word_place p_word_road p_word_hours g_grid) (0, a_TB_value)).bind fun a23 =>
  some (0, a23)
noncomputable def xo_X5_notKnown_TS_J35 (y2 : Int32) (k8 : Int32) (k9 : Int32) : Option ((Int32 × Int32) ⊕ ((Int32))) :=
  (some (k9 + k8)).bind fun v10 =>
  (some (y2 + 1)).bind fun v11 =>
  some (.inl ((v10, v11)))
noncomputable def xo_X5_notKnown_TS_L4 (z_Ld_size : Int32) (a_UNIT : Nat → Int32) (x1 : Int32) : (Int32 × Int32) → Option ((Int32 × Int32) ⊕ ((Int32))) := fun (y1, y2) =>
  (xo_J2_size_Ld z_Ld_size).bind fun v3 =>
  if v3 ≤ y2 then (some (.inr y1)) else ((xo_X1_digit a_UNIT x1 y2).bind fun v6 =>
  if v6 = 0 then (xo_X5_notKnown_TS_J35 y2 1 y1) else (xo_X5_notKnown_TS_J35 y2 0 y1))
noncomputable def xo_X5_notKnown_TS (z_Ld_size : Int32) (a_UNIT : Nat → Int32) (x1 : Int32) : Option (Int32) :=
  (loop (xo_X5_notKnown_TS_L4 z_Ld_size a_UNIT x1) (0, 0)).bind fun y13 =>
  some (y13)
noncomputable def xo_X6_isBetter_TS  (x1 : Int64) (x3 : Int64) : Option (Int32) :=
  if x3 ≤ x1 then (some (0)) else (some (1))
noncomputable def xo_X5_better_TS_J31 (x1 : Int64) : Option (Int64) :=
  some (x1)
noncomputable def xo_X5_better_TS_J27 (x3 : Int64) : Option (Int64) :=
  some (x3)
noncomputable def xo_X5_better_TS (z_TS_none : Int64) (x1 : Int64) (x3 : Int64) : Option (Int64) :=
  if x3 = z_TS_none then (xo_X5_better_TS_J31 x1) else (if x1 = z_TS_none then (xo_X5_better_TS_J27 x3) else ((xo_X6_isBetter_TS x3 x1).bind fun v3 =>
  if v3 = 0 then (xo_X5_better_TS_J31 x1) else (xo_X5_better_TS_J27 x3)))
noncomputable def xo_X5_betters_TS_L13 (z_TS_by : Int32) (z_L_places : Int32) (z_L_to : Int32) (z_Ld_size : Int32) (z_TS_none : Int64) (a_UNIT : Nat → Int32) (a_L_seen : Nat → Int32) (a_W_likely : Nat → Int64) (a_TS_value : Nat → Int64) (n_r : Nat) (p_road_hours : Nat → Int32) (p_road_wait : Nat → Int32) (p_road_number : Nat → Int32) (g_grid : Nat → Nat → Int32) (x1 : Int32) (x2 : Int32) : (Int64 × Int32) → Option ((Int64 × Int32) ⊕ ((Int64))) := fun (y3, y4) =>
  if z_L_places ≤ y4 then (some (.inr y3)) else ((xo_X5_going_TS z_TS_by z_L_to z_Ld_size z_TS_none a_UNIT a_L_seen a_W_likely a_TS_value n_r p_road_hours p_road_wait p_road_number g_grid x1 y4 x2).bind fun v6 =>
  (xo_X5_better_TS z_TS_none y3 v6).bind fun v8 =>
  (some (y4 + 1)).bind fun v10 =>
  some (.inl ((v8, v10))))
noncomputable def xo_X5_betters_TS_L53 (z_TS_by : Int32) (z_L_to : Int32) (z_Ld_size : Int32) (z_Lw_size : Int32) (z_TS_none : Int64) (a_UNIT : Nat → Int32) (a_Lw_data : Nat → Int32) (a_L_seen : Nat → Int32) (a_W_likely : Nat → Int64) (a_TS_value : Nat → Int64) (n_w : Nat) (p_word_place : Nat → Int32) (p_word_road : Nat → Int32) (p_word_hours : Nat → Int32) (x1 : Int32) (x2 : Int32) : (Int64 × Int32) → Option ((Int64 × Int32) ⊕ ((Int64))) := fun (y12, y13) =>
  (xo_J2_size_Lw z_Lw_size).bind fun v14 =>
  if v14 ≤ y13 then (some (.inr y12)) else ((xo_X5_buying_TS z_TS_by z_L_to z_Ld_size z_Lw_size z_TS_none a_UNIT a_Lw_data a_L_seen a_W_likely a_TS_value n_w p_word_place p_word_road p_word_hours x1 y13 x2).bind fun v17 =>
  (xo_X5_better_TS z_TS_none y12 v17).bind fun v19 =>
  (some (y13 + 1)).bind fun v21 =>
  some (.inl ((v19, v21))))
noncomputable def xo_X5_betters_TS (z_TS_by : Int32) (z_L_places : Int32) (z_L_to : Int32) (z_Ld_size : Int32) (z_Lw_size : Int32) (z_TS_none : Int64) (a_UNIT : Nat → Int32) (a_Lw_data : Nat → Int32) (a_L_seen : Nat → Int32) (a_W_likely : Nat → Int64) (a_TS_value : Nat → Int64) (n_r : Nat) (n_w : Nat) (p_road_hours : Nat → Int32) (p_road_wait : Nat → Int32) (p_road_number : Nat → Int32) (p_word_place : Nat → Int32) (p_word_road : Nat → Int32) (p_word_hours : Nat → Int32) (g_grid : Nat → Nat → Int32) (x1 : Int32) (x2 : Int32) : Option (Int32 × (Nat → Int64)) :=
  (xo_X5_value_TS a_TS_value x1 x2).bind fun v1 =>
  (loop (xo_X5_betters_TS_L13 z_TS_by z_L_places z_L_to z_Ld_size z_TS_none a_UNIT a_L_seen a_W_likely a_TS_value n_r p_road_hours p_road_wait p_road_number g_grid x1 x2) (v1, 0)).bind fun y11 =>
  (loop (xo_X5_betters_TS_L53 z_TS_by z_L_to z_Ld_size z_Lw_size z_TS_none a_UNIT a_Lw_data a_L_seen a_W_likely a_TS_value n_w p_word_place p_word_road p_word_hours x1 x2) (y11, 0)).bind fun y22 =>
  (wrL a_TS_value 7290 ((10 * x2) + x1) y22).bind fun a23 =>
  if y22 = v1 then (some (0, a23)) else (some (1, a23))
noncomputable def xo_X5_lay_2_TS_J52 (y1 : Int32) (a2 : Nat → Int64) (k4 : Int64) (k5 : Int32) : Option ((Int32 × (Nat → Int64)) ⊕ (((Nat → Int64)))) :=
  (wrL a2 7290 k5 k4).bind fun a6 =>
  (some (y1 + 1)).bind fun v7 =>
  some (.inl ((v7, a6)))
noncomputable def xo_X5_lay_2_TS_L2 (z_L_places : Int32) (z_L_to : Int32) (z_TS_none : Int64) (x1 : Int32) : (Int32 × (Nat → Int64)) → Option ((Int32 × (Nat → Int64)) ⊕ (((Nat → Int64)))) := fun (y1, a2) =>
  if z_L_places ≤ y1 then (some (.inr a2)) else (if y1 = z_L_to then ((xo_X6_end_TS x1).bind fun v9 =>
  xo_X5_lay_2_TS_J52 y1 a2 v9 ((10 * x1) + y1)) else (xo_X5_lay_2_TS_J52 y1 a2 z_TS_none ((10 * x1) + y1)))
noncomputable def xo_X5_lay_2_TS_J121 (y16 : Int32) (y19 : Int32) (a20 : Nat → Int64) : Option ((Int32 × Int32 × (Nat → Int64)) ⊕ ((Int32 × (Nat → Int64)))) :=
  (some (y16 + 1)).bind fun v21 =>
  some (.inl ((y19, v21, a20)))
noncomputable def xo_X5_lay_2_TS_L69 (z_TS_by : Int32) (z_L_places : Int32) (z_L_to : Int32) (z_Ld_size : Int32) (z_Lw_size : Int32) (z_TS_none : Int64) (a_UNIT : Nat → Int32) (a_Lw_data : Nat → Int32) (a_L_seen : Nat → Int32) (a_W_likely : Nat → Int64) (n_r : Nat) (n_w : Nat) (p_road_hours : Nat → Int32) (p_road_wait : Nat → Int32) (p_road_number : Nat → Int32) (p_word_place : Nat → Int32) (p_word_road : Nat → Int32) (p_word_hours : Nat → Int32) (g_grid : Nat → Nat → Int32) (x1 : Int32) : (Int32 × Int32 × (Nat → Int64)) → Option ((Int32 × Int32 × (Nat → Int64)) ⊕ ((Int32 × (Nat → Int64)))) := fun (y15, y16, a17) =>
  if z_L_places ≤ y16 then (some (.inr (y15, a17))) else (if y16 = z_L_to then (xo_X5_lay_2_TS_J121 y16 y15 a17) else ((xo_X3_unseen z_Ld_size a_UNIT a_L_seen y16 x1).bind fun v23 =>
  if v23 = 0 then ((xo_X5_betters_TS z_TS_by z_L_places z_L_to z_Ld_size z_Lw_size z_TS_none a_UNIT a_Lw_data a_L_seen a_W_likely a17 n_r n_w p_road_hours p_road_wait p_road_number p_word_place p_word_road p_word_hours g_grid y16 x1).bind fun (v26, a27) =>
  (some (y15 ||| v26)).bind fun v29 =>
  xo_X5_lay_2_TS_J121 y16 v29 a27) else (xo_X5_lay_2_TS_J121 y16 y15 a17)))
noncomputable def xo_X5_lay_2_TS_L61 (z_TS_by : Int32) (z_L_places : Int32) (z_L_to : Int32) (z_Ld_size : Int32) (z_Lw_size : Int32) (z_TS_none : Int64) (a_UNIT : Nat → Int32) (a_Lw_data : Nat → Int32) (a_L_seen : Nat → Int32) (a_W_likely : Nat → Int64) (n_r : Nat) (n_w : Nat) (p_road_hours : Nat → Int32) (p_road_wait : Nat → Int32) (p_road_number : Nat → Int32) (p_word_place : Nat → Int32) (p_word_road : Nat → Int32) (p_word_hours : Nat → Int32) (g_grid : Nat → Nat → Int32) (x1 : Int32) : (Int32 × (Nat → Int64)) → Option ((Int32 × (Nat → Int64)) ⊕ (((Nat → Int64)))) := fun (y12, a13) =>
  if y12 = 0 then (some (.inr a13)) else ((loop (xo_X5_lay_2_TS_L69 z_TS_by z_L_places z_L_to z_Ld_size z_Lw_size z_TS_none a_UNIT a_Lw_data a_L_seen a_W_likely n_r n_w p_road_hours p_road_wait p_road_number p_word_place p_word_road p_word_hours g_grid x1) (0, 0, a13)).bind fun (y30, a31) =>
  some (.inl ((y30, a31))))
noncomputable def xo_X5_lay_2_TS (z_TS_by : Int32) (z_L_places : Int32) (z_L_to : Int32) (z_Ld_size : Int32) (z_Lw_size : Int32) (z_TS_none : Int64) (a_UNIT : Nat → Int32) (a_Lw_data : Nat → Int32) (a_L_seen : Nat → Int32) (a_W_likely : Nat → Int64) (a_TS_value : Nat → Int64) (n_r : Nat) (n_w : Nat) (p_road_hours : Nat → Int32) (p_road_wait : Nat → Int32) (p_road_number : Nat → Int32) (p_word_place : Nat → Int32) (p_word_road : Nat → Int32) (p_word_hours : Nat → Int32) (g_grid : Nat → Nat → Int32) (x1 : Int32) : Option ((Nat → Int64)) :=
  (loop (xo_X5_lay_2_TS_L2 z_L_places z_L_to z_TS_none x1) (0, a_TS_value)).bind fun a11 =>
  (loop (xo_X5_lay_2_TS_L61 z_TS_by z_L_places z_L_to z_Ld_size z_Lw_size z_TS_none a_UNIT a_Lw_data a_L_seen a_W_likely n_r n_w p_road_hours p_road_wait p_road_number p_word_place p_word_road p_word_hours g_grid x1) (1, a11)).bind fun a32 =>
  some (a32)
noncomputable def xo_X5_lay_TS_W_J68 (y6 : Int32) (a13 : Nat → Int64) : Option ((Int32 × (Nat → Int64)) ⊕ (((Nat → Int64)))) :=
  (some (y6 + 1)).bind fun v14 =>
  some (.inl ((v14, a13)))
noncomputable def xo_X5_lay_TS_W_L26 (z_L_places : Int32) (z_L_to : Int32) (z_Ld_size : Int32) (z_Lw_size : Int32) (z_TS_none : Int64) (a_UNIT : Nat → Int32) (a_Lw_data : Nat → Int32) (a_L_seen : Nat → Int32) (a_W_likely : Nat → Int64) (n_r : Nat) (n_w : Nat) (p_road_hours : Nat → Int32) (p_road_wait : Nat → Int32) (p_road_number : Nat → Int32) (p_word_place : Nat → Int32) (p_word_road : Nat → Int32) (p_word_hours : Nat → Int32) (g_grid : Nat → Nat → Int32) (y1 : Int32) : (Int32 × (Nat → Int64)) → Option ((Int32 × (Nat → Int64)) ⊕ (((Nat → Int64)))) := fun (y6, a7) =>
  (xo_X3_knowns z_Ld_size a_UNIT).bind fun v8 =>
  if v8 ≤ y6 then (some (.inr a7)) else ((ckz 0).bind fun v11 =>
  (rdL a_W_likely 729 y6).bind fun v12 =>
  if v12 ≤ 0 then (xo_X5_lay_TS_W_J68 y6 a7) else ((xo_X5_notKnown_TS z_Ld_size a_UNIT y6).bind fun v16 =>
  if v16 = y1 then ((xo_X5_lay_2_TS 0 z_L_places z_L_to z_Ld_size z_Lw_size z_TS_none a_UNIT a_Lw_data a_L_seen a_W_likely a7 n_r n_w p_road_hours p_road_wait p_road_number p_word_place p_word_road p_word_hours g_grid y6).bind fun a19 =>
  xo_X5_lay_TS_W_J68 y6 a19) else (xo_X5_lay_TS_W_J68 y6 a7)))
noncomputable def xo_X5_lay_TS_W_L7 (z_L_places : Int32) (z_L_to : Int32) (z_Ld_size : Int32) (z_Lw_size : Int32) (z_TS_none : Int64) (a_UNIT : Nat → Int32) (a_Lw_data : Nat → Int32) (a_L_seen : Nat → Int32) (a_W_likely : Nat → Int64) (n_r : Nat) (n_w : Nat) (p_road_hours : Nat → Int32) (p_road_wait : Nat → Int32) (p_road_number : Nat → Int32) (p_word_place : Nat → Int32) (p_word_road : Nat → Int32) (p_word_hours : Nat → Int32) (g_grid : Nat → Nat → Int32) : (Int32 × (Nat → Int64)) → Option ((Int32 × (Nat → Int64)) ⊕ (((Nat → Int64)))) := fun (y1, a2) =>
  (xo_J2_size_Ld z_Ld_size).bind fun v3 =>
  if v3 < y1 then (some (.inr a2)) else ((loop (xo_X5_lay_TS_W_L26 z_L_places z_L_to z_Ld_size z_Lw_size z_TS_none a_UNIT a_Lw_data a_L_seen a_W_likely n_r n_w p_road_hours p_road_wait p_road_number p_word_place p_word_road p_word_hours g_grid y1) (0, a2)).bind fun a21 =>
  (some (y1 + 1)).bind fun v22 =>
  some (.inl ((v22, a21))))
noncomputable def xo_X5_lay_TS_W (z_TS_by : Int32) (z_L_places : Int32) (z_L_to : Int32) (z_Ld_size : Int32) (z_Lw_size : Int32) (z_TS_none : Int64) (a_UNIT : Nat → Int32) (a_Lw_data : Nat → Int32) (a_L_seen : Nat → Int32) (a_W_likely : Nat → Int64) (a_TS_value : Nat → Int64) (n_r : Nat) (n_w : Nat) (p_road_hours : Nat → Int32) (p_road_wait : Nat → Int32) (p_road_number : Nat → Int32) (p_word_place : Nat → Int32) (p_word_road : Nat → Int32) (p_word_hours : Nat → Int32) (g_grid : Nat → Nat → Int32) : Option ((Int32) × (Nat → Int64)) :=
  (loop (xo_X5_lay_TS_W_L7 z_L_places z_L_to z_Ld_size z_Lw_size z_TS_none a_UNIT a_Lw_data a_L_seen a_W_likely n_r n_w p_road_hours p_road_wait p_road_number p_word_place p_word_road p_word_hours g_grid) (0, a_TS_value)).bind fun a23 =>
  some (0, a23)
noncomputable def xo_X1_hoursOf_L4 (z_Ld_size : Int32) (a_UNIT : Nat → Int32) (x1 : Int32) : (Int32 × Int32) → Option ((Int32 × Int32) ⊕ ((Int32))) := fun (y1, y2) =>
  (xo_J2_size_Ld z_Ld_size).bind fun v3 =>
  if v3 ≤ y2 then (some (.inr y1)) else ((xo_X1_with a_UNIT y1 y2 (1 + ((x1 >>> (y2 &&& 31)) &&& 1))).bind fun v6 =>
  (some (y2 + 1)).bind fun v8 =>
  some (.inl ((v6, v8))))
noncomputable def xo_X1_hoursOf_L48 (z_L_places : Int32) (z_L_to : Int32) (a_UNIT : Nat → Int32) (n_r : Nat) (p_road_hours : Nat → Int32) (p_road_wait : Nat → Int32) (p_road_number : Nat → Int32) (g_grid : Nat → Nat → Int32) (y9 : Int32) : (Int32 × Int32 × (Nat → Int32)) → Option ((Int32 × Int32 × (Nat → Int32)) ⊕ (((Nat → Int32)) ⊕ (Int32 × (Nat → Int32)))) := fun (y10, y11, a12) =>
  if y10 = z_L_to then (some (.inr (.inr (y11, a12)))) else ((xo_X10_next_p3 z_L_places z_L_to a12 a_UNIT n_r p_road_hours p_road_wait p_road_number g_grid y10 y9).bind fun (v14, a15) =>
  if v14 = (-2) then (some (.inr (.inl a15))) else ((xo_X3_cost a_UNIT n_r p_road_hours p_road_wait p_road_number g_grid y10 v14 y9).bind fun v18 =>
  (some (y11 + v18)).bind fun v20 =>
  some (.inl ((v14, v20, a15)))))
noncomputable def xo_X1_hoursOf (z_L_places : Int32) (z_L_from : Int32) (z_L_to : Int32) (z_Ld_size : Int32) (a_p3_far : Nat → Int32) (a_UNIT : Nat → Int32) (n_r : Nat) (p_road_hours : Nat → Int32) (p_road_wait : Nat → Int32) (p_road_number : Nat → Int32) (g_grid : Nat → Nat → Int32) (x1 : Int32) : Option (Int32 × (Nat → Int32)) :=
  (loop (xo_X1_hoursOf_L4 z_Ld_size a_UNIT x1) (0, 0)).bind fun y9 =>
  (loop (xo_X1_hoursOf_L48 z_L_places z_L_to a_UNIT n_r p_road_hours p_road_wait p_road_number g_grid y9) (z_L_from, 0, a_p3_far)).bind (sE (fun a21 =>
  some ((-2), a21)) (fun (y22, a23) =>
  some (y22, a23)))
noncomputable def xo_X1_lay_L61 (z_L_places : Int32) (z_L_from : Int32) (z_L_to : Int32) (z_Ld_size : Int32) (a_UNIT : Nat → Int32) (n_r : Nat) (p_road_hours : Nat → Int32) (p_road_wait : Nat → Int32) (p_road_number : Nat → Int32) (g_grid : Nat → Nat → Int32) : (Int32 × (Nat → Int32) × (Nat → Int32)) → Option ((Int32 × (Nat → Int32) × (Nat → Int32)) ⊕ (((Nat → Int32) × (Nat → Int32)))) := fun (y15, a16, a17) =>
  (xo_X3_worlds z_Ld_size).bind fun v18 =>
  if v18 ≤ y15 then (some (.inr (a16, a17))) else ((xo_X1_hoursOf z_L_places z_L_from z_L_to z_Ld_size a17 a_UNIT n_r p_road_hours p_road_wait p_road_number g_grid y15).bind fun (v21, a22) =>
  (wrI a16 64 y15 v21).bind fun a24 =>
  (some (y15 + 1)).bind fun v25 =>
  some (.inl ((v25, a24, a22))))
noncomputable def xo_X1_lay (z_X_isLaid : Int32) (z_TB_by : Int32) (z_TS_by : Int32) (z_L_places : Int32) (z_L_causes : Int32) (z_L_from : Int32) (z_L_to : Int32) (z_Ld_size : Int32) (z_Lw_size : Int32) (z_W_all : Int64) (z_TB_none : Int64) (z_TS_none : Int64) (a_X_knowing : Nat → Int32) (a_p3_far : Nat → Int32) (a_UNIT : Nat → Int32) (a_Ld_data : Nat → Int32) (a_Lw_data : Nat → Int32) (a_L_comes : Nat → Int32) (a_L_seen : Nat → Int32) (a_W_world : Nat → Int64) (a_W_likely : Nat → Int64) (a_TB_value : Nat → Int64) (a_TS_value : Nat → Int64) (n_r : Nat) (n_w : Nat) (p_road_hours : Nat → Int32) (p_road_doubt : Nat → Int32) (p_road_cause : Nat → Int32) (p_road_wait : Nat → Int32) (p_road_number : Nat → Int32) (p_word_place : Nat → Int32) (p_word_road : Nat → Int32) (p_word_hours : Nat → Int32) (g_grid : Nat → Nat → Int32) : Option ((Int32) × (Int32) × (Int32) × (Int64) × (Nat → Int32) × (Nat → Int32) × (Nat → Int64) × (Nat → Int64) × (Nat → Int64) × (Nat → Int64)) :=
  if z_X_isLaid = 0 then ((xo_X4_lay_W z_L_causes z_Ld_size z_W_all a_UNIT a_Ld_data a_L_comes a_W_world a_W_likely n_r p_road_doubt p_road_cause (-1) 0).bind fun (z2, a3, a4) =>
  (xo_X3_isWhole z_L_from z_L_to).bind fun v6 =>
  if v6 = 0 then (some (1, z_TB_by, z_TS_by, z2, a_X_knowing, a_p3_far, a3, a4, a_TB_value, a_TS_value)) else ((xo_X5_lay_TB_W z_TB_by z_L_places z_L_to z_Ld_size z_Lw_size z_TB_none a_UNIT a_Lw_data a_L_seen a4 a_TB_value n_r n_w p_road_hours p_road_wait p_road_number p_word_place p_word_road p_word_hours g_grid).bind fun (z9, a10) =>
  (xo_X5_lay_TS_W z_TS_by z_L_places z_L_to z_Ld_size z_Lw_size z_TS_none a_UNIT a_Lw_data a_L_seen a4 a_TS_value n_r n_w p_road_hours p_road_wait p_road_number p_word_place p_word_road p_word_hours g_grid).bind fun (z12, a13) =>
  (loop (xo_X1_lay_L61 z_L_places z_L_from z_L_to z_Ld_size a_UNIT n_r p_road_hours p_road_wait p_road_number g_grid) (0, a_X_knowing, a_p3_far)).bind fun (a26, a27) =>
  some (1, z9, z12, z2, a26, a27, a3, a4, a10, a13))) else (some (z_X_isLaid, z_TB_by, z_TS_by, z_W_all, a_X_knowing, a_p3_far, a_W_world, a_W_likely, a_TB_value, a_TS_value))
noncomputable def xo_X1_cell  (x0 : Int32) (x1 : Int32) (x2 : Int32) : Option (Int32) :=
  some ((49 * ((10 * x1) + x0)) + x2)
noncomputable def xo_X1_over_B (f_X1_over : Int32 → Int32 → Int32 → Int32 → Option (Int64)) (z_L_to : Int32) (a_UNIT : Nat → Int32) (a_X_sums : Nat → Int64) (a_W_likely : Nat → Int64) (x1 : Int32) (x2 : Int32) (x3 : Int32) (x4 : Int32) : Option (Int64) :=
  (rdL a_W_likely 729 x3).bind fun v1 =>
  if v1 = 0 then (some (0)) else (if x2 = z_L_to then ((rdL a_W_likely 729 x3).bind fun v19 =>
  some (v19)) else (if x1 = 0 then ((xo_X1_cell x2 x3 x4).bind fun v16 =>
  (rdL a_X_sums 357210 v16).bind fun v18 =>
  some (v18)) else ((xo_J17_numberOfTrailingZeros x1).bind fun v5 =>
  (some (x1 &&& ((1 <<< (v5 &&& 31)) ^^^ (-1)))).bind fun v7 =>
  (xo_X1_with a_UNIT x3 v5 1).bind fun v8 =>
  (f_X1_over v7 x2 v8 x4).bind fun v10 =>
  (xo_X1_with a_UNIT x3 v5 2).bind fun v12 =>
  (f_X1_over v7 x2 v12 x4).bind fun v14 =>
  some (v10 + v14))))
noncomputable def xg_O (z_L_to : Int32) (a_UNIT : Nat → Int32) (a_X_sums : Nat → Int64) (a_W_likely : Nat → Int64) : Nat → ((Int32 → Int32 → Int32 → Int32 → Option (Int64)))
  | 0 => (fun _ _ _ _ => none)
  | d + 1 => xo_X1_over_B (xg_O z_L_to a_UNIT a_X_sums a_W_likely d) z_L_to a_UNIT a_X_sums a_W_likely
noncomputable def xo_X1_inTime_J65 (y2 : Int32) (y6 : Int64) : Option ((Int64 × Int32) ⊕ ((Int64))) :=
  (some (y2 + 1)).bind fun v7 =>
  some (.inl ((y6, v7)))
noncomputable def xo_X1_inTime_L6 (z_L_places : Int32) (z_L_to : Int32) (z_Ld_size : Int32) (a_UNIT : Nat → Int32) (a_L_seen : Nat → Int32) (a_X_sums : Nat → Int64) (a_W_likely : Nat → Int64) (n_r : Nat) (p_road_hours : Nat → Int32) (p_road_wait : Nat → Int32) (p_road_number : Nat → Int32) (g_grid : Nat → Nat → Int32) (x1 : Int32) (x2 : Int32) (x3 : Int32) : (Int64 × Int32) → Option ((Int64 × Int32) ⊕ ((Int64))) := fun (y1, y2) =>
  if z_L_places ≤ y2 then (some (.inr y1)) else ((xo_X3_cost a_UNIT n_r p_road_hours p_road_wait p_road_number g_grid x1 y2 x2).bind fun v4 =>
  if x3 < v4 then (xo_X1_inTime_J65 y2 y1) else ((xo_X3_unseen z_Ld_size a_UNIT a_L_seen y2 x2).bind fun v9 =>
  ((xg_O z_L_to a_UNIT a_X_sums a_W_likely 10) v9 y2 x2 (x3 - v4)).bind fun v11 =>
  (some (if v11 < y1 then y1 else v11)).bind fun v13 =>
  xo_X1_inTime_J65 y2 v13))
noncomputable def xo_X1_inTime_J163 (y16 : Int32) (y24 : Int64) : Option ((Int64 × Int32) ⊕ ((Int64))) :=
  (some (y16 + 1)).bind fun v25 =>
  some (.inl ((y24, v25)))
noncomputable def xo_X1_inTime_L74 (z_L_to : Int32) (z_Lw_size : Int32) (a_UNIT : Nat → Int32) (a_Lw_data : Nat → Int32) (a_X_sums : Nat → Int64) (a_W_likely : Nat → Int64) (n_w : Nat) (p_word_place : Nat → Int32) (p_word_road : Nat → Int32) (p_word_hours : Nat → Int32) (x1 : Int32) (x2 : Int32) (x3 : Int32) : (Int64 × Int32) → Option ((Int64 × Int32) ⊕ ((Int64))) := fun (y15, y16) =>
  (xo_J2_size_Lw z_Lw_size).bind fun v17 =>
  if v17 ≤ y16 then (some (.inr y15)) else ((xo_J2_get_Lw z_Lw_size a_Lw_data y16).bind fun v20 =>
  (ixI n_w v20).bind fun v22 =>
  (rdI p_word_place n_w v22).bind fun v23 =>
  if v23 = x1 then ((rdI p_word_road n_w v22).bind fun v27 =>
  (xo_X1_digit a_UNIT x2 v27).bind fun v28 =>
  if v28 = 0 then ((rdI p_word_hours n_w v22).bind fun v31 =>
  if x3 < v31 then (xo_X1_inTime_J163 y16 y15) else ((rdI p_word_road n_w v22).bind fun v33 =>
  (rdI p_word_hours n_w v22).bind fun v34 =>
  ((xg_O z_L_to a_UNIT a_X_sums a_W_likely 10) (1 <<< (v33 &&& 31)) x1 x2 (x3 - v34)).bind fun v35 =>
  (some (if v35 < y15 then y15 else v35)).bind fun v37 =>
  xo_X1_inTime_J163 y16 v37)) else (xo_X1_inTime_J163 y16 y15)) else (xo_X1_inTime_J163 y16 y15))
noncomputable def xo_X1_inTime (z_L_places : Int32) (z_L_to : Int32) (z_Ld_size : Int32) (z_Lw_size : Int32) (a_UNIT : Nat → Int32) (a_Lw_data : Nat → Int32) (a_L_seen : Nat → Int32) (a_X_sums : Nat → Int64) (a_W_likely : Nat → Int64) (n_r : Nat) (n_w : Nat) (p_road_hours : Nat → Int32) (p_road_wait : Nat → Int32) (p_road_number : Nat → Int32) (p_word_place : Nat → Int32) (p_word_road : Nat → Int32) (p_word_hours : Nat → Int32) (g_grid : Nat → Nat → Int32) (x1 : Int32) (x2 : Int32) (x3 : Int32) : Option (Int64) :=
  (loop (xo_X1_inTime_L6 z_L_places z_L_to z_Ld_size a_UNIT a_L_seen a_X_sums a_W_likely n_r p_road_hours p_road_wait p_road_number g_grid x1 x2 x3) (0, 0)).bind fun y14 =>
  (loop (xo_X1_inTime_L74 z_L_to z_Lw_size a_UNIT a_Lw_data a_X_sums a_W_likely n_w p_word_place p_word_road p_word_hours x1 x2 x3) (y14, 0)).bind fun y38 =>
  some (y38)
noncomputable def xo_X1_ring_3_J159 (y6 : Int32) (a12 : Nat → Int64) : Option ((Int32 × (Nat → Int64)) ⊕ (((Nat → Int64)))) :=
  (some (y6 + 1)).bind fun v13 =>
  some (.inl ((v13, a12)))
noncomputable def xo_X1_ring_3_J146 (y21 : Int32) (a22 : Nat → Int64) (k26 : Int64) (k27 : Int32) : Option ((Int32 × (Nat → Int64)) ⊕ (((Nat → Int64)))) :=
  (wrL a22 357210 k27 k26).bind fun a28 =>
  (some (y21 + 1)).bind fun v29 =>
  some (.inl ((v29, a28)))
noncomputable def xo_X1_ring_3_L74 (z_L_places : Int32) (z_L_to : Int32) (z_Ld_size : Int32) (z_Lw_size : Int32) (a_UNIT : Nat → Int32) (a_Lw_data : Nat → Int32) (a_L_seen : Nat → Int32) (a_W_likely : Nat → Int64) (n_r : Nat) (n_w : Nat) (p_road_hours : Nat → Int32) (p_road_wait : Nat → Int32) (p_road_number : Nat → Int32) (p_word_place : Nat → Int32) (p_word_road : Nat → Int32) (p_word_hours : Nat → Int32) (g_grid : Nat → Nat → Int32) (y6 : Int32) (y18 : Int32) : (Int32 × (Nat → Int64)) → Option ((Int32 × (Nat → Int64)) ⊕ (((Nat → Int64)))) := fun (y21, a22) =>
  if z_L_places ≤ y21 then (some (.inr a22)) else ((xo_X1_cell y21 y6 y18).bind fun v24 =>
  if y21 = z_L_to then ((rdL a_W_likely 729 y6).bind fun v36 =>
  xo_X1_ring_3_J146 y21 a22 v36 v24) else ((xo_X3_unseen z_Ld_size a_UNIT a_L_seen y21 y6).bind fun v31 =>
  if v31 = 0 then ((xo_X1_inTime z_L_places z_L_to z_Ld_size z_Lw_size a_UNIT a_Lw_data a_L_seen a22 a_W_likely n_r n_w p_road_hours p_road_wait p_road_number p_word_place p_word_road p_word_hours g_grid y21 y6 y18).bind fun v34 =>
  xo_X1_ring_3_J146 y21 a22 v34 v24) else (xo_X1_ring_3_J146 y21 a22 0 v24)))
noncomputable def xo_X1_ring_3_L65 (z_L_places : Int32) (z_L_to : Int32) (z_Ld_size : Int32) (z_Lw_size : Int32) (a_UNIT : Nat → Int32) (a_Lw_data : Nat → Int32) (a_L_seen : Nat → Int32) (a_W_likely : Nat → Int64) (n_r : Nat) (n_w : Nat) (p_road_hours : Nat → Int32) (p_road_wait : Nat → Int32) (p_road_number : Nat → Int32) (p_word_place : Nat → Int32) (p_word_road : Nat → Int32) (p_word_hours : Nat → Int32) (g_grid : Nat → Nat → Int32) (y6 : Int32) : (Int32 × (Nat → Int64)) → Option ((Int32 × (Nat → Int64)) ⊕ (((Nat → Int64)))) := fun (y18, a19) =>
  if 48 < y18 then (some (.inr a19)) else ((loop (xo_X1_ring_3_L74 z_L_places z_L_to z_Ld_size z_Lw_size a_UNIT a_Lw_data a_L_seen a_W_likely n_r n_w p_road_hours p_road_wait p_road_number p_word_place p_word_road p_word_hours g_grid y6 y18) (0, a19)).bind fun a37 =>
  (some (y18 + 1)).bind fun v38 =>
  some (.inl ((v38, a37))))
noncomputable def xo_X1_ring_3_L23 (z_L_places : Int32) (z_L_to : Int32) (z_Ld_size : Int32) (z_Lw_size : Int32) (a_UNIT : Nat → Int32) (a_Lw_data : Nat → Int32) (a_L_seen : Nat → Int32) (a_W_likely : Nat → Int64) (n_r : Nat) (n_w : Nat) (p_road_hours : Nat → Int32) (p_road_wait : Nat → Int32) (p_road_number : Nat → Int32) (p_word_place : Nat → Int32) (p_word_road : Nat → Int32) (p_word_hours : Nat → Int32) (g_grid : Nat → Nat → Int32) (y1 : Int32) : (Int32 × (Nat → Int64)) → Option ((Int32 × (Nat → Int64)) ⊕ (((Nat → Int64)))) := fun (y6, a7) =>
  (xo_X3_knowns z_Ld_size a_UNIT).bind fun v8 =>
  if v8 ≤ y6 then (some (.inr a7)) else ((rdL a_W_likely 729 y6).bind fun v11 =>
  if v11 = 0 then (xo_X1_ring_3_J159 y6 a7) else ((xo_X5_notKnown_TB z_Ld_size a_UNIT y6).bind fun v15 =>
  if v15 = y1 then ((loop (xo_X1_ring_3_L65 z_L_places z_L_to z_Ld_size z_Lw_size a_UNIT a_Lw_data a_L_seen a_W_likely n_r n_w p_road_hours p_road_wait p_road_number p_word_place p_word_road p_word_hours g_grid y6) (0, a7)).bind fun a39 =>
  xo_X1_ring_3_J159 y6 a39) else (xo_X1_ring_3_J159 y6 a7)))
noncomputable def xo_X1_ring_3_L7 (z_L_places : Int32) (z_L_to : Int32) (z_Ld_size : Int32) (z_Lw_size : Int32) (a_UNIT : Nat → Int32) (a_Lw_data : Nat → Int32) (a_L_seen : Nat → Int32) (a_W_likely : Nat → Int64) (n_r : Nat) (n_w : Nat) (p_road_hours : Nat → Int32) (p_road_wait : Nat → Int32) (p_road_number : Nat → Int32) (p_word_place : Nat → Int32) (p_word_road : Nat → Int32) (p_word_hours : Nat → Int32) (g_grid : Nat → Nat → Int32) : (Int32 × (Nat → Int64)) → Option ((Int32 × (Nat → Int64)) ⊕ (((Nat → Int64)))) := fun (y1, a2) =>
  (xo_J2_size_Ld z_Ld_size).bind fun v3 =>
  if v3 < y1 then (some (.inr a2)) else ((loop (xo_X1_ring_3_L23 z_L_places z_L_to z_Ld_size z_Lw_size a_UNIT a_Lw_data a_L_seen a_W_likely n_r n_w p_road_hours p_road_wait p_road_number p_word_place p_word_road p_word_hours g_grid y1) (0, a2)).bind fun a40 =>
  (some (y1 + 1)).bind fun v41 =>
  some (.inl ((v41, a40))))
noncomputable def xo_X1_ring_3 (z_X_hasBell : Int32) (z_L_places : Int32) (z_L_to : Int32) (z_Ld_size : Int32) (z_Lw_size : Int32) (a_UNIT : Nat → Int32) (a_Lw_data : Nat → Int32) (a_L_seen : Nat → Int32) (a_X_sums : Nat → Int64) (a_W_likely : Nat → Int64) (n_r : Nat) (n_w : Nat) (p_road_hours : Nat → Int32) (p_road_wait : Nat → Int32) (p_road_number : Nat → Int32) (p_word_place : Nat → Int32) (p_word_road : Nat → Int32) (p_word_hours : Nat → Int32) (g_grid : Nat → Nat → Int32) : Option ((Int32) × (Nat → Int64)) :=
  (loop (xo_X1_ring_3_L7 z_L_places z_L_to z_Ld_size z_Lw_size a_UNIT a_Lw_data a_L_seen a_W_likely n_r n_w p_road_hours p_road_wait p_road_number p_word_place p_word_road p_word_hours g_grid) (0, a_X_sums)).bind fun a42 =>
  some (1, a42)
noncomputable def xo_X1_bell_J20 (z_X_isLaid : Int32) (z_X_hasBell : Int32) (z_TB_by : Int32) (z_TS_by : Int32) (z_W_all : Int64) (a_X_knowing : Nat → Int32) (a_p3_far : Nat → Int32) (a_X_sums : Nat → Int64) (a_W_world : Nat → Int64) (a_W_likely : Nat → Int64) (a_TB_value : Nat → Int64) (a_TS_value : Nat → Int64) : Option (Int64 × (Int32) × (Int32) × (Int32) × (Int32) × (Int64) × (Nat → Int32) × (Nat → Int32) × (Nat → Int64) × (Nat → Int64) × (Nat → Int64) × (Nat → Int64) × (Nat → Int64)) :=
  some ((-1), z_X_isLaid, z_X_hasBell, z_TB_by, z_TS_by, z_W_all, a_X_knowing, a_p3_far, a_X_sums, a_W_world, a_W_likely, a_TB_value, a_TS_value)
noncomputable def xo_X1_bell_J39 (z_L_from : Int32) (z_L_to : Int32) (z_Ld_size : Int32) (a_UNIT : Nat → Int32) (a_L_seen : Nat → Int32) (x1 : Int32) (z7 : Int32) (z8 : Int32) (z9 : Int32) (z10 : Int64) (a11 : Nat → Int32) (a12 : Nat → Int32) (a13 : Nat → Int64) (a14 : Nat → Int64) (a15 : Nat → Int64) (a16 : Nat → Int64) (z18 : Int32) (a19 : Nat → Int64) : Option (Int64 × (Int32) × (Int32) × (Int32) × (Int32) × (Int64) × (Nat → Int32) × (Nat → Int32) × (Nat → Int64) × (Nat → Int64) × (Nat → Int64) × (Nat → Int64) × (Nat → Int64)) :=
  (xo_X3_unseen z_Ld_size a_UNIT a_L_seen z_L_from 0).bind fun v20 =>
  ((xg_O z_L_to a_UNIT a19 a14 10) v20 z_L_from 0 x1).bind fun v22 =>
  some (v22, z7, z18, z8, z9, z10, a11, a12, a19, a13, a14, a15, a16)
noncomputable def xo_X1_bell (z_X_isLaid : Int32) (z_X_hasBell : Int32) (z_TB_by : Int32) (z_TS_by : Int32) (z_L_places : Int32) (z_L_causes : Int32) (z_L_from : Int32) (z_L_to : Int32) (z_Ld_size : Int32) (z_Lw_size : Int32) (z_W_all : Int64) (z_TB_none : Int64) (z_TS_none : Int64) (a_X_knowing : Nat → Int32) (a_p3_far : Nat → Int32) (a_UNIT : Nat → Int32) (a_Ld_data : Nat → Int32) (a_Lw_data : Nat → Int32) (a_L_comes : Nat → Int32) (a_L_seen : Nat → Int32) (a_X_sums : Nat → Int64) (a_W_world : Nat → Int64) (a_W_likely : Nat → Int64) (a_TB_value : Nat → Int64) (a_TS_value : Nat → Int64) (n_r : Nat) (n_w : Nat) (p_road_hours : Nat → Int32) (p_road_doubt : Nat → Int32) (p_road_cause : Nat → Int32) (p_road_wait : Nat → Int32) (p_road_number : Nat → Int32) (p_word_place : Nat → Int32) (p_word_road : Nat → Int32) (p_word_hours : Nat → Int32) (g_grid : Nat → Nat → Int32) (x1 : Int32) : Option (Int64 × (Int32) × (Int32) × (Int32) × (Int32) × (Int64) × (Nat → Int32) × (Nat → Int32) × (Nat → Int64) × (Nat → Int64) × (Nat → Int64) × (Nat → Int64) × (Nat → Int64)) :=
  (xo_X1_in x1 0 48).bind fun v1 =>
  if v1 = 0 then (xo_X1_bell_J20 z_X_isLaid z_X_hasBell z_TB_by z_TS_by z_W_all a_X_knowing a_p3_far a_X_sums a_W_world a_W_likely a_TB_value a_TS_value) else ((xo_X3_isWhole z_L_from z_L_to).bind fun v4 =>
  if v4 = 0 then (xo_X1_bell_J20 z_X_isLaid z_X_hasBell z_TB_by z_TS_by z_W_all a_X_knowing a_p3_far a_X_sums a_W_world a_W_likely a_TB_value a_TS_value) else ((xo_X1_lay z_X_isLaid z_TB_by z_TS_by z_L_places z_L_causes z_L_from z_L_to z_Ld_size z_Lw_size z_W_all z_TB_none z_TS_none a_X_knowing a_p3_far a_UNIT a_Ld_data a_Lw_data a_L_comes a_L_seen a_W_world a_W_likely a_TB_value a_TS_value n_r n_w p_road_hours p_road_doubt p_road_cause p_road_wait p_road_number p_word_place p_word_road p_word_hours g_grid).bind fun (z7, z8, z9, z10, a11, a12, a13, a14, a15, a16) =>
  if z_X_hasBell = 0 then ((xo_X1_ring_3 z_X_hasBell z_L_places z_L_to z_Ld_size z_Lw_size a_UNIT a_Lw_data a_L_seen a_X_sums a14 n_r n_w p_road_hours p_road_wait p_road_number p_word_place p_word_road p_word_hours g_grid).bind fun (z25, a26) =>
  xo_X1_bell_J39 z_L_from z_L_to z_Ld_size a_UNIT a_L_seen x1 z7 z8 z9 z10 a11 a12 a13 a14 a15 a16 z25 a26) else (xo_X1_bell_J39 z_L_from z_L_to z_Ld_size a_UNIT a_L_seen x1 z7 z8 z9 z10 a11 a12 a13 a14 a15 a16 z_X_hasBell a_X_sums)))
noncomputable def xo_X1_mayStep_J39  : Option (Int32) :=
  some (0)
noncomputable def xo_X1_mayStep (z_X_isWalking : Int32) (z_X_steps : Int32) (z_L_to : Int32) (a_X_places : Nat → Int32) : Option (Int32) :=
  if z_X_isWalking = 0 then (xo_X1_mayStep_J39) else (if 100 ≤ z_X_steps then (xo_X1_mayStep_J39) else ((rdI a_X_places 101 z_X_steps).bind fun v3 =>
  if v3 = z_L_to then (xo_X1_mayStep_J39) else (some (1))))
noncomputable def xo_X1_step (z_X_steps : Int32) (a_X_places : Nat → Int32) (a_X_gone : Nat → Int32) (a_X_knowns : Nat → Int32) (x1 : Int32) (x2 : Int32) (x3 : Int32) : Option ((Int32) × (Nat → Int32) × (Nat → Int32) × (Nat → Int32)) :=
  (some (z_X_steps + 1)).bind fun v1 =>
  (wrI a_X_places 101 v1 x1).bind fun a2 =>
  (rdI a_X_gone 101 (v1 - 1)).bind fun v3 =>
  (wrI a_X_gone 101 v1 (v3 + x2)).bind fun a4 =>
  (wrI a_X_knowns 101 v1 x3).bind fun a5 =>
  some (v1, a2, a4, a5)
noncomputable def xo_X1_buy (z_X_isWalking : Int32) (z_X_world : Int32) (z_X_steps : Int32) (z_L_to : Int32) (z_Lw_size : Int32) (a_X_places : Nat → Int32) (a_X_gone : Nat → Int32) (a_X_knowns : Nat → Int32) (a_UNIT : Nat → Int32) (a_Lw_data : Nat → Int32) (n_w : Nat) (p_word_place : Nat → Int32) (p_word_road : Nat → Int32) (p_word_hours : Nat → Int32) (x1 : Int32) : Option (Int32 × (Int32) × (Nat → Int32) × (Nat → Int32) × (Nat → Int32)) :=
  (xo_X1_mayStep z_X_isWalking z_X_steps z_L_to a_X_places).bind fun v1 =>
  if v1 = 0 then (some ((-1), z_X_steps, a_X_places, a_X_gone, a_X_knowns)) else ((xo_J2_size_Lw z_Lw_size).bind fun v4 =>
  (xo_X1_in x1 0 (v4 - 1)).bind fun v6 =>
  if v6 = 0 then (some ((-1), z_X_steps, a_X_places, a_X_gone, a_X_knowns)) else ((xo_J2_get_Lw z_Lw_size a_Lw_data x1).bind fun v9 =>
  (ixI n_w v9).bind fun v11 =>
  (rdI p_word_place n_w v11).bind fun v12 =>
  (rdI a_X_places 101 z_X_steps).bind fun v13 =>
  if v12 = v13 then ((rdI a_X_knowns 101 z_X_steps).bind fun v15 =>
  (rdI p_word_road n_w v11).bind fun v16 =>
  (xo_X1_digit a_UNIT v15 v16).bind fun v17 =>
  if v17 = 0 then ((rdI p_word_road n_w v11).bind fun v20 =>
  (some (1 + ((z_X_world >>> (v20 &&& 31)) &&& 1))).bind fun v21 =>
  (rdI p_word_place n_w v11).bind fun v22 =>
  (rdI p_word_hours n_w v11).bind fun v23 =>
  (rdI a_X_knowns 101 z_X_steps).bind fun v24 =>
  (rdI p_word_road n_w v11).bind fun v25 =>
  (xo_X1_with a_UNIT v24 v25 v21).bind fun v26 =>
  (xo_X1_step z_X_steps a_X_places a_X_gone a_X_knowns v22 v23 v26).bind fun (z28, a29, a30, a31) =>
  some (v21, z28, a29, a30, a31)) else (some ((-1), z_X_steps, a_X_places, a_X_gone, a_X_knowns))) else (some ((-1), z_X_steps, a_X_places, a_X_gone, a_X_knowns))))
noncomputable def xo_X1_clear (z_p5_many : Int32) : Option (Int32 × (Int32)) :=
  some (z_p5_many, 0)
noncomputable def xo_X1_count (z_ru_size : Int32) (z_p5_many : Int32) (z_L_places : Int32) (z_L_causes : Int32) (z_L_from : Int32) (z_L_to : Int32) (z_Lr_size : Int32) (z_Ld_size : Int32) (z_Lw_size : Int32) (x1 : Int32) : Option (Int32) :=
  if x1 = 0 then (some (z_L_places)) else (if x1 = 1 then ((xo_J2_size_Lr z_Lr_size).bind fun v3 =>
  some (v3)) else (if x1 = 2 then ((xo_J2_size_Ld z_Ld_size).bind fun v6 =>
  some (v6)) else (if x1 = 3 then (some (z_L_causes)) else (if x1 = 4 then ((xo_J2_size_Lw z_Lw_size).bind fun v10 =>
  some (v10)) else (if x1 = 5 then (some (z_L_from)) else (if x1 = 6 then (some (z_L_to)) else (if x1 = 7 then ((xo_J2_size_ru z_ru_size).bind fun v15 =>
  some (v15)) else (if x1 = 8 then (some (z_p5_many)) else (some ((-1)))))))))))
noncomputable def xo_X1_isDoubtful (z_Ld_size : Int32) (x1 : Int32) : Option (Int32) :=
  (xo_J2_size_Ld z_Ld_size).bind fun v1 =>
  (xo_X1_in x1 0 (v1 - 1)).bind fun v3 =>
  (retZ v3).bind fun v5 =>
  some (v5)
noncomputable def xo_X1_isFirst_J57 (y1 : Int32) (k9 : Int32) (k10 : Int32) : Option ((Int32) ⊕ ((Unit) ⊕ (Unit))) :=
  if k10 = k9 then (some (.inr (.inl (())))) else ((some (y1 + 1)).bind fun v12 =>
  some (.inl v12))
noncomputable def xo_X1_isFirst_J44 (a_UNIT : Nat → Int32) (x1 : Int32) (y1 : Int32) (k6 : Int32) : Option ((Int32) ⊕ ((Unit) ⊕ (Unit))) :=
  (xo_X1_digit a_UNIT x1 y1).bind fun v7 =>
  if v7 = 0 then (xo_X1_isFirst_J57 y1 1 k6) else (xo_X1_isFirst_J57 y1 0 k6)
noncomputable def xo_X1_isFirst_L2 (z_L_from : Int32) (z_Ld_size : Int32) (a_UNIT : Nat → Int32) (a_L_seen : Nat → Int32) (x1 : Int32) : (Int32) → Option ((Int32) ⊕ ((Unit) ⊕ (Unit))) := fun y1 =>
  (xo_J2_size_Ld z_Ld_size).bind fun v2 =>
  if v2 ≤ y1 then (some (.inr (.inr ()))) else ((rdI a_L_seen 10 z_L_from).bind fun v5 =>
  if (v5 >>> (y1 &&& 31)) &&& 1 = 1 then (xo_X1_isFirst_J44 a_UNIT x1 y1 1) else (xo_X1_isFirst_J44 a_UNIT x1 y1 0))
noncomputable def xo_X1_isFirst (z_L_from : Int32) (z_Ld_size : Int32) (a_UNIT : Nat → Int32) (a_L_seen : Nat → Int32) (x1 : Int32) : Option (Int32) :=
  (loop (xo_X1_isFirst_L2 z_L_from z_Ld_size a_UNIT a_L_seen x1) 0).bind (sE (fun _ =>
  some (0)) (fun _ =>
  some (1)))
noncomputable def xo_X1_isOther_J87 (y1 : Int32) : Option ((Int32) ⊕ ((Unit) ⊕ (Unit))) :=
  (some (y1 + 1)).bind fun v7 =>
  some (.inl v7)
noncomputable def xo_X1_isOther_L2 (z_TB_by : Int32) (z_TO_by : Int32) (z_L_places : Int32) (z_L_from : Int32) (z_L_to : Int32) (z_Ld_size : Int32) (z_Lw_size : Int32) (z_TB_none : Int64) (z_TO_none : Int64) (a_UNIT : Nat → Int32) (a_Lw_data : Nat → Int32) (a_L_seen : Nat → Int32) (a_W_likely : Nat → Int64) (a_O_likely : Nat → Int64) (a_TB_value : Nat → Int64) (a_TO_value : Nat → Int64) (n_r : Nat) (n_w : Nat) (p_road_hours : Nat → Int32) (p_road_wait : Nat → Int32) (p_road_number : Nat → Int32) (p_word_place : Nat → Int32) (p_word_road : Nat → Int32) (p_word_hours : Nat → Int32) (g_grid : Nat → Nat → Int32) : (Int32) → Option ((Int32) ⊕ ((Unit) ⊕ (Unit))) := fun y1 =>
  (xo_X3_knowns z_Ld_size a_UNIT).bind fun v2 =>
  if v2 ≤ y1 then (some (.inr (.inr ()))) else ((xo_X1_isFirst z_L_from z_Ld_size a_UNIT a_L_seen y1).bind fun v5 =>
  if v5 = 0 then (xo_X1_isOther_J87 y1) else ((rdL a_W_likely 729 y1).bind fun v9 =>
  if v9 = 0 then (xo_X1_isOther_J87 y1) else ((rdL a_O_likely 729 y1).bind fun v11 =>
  if v11 = 0 then (xo_X1_isOther_J87 y1) else ((xo_X5_next_TB z_TB_by z_L_places z_L_to z_Ld_size z_Lw_size z_TB_none a_UNIT a_Lw_data a_L_seen a_W_likely a_TB_value n_r n_w p_road_hours p_road_wait p_road_number p_word_place p_word_road p_word_hours g_grid z_L_from y1).bind fun v13 =>
  (xo_X5_next_TB z_TO_by z_L_places z_L_to z_Ld_size z_Lw_size z_TO_none a_UNIT a_Lw_data a_L_seen a_O_likely a_TO_value n_r n_w p_road_hours p_road_wait p_road_number p_word_place p_word_road p_word_hours g_grid z_L_from y1).bind fun v15 =>
  if v13 = v15 then (xo_X1_isOther_J87 y1) else (some (.inr (.inl (()))))))))
noncomputable def xo_X1_isOther (z_TB_by : Int32) (z_TO_by : Int32) (z_L_places : Int32) (z_L_from : Int32) (z_L_to : Int32) (z_Ld_size : Int32) (z_Lw_size : Int32) (z_TB_none : Int64) (z_TO_none : Int64) (a_UNIT : Nat → Int32) (a_Lw_data : Nat → Int32) (a_L_seen : Nat → Int32) (a_W_likely : Nat → Int64) (a_O_likely : Nat → Int64) (a_TB_value : Nat → Int64) (a_TO_value : Nat → Int64) (n_r : Nat) (n_w : Nat) (p_road_hours : Nat → Int32) (p_road_wait : Nat → Int32) (p_road_number : Nat → Int32) (p_word_place : Nat → Int32) (p_word_road : Nat → Int32) (p_word_hours : Nat → Int32) (g_grid : Nat → Nat → Int32) : Option (Int32) :=
  (loop (xo_X1_isOther_L2 z_TB_by z_TO_by z_L_places z_L_from z_L_to z_Ld_size z_Lw_size z_TB_none z_TO_none a_UNIT a_Lw_data a_L_seen a_W_likely a_O_likely a_TB_value a_TO_value n_r n_w p_road_hours p_road_wait p_road_number p_word_place p_word_road p_word_hours g_grid) 0).bind (sE (fun _ =>
  some (1)) (fun _ =>
  some (0)))
noncomputable def xo_X1_edge_L64 (z_L_places : Int32) (z_L_causes : Int32) (z_L_from : Int32) (z_L_to : Int32) (z_Ld_size : Int32) (z_Lw_size : Int32) (z_TB_none : Int64) (z_TO_none : Int64) (a_UNIT : Nat → Int32) (a_Ld_data : Nat → Int32) (a_Lw_data : Nat → Int32) (a_L_comes : Nat → Int32) (a_L_seen : Nat → Int32) (n_r : Nat) (n_w : Nat) (p_road_hours : Nat → Int32) (p_road_doubt : Nat → Int32) (p_road_cause : Nat → Int32) (p_road_wait : Nat → Int32) (p_road_number : Nat → Int32) (p_word_place : Nat → Int32) (p_word_road : Nat → Int32) (p_word_hours : Nat → Int32) (g_grid : Nat → Nat → Int32) (x1 : Int32) (z13 : Int32) (a19 : Nat → Int64) (a20 : Nat → Int64) : (Int32 × Int32 × Int64 × (Nat → Int64) × (Nat → Int64) × (Nat → Int64)) → Option ((Int32 × Int32 × Int64 × (Nat → Int64) × (Nat → Int64) × (Nat → Int64)) ⊕ ((Int32 × Int32 × Int64 × (Nat → Int64) × (Nat → Int64) × (Nat → Int64)) ⊕ (Int32 × Int64 × (Nat → Int64) × (Nat → Int64) × (Nat → Int64)))) := fun (y28, z29, z30, a31, a32, a33) =>
  if 10 < y28 then (some (.inr (.inr (z29, z30, a31, a32, a33)))) else ((xo_X4_lay_W z_L_causes z_Ld_size z30 a_UNIT a_Ld_data a_L_comes a31 a32 n_r p_road_doubt p_road_cause x1 y28).bind fun (z35, a36, a37) =>
  (xo_X5_lay_TB_W z29 z_L_places z_L_to z_Ld_size z_Lw_size z_TO_none a_UNIT a_Lw_data a_L_seen a37 a33 n_r n_w p_road_hours p_road_wait p_road_number p_word_place p_word_road p_word_hours g_grid).bind fun (z39, a40) =>
  (xo_X1_isOther z13 z39 z_L_places z_L_from z_L_to z_Ld_size z_Lw_size z_TB_none z_TO_none a_UNIT a_Lw_data a_L_seen a19 a37 a20 a40 n_r n_w p_road_hours p_road_wait p_road_number p_word_place p_word_road p_word_hours g_grid).bind fun v42 =>
  if v42 = 0 then ((some (y28 + 1)).bind fun v45 =>
  some (.inl ((v45, z39, z35, a36, a37, a40)))) else (some (.inr (.inl ((y28, z39, z35, a36, a37, a40))))))
noncomputable def xo_X1_edge (z_X_isLaid : Int32) (z_TB_by : Int32) (z_TO_by : Int32) (z_TS_by : Int32) (z_L_places : Int32) (z_L_causes : Int32) (z_L_from : Int32) (z_L_to : Int32) (z_Ld_size : Int32) (z_Lw_size : Int32) (z_W_all : Int64) (z_O_all : Int64) (z_TB_none : Int64) (z_TO_none : Int64) (z_TS_none : Int64) (a_X_knowing : Nat → Int32) (a_p3_far : Nat → Int32) (a_UNIT : Nat → Int32) (a_Ld_data : Nat → Int32) (a_Lw_data : Nat → Int32) (a_L_comes : Nat → Int32) (a_L_seen : Nat → Int32) (a_W_world : Nat → Int64) (a_W_likely : Nat → Int64) (a_O_world : Nat → Int64) (a_O_likely : Nat → Int64) (a_TB_value : Nat → Int64) (a_TO_value : Nat → Int64) (a_TS_value : Nat → Int64) (n_r : Nat) (n_w : Nat) (p_road_hours : Nat → Int32) (p_road_doubt : Nat → Int32) (p_road_cause : Nat → Int32) (p_road_wait : Nat → Int32) (p_road_number : Nat → Int32) (p_word_place : Nat → Int32) (p_word_road : Nat → Int32) (p_word_hours : Nat → Int32) (g_grid : Nat → Nat → Int32) (x1 : Int32) : Option (Int32 × (Int32) × (Int32) × (Int32) × (Int32) × (Int64) × (Int64) × (Nat → Int32) × (Nat → Int32) × (Nat → Int64) × (Nat → Int64) × (Nat → Int64) × (Nat → Int64) × (Nat → Int64) × (Nat → Int64) × (Nat → Int64)) :=
  (xo_X1_isDoubtful z_Ld_size x1).bind fun v1 =>
  if v1 = 0 then (some ((-1), z_X_isLaid, z_TB_by, z_TO_by, z_TS_by, z_W_all, z_O_all, a_X_knowing, a_p3_far, a_W_world, a_W_likely, a_O_world, a_O_likely, a_TB_value, a_TO_value, a_TS_value)) else ((xo_X3_isWhole z_L_from z_L_to).bind fun v4 =>
  if v4 = 0 then (some ((-1), z_X_isLaid, z_TB_by, z_TO_by, z_TS_by, z_W_all, z_O_all, a_X_knowing, a_p3_far, a_W_world, a_W_likely, a_O_world, a_O_likely, a_TB_value, a_TO_value, a_TS_value)) else ((xo_J2_get_Ld z_Ld_size a_Ld_data x1).bind fun v7 =>
  (ixI n_r v7).bind fun v9 =>
  (rdI p_road_doubt n_r v9).bind fun v10 =>
  if v10 = 0 then (some ((-1), z_X_isLaid, z_TB_by, z_TO_by, z_TS_by, z_W_all, z_O_all, a_X_knowing, a_p3_far, a_W_world, a_W_likely, a_O_world, a_O_likely, a_TB_value, a_TO_value, a_TS_value)) else ((xo_X1_lay z_X_isLaid z_TB_by z_TS_by z_L_places z_L_causes z_L_from z_L_to z_Ld_size z_Lw_size z_W_all z_TB_none z_TS_none a_X_knowing a_p3_far a_UNIT a_Ld_data a_Lw_data a_L_comes a_L_seen a_W_world a_W_likely a_TB_value a_TS_value n_r n_w p_road_hours p_road_doubt p_road_cause p_road_wait p_road_number p_word_place p_word_road p_word_hours g_grid).bind fun (z12, z13, z14, z15, a16, a17, a18, a19, a20, a21) =>
  (xo_J2_get_Ld z_Ld_size a_Ld_data x1).bind fun v23 =>
  (ixI n_r v23).bind fun v25 =>
  (rdI p_road_doubt n_r v25).bind fun v26 =>
  (some (v26 + 1)).bind fun v27 =>
  (loop (xo_X1_edge_L64 z_L_places z_L_causes z_L_from z_L_to z_Ld_size z_Lw_size z_TB_none z_TO_none a_UNIT a_Ld_data a_Lw_data a_L_comes a_L_seen n_r n_w p_road_hours p_road_doubt p_road_cause p_road_wait p_road_number p_word_place p_word_road p_word_hours g_grid x1 z13 a19 a20) (v27, z_TO_by, z_O_all, a_O_world, a_O_likely, a_TO_value)).bind (sE (fun (y46, z47, z48, a49, a50, a51) =>
  some (y46, z12, z13, z47, z14, z15, z48, a16, a17, a18, a19, a49, a50, a20, a51, a21)) (fun (z52, z53, a54, a55, a56) =>
  some (11, z12, z13, z52, z14, z15, z53, a16, a17, a18, a19, a54, a55, a20, a56, a21))))))
noncomputable def xo_X1_fault (z_X_faultKind : Int32) (z_X_faultPlace : Int32) (x1 : Int32) : Option (Int32) :=
  if x1 = 0 then (some (z_X_faultKind)) else (if x1 = 1 then (some (z_X_faultPlace)) else (some ((-1))))
noncomputable def xo_X1_put_L3 (x1 : Int32) : (Int32 × Int32 × (Nat → Int32)) → Option ((Int32 × Int32 × (Nat → Int32)) ⊕ ((Int32 × (Nat → Int32)))) := fun (y1, z2, a3) =>
  if y1 < 0 then (some (.inr (z2, a3))) else ((some (z2 + 1)).bind fun v5 =>
  (wrI a3 600 z2 (vp_nar .byte ((x1 >>> (y1 &&& 31)).toInt8.toInt32))).bind fun a6 =>
  (some (y1 + (-8))).bind fun v7 =>
  some (.inl ((v7, v5, a6))))
noncomputable def xo_X1_put (z_X_taped : Int32) (a_X_tape : Nat → Int32) (x1 : Int32) : Option ((Int32) × (Nat → Int32)) :=
  (loop (xo_X1_put_L3 x1) (24, z_X_taped, a_X_tape)).bind fun (z8, a9) =>
  some (z8, a9)
noncomputable def xo_X1_feed (z_X_taped : Int32) (a_X_tape : Nat → Int32) (x1 : Int32) (x2 : Int32) (x3 : Int32) (x4 : Int32) (x5 : Int32) : Option (Int32 × (Int32) × (Nat → Int32)) :=
  if z_X_taped + 20 ≤ 600 then ((xo_X1_put z_X_taped a_X_tape x1).bind fun (z2, a3) =>
  (xo_X1_put z2 a3 x2).bind fun (z5, a6) =>
  (xo_X1_put z5 a6 x3).bind fun (z8, a9) =>
  (xo_X1_put z8 a9 x4).bind fun (z11, a12) =>
  (xo_X1_put z11 a12 x5).bind fun (z14, a15) =>
  some (z14, z14, a15)) else (some ((-1), z_X_taped, a_X_tape))
noncomputable def xo_X1_isPlace (z_L_places : Int32) (x1 : Int32) : Option (Int32) :=
  (xo_X1_in x1 0 (z_L_places - 1)).bind fun v1 =>
  (retZ v1).bind fun v3 =>
  some (v3)
noncomputable def xo_X1_isKnown (z_Ld_size : Int32) (a_UNIT : Nat → Int32) (x1 : Int32) : Option (Int32) :=
  (xo_X3_knowns z_Ld_size a_UNIT).bind fun v1 =>
  (xo_X1_in x1 0 (v1 - 1)).bind fun v3 =>
  (retZ v3).bind fun v5 =>
  some (v5)
noncomputable def xo_X1_weigh (z_X_isLaid : Int32) (z_TB_by : Int32) (z_TS_by : Int32) (z_L_places : Int32) (z_L_causes : Int32) (z_L_from : Int32) (z_L_to : Int32) (z_Ld_size : Int32) (z_Lw_size : Int32) (z_W_all : Int64) (z_TB_none : Int64) (z_TS_none : Int64) (a_X_knowing : Nat → Int32) (a_p3_far : Nat → Int32) (a_UNIT : Nat → Int32) (a_Ld_data : Nat → Int32) (a_Lw_data : Nat → Int32) (a_L_comes : Nat → Int32) (a_L_seen : Nat → Int32) (a_W_world : Nat → Int64) (a_W_likely : Nat → Int64) (a_TB_value : Nat → Int64) (a_TS_value : Nat → Int64) (n_r : Nat) (n_w : Nat) (p_road_hours : Nat → Int32) (p_road_doubt : Nat → Int32) (p_road_cause : Nat → Int32) (p_road_wait : Nat → Int32) (p_road_number : Nat → Int32) (p_word_place : Nat → Int32) (p_word_road : Nat → Int32) (p_word_hours : Nat → Int32) (g_grid : Nat → Nat → Int32) : Option ((Int32) × (Int32) × (Int32) × (Int64) × (Nat → Int32) × (Nat → Int32) × (Nat → Int64) × (Nat → Int64) × (Nat → Int64) × (Nat → Int64)) :=
  (xo_X3_isWhole z_L_from z_L_to).bind fun v1 =>
  if v1 = 0 then ((xo_X4_lay_W z_L_causes z_Ld_size z_W_all a_UNIT a_Ld_data a_L_comes a_W_world a_W_likely n_r p_road_doubt p_road_cause (-1) 0).bind fun (z4, a5, a6) =>
  (xo_X5_lay_TB_W z_TB_by z_L_places z_L_to z_Ld_size z_Lw_size z_TB_none a_UNIT a_Lw_data a_L_seen a6 a_TB_value n_r n_w p_road_hours p_road_wait p_road_number p_word_place p_word_road p_word_hours g_grid).bind fun (z8, a9) =>
  some (z_X_isLaid, z8, z_TS_by, z4, a_X_knowing, a_p3_far, a5, a6, a9, a_TS_value)) else ((xo_X1_lay z_X_isLaid z_TB_by z_TS_by z_L_places z_L_causes z_L_from z_L_to z_Ld_size z_Lw_size z_W_all z_TB_none z_TS_none a_X_knowing a_p3_far a_UNIT a_Ld_data a_Lw_data a_L_comes a_L_seen a_W_world a_W_likely a_TB_value a_TS_value n_r n_w p_road_hours p_road_doubt p_road_cause p_road_wait p_road_number p_word_place p_word_road p_word_hours g_grid).bind fun (z11, z12, z13, z14, a15, a16, a17, a18, a19, a20) =>
  some (z11, z12, z13, z14, a15, a16, a17, a18, a19, a20))
noncomputable def xo_X1_told_TB (z_TB_none : Int64) (x1 : Int64) : Option (Int64) :=
  if x1 = z_TB_none then (some ((-2))) else (some (x1))
noncomputable def xo_X1_from_J27 (z_X_isLaid : Int32) (z_TB_by : Int32) (z_TS_by : Int32) (z_W_all : Int64) (a_X_knowing : Nat → Int32) (a_p3_far : Nat → Int32) (a_W_world : Nat → Int64) (a_W_likely : Nat → Int64) (a_TB_value : Nat → Int64) (a_TS_value : Nat → Int64) : Option (Int64 × (Int32) × (Int32) × (Int32) × (Int64) × (Nat → Int32) × (Nat → Int32) × (Nat → Int64) × (Nat → Int64) × (Nat → Int64) × (Nat → Int64)) :=
  some ((-1), z_X_isLaid, z_TB_by, z_TS_by, z_W_all, a_X_knowing, a_p3_far, a_W_world, a_W_likely, a_TB_value, a_TS_value)
noncomputable def xo_X1_from (z_X_isLaid : Int32) (z_TB_by : Int32) (z_TS_by : Int32) (z_L_places : Int32) (z_L_causes : Int32) (z_L_from : Int32) (z_L_to : Int32) (z_Ld_size : Int32) (z_Lw_size : Int32) (z_W_all : Int64) (z_TB_none : Int64) (z_TS_none : Int64) (a_X_knowing : Nat → Int32) (a_p3_far : Nat → Int32) (a_UNIT : Nat → Int32) (a_Ld_data : Nat → Int32) (a_Lw_data : Nat → Int32) (a_L_comes : Nat → Int32) (a_L_seen : Nat → Int32) (a_W_world : Nat → Int64) (a_W_likely : Nat → Int64) (a_TB_value : Nat → Int64) (a_TS_value : Nat → Int64) (n_r : Nat) (n_w : Nat) (p_road_hours : Nat → Int32) (p_road_doubt : Nat → Int32) (p_road_cause : Nat → Int32) (p_road_wait : Nat → Int32) (p_road_number : Nat → Int32) (p_word_place : Nat → Int32) (p_word_road : Nat → Int32) (p_word_hours : Nat → Int32) (g_grid : Nat → Nat → Int32) (x1 : Int32) (x2 : Int32) : Option (Int64 × (Int32) × (Int32) × (Int32) × (Int64) × (Nat → Int32) × (Nat → Int32) × (Nat → Int64) × (Nat → Int64) × (Nat → Int64) × (Nat → Int64)) :=
  (xo_X1_isPlace z_L_places x1).bind fun v1 =>
  if v1 = 0 then (xo_X1_from_J27 z_X_isLaid z_TB_by z_TS_by z_W_all a_X_knowing a_p3_far a_W_world a_W_likely a_TB_value a_TS_value) else ((xo_X1_isKnown z_Ld_size a_UNIT x2).bind fun v4 =>
  if v4 = 0 then (xo_X1_from_J27 z_X_isLaid z_TB_by z_TS_by z_W_all a_X_knowing a_p3_far a_W_world a_W_likely a_TB_value a_TS_value) else (if z_L_to = (-1) then (xo_X1_from_J27 z_X_isLaid z_TB_by z_TS_by z_W_all a_X_knowing a_p3_far a_W_world a_W_likely a_TB_value a_TS_value) else ((xo_X1_weigh z_X_isLaid z_TB_by z_TS_by z_L_places z_L_causes z_L_from z_L_to z_Ld_size z_Lw_size z_W_all z_TB_none z_TS_none a_X_knowing a_p3_far a_UNIT a_Ld_data a_Lw_data a_L_comes a_L_seen a_W_world a_W_likely a_TB_value a_TS_value n_r n_w p_road_hours p_road_doubt p_road_cause p_road_wait p_road_number p_word_place p_word_road p_word_hours g_grid).bind fun (z8, z9, z10, z11, a12, a13, a14, a15, a16, a17) =>
  (rdL a15 729 x2).bind fun v19 =>
  if v19 = 0 then (some ((-1), z8, z9, z10, z11, a12, a13, a14, a15, a16, a17)) else ((xo_X5_arriving_TB z9 z_L_to z_Ld_size z_TB_none a_UNIT a_L_seen a15 a16 x1 x2).bind fun v21 =>
  (xo_X1_told_TB z_TB_none v21).bind fun v23 =>
  some (v23, z8, z9, z10, z11, a12, a13, a14, a15, a16, a17)))))
noncomputable def xo_X1_go (z_X_isWalking : Int32) (z_X_world : Int32) (z_X_steps : Int32) (z_L_places : Int32) (z_L_to : Int32) (z_Ld_size : Int32) (a_X_places : Nat → Int32) (a_X_gone : Nat → Int32) (a_X_knowns : Nat → Int32) (a_UNIT : Nat → Int32) (a_L_seen : Nat → Int32) (n_r : Nat) (p_road_hours : Nat → Int32) (p_road_wait : Nat → Int32) (p_road_number : Nat → Int32) (g_grid : Nat → Nat → Int32) (x1 : Int32) : Option (Int32 × (Int32) × (Nat → Int32) × (Nat → Int32) × (Nat → Int32)) :=
  (xo_X1_mayStep z_X_isWalking z_X_steps z_L_to a_X_places).bind fun v1 =>
  if v1 = 0 then (some ((-1), z_X_steps, a_X_places, a_X_gone, a_X_knowns)) else ((xo_X1_isPlace z_L_places x1).bind fun v4 =>
  if v4 = 0 then (some ((-1), z_X_steps, a_X_places, a_X_gone, a_X_knowns)) else ((rdI a_X_places 101 z_X_steps).bind fun v7 =>
  (rdI a_X_knowns 101 z_X_steps).bind fun v8 =>
  (xo_X3_cost a_UNIT n_r p_road_hours p_road_wait p_road_number g_grid v7 x1 v8).bind fun v9 =>
  if v9 = 1000000 then (some ((-1), z_X_steps, a_X_places, a_X_gone, a_X_knowns)) else ((rdI a_X_knowns 101 z_X_steps).bind fun v12 =>
  (xo_X1_seeing z_Ld_size a_UNIT a_L_seen x1 v12 z_X_world).bind fun v13 =>
  (xo_X1_step z_X_steps a_X_places a_X_gone a_X_knowns x1 v9 v13).bind fun (z15, a16, a17, a18) =>
  (rdI a17 101 z15).bind fun v20 =>
  some (v20, z15, a16, a17, a18))))
noncomputable def xo_X1_isPlan_J24  : Option (Int32) :=
  some (0)
noncomputable def xo_X1_isPlan (z_L_from : Int32) (z_L_to : Int32) (x1 : Int32) : Option (Int32) :=
  (xo_X1_in x1 0 6).bind fun v1 =>
  if v1 = 0 then (xo_X1_isPlan_J24) else ((xo_X3_isWhole z_L_from z_L_to).bind fun v4 =>
  if v4 = 0 then (xo_X1_isPlan_J24) else (some (1)))
noncomputable def xo_X1_isWorld (z_Ld_size : Int32) (x1 : Int32) : Option (Int32) :=
  (xo_X3_worlds z_Ld_size).bind fun v1 =>
  (xo_X1_in x1 0 (v1 - 1)).bind fun v3 =>
  (retZ v3).bind fun v5 =>
  some (v5)
noncomputable def xo_X1_isAhead_J38 (y1 : Int32) : Option ((Int32) ⊕ ((Unit) ⊕ (Unit))) :=
  (some (y1 + 1)).bind fun v4 =>
  some (.inl v4)
noncomputable def xo_X1_isAhead_L2 (a_X_knowing : Nat → Int32) (a_W_world : Nat → Int64) (x1 : Int32) : (Int32) → Option ((Int32) ⊕ ((Unit) ⊕ (Unit))) := fun y1 =>
  if x1 ≤ y1 then (some (.inr (.inr ()))) else ((rdL a_W_world 64 y1).bind fun v3 =>
  if v3 ≤ 0 then (xo_X1_isAhead_J38 y1) else ((rdI a_X_knowing 64 y1).bind fun v6 =>
  (rdI a_X_knowing 64 x1).bind fun v7 =>
  if v6 = v7 then (some (.inr (.inl (())))) else (xo_X1_isAhead_J38 y1)))
noncomputable def xo_X1_isAhead (a_X_knowing : Nat → Int32) (a_W_world : Nat → Int64) (x1 : Int32) : Option (Int32) :=
  (loop (xo_X1_isAhead_L2 a_X_knowing a_W_world x1) 0).bind (sE (fun _ =>
  some (1)) (fun _ =>
  some (0)))
noncomputable def xo_X5_notKnown_TF_J35 (y2 : Int32) (k8 : Int32) (k9 : Int32) : Option ((Int32 × Int32) ⊕ ((Int32))) :=
  (some (k9 + k8)).bind fun v10 =>
  (some (y2 + 1)).bind fun v11 =>
  some (.inl ((v10, v11)))
noncomputable def xo_X5_notKnown_TF_L4 (z_Ld_size : Int32) (a_UNIT : Nat → Int32) (x1 : Int32) : (Int32 × Int32) → Option ((Int32 × Int32) ⊕ ((Int32))) := fun (y1, y2) =>
  (xo_J2_size_Ld z_Ld_size).bind fun v3 =>
  if v3 ≤ y2 then (some (.inr y1)) else ((xo_X1_digit a_UNIT x1 y2).bind fun v6 =>
  if v6 = 0 then (xo_X5_notKnown_TF_J35 y2 1 y1) else (xo_X5_notKnown_TF_J35 y2 0 y1))
noncomputable def xo_X5_notKnown_TF (z_Ld_size : Int32) (a_UNIT : Nat → Int32) (x1 : Int32) : Option (Int32) :=
  (loop (xo_X5_notKnown_TF_L4 z_Ld_size a_UNIT x1) (0, 0)).bind fun y13 =>
  some (y13)
noncomputable def xo_X8_isBetter_TF  (x1 : Int64) (x3 : Int64) : Option (Int32) :=
  if x1 ≤ x3 then (some (0)) else (some (1))
noncomputable def xo_X5_better_TF_J31 (x1 : Int64) : Option (Int64) :=
  some (x1)
noncomputable def xo_X5_better_TF_J27 (x3 : Int64) : Option (Int64) :=
  some (x3)
noncomputable def xo_X5_better_TF (z_TF_none : Int64) (x1 : Int64) (x3 : Int64) : Option (Int64) :=
  if x3 = z_TF_none then (xo_X5_better_TF_J31 x1) else (if x1 = z_TF_none then (xo_X5_better_TF_J27 x3) else ((xo_X8_isBetter_TF x3 x1).bind fun v3 =>
  if v3 = 0 then (xo_X5_better_TF_J31 x1) else (xo_X5_better_TF_J27 x3)))
noncomputable def xo_X5_betters_TF_L13 (z_TF_by : Int32) (z_TF_times : Int32) (z_TF_of : Int32) (z_L_places : Int32) (z_L_to : Int32) (z_Ld_size : Int32) (z_TF_none : Int64) (a_X_knowing : Nat → Int32) (a_UNIT : Nat → Int32) (a_L_seen : Nat → Int32) (a_W_world : Nat → Int64) (a_W_likely : Nat → Int64) (a_TF_value : Nat → Int64) (n_r : Nat) (p_road_hours : Nat → Int32) (p_road_wait : Nat → Int32) (p_road_number : Nat → Int32) (g_grid : Nat → Nat → Int32) (x1 : Int32) (x2 : Int32) : (Int64 × Int32) → Option ((Int64 × Int32) ⊕ ((Int64))) := fun (y3, y4) =>
  if z_L_places ≤ y4 then (some (.inr y3)) else ((xo_X5_going_TF z_TF_by z_TF_times z_TF_of z_L_to z_Ld_size z_TF_none a_X_knowing a_UNIT a_L_seen a_W_world a_W_likely a_TF_value n_r p_road_hours p_road_wait p_road_number g_grid x1 y4 x2).bind fun v6 =>
  (xo_X5_better_TF z_TF_none y3 v6).bind fun v8 =>
  (some (y4 + 1)).bind fun v10 =>
  some (.inl ((v8, v10))))
noncomputable def xo_X5_betters_TF_L53 (z_TF_by : Int32) (z_TF_times : Int32) (z_TF_of : Int32) (z_L_to : Int32) (z_Ld_size : Int32) (z_Lw_size : Int32) (z_TF_none : Int64) (a_X_knowing : Nat → Int32) (a_UNIT : Nat → Int32) (a_Lw_data : Nat → Int32) (a_L_seen : Nat → Int32) (a_W_world : Nat → Int64) (a_W_likely : Nat → Int64) (a_TF_value : Nat → Int64) (n_w : Nat) (p_word_place : Nat → Int32) (p_word_road : Nat → Int32) (p_word_hours : Nat → Int32) (x1 : Int32) (x2 : Int32) : (Int64 × Int32) → Option ((Int64 × Int32) ⊕ ((Int64))) := fun (y12, y13) =>
  (xo_J2_size_Lw z_Lw_size).bind fun v14 =>
  if v14 ≤ y13 then (some (.inr y12)) else ((xo_X5_buying_TF z_TF_by z_TF_times z_TF_of z_L_to z_Ld_size z_Lw_size z_TF_none a_X_knowing a_UNIT a_Lw_data a_L_seen a_W_world a_W_likely a_TF_value n_w p_word_place p_word_road p_word_hours x1 y13 x2).bind fun v17 =>
  (xo_X5_better_TF z_TF_none y12 v17).bind fun v19 =>
  (some (y13 + 1)).bind fun v21 =>
  some (.inl ((v19, v21))))
noncomputable def xo_X5_betters_TF (z_TF_by : Int32) (z_TF_times : Int32) (z_TF_of : Int32) (z_L_places : Int32) (z_L_to : Int32) (z_Ld_size : Int32) (z_Lw_size : Int32) (z_TF_none : Int64) (a_X_knowing : Nat → Int32) (a_UNIT : Nat → Int32) (a_Lw_data : Nat → Int32) (a_L_seen : Nat → Int32) (a_W_world : Nat → Int64) (a_W_likely : Nat → Int64) (a_TF_value : Nat → Int64) (n_r : Nat) (n_w : Nat) (p_road_hours : Nat → Int32) (p_road_wait : Nat → Int32) (p_road_number : Nat → Int32) (p_word_place : Nat → Int32) (p_word_road : Nat → Int32) (p_word_hours : Nat → Int32) (g_grid : Nat → Nat → Int32) (x1 : Int32) (x2 : Int32) : Option (Int32 × (Nat → Int64)) :=
  (xo_X5_value_TF a_TF_value x1 x2).bind fun v1 =>
  (loop (xo_X5_betters_TF_L13 z_TF_by z_TF_times z_TF_of z_L_places z_L_to z_Ld_size z_TF_none a_X_knowing a_UNIT a_L_seen a_W_world a_W_likely a_TF_value n_r p_road_hours p_road_wait p_road_number g_grid x1 x2) (v1, 0)).bind fun y11 =>
  (loop (xo_X5_betters_TF_L53 z_TF_by z_TF_times z_TF_of z_L_to z_Ld_size z_Lw_size z_TF_none a_X_knowing a_UNIT a_Lw_data a_L_seen a_W_world a_W_likely a_TF_value n_w p_word_place p_word_road p_word_hours x1 x2) (y11, 0)).bind fun y22 =>
  (wrL a_TF_value 7290 ((10 * x2) + x1) y22).bind fun a23 =>
  if y22 = v1 then (some (0, a23)) else (some (1, a23))
noncomputable def xo_X5_lay_2_TF_J52 (y1 : Int32) (a2 : Nat → Int64) (k4 : Int64) (k5 : Int32) : Option ((Int32 × (Nat → Int64)) ⊕ (((Nat → Int64)))) :=
  (wrL a2 7290 k5 k4).bind fun a6 =>
  (some (y1 + 1)).bind fun v7 =>
  some (.inl ((v7, a6)))
noncomputable def xo_X5_lay_2_TF_L2 (z_TF_by : Int32) (z_TF_times : Int32) (z_TF_of : Int32) (z_L_places : Int32) (z_L_to : Int32) (z_Ld_size : Int32) (z_TF_none : Int64) (a_X_knowing : Nat → Int32) (a_UNIT : Nat → Int32) (a_W_world : Nat → Int64) (x1 : Int32) : (Int32 × (Nat → Int64)) → Option ((Int32 × (Nat → Int64)) ⊕ (((Nat → Int64)))) := fun (y1, a2) =>
  if z_L_places ≤ y1 then (some (.inr a2)) else (if y1 = z_L_to then ((xo_X8_end_TF z_TF_by z_TF_times z_TF_of z_Ld_size a_X_knowing a_UNIT a_W_world x1).bind fun v9 =>
  xo_X5_lay_2_TF_J52 y1 a2 v9 ((10 * x1) + y1)) else (xo_X5_lay_2_TF_J52 y1 a2 z_TF_none ((10 * x1) + y1)))
noncomputable def xo_X5_lay_2_TF_J121 (y16 : Int32) (y19 : Int32) (a20 : Nat → Int64) : Option ((Int32 × Int32 × (Nat → Int64)) ⊕ ((Int32 × (Nat → Int64)))) :=
  (some (y16 + 1)).bind fun v21 =>
  some (.inl ((y19, v21, a20)))
noncomputable def xo_X5_lay_2_TF_L69 (z_TF_by : Int32) (z_TF_times : Int32) (z_TF_of : Int32) (z_L_places : Int32) (z_L_to : Int32) (z_Ld_size : Int32) (z_Lw_size : Int32) (z_TF_none : Int64) (a_X_knowing : Nat → Int32) (a_UNIT : Nat → Int32) (a_Lw_data : Nat → Int32) (a_L_seen : Nat → Int32) (a_W_world : Nat → Int64) (a_W_likely : Nat → Int64) (n_r : Nat) (n_w : Nat) (p_road_hours : Nat → Int32) (p_road_wait : Nat → Int32) (p_road_number : Nat → Int32) (p_word_place : Nat → Int32) (p_word_road : Nat → Int32) (p_word_hours : Nat → Int32) (g_grid : Nat → Nat → Int32) (x1 : Int32) : (Int32 × Int32 × (Nat → Int64)) → Option ((Int32 × Int32 × (Nat → Int64)) ⊕ ((Int32 × (Nat → Int64)))) := fun (y15, y16, a17) =>
  if z_L_places ≤ y16 then (some (.inr (y15, a17))) else (if y16 = z_L_to then (xo_X5_lay_2_TF_J121 y16 y15 a17) else ((xo_X3_unseen z_Ld_size a_UNIT a_L_seen y16 x1).bind fun v23 =>
  if v23 = 0 then ((xo_X5_betters_TF z_TF_by z_TF_times z_TF_of z_L_places z_L_to z_Ld_size z_Lw_size z_TF_none a_X_knowing a_UNIT a_Lw_data a_L_seen a_W_world a_W_likely a17 n_r n_w p_road_hours p_road_wait p_road_number p_word_place p_word_road p_word_hours g_grid y16 x1).bind fun (v26, a27) =>
  (some (y15 ||| v26)).bind fun v29 =>
  xo_X5_lay_2_TF_J121 y16 v29 a27) else (xo_X5_lay_2_TF_J121 y16 y15 a17)))
noncomputable def xo_X5_lay_2_TF_L61 (z_TF_by : Int32) (z_TF_times : Int32) (z_TF_of : Int32) (z_L_places : Int32) (z_L_to : Int32) (z_Ld_size : Int32) (z_Lw_size : Int32) (z_TF_none : Int64) (a_X_knowing : Nat → Int32) (a_UNIT : Nat → Int32) (a_Lw_data : Nat → Int32) (a_L_seen : Nat → Int32) (a_W_world : Nat → Int64) (a_W_likely : Nat → Int64) (n_r : Nat) (n_w : Nat) (p_road_hours : Nat → Int32) (p_road_wait : Nat → Int32) (p_road_number : Nat → Int32) (p_word_place : Nat → Int32) (p_word_road : Nat → Int32) (p_word_hours : Nat → Int32) (g_grid : Nat → Nat → Int32) (x1 : Int32) : (Int32 × (Nat → Int64)) → Option ((Int32 × (Nat → Int64)) ⊕ (((Nat → Int64)))) := fun (y12, a13) =>
  if y12 = 0 then (some (.inr a13)) else ((loop (xo_X5_lay_2_TF_L69 z_TF_by z_TF_times z_TF_of z_L_places z_L_to z_Ld_size z_Lw_size z_TF_none a_X_knowing a_UNIT a_Lw_data a_L_seen a_W_world a_W_likely n_r n_w p_road_hours p_road_wait p_road_number p_word_place p_word_road p_word_hours g_grid x1) (0, 0, a13)).bind fun (y30, a31) =>
  some (.inl ((y30, a31))))
noncomputable def xo_X5_lay_2_TF (z_TF_by : Int32) (z_TF_times : Int32) (z_TF_of : Int32) (z_L_places : Int32) (z_L_to : Int32) (z_Ld_size : Int32) (z_Lw_size : Int32) (z_TF_none : Int64) (a_X_knowing : Nat → Int32) (a_UNIT : Nat → Int32) (a_Lw_data : Nat → Int32) (a_L_seen : Nat → Int32) (a_W_world : Nat → Int64) (a_W_likely : Nat → Int64) (a_TF_value : Nat → Int64) (n_r : Nat) (n_w : Nat) (p_road_hours : Nat → Int32) (p_road_wait : Nat → Int32) (p_road_number : Nat → Int32) (p_word_place : Nat → Int32) (p_word_road : Nat → Int32) (p_word_hours : Nat → Int32) (g_grid : Nat → Nat → Int32) (x1 : Int32) : Option ((Nat → Int64)) :=
  (loop (xo_X5_lay_2_TF_L2 z_TF_by z_TF_times z_TF_of z_L_places z_L_to z_Ld_size z_TF_none a_X_knowing a_UNIT a_W_world x1) (0, a_TF_value)).bind fun a11 =>
  (loop (xo_X5_lay_2_TF_L61 z_TF_by z_TF_times z_TF_of z_L_places z_L_to z_Ld_size z_Lw_size z_TF_none a_X_knowing a_UNIT a_Lw_data a_L_seen a_W_world a_W_likely n_r n_w p_road_hours p_road_wait p_road_number p_word_place p_word_road p_word_hours g_grid x1) (1, a11)).bind fun a32 =>
  some (a32)
noncomputable def xo_X5_lay_TF_W_J68 (y6 : Int32) (a13 : Nat → Int64) : Option ((Int32 × (Nat → Int64)) ⊕ (((Nat → Int64)))) :=
  (some (y6 + 1)).bind fun v14 =>
  some (.inl ((v14, a13)))
noncomputable def xo_X5_lay_TF_W_L26 (z_TF_times : Int32) (z_TF_of : Int32) (z_L_places : Int32) (z_L_to : Int32) (z_Ld_size : Int32) (z_Lw_size : Int32) (z_TF_none : Int64) (a_X_knowing : Nat → Int32) (a_UNIT : Nat → Int32) (a_Lw_data : Nat → Int32) (a_L_seen : Nat → Int32) (a_W_world : Nat → Int64) (a_W_likely : Nat → Int64) (n_r : Nat) (n_w : Nat) (p_road_hours : Nat → Int32) (p_road_wait : Nat → Int32) (p_road_number : Nat → Int32) (p_word_place : Nat → Int32) (p_word_road : Nat → Int32) (p_word_hours : Nat → Int32) (g_grid : Nat → Nat → Int32) (y1 : Int32) : (Int32 × (Nat → Int64)) → Option ((Int32 × (Nat → Int64)) ⊕ (((Nat → Int64)))) := fun (y6, a7) =>
  (xo_X3_knowns z_Ld_size a_UNIT).bind fun v8 =>
  if v8 ≤ y6 then (some (.inr a7)) else ((ckz 0).bind fun v11 =>
  (rdL a_W_likely 729 y6).bind fun v12 =>
  if v12 ≤ 0 then (xo_X5_lay_TF_W_J68 y6 a7) else ((xo_X5_notKnown_TF z_Ld_size a_UNIT y6).bind fun v16 =>
  if v16 = y1 then ((xo_X5_lay_2_TF 0 z_TF_times z_TF_of z_L_places z_L_to z_Ld_size z_Lw_size z_TF_none a_X_knowing a_UNIT a_Lw_data a_L_seen a_W_world a_W_likely a7 n_r n_w p_road_hours p_road_wait p_road_number p_word_place p_word_road p_word_hours g_grid y6).bind fun a19 =>
  xo_X5_lay_TF_W_J68 y6 a19) else (xo_X5_lay_TF_W_J68 y6 a7)))
noncomputable def xo_X5_lay_TF_W_L7 (z_TF_times : Int32) (z_TF_of : Int32) (z_L_places : Int32) (z_L_to : Int32) (z_Ld_size : Int32) (z_Lw_size : Int32) (z_TF_none : Int64) (a_X_knowing : Nat → Int32) (a_UNIT : Nat → Int32) (a_Lw_data : Nat → Int32) (a_L_seen : Nat → Int32) (a_W_world : Nat → Int64) (a_W_likely : Nat → Int64) (n_r : Nat) (n_w : Nat) (p_road_hours : Nat → Int32) (p_road_wait : Nat → Int32) (p_road_number : Nat → Int32) (p_word_place : Nat → Int32) (p_word_road : Nat → Int32) (p_word_hours : Nat → Int32) (g_grid : Nat → Nat → Int32) : (Int32 × (Nat → Int64)) → Option ((Int32 × (Nat → Int64)) ⊕ (((Nat → Int64)))) := fun (y1, a2) =>
  (xo_J2_size_Ld z_Ld_size).bind fun v3 =>
  if v3 < y1 then (some (.inr a2)) else ((loop (xo_X5_lay_TF_W_L26 z_TF_times z_TF_of z_L_places z_L_to z_Ld_size z_Lw_size z_TF_none a_X_knowing a_UNIT a_Lw_data a_L_seen a_W_world a_W_likely n_r n_w p_road_hours p_road_wait p_road_number p_word_place p_word_road p_word_hours g_grid y1) (0, a2)).bind fun a21 =>
  (some (y1 + 1)).bind fun v22 =>
  some (.inl ((v22, a21))))
noncomputable def xo_X5_lay_TF_W (z_TF_by : Int32) (z_TF_times : Int32) (z_TF_of : Int32) (z_L_places : Int32) (z_L_to : Int32) (z_Ld_size : Int32) (z_Lw_size : Int32) (z_TF_none : Int64) (a_X_knowing : Nat → Int32) (a_UNIT : Nat → Int32) (a_Lw_data : Nat → Int32) (a_L_seen : Nat → Int32) (a_W_world : Nat → Int64) (a_W_likely : Nat → Int64) (a_TF_value : Nat → Int64) (n_r : Nat) (n_w : Nat) (p_road_hours : Nat → Int32) (p_road_wait : Nat → Int32) (p_road_number : Nat → Int32) (p_word_place : Nat → Int32) (p_word_road : Nat → Int32) (p_word_hours : Nat → Int32) (g_grid : Nat → Nat → Int32) : Option ((Int32) × (Nat → Int64)) :=
  (loop (xo_X5_lay_TF_W_L7 z_TF_times z_TF_of z_L_places z_L_to z_Ld_size z_Lw_size z_TF_none a_X_knowing a_UNIT a_Lw_data a_L_seen a_W_world a_W_likely n_r n_w p_road_hours p_road_wait p_road_number p_word_place p_word_road p_word_hours g_grid) (0, a_TF_value)).bind fun a23 =>
  some (0, a23)
noncomputable def xo_X8_holds_TF_J56 (x1 : Int32) (z1 : Int32) (a2 : Nat → Int64) (x2 : Int32) : Option (Int32 × (Int32) × (Int32) × (Int32) × (Nat → Int64)) :=
  some (0, z1, x1, x2, a2)
noncomputable def xo_X8_holds_TF (z_TF_by : Int32) (z_TF_times : Int32) (z_TF_of : Int32) (z_L_places : Int32) (z_L_from : Int32) (z_L_to : Int32) (z_Ld_size : Int32) (z_Lw_size : Int32) (z_TF_none : Int64) (a_X_knowing : Nat → Int32) (a_UNIT : Nat → Int32) (a_Lw_data : Nat → Int32) (a_L_seen : Nat → Int32) (a_W_world : Nat → Int64) (a_W_likely : Nat → Int64) (a_TF_value : Nat → Int64) (n_r : Nat) (n_w : Nat) (p_road_hours : Nat → Int32) (p_road_wait : Nat → Int32) (p_road_number : Nat → Int32) (p_word_place : Nat → Int32) (p_word_road : Nat → Int32) (p_word_hours : Nat → Int32) (g_grid : Nat → Nat → Int32) (x1 : Int32) (x2 : Int32) : Option (Int32 × (Int32) × (Int32) × (Int32) × (Nat → Int64)) :=
  (xo_X5_lay_TF_W z_TF_by x1 x2 z_L_places z_L_to z_Ld_size z_Lw_size z_TF_none a_X_knowing a_UNIT a_Lw_data a_L_seen a_W_world a_W_likely a_TF_value n_r n_w p_road_hours p_road_wait p_road_number p_word_place p_word_road p_word_hours g_grid).bind fun (z1, a2) =>
  (xo_X5_arriving_TF z1 x1 x2 z_L_to z_Ld_size z_TF_none a_X_knowing a_UNIT a_L_seen a_W_world a_W_likely a2 z_L_from 0).bind fun v4 =>
  if v4 = z_TF_none then (xo_X8_holds_TF_J56 x1 z1 a2 x2) else (if v4 < 0 then (xo_X8_holds_TF_J56 x1 z1 a2 x2) else (some (1, z1, x1, x2, a2)))
noncomputable def xo_X1_seekFair_J83 (y4 : Int32) (y9 : Int32) : Option ((Int32 × Int32) ⊕ ((Unit) ⊕ (Int32))) :=
  (some (y4 + 1)).bind fun v10 =>
  some (.inl ((y9, v10)))
noncomputable def xo_X1_seekFair_L26 (z_Ld_size : Int32) (a_X_knowing : Nat → Int32) (a_W_world : Nat → Int64) (v1 : Int32) : (Int32 × Int32) → Option ((Int32 × Int32) ⊕ ((Unit) ⊕ (Int32))) := fun (y3, y4) =>
  (xo_X3_worlds z_Ld_size).bind fun v5 =>
  if v5 ≤ y4 then (some (.inr (.inr y3))) else ((rdL a_W_world 64 y4).bind fun v8 =>
  if v8 = 0 then (xo_X1_seekFair_J83 y4 y3) else ((rdI a_X_knowing 64 y4).bind fun v12 =>
  if v12 = (-2) then (some (.inr (.inl (())))) else (if v1 = (-2) then (some (.inr (.inl (())))) else ((rdI a_X_knowing 64 y4).bind fun v15 =>
  (some (if v15 < y3 then v15 else y3)).bind fun v16 =>
  xo_X1_seekFair_J83 y4 v16))))
noncomputable def xo_X1_seekFair_J258 (y20 : Int32) (y30 : Int32) (y31 : Int32) (z32 : Int32) (z33 : Int32) (z34 : Int32) (a35 : Nat → Int64) : Option ((Int32 × Int32 × Int32 × Int32 × Int32 × Int32 × (Nat → Int64)) ⊕ ((Int32 × Int32 × Int32 × Int32 × Int32 × (Nat → Int64)))) :=
  (some (y20 + 1)).bind fun v36 =>
  some (.inl ((y30, y31, v36, z32, z33, z34, a35)))
noncomputable def xo_X1_seekFair_J213 (z53 : Int32) (z54 : Int32) (z55 : Int32) (a56 : Nat → Int64) (y58 : Int32) (y59 : Int32) : Option ((Int32 × Int32 × Int32 × Int32 × Int32 × (Nat → Int64)) ⊕ ((Int32 × Int32 × Int32 × Int32 × (Nat → Int64)))) :=
  some (.inl ((y58, y59, z53, z54, z55, a56)))
noncomputable def xo_X1_seekFair_L165 (z_L_places : Int32) (z_L_from : Int32) (z_L_to : Int32) (z_Ld_size : Int32) (z_Lw_size : Int32) (z_TF_none : Int64) (a_X_knowing : Nat → Int32) (a_UNIT : Nat → Int32) (a_Lw_data : Nat → Int32) (a_L_seen : Nat → Int32) (a_W_world : Nat → Int64) (a_W_likely : Nat → Int64) (n_r : Nat) (n_w : Nat) (p_road_hours : Nat → Int32) (p_road_wait : Nat → Int32) (p_road_number : Nat → Int32) (p_word_place : Nat → Int32) (p_word_road : Nat → Int32) (p_word_hours : Nat → Int32) (g_grid : Nat → Nat → Int32) (y20 : Int32) : (Int32 × Int32 × Int32 × Int32 × Int32 × (Nat → Int64)) → Option ((Int32 × Int32 × Int32 × Int32 × Int32 × (Nat → Int64)) ⊕ ((Int32 × Int32 × Int32 × Int32 × (Nat → Int64)))) := fun (y43, y44, z45, z46, z47, a48) =>
  if y44 - y43 ≤ 1 then (some (.inr (y44, z45, z46, z47, a48))) else ((some ((y43 + y44) >>> (1 &&& 31))).bind fun v50 =>
  (rdI a_X_knowing 64 y20).bind fun v51 =>
  (xo_X8_holds_TF z45 z46 z47 z_L_places z_L_from z_L_to z_Ld_size z_Lw_size z_TF_none a_X_knowing a_UNIT a_Lw_data a_L_seen a_W_world a_W_likely a48 n_r n_w p_road_hours p_road_wait p_road_number p_word_place p_word_road p_word_hours g_grid v50 v51).bind fun (v52, z53, z54, z55, a56) =>
  if v52 = 0 then (xo_X1_seekFair_J213 z53 z54 z55 a56 v50 y44) else (xo_X1_seekFair_J213 z53 z54 z55 a56 y43 v50))
noncomputable def xo_X1_seekFair_J246 (a_X_knowing : Nat → Int32) (y20 : Int32) (y61 : Int32) (z62 : Int32) (z63 : Int32) (z64 : Int32) (a65 : Nat → Int64) : Option ((Int32 × Int32 × Int32 × Int32 × Int32 × Int32 × (Nat → Int64)) ⊕ ((Int32 × Int32 × Int32 × Int32 × Int32 × (Nat → Int64)))) :=
  (rdI a_X_knowing 64 y20).bind fun v66 =>
  xo_X1_seekFair_J258 y20 y61 v66 z62 z63 z64 a65
noncomputable def xo_X1_seekFair_L102 (z_L_places : Int32) (z_L_from : Int32) (z_L_to : Int32) (z_Ld_size : Int32) (z_Lw_size : Int32) (z_TF_none : Int64) (a_X_knowing : Nat → Int32) (a_UNIT : Nat → Int32) (a_Lw_data : Nat → Int32) (a_L_seen : Nat → Int32) (a_W_world : Nat → Int64) (a_W_likely : Nat → Int64) (n_r : Nat) (n_w : Nat) (p_road_hours : Nat → Int32) (p_road_wait : Nat → Int32) (p_road_number : Nat → Int32) (p_word_place : Nat → Int32) (p_word_road : Nat → Int32) (p_word_hours : Nat → Int32) (g_grid : Nat → Nat → Int32) (v1 : Int32) (y17 : Int32) : (Int32 × Int32 × Int32 × Int32 × Int32 × Int32 × (Nat → Int64)) → Option ((Int32 × Int32 × Int32 × Int32 × Int32 × Int32 × (Nat → Int64)) ⊕ ((Int32 × Int32 × Int32 × Int32 × Int32 × (Nat → Int64)))) := fun (y18, y19, y20, z21, z22, z23, a24) =>
  (xo_X3_worlds z_Ld_size).bind fun v25 =>
  if v25 ≤ y20 then (some (.inr (y18, y19, z21, z22, z23, a24))) else (if y17 ≤ 0 then (some (.inr (y18, y19, z21, z22, z23, a24))) else ((rdL a_W_world 64 y20).bind fun v29 =>
  if v29 = 0 then (xo_X1_seekFair_J258 y20 y18 y19 z21 z22 z23 a24) else ((xo_X1_isAhead a_X_knowing a_W_world y20).bind fun v38 =>
  if v38 = 0 then ((rdI a_X_knowing 64 y20).bind fun v41 =>
  (dvI (((v1 * v41) + y17) - 1) y17).bind fun v42 =>
  (loop (xo_X1_seekFair_L165 z_L_places z_L_from z_L_to z_Ld_size z_Lw_size z_TF_none a_X_knowing a_UNIT a_Lw_data a_L_seen a_W_world a_W_likely n_r n_w p_road_hours p_road_wait p_road_number p_word_place p_word_road p_word_hours g_grid y20) (0, v42, z21, z22, z23, a24)).bind fun (y61, z62, z63, z64, a65) =>
  if y19 = 0 then (xo_X1_seekFair_J246 a_X_knowing y20 y61 z62 z63 z64 a65) else ((rdI a_X_knowing 64 y20).bind fun v68 =>
  if (y61.toInt64) * (y19.toInt64) < (y18.toInt64) * (v68.toInt64) then (xo_X1_seekFair_J246 a_X_knowing y20 y61 z62 z63 z64 a65) else (xo_X1_seekFair_J258 y20 y18 y19 z62 z63 z64 a65))) else (xo_X1_seekFair_J258 y20 y18 y19 z21 z22 z23 a24))))
noncomputable def xo_X1_seekFair_J272 (z_L_places : Int32) (z_L_from : Int32) (z_L_to : Int32) (z_Ld_size : Int32) (z_Lw_size : Int32) (z_TF_none : Int64) (a_X_knowing : Nat → Int32) (a_UNIT : Nat → Int32) (a_Lw_data : Nat → Int32) (a_L_seen : Nat → Int32) (a_W_world : Nat → Int64) (a_W_likely : Nat → Int64) (n_r : Nat) (n_w : Nat) (p_road_hours : Nat → Int32) (p_road_wait : Nat → Int32) (p_road_number : Nat → Int32) (p_word_place : Nat → Int32) (p_word_road : Nat → Int32) (p_word_hours : Nat → Int32) (g_grid : Nat → Nat → Int32) (y70 : Int32) (z72 : Int32) (z73 : Int32) (z74 : Int32) (a75 : Nat → Int64) (y76 : Int32) : Option ((Int32) × (Int32) × (Int32) × (Int32) × (Int32) × (Nat → Int64)) :=
  (xo_X8_holds_TF z72 z73 z74 z_L_places z_L_from z_L_to z_Ld_size z_Lw_size z_TF_none a_X_knowing a_UNIT a_Lw_data a_L_seen a_W_world a_W_likely a75 n_r n_w p_road_hours p_road_wait p_road_number p_word_place p_word_road p_word_hours g_grid y70 y76).bind fun (v77, z78, z79, z80, a81) =>
  some (1, 1, z78, z79, z80, a81)
noncomputable def xo_X1_seekFair (z_X_isFair : Int32) (z_X_hasFair : Int32) (z_TS_by : Int32) (z_TF_by : Int32) (z_TF_times : Int32) (z_TF_of : Int32) (z_L_places : Int32) (z_L_from : Int32) (z_L_to : Int32) (z_Ld_size : Int32) (z_Lw_size : Int32) (z_TS_none : Int64) (z_TF_none : Int64) (a_X_knowing : Nat → Int32) (a_UNIT : Nat → Int32) (a_Lw_data : Nat → Int32) (a_L_seen : Nat → Int32) (a_W_world : Nat → Int64) (a_W_likely : Nat → Int64) (a_TS_value : Nat → Int64) (a_TF_value : Nat → Int64) (n_r : Nat) (n_w : Nat) (p_road_hours : Nat → Int32) (p_road_wait : Nat → Int32) (p_road_number : Nat → Int32) (p_word_place : Nat → Int32) (p_word_road : Nat → Int32) (p_word_hours : Nat → Int32) (g_grid : Nat → Nat → Int32) : Option ((Int32) × (Int32) × (Int32) × (Int32) × (Int32) × (Nat → Int64)) :=
  (xo_X9_worst_p1 z_TS_by z_L_places z_L_from z_L_to z_Ld_size z_Lw_size z_TS_none a_UNIT a_Lw_data a_L_seen a_W_world a_W_likely a_TS_value n_r n_w p_road_hours p_road_wait p_road_number p_word_place p_word_road p_word_hours g_grid).bind fun v1 =>
  (loop (xo_X1_seekFair_L26 z_Ld_size a_X_knowing a_W_world v1) (1000000, 0)).bind (sE (fun _ =>
  some (1, 0, z_TF_by, z_TF_times, z_TF_of, a_TF_value)) (fun y17 =>
  (loop (xo_X1_seekFair_L102 z_L_places z_L_from z_L_to z_Ld_size z_Lw_size z_TF_none a_X_knowing a_UNIT a_Lw_data a_L_seen a_W_world a_W_likely n_r n_w p_road_hours p_road_wait p_road_number p_word_place p_word_road p_word_hours g_grid v1 y17) (0, 0, 0, z_TF_by, z_TF_times, z_TF_of, a_TF_value)).bind fun (y70, y71, z72, z73, z74, a75) =>
  if y71 = 0 then (xo_X1_seekFair_J272 z_L_places z_L_from z_L_to z_Ld_size z_Lw_size z_TF_none a_X_knowing a_UNIT a_Lw_data a_L_seen a_W_world a_W_likely n_r n_w p_road_hours p_road_wait p_road_number p_word_place p_word_road p_word_hours g_grid y70 z72 z73 z74 a75 1) else (xo_X1_seekFair_J272 z_L_places z_L_from z_L_to z_Ld_size z_Lw_size z_TF_none a_X_knowing a_UNIT a_Lw_data a_L_seen a_W_world a_W_likely n_r n_w p_road_hours p_road_wait p_road_number p_word_place p_word_road p_word_hours g_grid y70 z72 z73 z74 a75 y71)))
noncomputable def xo_X1_plan_J42 (z1 : Int32) (z2 : Int32) (z3 : Int32) (z4 : Int64) (a5 : Nat → Int32) (a6 : Nat → Int32) (a7 : Nat → Int64) (a8 : Nat → Int64) (a9 : Nat → Int64) (a10 : Nat → Int64) (z12 : Int32) (z13 : Int32) (z14 : Int32) (z15 : Int32) (z16 : Int32) (a17 : Nat → Int64) (k18 : Int32) : Option (Int32 × (Int32) × (Int32) × (Int32) × (Int32) × (Int32) × (Int32) × (Int32) × (Int32) × (Int64) × (Nat → Int32) × (Nat → Int32) × (Nat → Int64) × (Nat → Int64) × (Nat → Int64) × (Nat → Int64) × (Nat → Int64)) :=
  some (k18, z1, z12, z13, z2, z3, z14, z15, z16, z4, a5, a6, a7, a8, a9, a10, a17)
noncomputable def xo_X1_plan_J36 (x1 : Int32) (z1 : Int32) (z2 : Int32) (z3 : Int32) (z4 : Int64) (a5 : Nat → Int32) (a6 : Nat → Int32) (a7 : Nat → Int64) (a8 : Nat → Int64) (a9 : Nat → Int64) (a10 : Nat → Int64) (z12 : Int32) (z13 : Int32) (z14 : Int32) (z15 : Int32) (z16 : Int32) (a17 : Nat → Int64) : Option (Int32 × (Int32) × (Int32) × (Int32) × (Int32) × (Int32) × (Int32) × (Int32) × (Int32) × (Int64) × (Nat → Int32) × (Nat → Int32) × (Nat → Int64) × (Nat → Int64) × (Nat → Int64) × (Nat → Int64) × (Nat → Int64)) :=
  (ixI 7 x1).bind fun v19 =>
  xo_X1_plan_J42 z1 z2 z3 z4 a5 a6 a7 a8 a9 a10 z12 z13 z14 z15 z16 a17 v19
noncomputable def xo_X1_plan_J20 (x1 : Int32) (z1 : Int32) (z2 : Int32) (z3 : Int32) (z4 : Int64) (a5 : Nat → Int32) (a6 : Nat → Int32) (a7 : Nat → Int64) (a8 : Nat → Int64) (a9 : Nat → Int64) (a10 : Nat → Int64) (z12 : Int32) (z13 : Int32) (z14 : Int32) (z15 : Int32) (z16 : Int32) (a17 : Nat → Int64) : Option (Int32 × (Int32) × (Int32) × (Int32) × (Int32) × (Int32) × (Int32) × (Int32) × (Int32) × (Int64) × (Nat → Int32) × (Nat → Int32) × (Nat → Int64) × (Nat → Int64) × (Nat → Int64) × (Nat → Int64) × (Nat → Int64)) :=
  if x1 = 2 then (if z13 = 0 then (xo_X1_plan_J42 z1 z2 z3 z4 a5 a6 a7 a8 a9 a10 z12 z13 z14 z15 z16 a17 (-1)) else (xo_X1_plan_J36 x1 z1 z2 z3 z4 a5 a6 a7 a8 a9 a10 z12 z13 z14 z15 z16 a17)) else (xo_X1_plan_J36 x1 z1 z2 z3 z4 a5 a6 a7 a8 a9 a10 z12 z13 z14 z15 z16 a17)
noncomputable def xo_X1_plan (z_X_isLaid : Int32) (z_X_isFair : Int32) (z_X_hasFair : Int32) (z_TB_by : Int32) (z_TS_by : Int32) (z_TF_by : Int32) (z_TF_times : Int32) (z_TF_of : Int32) (z_L_places : Int32) (z_L_causes : Int32) (z_L_from : Int32) (z_L_to : Int32) (z_Ld_size : Int32) (z_Lw_size : Int32) (z_W_all : Int64) (z_TB_none : Int64) (z_TS_none : Int64) (z_TF_none : Int64) (a_X_knowing : Nat → Int32) (a_p3_far : Nat → Int32) (a_UNIT : Nat → Int32) (a_Ld_data : Nat → Int32) (a_Lw_data : Nat → Int32) (a_L_comes : Nat → Int32) (a_L_seen : Nat → Int32) (a_W_world : Nat → Int64) (a_W_likely : Nat → Int64) (a_TB_value : Nat → Int64) (a_TS_value : Nat → Int64) (a_TF_value : Nat → Int64) (n_r : Nat) (n_w : Nat) (p_road_hours : Nat → Int32) (p_road_doubt : Nat → Int32) (p_road_cause : Nat → Int32) (p_road_wait : Nat → Int32) (p_road_number : Nat → Int32) (p_word_place : Nat → Int32) (p_word_road : Nat → Int32) (p_word_hours : Nat → Int32) (g_grid : Nat → Nat → Int32) (x1 : Int32) : Option (Int32 × (Int32) × (Int32) × (Int32) × (Int32) × (Int32) × (Int32) × (Int32) × (Int32) × (Int64) × (Nat → Int32) × (Nat → Int32) × (Nat → Int64) × (Nat → Int64) × (Nat → Int64) × (Nat → Int64) × (Nat → Int64)) :=
  (xo_X1_lay z_X_isLaid z_TB_by z_TS_by z_L_places z_L_causes z_L_from z_L_to z_Ld_size z_Lw_size z_W_all z_TB_none z_TS_none a_X_knowing a_p3_far a_UNIT a_Ld_data a_Lw_data a_L_comes a_L_seen a_W_world a_W_likely a_TB_value a_TS_value n_r n_w p_road_hours p_road_doubt p_road_cause p_road_wait p_road_number p_word_place p_word_road p_word_hours g_grid).bind fun (z1, z2, z3, z4, a5, a6, a7, a8, a9, a10) =>
  if x1 = 2 then (if z_X_isFair = 0 then ((xo_X1_seekFair z_X_isFair z_X_hasFair z3 z_TF_by z_TF_times z_TF_of z_L_places z_L_from z_L_to z_Ld_size z_Lw_size z_TS_none z_TF_none a5 a_UNIT a_Lw_data a_L_seen a7 a8 a10 a_TF_value n_r n_w p_road_hours p_road_wait p_road_number p_word_place p_word_road p_word_hours g_grid).bind fun (z24, z25, z26, z27, z28, a29) =>
  xo_X1_plan_J20 x1 z1 z2 z3 z4 a5 a6 a7 a8 a9 a10 z24 z25 z26 z27 z28 a29) else (xo_X1_plan_J20 x1 z1 z2 z3 z4 a5 a6 a7 a8 a9 a10 z_X_isFair z_X_hasFair z_TF_by z_TF_times z_TF_of a_TF_value)) else (xo_X1_plan_J20 x1 z1 z2 z3 z4 a5 a6 a7 a8 a9 a10 z_X_isFair z_X_hasFair z_TF_by z_TF_times z_TF_of a_TF_value)
noncomputable def xo_X1_hours (z_X_isLaid : Int32) (z_X_isFair : Int32) (z_X_hasFair : Int32) (z_TB_by : Int32) (z_TS_by : Int32) (z_TF_by : Int32) (z_TF_times : Int32) (z_TF_of : Int32) (z_ru_size : Int32) (z_p5_many : Int32) (z_L_places : Int32) (z_L_causes : Int32) (z_L_from : Int32) (z_L_to : Int32) (z_Ld_size : Int32) (z_Lw_size : Int32) (z_W_all : Int64) (z_TB_none : Int64) (z_TS_none : Int64) (z_TF_none : Int64) (a_X_knowing : Nat → Int32) (a_p5_far : Nat → Int32) (a_p3_far : Nat → Int32) (a_p4_far : Nat → Int32) (a_p5_row : Nat → Int32) (a_UNIT : Nat → Int32) (a_ru_data : Nat → Int32) (a_Ld_data : Nat → Int32) (a_Lw_data : Nat → Int32) (a_L_comes : Nat → Int32) (a_L_seen : Nat → Int32) (a_W_world : Nat → Int64) (a_W_likely : Nat → Int64) (a_TB_value : Nat → Int64) (a_TS_value : Nat → Int64) (a_TF_value : Nat → Int64) (n_r : Nat) (n_w : Nat) (n_u : Nat) (p_road_hours : Nat → Int32) (p_road_doubt : Nat → Int32) (p_road_cause : Nat → Int32) (p_road_wait : Nat → Int32) (p_road_number : Nat → Int32) (p_word_place : Nat → Int32) (p_word_road : Nat → Int32) (p_word_hours : Nat → Int32) (p_rule_place : Nat → Int32) (p_rule_road : Nat → Int32) (p_rule_known : Nat → Int32) (p_rule_to : Nat → Int32) (g_grid : Nat → Nat → Int32) (x1 : Int32) (x2 : Int32) : Option (Int32 × (Int32) × (Int32) × (Int32) × (Int32) × (Int32) × (Int32) × (Int32) × (Int32) × (Int64) × (Nat → Int32) × (Nat → Int32) × (Nat → Int32) × (Nat → Int32) × (Nat → Int64) × (Nat → Int64) × (Nat → Int64) × (Nat → Int64) × (Nat → Int64)) :=
  (xo_X1_isPlan z_L_from z_L_to x1).bind fun v1 =>
  if v1 = 0 then (some ((-1), z_X_isLaid, z_X_isFair, z_X_hasFair, z_TB_by, z_TS_by, z_TF_by, z_TF_times, z_TF_of, z_W_all, a_X_knowing, a_p5_far, a_p3_far, a_p4_far, a_W_world, a_W_likely, a_TB_value, a_TS_value, a_TF_value)) else ((xo_X1_isWorld z_Ld_size x2).bind fun v4 =>
  if v4 = 0 then (some ((-1), z_X_isLaid, z_X_isFair, z_X_hasFair, z_TB_by, z_TS_by, z_TF_by, z_TF_times, z_TF_of, z_W_all, a_X_knowing, a_p5_far, a_p3_far, a_p4_far, a_W_world, a_W_likely, a_TB_value, a_TS_value, a_TF_value)) else ((xo_X1_plan z_X_isLaid z_X_isFair z_X_hasFair z_TB_by z_TS_by z_TF_by z_TF_times z_TF_of z_L_places z_L_causes z_L_from z_L_to z_Ld_size z_Lw_size z_W_all z_TB_none z_TS_none z_TF_none a_X_knowing a_p3_far a_UNIT a_Ld_data a_Lw_data a_L_comes a_L_seen a_W_world a_W_likely a_TB_value a_TS_value a_TF_value n_r n_w p_road_hours p_road_doubt p_road_cause p_road_wait p_road_number p_word_place p_word_road p_word_hours g_grid x1).bind fun (v7, z8, z9, z10, z11, z12, z13, z14, z15, z16, a17, a18, a19, a20, a21, a22, a23) =>
  (rdL a19 64 x2).bind fun v25 =>
  if v25 = 0 then (some ((-1), z8, z9, z10, z11, z12, z13, z14, z15, z16, a17, a_p5_far, a18, a_p4_far, a19, a20, a21, a22, a23)) else (if v7 < 0 then (some ((-2), z8, z9, z10, z11, z12, z13, z14, z15, z16, a17, a_p5_far, a18, a_p4_far, a19, a20, a21, a22, a23)) else ((xo_D_hours z11 z12 z13 z14 z15 z_ru_size z_p5_many z_L_places z_L_from z_L_to z_Ld_size z_Lw_size z_TB_none z_TS_none z_TF_none a17 a_p5_far a18 a_p4_far a_p5_row a_UNIT a_ru_data a_Lw_data a_L_seen a19 a20 a21 a22 a23 n_r n_w n_u p_road_hours p_road_wait p_road_number p_word_place p_word_road p_word_hours p_rule_place p_rule_road p_rule_known p_rule_to g_grid v7 x2).bind fun (v28, a29, a30, a31) =>
  some (v28, z8, z9, z10, z11, z12, z13, z14, z15, z16, a17, a29, a30, a31, a19, a20, a21, a22, a23)))))
noncomputable def xo_X4_open_O_W_L11  : (Int32 × (Nat → Int64)) → Option ((Int32 × (Nat → Int64)) ⊕ (((Nat → Int64)))) := fun (y1, a2) =>
  if 64 ≤ y1 then (some (.inr a2)) else ((wrL a2 64 y1 0).bind fun a4 =>
  (some (y1 + 1)).bind fun v5 =>
  some (.inl ((v5, a4))))
noncomputable def xo_X4_open_O_W_L35 (z_Ld_size : Int32) (a_W_world : Nat → Int64) (x3 : Int32) : (Int32 × (Nat → Int64)) → Option ((Int32 × (Nat → Int64)) ⊕ (((Nat → Int64)))) := fun (y7, a8) =>
  (xo_X3_worlds z_Ld_size).bind fun v9 =>
  if v9 ≤ y7 then (some (.inr a8)) else ((rdL a8 64 (y7 &&& ((1 <<< (x3 &&& 31)) ^^^ (-1)))).bind fun v12 =>
  (rdL a_W_world 64 y7).bind fun v13 =>
  (wrL a8 64 (y7 &&& ((1 <<< (x3 &&& 31)) ^^^ (-1))) (v12 + v13)).bind fun a14 =>
  (some (y7 + 1)).bind fun v15 =>
  some (.inl ((v15, a14))))
noncomputable def xo_X4_open_O_W (z_Ld_size : Int32) (z_W_all : Int64) (z_O_all : Int64) (a_UNIT : Nat → Int32) (a_W_world : Nat → Int64) (a_O_world : Nat → Int64) (a_O_likely : Nat → Int64) (x3 : Int32) : Option ((Int64) × (Nat → Int64) × (Nat → Int64)) :=
  (loop (xo_X4_open_O_W_L11) (0, a_O_world)).bind fun a6 =>
  (loop (xo_X4_open_O_W_L35 z_Ld_size a_W_world x3) (0, a6)).bind fun a16 =>
  (xo_X4_join_W z_Ld_size a_UNIT a16 a_O_likely).bind fun a17 =>
  some (z_W_all, a16, a17)
noncomputable def xo_X1_keep_J18 (z_X_isLaid : Int32) (z_TB_by : Int32) (z_TO_by : Int32) (z_TS_by : Int32) (z_W_all : Int64) (z_O_all : Int64) (a_X_knowing : Nat → Int32) (a_p3_far : Nat → Int32) (a_W_world : Nat → Int64) (a_W_likely : Nat → Int64) (a_O_world : Nat → Int64) (a_O_likely : Nat → Int64) (a_TB_value : Nat → Int64) (a_TO_value : Nat → Int64) (a_TS_value : Nat → Int64) : Option (Int64 × (Int32) × (Int32) × (Int32) × (Int32) × (Int64) × (Int64) × (Nat → Int32) × (Nat → Int32) × (Nat → Int64) × (Nat → Int64) × (Nat → Int64) × (Nat → Int64) × (Nat → Int64) × (Nat → Int64) × (Nat → Int64)) :=
  some ((-1), z_X_isLaid, z_TB_by, z_TO_by, z_TS_by, z_W_all, z_O_all, a_X_knowing, a_p3_far, a_W_world, a_W_likely, a_O_world, a_O_likely, a_TB_value, a_TO_value, a_TS_value)
noncomputable def xo_X1_keep (z_X_isLaid : Int32) (z_TB_by : Int32) (z_TO_by : Int32) (z_TS_by : Int32) (z_L_places : Int32) (z_L_causes : Int32) (z_L_from : Int32) (z_L_to : Int32) (z_Ld_size : Int32) (z_Lw_size : Int32) (z_W_all : Int64) (z_O_all : Int64) (z_TB_none : Int64) (z_TO_none : Int64) (z_TS_none : Int64) (a_X_knowing : Nat → Int32) (a_p3_far : Nat → Int32) (a_UNIT : Nat → Int32) (a_Ld_data : Nat → Int32) (a_Lw_data : Nat → Int32) (a_L_comes : Nat → Int32) (a_L_seen : Nat → Int32) (a_W_world : Nat → Int64) (a_W_likely : Nat → Int64) (a_O_world : Nat → Int64) (a_O_likely : Nat → Int64) (a_TB_value : Nat → Int64) (a_TO_value : Nat → Int64) (a_TS_value : Nat → Int64) (n_r : Nat) (n_w : Nat) (p_road_hours : Nat → Int32) (p_road_doubt : Nat → Int32) (p_road_cause : Nat → Int32) (p_road_wait : Nat → Int32) (p_road_number : Nat → Int32) (p_word_place : Nat → Int32) (p_word_road : Nat → Int32) (p_word_hours : Nat → Int32) (g_grid : Nat → Nat → Int32) (x1 : Int32) : Option (Int64 × (Int32) × (Int32) × (Int32) × (Int32) × (Int64) × (Int64) × (Nat → Int32) × (Nat → Int32) × (Nat → Int64) × (Nat → Int64) × (Nat → Int64) × (Nat → Int64) × (Nat → Int64) × (Nat → Int64) × (Nat → Int64)) :=
  (xo_X1_isDoubtful z_Ld_size x1).bind fun v1 =>
  if v1 = 0 then (xo_X1_keep_J18 z_X_isLaid z_TB_by z_TO_by z_TS_by z_W_all z_O_all a_X_knowing a_p3_far a_W_world a_W_likely a_O_world a_O_likely a_TB_value a_TO_value a_TS_value) else ((xo_X3_isWhole z_L_from z_L_to).bind fun v4 =>
  if v4 = 0 then (xo_X1_keep_J18 z_X_isLaid z_TB_by z_TO_by z_TS_by z_W_all z_O_all a_X_knowing a_p3_far a_W_world a_W_likely a_O_world a_O_likely a_TB_value a_TO_value a_TS_value) else ((xo_X1_lay z_X_isLaid z_TB_by z_TS_by z_L_places z_L_causes z_L_from z_L_to z_Ld_size z_Lw_size z_W_all z_TB_none z_TS_none a_X_knowing a_p3_far a_UNIT a_Ld_data a_Lw_data a_L_comes a_L_seen a_W_world a_W_likely a_TB_value a_TS_value n_r n_w p_road_hours p_road_doubt p_road_cause p_road_wait p_road_number p_word_place p_word_road p_word_hours g_grid).bind fun (z7, z8, z9, z10, a11, a12, a13, a14, a15, a16) =>
  (xo_X4_open_O_W z_Ld_size z10 z_O_all a_UNIT a13 a_O_world a_O_likely x1).bind fun (z18, a19, a20) =>
  (xo_X5_lay_TB_W z_TO_by z_L_places z_L_to z_Ld_size z_Lw_size z_TO_none a_UNIT a_Lw_data a_L_seen a20 a_TO_value n_r n_w p_road_hours p_road_wait p_road_number p_word_place p_word_road p_word_hours g_grid).bind fun (z22, a23) =>
  (xo_X5_arriving_TB z22 z_L_to z_Ld_size z_TO_none a_UNIT a_L_seen a20 a23 z_L_from 0).bind fun v25 =>
  (xo_X1_told_TB z_TO_none v25).bind fun v27 =>
  some (v27, z7, z8, z22, z9, z10, z18, a11, a12, a13, a14, a19, a20, a15, a23, a16)))
noncomputable def xo_X1_knowing (z_X_isLaid : Int32) (z_TB_by : Int32) (z_TS_by : Int32) (z_L_places : Int32) (z_L_causes : Int32) (z_L_from : Int32) (z_L_to : Int32) (z_Ld_size : Int32) (z_Lw_size : Int32) (z_W_all : Int64) (z_TB_none : Int64) (z_TS_none : Int64) (a_X_knowing : Nat → Int32) (a_p3_far : Nat → Int32) (a_UNIT : Nat → Int32) (a_Ld_data : Nat → Int32) (a_Lw_data : Nat → Int32) (a_L_comes : Nat → Int32) (a_L_seen : Nat → Int32) (a_W_world : Nat → Int64) (a_W_likely : Nat → Int64) (a_TB_value : Nat → Int64) (a_TS_value : Nat → Int64) (n_r : Nat) (n_w : Nat) (p_road_hours : Nat → Int32) (p_road_doubt : Nat → Int32) (p_road_cause : Nat → Int32) (p_road_wait : Nat → Int32) (p_road_number : Nat → Int32) (p_word_place : Nat → Int32) (p_word_road : Nat → Int32) (p_word_hours : Nat → Int32) (g_grid : Nat → Nat → Int32) (x1 : Int32) : Option (Int32 × (Int32) × (Int32) × (Int32) × (Int64) × (Nat → Int32) × (Nat → Int32) × (Nat → Int64) × (Nat → Int64) × (Nat → Int64) × (Nat → Int64)) :=
  (xo_X1_isWorld z_Ld_size x1).bind fun v1 =>
  if v1 = 0 then (some ((-1), z_X_isLaid, z_TB_by, z_TS_by, z_W_all, a_X_knowing, a_p3_far, a_W_world, a_W_likely, a_TB_value, a_TS_value)) else ((xo_X3_isWhole z_L_from z_L_to).bind fun v4 =>
  if v4 = 0 then (some ((-1), z_X_isLaid, z_TB_by, z_TS_by, z_W_all, a_X_knowing, a_p3_far, a_W_world, a_W_likely, a_TB_value, a_TS_value)) else ((xo_X1_lay z_X_isLaid z_TB_by z_TS_by z_L_places z_L_causes z_L_from z_L_to z_Ld_size z_Lw_size z_W_all z_TB_none z_TS_none a_X_knowing a_p3_far a_UNIT a_Ld_data a_Lw_data a_L_comes a_L_seen a_W_world a_W_likely a_TB_value a_TS_value n_r n_w p_road_hours p_road_doubt p_road_cause p_road_wait p_road_number p_word_place p_word_road p_word_hours g_grid).bind fun (z7, z8, z9, z10, a11, a12, a13, a14, a15, a16) =>
  (rdI a11 64 x1).bind fun v18 =>
  some (v18, z7, z8, z9, z10, a11, a12, a13, a14, a15, a16)))
noncomputable def xo_X1_likely (z_X_isLaid : Int32) (z_TB_by : Int32) (z_TS_by : Int32) (z_L_places : Int32) (z_L_causes : Int32) (z_L_from : Int32) (z_L_to : Int32) (z_Ld_size : Int32) (z_Lw_size : Int32) (z_W_all : Int64) (z_TB_none : Int64) (z_TS_none : Int64) (a_X_knowing : Nat → Int32) (a_p3_far : Nat → Int32) (a_UNIT : Nat → Int32) (a_Ld_data : Nat → Int32) (a_Lw_data : Nat → Int32) (a_L_comes : Nat → Int32) (a_L_seen : Nat → Int32) (a_W_world : Nat → Int64) (a_W_likely : Nat → Int64) (a_TB_value : Nat → Int64) (a_TS_value : Nat → Int64) (n_r : Nat) (n_w : Nat) (p_road_hours : Nat → Int32) (p_road_doubt : Nat → Int32) (p_road_cause : Nat → Int32) (p_road_wait : Nat → Int32) (p_road_number : Nat → Int32) (p_word_place : Nat → Int32) (p_word_road : Nat → Int32) (p_word_hours : Nat → Int32) (g_grid : Nat → Nat → Int32) (x1 : Int32) : Option (Int64 × (Int32) × (Int32) × (Int32) × (Int64) × (Nat → Int32) × (Nat → Int32) × (Nat → Int64) × (Nat → Int64) × (Nat → Int64) × (Nat → Int64)) :=
  (xo_X1_isKnown z_Ld_size a_UNIT x1).bind fun v1 =>
  if v1 = 0 then (some ((-1), z_X_isLaid, z_TB_by, z_TS_by, z_W_all, a_X_knowing, a_p3_far, a_W_world, a_W_likely, a_TB_value, a_TS_value)) else ((xo_X1_lay z_X_isLaid z_TB_by z_TS_by z_L_places z_L_causes z_L_from z_L_to z_Ld_size z_Lw_size z_W_all z_TB_none z_TS_none a_X_knowing a_p3_far a_UNIT a_Ld_data a_Lw_data a_L_comes a_L_seen a_W_world a_W_likely a_TB_value a_TS_value n_r n_w p_road_hours p_road_doubt p_road_cause p_road_wait p_road_number p_word_place p_word_road p_word_hours g_grid).bind fun (z4, z5, z6, z7, a8, a9, a10, a11, a12, a13) =>
  (rdL a11 729 x1).bind fun v15 =>
  some (v15, z4, z5, z6, z7, a8, a9, a10, a11, a12, a13))
noncomputable def xo_X1_mean (z_X_isLaid : Int32) (z_X_isFair : Int32) (z_X_hasFair : Int32) (z_TB_by : Int32) (z_TS_by : Int32) (z_TF_by : Int32) (z_TF_times : Int32) (z_TF_of : Int32) (z_ru_size : Int32) (z_p5_many : Int32) (z_L_places : Int32) (z_L_causes : Int32) (z_L_from : Int32) (z_L_to : Int32) (z_Ld_size : Int32) (z_Lw_size : Int32) (z_W_all : Int64) (z_TB_none : Int64) (z_TS_none : Int64) (z_TF_none : Int64) (a_X_knowing : Nat → Int32) (a_p5_far : Nat → Int32) (a_p3_far : Nat → Int32) (a_p4_far : Nat → Int32) (a_p5_row : Nat → Int32) (a_UNIT : Nat → Int32) (a_ru_data : Nat → Int32) (a_Ld_data : Nat → Int32) (a_Lw_data : Nat → Int32) (a_L_comes : Nat → Int32) (a_L_seen : Nat → Int32) (a_W_world : Nat → Int64) (a_W_likely : Nat → Int64) (a_TB_value : Nat → Int64) (a_TS_value : Nat → Int64) (a_TF_value : Nat → Int64) (n_r : Nat) (n_w : Nat) (n_u : Nat) (p_road_hours : Nat → Int32) (p_road_doubt : Nat → Int32) (p_road_cause : Nat → Int32) (p_road_wait : Nat → Int32) (p_road_number : Nat → Int32) (p_word_place : Nat → Int32) (p_word_road : Nat → Int32) (p_word_hours : Nat → Int32) (p_rule_place : Nat → Int32) (p_rule_road : Nat → Int32) (p_rule_known : Nat → Int32) (p_rule_to : Nat → Int32) (g_grid : Nat → Nat → Int32) (x1 : Int32) : Option (Int64 × (Int32) × (Int32) × (Int32) × (Int32) × (Int32) × (Int32) × (Int32) × (Int32) × (Int64) × (Nat → Int32) × (Nat → Int32) × (Nat → Int32) × (Nat → Int32) × (Nat → Int64) × (Nat → Int64) × (Nat → Int64) × (Nat → Int64) × (Nat → Int64)) :=
  (xo_X1_isPlan z_L_from z_L_to x1).bind fun v1 =>
  if v1 = 0 then (some ((-1), z_X_isLaid, z_X_isFair, z_X_hasFair, z_TB_by, z_TS_by, z_TF_by, z_TF_times, z_TF_of, z_W_all, a_X_knowing, a_p5_far, a_p3_far, a_p4_far, a_W_world, a_W_likely, a_TB_value, a_TS_value, a_TF_value)) else ((xo_X1_plan z_X_isLaid z_X_isFair z_X_hasFair z_TB_by z_TS_by z_TF_by z_TF_times z_TF_of z_L_places z_L_causes z_L_from z_L_to z_Ld_size z_Lw_size z_W_all z_TB_none z_TS_none z_TF_none a_X_knowing a_p3_far a_UNIT a_Ld_data a_Lw_data a_L_comes a_L_seen a_W_world a_W_likely a_TB_value a_TS_value a_TF_value n_r n_w p_road_hours p_road_doubt p_road_cause p_road_wait p_road_number p_word_place p_word_road p_word_hours g_grid x1).bind fun (v4, z5, z6, z7, z8, z9, z10, z11, z12, z13, a14, a15, a16, a17, a18, a19, a20) =>
  if v4 < 0 then (some ((-2), z5, z6, z7, z8, z9, z10, z11, z12, z13, a14, a_p5_far, a15, a_p4_far, a16, a17, a18, a19, a20)) else ((xo_D_mean z8 z9 z10 z11 z12 z_ru_size z_p5_many z_L_places z_L_from z_L_to z_Ld_size z_Lw_size z_TB_none z_TS_none z_TF_none a14 a_p5_far a15 a_p4_far a_p5_row a_UNIT a_ru_data a_Lw_data a_L_seen a16 a17 a18 a19 a20 n_r n_w n_u p_road_hours p_road_wait p_road_number p_word_place p_word_road p_word_hours p_rule_place p_rule_road p_rule_known p_rule_to g_grid v4).bind fun (v23, a24, a25, a26) =>
  some (v23, z5, z6, z7, z8, z9, z10, z11, z12, z13, a14, a24, a25, a26, a16, a17, a18, a19, a20)))
noncomputable def xo_X1_next (z_X_isLaid : Int32) (z_X_isFair : Int32) (z_X_hasFair : Int32) (z_TB_by : Int32) (z_TS_by : Int32) (z_TF_by : Int32) (z_TF_times : Int32) (z_TF_of : Int32) (z_ru_size : Int32) (z_p5_many : Int32) (z_L_places : Int32) (z_L_causes : Int32) (z_L_from : Int32) (z_L_to : Int32) (z_Ld_size : Int32) (z_Lw_size : Int32) (z_W_all : Int64) (z_TB_none : Int64) (z_TS_none : Int64) (z_TF_none : Int64) (a_X_knowing : Nat → Int32) (a_p5_far : Nat → Int32) (a_p3_far : Nat → Int32) (a_p4_far : Nat → Int32) (a_p5_row : Nat → Int32) (a_UNIT : Nat → Int32) (a_ru_data : Nat → Int32) (a_Ld_data : Nat → Int32) (a_Lw_data : Nat → Int32) (a_L_comes : Nat → Int32) (a_L_seen : Nat → Int32) (a_W_world : Nat → Int64) (a_W_likely : Nat → Int64) (a_TB_value : Nat → Int64) (a_TS_value : Nat → Int64) (a_TF_value : Nat → Int64) (n_r : Nat) (n_w : Nat) (n_u : Nat) (p_road_hours : Nat → Int32) (p_road_doubt : Nat → Int32) (p_road_cause : Nat → Int32) (p_road_wait : Nat → Int32) (p_road_number : Nat → Int32) (p_word_place : Nat → Int32) (p_word_road : Nat → Int32) (p_word_hours : Nat → Int32) (p_rule_place : Nat → Int32) (p_rule_road : Nat → Int32) (p_rule_known : Nat → Int32) (p_rule_to : Nat → Int32) (g_grid : Nat → Nat → Int32) (x1 : Int32) (x2 : Int32) (x3 : Int32) : Option (Int32 × (Int32) × (Int32) × (Int32) × (Int32) × (Int32) × (Int32) × (Int32) × (Int32) × (Int64) × (Nat → Int32) × (Nat → Int32) × (Nat → Int32) × (Nat → Int32) × (Nat → Int64) × (Nat → Int64) × (Nat → Int64) × (Nat → Int64) × (Nat → Int64)) :=
  (xo_X1_isPlan z_L_from z_L_to x1).bind fun v1 =>
  if v1 = 0 then (some ((-1), z_X_isLaid, z_X_isFair, z_X_hasFair, z_TB_by, z_TS_by, z_TF_by, z_TF_times, z_TF_of, z_W_all, a_X_knowing, a_p5_far, a_p3_far, a_p4_far, a_W_world, a_W_likely, a_TB_value, a_TS_value, a_TF_value)) else ((xo_X1_isPlace z_L_places x2).bind fun v4 =>
  if v4 = 0 then (some ((-1), z_X_isLaid, z_X_isFair, z_X_hasFair, z_TB_by, z_TS_by, z_TF_by, z_TF_times, z_TF_of, z_W_all, a_X_knowing, a_p5_far, a_p3_far, a_p4_far, a_W_world, a_W_likely, a_TB_value, a_TS_value, a_TF_value)) else ((xo_X1_isKnown z_Ld_size a_UNIT x3).bind fun v7 =>
  if v7 = 0 then (some ((-1), z_X_isLaid, z_X_isFair, z_X_hasFair, z_TB_by, z_TS_by, z_TF_by, z_TF_times, z_TF_of, z_W_all, a_X_knowing, a_p5_far, a_p3_far, a_p4_far, a_W_world, a_W_likely, a_TB_value, a_TS_value, a_TF_value)) else ((xo_X1_plan z_X_isLaid z_X_isFair z_X_hasFair z_TB_by z_TS_by z_TF_by z_TF_times z_TF_of z_L_places z_L_causes z_L_from z_L_to z_Ld_size z_Lw_size z_W_all z_TB_none z_TS_none z_TF_none a_X_knowing a_p3_far a_UNIT a_Ld_data a_Lw_data a_L_comes a_L_seen a_W_world a_W_likely a_TB_value a_TS_value a_TF_value n_r n_w p_road_hours p_road_doubt p_road_cause p_road_wait p_road_number p_word_place p_word_road p_word_hours g_grid x1).bind fun (v10, z11, z12, z13, z14, z15, z16, z17, z18, z19, a20, a21, a22, a23, a24, a25, a26) =>
  (rdL a23 729 x3).bind fun v28 =>
  if v28 = 0 then (some ((-1), z11, z12, z13, z14, z15, z16, z17, z18, z19, a20, a_p5_far, a21, a_p4_far, a22, a23, a24, a25, a26)) else ((xo_X3_unseen z_Ld_size a_UNIT a_L_seen x2 x3).bind fun v30 =>
  if v30 = 0 then (if v10 < 0 then (some ((-2), z11, z12, z13, z14, z15, z16, z17, z18, z19, a20, a_p5_far, a21, a_p4_far, a22, a23, a24, a25, a26)) else ((xo_D_next z14 z15 z16 z17 z18 z_ru_size z_p5_many z_L_places z_L_to z_Ld_size z_Lw_size z_TB_none z_TS_none z_TF_none a20 a_p5_far a21 a_p4_far a_p5_row a_UNIT a_ru_data a_Lw_data a_L_seen a22 a23 a24 a25 a26 n_r n_w n_u p_road_hours p_road_wait p_road_number p_word_place p_word_road p_word_hours p_rule_place p_rule_road p_rule_known p_rule_to g_grid v10 x2 x3).bind fun (v34, a35, a36, a37) =>
  some (v34, z11, z12, z13, z14, z15, z16, z17, z18, z19, a20, a35, a36, a37, a22, a23, a24, a25, a26))) else (some ((-1), z11, z12, z13, z14, z15, z16, z17, z18, z19, a20, a_p5_far, a21, a_p4_far, a22, a23, a24, a25, a26))))))
noncomputable def xo_X1_ring_2_L33 (y3 : Int32) (y5 : Int32) (a6 : Nat → Int32) : (Int32) → Option ((Int32) ⊕ ((Int32))) := fun y7 =>
  if y5 ≤ y7 then (some (.inr y7)) else ((rdI a6 11 y7).bind fun v9 =>
  if v9 = y3 then (some (.inr y7)) else ((some (y7 + 1)).bind fun v11 =>
  some (.inl v11)))
noncomputable def xo_X1_ring_2_J157 (v13 : Int32) (a18 : Nat → Int32) (v19 : Int32) (y21 : Int32) : Option ((Int32 × Int32 × Int32 × (Nat → Int32)) ⊕ ((Int32 × (Nat → Int32)) ⊕ (Int32 × Int32 × (Nat → Int32)))) :=
  some (.inl ((v13, v19, y21, a18)))
noncomputable def xo_X1_ring_2_L30 (z_ru_size : Int32) (z_L_to : Int32) (z_Ld_size : Int32) (a_UNIT : Nat → Int32) (a_ru_data : Nat → Int32) (a_L_seen : Nat → Int32) (n_r : Nat) (n_u : Nat) (p_road_hours : Nat → Int32) (p_road_wait : Nat → Int32) (p_road_number : Nat → Int32) (p_rule_place : Nat → Int32) (p_rule_road : Nat → Int32) (p_rule_known : Nat → Int32) (p_rule_to : Nat → Int32) (g_grid : Nat → Nat → Int32) (x2 : Int32) : (Int32 × Int32 × Int32 × (Nat → Int32)) → Option ((Int32 × Int32 × Int32 × (Nat → Int32)) ⊕ ((Int32 × (Nat → Int32)) ⊕ (Int32 × Int32 × (Nat → Int32)))) := fun (y3, y4, y5, a6) =>
  (loop (xo_X1_ring_2_L33 y3 y5 a6) 0).bind fun y12 =>
  (xo_X15_next_p6 z_ru_size z_L_to a_UNIT a_ru_data n_r n_u p_road_hours p_road_wait p_road_number p_rule_place p_rule_road p_rule_known p_rule_to g_grid y3 y4).bind fun v13 =>
  if v13 = (-2) then (some (.inr (.inl ((y3, a6))))) else (if y5 ≤ y12 then ((some (y5 + 1)).bind fun v17 =>
  (wrI a6 11 y5 y3).bind fun a18 =>
  (xo_X1_seeing z_Ld_size a_UNIT a_L_seen v13 y4 x2).bind fun v19 =>
  if v19 = y4 then (xo_X1_ring_2_J157 v13 a18 v19 v17) else (xo_X1_ring_2_J157 v13 a18 v19 0)) else (some (.inr (.inr (y5, y12, a6)))))
noncomputable def xo_X1_ring_2 (z_ru_size : Int32) (z_L_from : Int32) (z_L_to : Int32) (z_Ld_size : Int32) (a_X_path : Nat → Int32) (a_UNIT : Nat → Int32) (a_ru_data : Nat → Int32) (a_L_seen : Nat → Int32) (n_r : Nat) (n_u : Nat) (p_road_hours : Nat → Int32) (p_road_wait : Nat → Int32) (p_road_number : Nat → Int32) (p_rule_place : Nat → Int32) (p_rule_road : Nat → Int32) (p_rule_known : Nat → Int32) (p_rule_to : Nat → Int32) (g_grid : Nat → Nat → Int32) (x1 : Int32) (x2 : Int32) : Option (Int32 × (Nat → Int32)) :=
  (xo_X1_seeing z_Ld_size a_UNIT a_L_seen z_L_from 0 x2).bind fun v1 =>
  (loop (xo_X1_ring_2_L30 z_ru_size z_L_to z_Ld_size a_UNIT a_ru_data a_L_seen n_r n_u p_road_hours p_road_wait p_road_number p_rule_place p_rule_road p_rule_known p_rule_to g_grid x2) (z_L_from, v1, 0, a_X_path)).bind (sE (fun (y23, a24) =>
  if x1 = 0 then (some (y23, a24)) else (some ((-1), a24))) (fun (y25, y26, a27) =>
  if y25 - y26 ≤ x1 then (some ((-1), a27)) else ((rdI a27 11 (y26 + x1)).bind fun v30 =>
  some (v30, a27))))
noncomputable def xo_X1_ring_J70 (y16 : Int32) : Option ((Int32) ⊕ ((Int32) ⊕ (Unit))) :=
  (some (y16 + 1)).bind fun v21 =>
  some (.inl v21)
noncomputable def xo_X1_ring_L22 (z_ru_size : Int32) (z_L_from : Int32) (z_L_to : Int32) (z_Ld_size : Int32) (z_Lw_size : Int32) (a_UNIT : Nat → Int32) (a_ru_data : Nat → Int32) (a_Lw_data : Nat → Int32) (a_L_seen : Nat → Int32) (n_r : Nat) (n_w : Nat) (n_u : Nat) (p_road_hours : Nat → Int32) (p_road_wait : Nat → Int32) (p_road_number : Nat → Int32) (p_word_road : Nat → Int32) (p_word_hours : Nat → Int32) (p_rule_place : Nat → Int32) (p_rule_road : Nat → Int32) (p_rule_known : Nat → Int32) (p_rule_to : Nat → Int32) (g_grid : Nat → Nat → Int32) (a11 : Nat → Int64) : (Int32) → Option ((Int32) ⊕ ((Int32) ⊕ (Unit))) := fun y16 =>
  (xo_X3_worlds z_Ld_size).bind fun v17 =>
  if v17 ≤ y16 then (some (.inr (.inr ()))) else ((rdL a11 64 y16).bind fun v20 =>
  if v20 ≤ 0 then (xo_X1_ring_J70 y16) else ((xo_X9_hours_p6 z_ru_size z_L_from z_L_to z_Ld_size z_Lw_size a_UNIT a_ru_data a_Lw_data a_L_seen n_r n_w n_u p_road_hours p_road_wait p_road_number p_word_road p_word_hours p_rule_place p_rule_road p_rule_known p_rule_to g_grid y16).bind fun v23 =>
  if v23 = (-2) then (some (.inr (.inl y16))) else (xo_X1_ring_J70 y16)))
noncomputable def xo_X1_ring (z_X_isLaid : Int32) (z_TB_by : Int32) (z_TS_by : Int32) (z_ru_size : Int32) (z_L_places : Int32) (z_L_causes : Int32) (z_L_from : Int32) (z_L_to : Int32) (z_Ld_size : Int32) (z_Lw_size : Int32) (z_W_all : Int64) (z_TB_none : Int64) (z_TS_none : Int64) (a_X_knowing : Nat → Int32) (a_X_path : Nat → Int32) (a_p3_far : Nat → Int32) (a_UNIT : Nat → Int32) (a_ru_data : Nat → Int32) (a_Ld_data : Nat → Int32) (a_Lw_data : Nat → Int32) (a_L_comes : Nat → Int32) (a_L_seen : Nat → Int32) (a_W_world : Nat → Int64) (a_W_likely : Nat → Int64) (a_TB_value : Nat → Int64) (a_TS_value : Nat → Int64) (n_r : Nat) (n_w : Nat) (n_u : Nat) (p_road_hours : Nat → Int32) (p_road_doubt : Nat → Int32) (p_road_cause : Nat → Int32) (p_road_wait : Nat → Int32) (p_road_number : Nat → Int32) (p_word_place : Nat → Int32) (p_word_road : Nat → Int32) (p_word_hours : Nat → Int32) (p_rule_place : Nat → Int32) (p_rule_road : Nat → Int32) (p_rule_known : Nat → Int32) (p_rule_to : Nat → Int32) (g_grid : Nat → Nat → Int32) (x1 : Int32) : Option (Int32 × (Int32) × (Int32) × (Int32) × (Int64) × (Nat → Int32) × (Nat → Int32) × (Nat → Int32) × (Nat → Int64) × (Nat → Int64) × (Nat → Int64) × (Nat → Int64)) :=
  if x1 < 0 then (some ((-1), z_X_isLaid, z_TB_by, z_TS_by, z_W_all, a_X_knowing, a_X_path, a_p3_far, a_W_world, a_W_likely, a_TB_value, a_TS_value)) else ((xo_X3_isWhole z_L_from z_L_to).bind fun v2 =>
  if v2 = 0 then (some ((-1), z_X_isLaid, z_TB_by, z_TS_by, z_W_all, a_X_knowing, a_X_path, a_p3_far, a_W_world, a_W_likely, a_TB_value, a_TS_value)) else ((xo_X1_lay z_X_isLaid z_TB_by z_TS_by z_L_places z_L_causes z_L_from z_L_to z_Ld_size z_Lw_size z_W_all z_TB_none z_TS_none a_X_knowing a_p3_far a_UNIT a_Ld_data a_Lw_data a_L_comes a_L_seen a_W_world a_W_likely a_TB_value a_TS_value n_r n_w p_road_hours p_road_doubt p_road_cause p_road_wait p_road_number p_word_place p_word_road p_word_hours g_grid).bind fun (z5, z6, z7, z8, a9, a10, a11, a12, a13, a14) =>
  (loop (xo_X1_ring_L22 z_ru_size z_L_from z_L_to z_Ld_size z_Lw_size a_UNIT a_ru_data a_Lw_data a_L_seen n_r n_w n_u p_road_hours p_road_wait p_road_number p_word_road p_word_hours p_rule_place p_rule_road p_rule_known p_rule_to g_grid a11) 0).bind (sE (fun y26 =>
  (xo_X1_ring_2 z_ru_size z_L_from z_L_to z_Ld_size a_X_path a_UNIT a_ru_data a_L_seen n_r n_u p_road_hours p_road_wait p_road_number p_rule_place p_rule_road p_rule_known p_rule_to g_grid x1 y26).bind fun (v27, a28) =>
  some (v27, z5, z6, z7, z8, a9, a28, a10, a11, a12, a13, a14)) (fun _ =>
  some ((-1), z5, z6, z7, z8, a9, a_X_path, a10, a11, a12, a13, a14)))))
noncomputable def xo_X1_row_L12 (z_p5_many : Int32) (a_p5_row : Nat → Int32) (x1 : Int32) : (Int32) → Option ((Int32) ⊕ ((Unit) ⊕ (Unit))) := fun y4 =>
  if z_p5_many ≤ y4 then (some (.inr (.inr ()))) else ((rdI a_p5_row 6 y4).bind fun v6 =>
  if v6 = x1 then (some (.inr (.inl (())))) else ((some (y4 + 1)).bind fun v8 =>
  some (.inl v8)))
noncomputable def xo_X1_row (z_p5_many : Int32) (z_Ld_size : Int32) (a_p5_row : Nat → Int32) (x1 : Int32) : Option (Int32 × (Int32) × (Nat → Int32)) :=
  (xo_X1_isDoubtful z_Ld_size x1).bind fun v1 =>
  if v1 = 0 then (some ((-1), z_p5_many, a_p5_row)) else ((loop (xo_X1_row_L12 z_p5_many a_p5_row x1) 0).bind (sE (fun _ =>
  some ((-1), z_p5_many, a_p5_row)) (fun _ =>
  (wrI a_p5_row 6 z_p5_many x1).bind fun a9 =>
  (some (z_p5_many + 1)).bind fun v10 =>
  some (v10, v10, a9))))
noncomputable def xo_X1_rows_2_L138 (a_p8_row : Nat → Int32) (v1 : Int32) : (Int32 × (Nat → Int32)) → Option ((Int32 × (Nat → Int32)) ⊕ (((Nat → Int32)))) := fun (y7, a8) =>
  if v1 ≤ y7 then (some (.inr a8)) else ((rdI a_p8_row 6 y7).bind fun v10 =>
  (wrI a8 6 y7 v10).bind fun a11 =>
  (some (y7 + 1)).bind fun v12 =>
  some (.inl ((v12, a11))))
noncomputable def xo_X1_rows_2_J124 (a_X_bestRow : Nat → Int32) (a_p8_row : Nat → Int32) (v1 : Int32) (v4 : Int64) (a5 : Nat → Int32) : Option ((Int32) × (Int32) × (Int64) × (Nat → Int32) × (Nat → Int32) × (Nat → Int32)) :=
  (loop (xo_X1_rows_2_L138 a_p8_row v1) (0, a_X_bestRow)).bind fun a13 =>
  some (1, v1, v4, a13, a5, a_p8_row)
noncomputable def xo_X1_rows_2_J62 (y18 : Int32) (z26 : Int32) (z27 : Int32) (z28 : Int64) (a29 : Nat → Int32) (a30 : Nat → Int32) (a31 : Nat → Int32) : Option ((Int32 × Int32 × Int32 × Int64 × (Nat → Int32) × (Nat → Int32) × (Nat → Int32)) ⊕ ((Int32 × Int32 × Int64 × (Nat → Int32) × (Nat → Int32) × (Nat → Int32)))) :=
  (some (y18 + 1)).bind fun v32 =>
  some (.inl ((v32, z26, z27, z28, a29, a30, a31)))
noncomputable def xo_X1_rows_2_L19 (v1 : Int32) (x1 : Int32) (x2 : Int32) (f_X1_rows_2 : (Int32) → (Int32) → (Int64) → (Nat → Int32) → (Nat → Int32) → (Nat → Int32) → Int32 → Int32 → Option ((Int32) × (Int32) × (Int64) × (Nat → Int32) × (Nat → Int32) × (Nat → Int32))) : (Int32 × Int32 × Int32 × Int64 × (Nat → Int32) × (Nat → Int32) × (Nat → Int32)) → Option ((Int32 × Int32 × Int32 × Int64 × (Nat → Int32) × (Nat → Int32) × (Nat → Int32)) ⊕ ((Int32 × Int32 × Int64 × (Nat → Int32) × (Nat → Int32) × (Nat → Int32)))) := fun (y18, z19, z20, z21, a22, a23, a24) =>
  if v1 ≤ y18 then (some (.inr (z19, z20, z21, a22, a23, a24))) else (if (x2 >>> (y18 &&& 31)) &&& 1 = 1 then (xo_X1_rows_2_J62 y18 z19 z20 z21 a22 a23 a24) else ((wrI a24 6 x1 y18).bind fun a34 =>
  (f_X1_rows_2 z19 z20 z21 a22 a23 a34 (x1 + 1) (x2 ||| (1 <<< (y18 &&& 31)))).bind fun (z35, z36, z37, a38, a39, a40) =>
  xo_X1_rows_2_J62 y18 z35 z36 z37 a38 a39 a40))
noncomputable def xo_X1_rows_2_B (f_X1_rows_2 : (Int32) → (Int32) → (Int64) → (Nat → Int32) → (Nat → Int32) → (Nat → Int32) → Int32 → Int32 → Option ((Int32) × (Int32) × (Int64) × (Nat → Int32) × (Nat → Int32) × (Nat → Int32))) (z_L_places : Int32) (z_L_from : Int32) (z_L_to : Int32) (z_Ld_size : Int32) (z_Lw_size : Int32) (a_UNIT : Nat → Int32) (a_Lw_data : Nat → Int32) (a_L_seen : Nat → Int32) (a_W_world : Nat → Int64) (n_r : Nat) (n_w : Nat) (p_road_hours : Nat → Int32) (p_road_wait : Nat → Int32) (p_road_number : Nat → Int32) (p_word_road : Nat → Int32) (p_word_hours : Nat → Int32) (g_grid : Nat → Nat → Int32) (z_X_hasRows : Int32) (z_p8_many : Int32) (z_X_bestRowMean : Int64) (a_X_bestRow : Nat → Int32) (a_p8_far : Nat → Int32) (a_p8_row : Nat → Int32) (x1 : Int32) (x2 : Int32) : Option ((Int32) × (Int32) × (Int64) × (Nat → Int32) × (Nat → Int32) × (Nat → Int32)) :=
  (xo_J2_size_Ld z_Ld_size).bind fun v1 =>
  if v1 ≤ x1 then ((xo_X9_mean_p5 v1 z_L_places z_L_from z_L_to z_Ld_size z_Lw_size a_p8_far a_p8_row a_UNIT a_Lw_data a_L_seen a_W_world n_r n_w p_road_hours p_road_wait p_road_number p_word_road p_word_hours g_grid).bind fun (v4, a5) =>
  if z_X_hasRows = 0 then (xo_X1_rows_2_J124 a_X_bestRow a_p8_row v1 v4 a5) else (if v4 = (-2) then (some (z_X_hasRows, v1, z_X_bestRowMean, a_X_bestRow, a5, a_p8_row)) else (if z_X_bestRowMean = (-2) then (xo_X1_rows_2_J124 a_X_bestRow a_p8_row v1 v4 a5) else (if v4 < z_X_bestRowMean then (xo_X1_rows_2_J124 a_X_bestRow a_p8_row v1 v4 a5) else (some (z_X_hasRows, v1, z_X_bestRowMean, a_X_bestRow, a5, a_p8_row)))))) else ((loop (xo_X1_rows_2_L19 v1 x1 x2 f_X1_rows_2) (0, z_X_hasRows, z_p8_many, z_X_bestRowMean, a_X_bestRow, a_p8_far, a_p8_row)).bind fun (z42, z43, z44, a45, a46, a47) =>
  some (z42, z43, z44, a45, a46, a47))
noncomputable def xg_R (z_L_places : Int32) (z_L_from : Int32) (z_L_to : Int32) (z_Ld_size : Int32) (z_Lw_size : Int32) (a_UNIT : Nat → Int32) (a_Lw_data : Nat → Int32) (a_L_seen : Nat → Int32) (a_W_world : Nat → Int64) (n_r : Nat) (n_w : Nat) (p_road_hours : Nat → Int32) (p_road_wait : Nat → Int32) (p_road_number : Nat → Int32) (p_word_road : Nat → Int32) (p_word_hours : Nat → Int32) (g_grid : Nat → Nat → Int32) : Nat → (((Int32) → (Int32) → (Int64) → (Nat → Int32) → (Nat → Int32) → (Nat → Int32) → Int32 → Int32 → Option ((Int32) × (Int32) × (Int64) × (Nat → Int32) × (Nat → Int32) × (Nat → Int32))))
  | 0 => (fun _ _ _ _ _ _ _ _ => none)
  | d + 1 => xo_X1_rows_2_B (xg_R z_L_places z_L_from z_L_to z_Ld_size z_Lw_size a_UNIT a_Lw_data a_L_seen a_W_world n_r n_w p_road_hours p_road_wait p_road_number p_word_road p_word_hours g_grid d) z_L_places z_L_from z_L_to z_Ld_size z_Lw_size a_UNIT a_Lw_data a_L_seen a_W_world n_r n_w p_road_hours p_road_wait p_road_number p_word_road p_word_hours g_grid
noncomputable def xo_X1_rows_J20 (z_X_isLaid : Int32) (z_X_hasRows : Int32) (z_TB_by : Int32) (z_TS_by : Int32) (z_p8_many : Int32) (z_X_bestRowMean : Int64) (z_W_all : Int64) (a_X_knowing : Nat → Int32) (a_X_bestRow : Nat → Int32) (a_p8_far : Nat → Int32) (a_p3_far : Nat → Int32) (a_p8_row : Nat → Int32) (a_W_world : Nat → Int64) (a_W_likely : Nat → Int64) (a_TB_value : Nat → Int64) (a_TS_value : Nat → Int64) : Option (Int64 × (Int32) × (Int32) × (Int32) × (Int32) × (Int32) × (Int64) × (Int64) × (Nat → Int32) × (Nat → Int32) × (Nat → Int32) × (Nat → Int32) × (Nat → Int32) × (Nat → Int64) × (Nat → Int64) × (Nat → Int64) × (Nat → Int64)) :=
  some ((-1), z_X_isLaid, z_X_hasRows, z_TB_by, z_TS_by, z_p8_many, z_X_bestRowMean, z_W_all, a_X_knowing, a_X_bestRow, a_p8_far, a_p3_far, a_p8_row, a_W_world, a_W_likely, a_TB_value, a_TS_value)
noncomputable def xo_X1_rows_J41 (z_Ld_size : Int32) (x1 : Int32) (z7 : Int32) (z8 : Int32) (z9 : Int32) (z10 : Int64) (a11 : Nat → Int32) (a12 : Nat → Int32) (a13 : Nat → Int64) (a14 : Nat → Int64) (a15 : Nat → Int64) (a16 : Nat → Int64) (z18 : Int32) (z19 : Int32) (z20 : Int64) (a21 : Nat → Int32) (a22 : Nat → Int32) (a23 : Nat → Int32) : Option (Int64 × (Int32) × (Int32) × (Int32) × (Int32) × (Int32) × (Int64) × (Int64) × (Nat → Int32) × (Nat → Int32) × (Nat → Int32) × (Nat → Int32) × (Nat → Int32) × (Nat → Int64) × (Nat → Int64) × (Nat → Int64) × (Nat → Int64)) :=
  if x1 = 0 then (some (z20, z7, z18, z8, z9, z19, z20, z10, a11, a21, a22, a12, a23, a13, a14, a15, a16)) else ((xo_J2_size_Ld z_Ld_size).bind fun v25 =>
  if v25 < x1 then (some ((-1), z7, z18, z8, z9, z19, z20, z10, a11, a21, a22, a12, a23, a13, a14, a15, a16)) else ((rdI a21 6 (x1 - 1)).bind fun v28 =>
  some (v28.toInt64, z7, z18, z8, z9, z19, z20, z10, a11, a21, a22, a12, a23, a13, a14, a15, a16)))
noncomputable def xo_X1_rows (z_X_isLaid : Int32) (z_X_hasRows : Int32) (z_TB_by : Int32) (z_TS_by : Int32) (z_p8_many : Int32) (z_L_places : Int32) (z_L_causes : Int32) (z_L_from : Int32) (z_L_to : Int32) (z_Ld_size : Int32) (z_Lw_size : Int32) (z_X_bestRowMean : Int64) (z_W_all : Int64) (z_TB_none : Int64) (z_TS_none : Int64) (a_X_knowing : Nat → Int32) (a_X_bestRow : Nat → Int32) (a_p8_far : Nat → Int32) (a_p3_far : Nat → Int32) (a_p8_row : Nat → Int32) (a_UNIT : Nat → Int32) (a_Ld_data : Nat → Int32) (a_Lw_data : Nat → Int32) (a_L_comes : Nat → Int32) (a_L_seen : Nat → Int32) (a_W_world : Nat → Int64) (a_W_likely : Nat → Int64) (a_TB_value : Nat → Int64) (a_TS_value : Nat → Int64) (n_r : Nat) (n_w : Nat) (p_road_hours : Nat → Int32) (p_road_doubt : Nat → Int32) (p_road_cause : Nat → Int32) (p_road_wait : Nat → Int32) (p_road_number : Nat → Int32) (p_word_place : Nat → Int32) (p_word_road : Nat → Int32) (p_word_hours : Nat → Int32) (g_grid : Nat → Nat → Int32) (x1 : Int32) : Option (Int64 × (Int32) × (Int32) × (Int32) × (Int32) × (Int32) × (Int64) × (Int64) × (Nat → Int32) × (Nat → Int32) × (Nat → Int32) × (Nat → Int32) × (Nat → Int32) × (Nat → Int64) × (Nat → Int64) × (Nat → Int64) × (Nat → Int64)) :=
  (xo_X1_in x1 0 6).bind fun v1 =>
  if v1 = 0 then (xo_X1_rows_J20 z_X_isLaid z_X_hasRows z_TB_by z_TS_by z_p8_many z_X_bestRowMean z_W_all a_X_knowing a_X_bestRow a_p8_far a_p3_far a_p8_row a_W_world a_W_likely a_TB_value a_TS_value) else ((xo_X3_isWhole z_L_from z_L_to).bind fun v4 =>
  if v4 = 0 then (xo_X1_rows_J20 z_X_isLaid z_X_hasRows z_TB_by z_TS_by z_p8_many z_X_bestRowMean z_W_all a_X_knowing a_X_bestRow a_p8_far a_p3_far a_p8_row a_W_world a_W_likely a_TB_value a_TS_value) else ((xo_X1_lay z_X_isLaid z_TB_by z_TS_by z_L_places z_L_causes z_L_from z_L_to z_Ld_size z_Lw_size z_W_all z_TB_none z_TS_none a_X_knowing a_p3_far a_UNIT a_Ld_data a_Lw_data a_L_comes a_L_seen a_W_world a_W_likely a_TB_value a_TS_value n_r n_w p_road_hours p_road_doubt p_road_cause p_road_wait p_road_number p_word_place p_word_road p_word_hours g_grid).bind fun (z7, z8, z9, z10, a11, a12, a13, a14, a15, a16) =>
  if z_X_hasRows = 0 then (((xg_R z_L_places z_L_from z_L_to z_Ld_size z_Lw_size a_UNIT a_Lw_data a_L_seen a13 n_r n_w p_road_hours p_road_wait p_road_number p_word_road p_word_hours g_grid 10) z_X_hasRows z_p8_many z_X_bestRowMean a_X_bestRow a_p8_far a_p8_row 0 0).bind fun (z30, z31, z32, a33, a34, a35) =>
  xo_X1_rows_J41 z_Ld_size x1 z7 z8 z9 z10 a11 a12 a13 a14 a15 a16 z30 z31 z32 a33 a34 a35) else (xo_X1_rows_J41 z_Ld_size x1 z7 z8 z9 z10 a11 a12 a13 a14 a15 a16 z_X_hasRows z_p8_many z_X_bestRowMean a_X_bestRow a_p8_far a_p8_row)))
noncomputable def xo_X1_scout_J29 (z_X_isLaid : Int32) (z_TB_by : Int32) (z_TS_by : Int32) (z_W_all : Int64) (a_X_knowing : Nat → Int32) (a_p3_far : Nat → Int32) (a_W_world : Nat → Int64) (a_W_likely : Nat → Int64) (a_TB_value : Nat → Int64) (a_TS_value : Nat → Int64) : Option (Int64 × (Int32) × (Int32) × (Int32) × (Int64) × (Nat → Int32) × (Nat → Int32) × (Nat → Int64) × (Nat → Int64) × (Nat → Int64) × (Nat → Int64)) :=
  some ((-1), z_X_isLaid, z_TB_by, z_TS_by, z_W_all, a_X_knowing, a_p3_far, a_W_world, a_W_likely, a_TB_value, a_TS_value)
noncomputable def xo_X1_scout_J150 (y23 : Int32) (y29 : Int64) (y30 : Int32) : Option ((Int64 × Int32 × Int32) ⊕ ((Int64 × Int32))) :=
  (some (y23 + 1)).bind fun v31 =>
  some (.inl ((y29, y30, v31)))
noncomputable def xo_X1_scout_J143 (y23 : Int32) (v35 : Int64) : Option ((Int64 × Int32 × Int32) ⊕ ((Int64 × Int32))) :=
  xo_X1_scout_J150 y23 v35 y23
noncomputable def xo_X1_scout_L47 (z_L_from : Int32) (z_L_to : Int32) (z_Ld_size : Int32) (z_TB_none : Int64) (a_UNIT : Nat → Int32) (a_L_seen : Nat → Int32) (x1 : Int32) (z11 : Int32) (z13 : Int64) (a17 : Nat → Int64) (a18 : Nat → Int64) : (Int64 × Int32 × Int32) → Option ((Int64 × Int32 × Int32) ⊕ ((Int64 × Int32))) := fun (y21, y22, y23) =>
  (xo_X3_worlds z_Ld_size).bind fun v24 =>
  if v24 ≤ y23 then (some (.inr (y21, y22))) else ((xo_X1_ahead z11 z_L_from z_L_to z_Ld_size z_TB_none a_UNIT a_L_seen a17 a18 y23).bind fun v27 =>
  if v27 = z_TB_none then (xo_X1_scout_J150 y23 y21 y22) else ((xo_J17_bitCount y23).bind fun v33 =>
  (some (v27 + (((v33.toInt64) * (x1.toInt64)) * z13))).bind fun v35 =>
  if y21 = (-2) then (xo_X1_scout_J143 y23 v35) else (if y21 < v35 then (xo_X1_scout_J150 y23 y21 y22) else (if v35 = y21 then ((xo_J17_bitCount y23).bind fun v39 =>
  (xo_J17_bitCount y22).bind fun v41 =>
  if v39 < v41 then (xo_X1_scout_J143 y23 v35) else (xo_X1_scout_J150 y23 y21 y22)) else (xo_X1_scout_J143 y23 v35)))))
noncomputable def xo_X1_scout (z_X_isLaid : Int32) (z_TB_by : Int32) (z_TS_by : Int32) (z_L_places : Int32) (z_L_causes : Int32) (z_L_from : Int32) (z_L_to : Int32) (z_Ld_size : Int32) (z_Lw_size : Int32) (z_W_all : Int64) (z_TB_none : Int64) (z_TS_none : Int64) (a_X_knowing : Nat → Int32) (a_p3_far : Nat → Int32) (a_UNIT : Nat → Int32) (a_Ld_data : Nat → Int32) (a_Lw_data : Nat → Int32) (a_L_comes : Nat → Int32) (a_L_seen : Nat → Int32) (a_W_world : Nat → Int64) (a_W_likely : Nat → Int64) (a_TB_value : Nat → Int64) (a_TS_value : Nat → Int64) (n_r : Nat) (n_w : Nat) (p_road_hours : Nat → Int32) (p_road_doubt : Nat → Int32) (p_road_cause : Nat → Int32) (p_road_wait : Nat → Int32) (p_road_number : Nat → Int32) (p_word_place : Nat → Int32) (p_word_road : Nat → Int32) (p_word_hours : Nat → Int32) (g_grid : Nat → Nat → Int32) (x1 : Int32) (x2 : Int32) : Option (Int64 × (Int32) × (Int32) × (Int32) × (Int64) × (Nat → Int32) × (Nat → Int32) × (Nat → Int64) × (Nat → Int64) × (Nat → Int64) × (Nat → Int64)) :=
  (xo_X1_in x1 0 99).bind fun v1 =>
  if v1 = 0 then (xo_X1_scout_J29 z_X_isLaid z_TB_by z_TS_by z_W_all a_X_knowing a_p3_far a_W_world a_W_likely a_TB_value a_TS_value) else ((xo_X1_in x2 0 1).bind fun v4 =>
  if v4 = 0 then (xo_X1_scout_J29 z_X_isLaid z_TB_by z_TS_by z_W_all a_X_knowing a_p3_far a_W_world a_W_likely a_TB_value a_TS_value) else ((xo_X3_isWhole z_L_from z_L_to).bind fun v7 =>
  if v7 = 0 then (xo_X1_scout_J29 z_X_isLaid z_TB_by z_TS_by z_W_all a_X_knowing a_p3_far a_W_world a_W_likely a_TB_value a_TS_value) else ((xo_X1_lay z_X_isLaid z_TB_by z_TS_by z_L_places z_L_causes z_L_from z_L_to z_Ld_size z_Lw_size z_W_all z_TB_none z_TS_none a_X_knowing a_p3_far a_UNIT a_Ld_data a_Lw_data a_L_comes a_L_seen a_W_world a_W_likely a_TB_value a_TS_value n_r n_w p_road_hours p_road_doubt p_road_cause p_road_wait p_road_number p_word_place p_word_road p_word_hours g_grid).bind fun (z10, z11, z12, z13, a14, a15, a16, a17, a18, a19) =>
  (loop (xo_X1_scout_L47 z_L_from z_L_to z_Ld_size z_TB_none a_UNIT a_L_seen x1 z11 z13 a17 a18) ((-2), 0, 0)).bind fun (y44, y45) =>
  if y44 = (-2) then (some ((-2), z10, z11, z12, z13, a14, a15, a16, a17, a18, a19)) else (if x2 = 0 then (some (y45.toInt64, z10, z11, z12, z13, a14, a15, a16, a17, a18, a19)) else (some (y44, z10, z11, z12, z13, a14, a15, a16, a17, a18, a19))))))
noncomputable def xo_X1_shut_J16 (z_X_isLaid : Int32) (z_TB_by : Int32) (z_TS_by : Int32) (z_W_all : Int64) (a_X_knowing : Nat → Int32) (a_p3_far : Nat → Int32) (a_W_world : Nat → Int64) (a_W_likely : Nat → Int64) (a_TB_value : Nat → Int64) (a_TS_value : Nat → Int64) : Option (Int64 × (Int32) × (Int32) × (Int32) × (Int64) × (Nat → Int32) × (Nat → Int32) × (Nat → Int64) × (Nat → Int64) × (Nat → Int64) × (Nat → Int64)) :=
  some ((-1), z_X_isLaid, z_TB_by, z_TS_by, z_W_all, a_X_knowing, a_p3_far, a_W_world, a_W_likely, a_TB_value, a_TS_value)
noncomputable def xo_X1_shut_J61 (z7 : Int32) (z8 : Int32) (z9 : Int32) (z10 : Int64) (a11 : Nat → Int32) (a12 : Nat → Int32) (a13 : Nat → Int64) (a14 : Nat → Int64) (a15 : Nat → Int64) (a16 : Nat → Int64) (k21 : Int32) : Option (Int64 × (Int32) × (Int32) × (Int32) × (Int64) × (Nat → Int32) × (Nat → Int32) × (Nat → Int64) × (Nat → Int64) × (Nat → Int64) × (Nat → Int64)) :=
  (rdL a14 729 k21).bind fun v22 =>
  some (v22, z7, z8, z9, z10, a11, a12, a13, a14, a15, a16)
noncomputable def xo_X1_shut (z_X_isLaid : Int32) (z_TB_by : Int32) (z_TS_by : Int32) (z_L_places : Int32) (z_L_causes : Int32) (z_L_from : Int32) (z_L_to : Int32) (z_Ld_size : Int32) (z_Lw_size : Int32) (z_W_all : Int64) (z_TB_none : Int64) (z_TS_none : Int64) (a_X_knowing : Nat → Int32) (a_p3_far : Nat → Int32) (a_UNIT : Nat → Int32) (a_Ld_data : Nat → Int32) (a_Lw_data : Nat → Int32) (a_L_comes : Nat → Int32) (a_L_seen : Nat → Int32) (a_W_world : Nat → Int64) (a_W_likely : Nat → Int64) (a_TB_value : Nat → Int64) (a_TS_value : Nat → Int64) (n_r : Nat) (n_w : Nat) (p_road_hours : Nat → Int32) (p_road_doubt : Nat → Int32) (p_road_cause : Nat → Int32) (p_road_wait : Nat → Int32) (p_road_number : Nat → Int32) (p_word_place : Nat → Int32) (p_word_road : Nat → Int32) (p_word_hours : Nat → Int32) (g_grid : Nat → Nat → Int32) (x1 : Int32) (x2 : Int32) : Option (Int64 × (Int32) × (Int32) × (Int32) × (Int64) × (Nat → Int32) × (Nat → Int32) × (Nat → Int64) × (Nat → Int64) × (Nat → Int64) × (Nat → Int64)) :=
  (xo_X1_isKnown z_Ld_size a_UNIT x1).bind fun v1 =>
  if v1 = 0 then (xo_X1_shut_J16 z_X_isLaid z_TB_by z_TS_by z_W_all a_X_knowing a_p3_far a_W_world a_W_likely a_TB_value a_TS_value) else ((xo_X1_isDoubtful z_Ld_size x2).bind fun v4 =>
  if v4 = 0 then (xo_X1_shut_J16 z_X_isLaid z_TB_by z_TS_by z_W_all a_X_knowing a_p3_far a_W_world a_W_likely a_TB_value a_TS_value) else ((xo_X1_lay z_X_isLaid z_TB_by z_TS_by z_L_places z_L_causes z_L_from z_L_to z_Ld_size z_Lw_size z_W_all z_TB_none z_TS_none a_X_knowing a_p3_far a_UNIT a_Ld_data a_Lw_data a_L_comes a_L_seen a_W_world a_W_likely a_TB_value a_TS_value n_r n_w p_road_hours p_road_doubt p_road_cause p_road_wait p_road_number p_word_place p_word_road p_word_hours g_grid).bind fun (z7, z8, z9, z10, a11, a12, a13, a14, a15, a16) =>
  (xo_X1_digit a_UNIT x1 x2).bind fun v18 =>
  if v18 = 1 then (some (0, z7, z8, z9, z10, a11, a12, a13, a14, a15, a16)) else (if v18 = 2 then (xo_X1_shut_J61 z7 z8 z9 z10 a11 a12 a13 a14 a15 a16 x1) else ((xo_X1_with a_UNIT x1 x2 2).bind fun v24 =>
  xo_X1_shut_J61 z7 z8 z9 z10 a11 a12 a13 a14 a15 a16 v24))))
noncomputable def xo_X1_times_J145 (y28 : Int32) (y36 : Int32) (y37 : Int32) (a38 : Nat → Int32) (a39 : Nat → Int32) (a40 : Nat → Int32) : Option ((Int32 × Int32 × Int32 × (Nat → Int32) × (Nat → Int32) × (Nat → Int32)) ⊕ (((Nat → Int32) × (Nat → Int32) × (Nat → Int32)) ⊕ (Int32 × Int32 × (Nat → Int32) × (Nat → Int32) × (Nat → Int32)))) :=
  (some (y28 + 1)).bind fun v41 =>
  some (.inl ((y36, y37, v41, a38, a39, a40)))
noncomputable def xo_X1_times_J132 (a17 : Nat → Int32) (y28 : Int32) (v43 : Int32) (a44 : Nat → Int32) (a45 : Nat → Int32) (a46 : Nat → Int32) : Option ((Int32 × Int32 × Int32 × (Nat → Int32) × (Nat → Int32) × (Nat → Int32)) ⊕ (((Nat → Int32) × (Nat → Int32) × (Nat → Int32)) ⊕ (Int32 × Int32 × (Nat → Int32) × (Nat → Int32) × (Nat → Int32)))) :=
  (rdI a17 64 y28).bind fun v51 =>
  xo_X1_times_J145 y28 v43 v51 a44 a45 a46
noncomputable def xo_X1_times_L41 (z_ru_size : Int32) (z_p5_many : Int32) (z_L_places : Int32) (z_L_from : Int32) (z_L_to : Int32) (z_Ld_size : Int32) (z_Lw_size : Int32) (z_TB_none : Int64) (z_TS_none : Int64) (z_TF_none : Int64) (a_p5_row : Nat → Int32) (a_UNIT : Nat → Int32) (a_ru_data : Nat → Int32) (a_Lw_data : Nat → Int32) (a_L_seen : Nat → Int32) (n_r : Nat) (n_w : Nat) (n_u : Nat) (p_road_hours : Nat → Int32) (p_road_wait : Nat → Int32) (p_road_number : Nat → Int32) (p_word_place : Nat → Int32) (p_word_road : Nat → Int32) (p_word_hours : Nat → Int32) (p_rule_place : Nat → Int32) (p_rule_road : Nat → Int32) (p_rule_known : Nat → Int32) (p_rule_to : Nat → Int32) (g_grid : Nat → Nat → Int32) (v7 : Int32) (z11 : Int32) (z12 : Int32) (z13 : Int32) (z14 : Int32) (z15 : Int32) (a17 : Nat → Int32) (a19 : Nat → Int64) (a20 : Nat → Int64) (a21 : Nat → Int64) (a22 : Nat → Int64) (a23 : Nat → Int64) : (Int32 × Int32 × Int32 × (Nat → Int32) × (Nat → Int32) × (Nat → Int32)) → Option ((Int32 × Int32 × Int32 × (Nat → Int32) × (Nat → Int32) × (Nat → Int32)) ⊕ (((Nat → Int32) × (Nat → Int32) × (Nat → Int32)) ⊕ (Int32 × Int32 × (Nat → Int32) × (Nat → Int32) × (Nat → Int32)))) := fun (y26, y27, y28, a29, a30, a31) =>
  (xo_X3_worlds z_Ld_size).bind fun v32 =>
  if v32 ≤ y28 then (some (.inr (.inr (y26, y27, a29, a30, a31)))) else ((rdL a19 64 y28).bind fun v35 =>
  if v35 = 0 then (xo_X1_times_J145 y28 y26 y27 a29 a30 a31) else ((xo_D_hours z11 z12 z13 z14 z15 z_ru_size z_p5_many z_L_places z_L_from z_L_to z_Ld_size z_Lw_size z_TB_none z_TS_none z_TF_none a17 a29 a30 a31 a_p5_row a_UNIT a_ru_data a_Lw_data a_L_seen a19 a20 a21 a22 a23 n_r n_w n_u p_road_hours p_road_wait p_road_number p_word_place p_word_road p_word_hours p_rule_place p_rule_road p_rule_known p_rule_to g_grid v7 y28).bind fun (v43, a44, a45, a46) =>
  if v43 = (-2) then (some (.inr (.inl ((a44, a45, a46))))) else ((rdI a17 64 y28).bind fun v49 =>
  if v49 = (-2) then (some (.inr (.inl ((a44, a45, a46))))) else (if y27 = 0 then (xo_X1_times_J132 a17 y28 v43 a44 a45 a46) else ((rdI a17 64 y28).bind fun v53 =>
  if (y26.toInt64) * (v53.toInt64) < (v43.toInt64) * (y27.toInt64) then (xo_X1_times_J132 a17 y28 v43 a44 a45 a46) else (xo_X1_times_J145 y28 y26 y27 a44 a45 a46))))))
noncomputable def xo_X1_times (z_X_isLaid : Int32) (z_X_isFair : Int32) (z_X_hasFair : Int32) (z_TB_by : Int32) (z_TS_by : Int32) (z_TF_by : Int32) (z_TF_times : Int32) (z_TF_of : Int32) (z_ru_size : Int32) (z_p5_many : Int32) (z_L_places : Int32) (z_L_causes : Int32) (z_L_from : Int32) (z_L_to : Int32) (z_Ld_size : Int32) (z_Lw_size : Int32) (z_W_all : Int64) (z_TB_none : Int64) (z_TS_none : Int64) (z_TF_none : Int64) (a_X_knowing : Nat → Int32) (a_p5_far : Nat → Int32) (a_p3_far : Nat → Int32) (a_p4_far : Nat → Int32) (a_p5_row : Nat → Int32) (a_UNIT : Nat → Int32) (a_ru_data : Nat → Int32) (a_Ld_data : Nat → Int32) (a_Lw_data : Nat → Int32) (a_L_comes : Nat → Int32) (a_L_seen : Nat → Int32) (a_W_world : Nat → Int64) (a_W_likely : Nat → Int64) (a_TB_value : Nat → Int64) (a_TS_value : Nat → Int64) (a_TF_value : Nat → Int64) (n_r : Nat) (n_w : Nat) (n_u : Nat) (p_road_hours : Nat → Int32) (p_road_doubt : Nat → Int32) (p_road_cause : Nat → Int32) (p_road_wait : Nat → Int32) (p_road_number : Nat → Int32) (p_word_place : Nat → Int32) (p_word_road : Nat → Int32) (p_word_hours : Nat → Int32) (p_rule_place : Nat → Int32) (p_rule_road : Nat → Int32) (p_rule_known : Nat → Int32) (p_rule_to : Nat → Int32) (g_grid : Nat → Nat → Int32) (x1 : Int32) (x2 : Int32) : Option (Int32 × (Int32) × (Int32) × (Int32) × (Int32) × (Int32) × (Int32) × (Int32) × (Int32) × (Int64) × (Nat → Int32) × (Nat → Int32) × (Nat → Int32) × (Nat → Int32) × (Nat → Int64) × (Nat → Int64) × (Nat → Int64) × (Nat → Int64) × (Nat → Int64)) :=
  (xo_X1_isPlan z_L_from z_L_to x1).bind fun v1 =>
  if v1 = 0 then (some ((-1), z_X_isLaid, z_X_isFair, z_X_hasFair, z_TB_by, z_TS_by, z_TF_by, z_TF_times, z_TF_of, z_W_all, a_X_knowing, a_p5_far, a_p3_far, a_p4_far, a_W_world, a_W_likely, a_TB_value, a_TS_value, a_TF_value)) else ((xo_X1_in x2 0 1).bind fun v4 =>
  if v4 = 0 then (some ((-1), z_X_isLaid, z_X_isFair, z_X_hasFair, z_TB_by, z_TS_by, z_TF_by, z_TF_times, z_TF_of, z_W_all, a_X_knowing, a_p5_far, a_p3_far, a_p4_far, a_W_world, a_W_likely, a_TB_value, a_TS_value, a_TF_value)) else ((xo_X1_plan z_X_isLaid z_X_isFair z_X_hasFair z_TB_by z_TS_by z_TF_by z_TF_times z_TF_of z_L_places z_L_causes z_L_from z_L_to z_Ld_size z_Lw_size z_W_all z_TB_none z_TS_none z_TF_none a_X_knowing a_p3_far a_UNIT a_Ld_data a_Lw_data a_L_comes a_L_seen a_W_world a_W_likely a_TB_value a_TS_value a_TF_value n_r n_w p_road_hours p_road_doubt p_road_cause p_road_wait p_road_number p_word_place p_word_road p_word_hours g_grid x1).bind fun (v7, z8, z9, z10, z11, z12, z13, z14, z15, z16, a17, a18, a19, a20, a21, a22, a23) =>
  if v7 < 0 then (some ((-2), z8, z9, z10, z11, z12, z13, z14, z15, z16, a17, a_p5_far, a18, a_p4_far, a19, a20, a21, a22, a23)) else ((loop (xo_X1_times_L41 z_ru_size z_p5_many z_L_places z_L_from z_L_to z_Ld_size z_Lw_size z_TB_none z_TS_none z_TF_none a_p5_row a_UNIT a_ru_data a_Lw_data a_L_seen n_r n_w n_u p_road_hours p_road_wait p_road_number p_word_place p_word_road p_word_hours p_rule_place p_rule_road p_rule_known p_rule_to g_grid v7 z11 z12 z13 z14 z15 a17 a19 a20 a21 a22 a23) (0, 0, 0, a_p5_far, a18, a_p4_far)).bind (sE (fun (a55, a56, a57) =>
  some ((-2), z8, z9, z10, z11, z12, z13, z14, z15, z16, a17, a55, a56, a57, a19, a20, a21, a22, a23)) (fun (y58, y59, a60, a61, a62) =>
  if x2 = 0 then (some (y58, z8, z9, z10, z11, z12, z13, z14, z15, z16, a17, a60, a61, a62, a19, a20, a21, a22, a23)) else (some (y59, z8, z9, z10, z11, z12, z13, z14, z15, z16, a17, a60, a61, a62, a19, a20, a21, a22, a23)))))))
noncomputable def xo_X1_walk (z_X_isWalking : Int32) (z_X_world : Int32) (z_X_steps : Int32) (z_L_to : Int32) (a_X_places : Nat → Int32) (a_X_gone : Nat → Int32) (a_X_knowns : Nat → Int32) (x1 : Int32) : Option (Int32) :=
  if z_X_isWalking = 0 then (some ((-1))) else (if x1 = 0 then ((rdI a_X_places 101 z_X_steps).bind fun v3 =>
  some (v3)) else (if x1 = 1 then ((rdI a_X_gone 101 z_X_steps).bind fun v5 =>
  some (v5)) else (if x1 = 2 then ((rdI a_X_knowns 101 z_X_steps).bind fun v7 =>
  some (v7)) else (if x1 = 3 then (some (z_X_steps)) else (if x1 = 4 then (some (z_X_world)) else (if x1 = 5 then ((rdI a_X_places 101 z_X_steps).bind fun v11 =>
  if v11 = z_L_to then (some (1)) else (some (0))) else (some ((-1)))))))))
noncomputable def xo_X1_weight (z_X_isLaid : Int32) (z_TB_by : Int32) (z_TS_by : Int32) (z_L_places : Int32) (z_L_causes : Int32) (z_L_from : Int32) (z_L_to : Int32) (z_Ld_size : Int32) (z_Lw_size : Int32) (z_W_all : Int64) (z_TB_none : Int64) (z_TS_none : Int64) (a_X_knowing : Nat → Int32) (a_p3_far : Nat → Int32) (a_UNIT : Nat → Int32) (a_Ld_data : Nat → Int32) (a_Lw_data : Nat → Int32) (a_L_comes : Nat → Int32) (a_L_seen : Nat → Int32) (a_W_world : Nat → Int64) (a_W_likely : Nat → Int64) (a_TB_value : Nat → Int64) (a_TS_value : Nat → Int64) (n_r : Nat) (n_w : Nat) (p_road_hours : Nat → Int32) (p_road_doubt : Nat → Int32) (p_road_cause : Nat → Int32) (p_road_wait : Nat → Int32) (p_road_number : Nat → Int32) (p_word_place : Nat → Int32) (p_word_road : Nat → Int32) (p_word_hours : Nat → Int32) (g_grid : Nat → Nat → Int32) (x1 : Int32) : Option (Int64 × (Int32) × (Int32) × (Int32) × (Int64) × (Nat → Int32) × (Nat → Int32) × (Nat → Int64) × (Nat → Int64) × (Nat → Int64) × (Nat → Int64)) :=
  (xo_X1_isWorld z_Ld_size x1).bind fun v1 =>
  if v1 = 0 then (some ((-1), z_X_isLaid, z_TB_by, z_TS_by, z_W_all, a_X_knowing, a_p3_far, a_W_world, a_W_likely, a_TB_value, a_TS_value)) else ((xo_X1_lay z_X_isLaid z_TB_by z_TS_by z_L_places z_L_causes z_L_from z_L_to z_Ld_size z_Lw_size z_W_all z_TB_none z_TS_none a_X_knowing a_p3_far a_UNIT a_Ld_data a_Lw_data a_L_comes a_L_seen a_W_world a_W_likely a_TB_value a_TS_value n_r n_w p_road_hours p_road_doubt p_road_cause p_road_wait p_road_number p_word_place p_word_road p_word_hours g_grid).bind fun (z4, z5, z6, z7, a8, a9, a10, a11, a12, a13) =>
  (rdL a10 64 x1).bind fun v15 =>
  some (v15, z4, z5, z6, z7, a8, a9, a10, a11, a12, a13))
noncomputable def xo_X1_worst (z_X_isLaid : Int32) (z_X_isFair : Int32) (z_X_hasFair : Int32) (z_TB_by : Int32) (z_TS_by : Int32) (z_TF_by : Int32) (z_TF_times : Int32) (z_TF_of : Int32) (z_ru_size : Int32) (z_p5_many : Int32) (z_L_places : Int32) (z_L_causes : Int32) (z_L_from : Int32) (z_L_to : Int32) (z_Ld_size : Int32) (z_Lw_size : Int32) (z_W_all : Int64) (z_TB_none : Int64) (z_TS_none : Int64) (z_TF_none : Int64) (a_X_knowing : Nat → Int32) (a_p5_far : Nat → Int32) (a_p3_far : Nat → Int32) (a_p4_far : Nat → Int32) (a_p5_row : Nat → Int32) (a_UNIT : Nat → Int32) (a_ru_data : Nat → Int32) (a_Ld_data : Nat → Int32) (a_Lw_data : Nat → Int32) (a_L_comes : Nat → Int32) (a_L_seen : Nat → Int32) (a_W_world : Nat → Int64) (a_W_likely : Nat → Int64) (a_TB_value : Nat → Int64) (a_TS_value : Nat → Int64) (a_TF_value : Nat → Int64) (n_r : Nat) (n_w : Nat) (n_u : Nat) (p_road_hours : Nat → Int32) (p_road_doubt : Nat → Int32) (p_road_cause : Nat → Int32) (p_road_wait : Nat → Int32) (p_road_number : Nat → Int32) (p_word_place : Nat → Int32) (p_word_road : Nat → Int32) (p_word_hours : Nat → Int32) (p_rule_place : Nat → Int32) (p_rule_road : Nat → Int32) (p_rule_known : Nat → Int32) (p_rule_to : Nat → Int32) (g_grid : Nat → Nat → Int32) (x1 : Int32) : Option (Int32 × (Int32) × (Int32) × (Int32) × (Int32) × (Int32) × (Int32) × (Int32) × (Int32) × (Int64) × (Nat → Int32) × (Nat → Int32) × (Nat → Int32) × (Nat → Int32) × (Nat → Int64) × (Nat → Int64) × (Nat → Int64) × (Nat → Int64) × (Nat → Int64)) :=
  (xo_X1_isPlan z_L_from z_L_to x1).bind fun v1 =>
  if v1 = 0 then (some ((-1), z_X_isLaid, z_X_isFair, z_X_hasFair, z_TB_by, z_TS_by, z_TF_by, z_TF_times, z_TF_of, z_W_all, a_X_knowing, a_p5_far, a_p3_far, a_p4_far, a_W_world, a_W_likely, a_TB_value, a_TS_value, a_TF_value)) else ((xo_X1_plan z_X_isLaid z_X_isFair z_X_hasFair z_TB_by z_TS_by z_TF_by z_TF_times z_TF_of z_L_places z_L_causes z_L_from z_L_to z_Ld_size z_Lw_size z_W_all z_TB_none z_TS_none z_TF_none a_X_knowing a_p3_far a_UNIT a_Ld_data a_Lw_data a_L_comes a_L_seen a_W_world a_W_likely a_TB_value a_TS_value a_TF_value n_r n_w p_road_hours p_road_doubt p_road_cause p_road_wait p_road_number p_word_place p_word_road p_word_hours g_grid x1).bind fun (v4, z5, z6, z7, z8, z9, z10, z11, z12, z13, a14, a15, a16, a17, a18, a19, a20) =>
  if v4 < 0 then (some ((-2), z5, z6, z7, z8, z9, z10, z11, z12, z13, a14, a_p5_far, a15, a_p4_far, a16, a17, a18, a19, a20)) else ((xo_D_worst z8 z9 z10 z11 z12 z_ru_size z_p5_many z_L_places z_L_from z_L_to z_Ld_size z_Lw_size z_TB_none z_TS_none z_TF_none a14 a_p5_far a15 a_p4_far a_p5_row a_UNIT a_ru_data a_Lw_data a_L_seen a16 a17 a18 a19 a20 n_r n_w n_u p_road_hours p_road_wait p_road_number p_word_place p_word_road p_word_hours p_rule_place p_rule_road p_rule_known p_rule_to g_grid v4).bind fun (v23, a24, a25, a26) =>
  some (v23, z5, z6, z7, z8, z9, z10, z11, z12, z13, a14, a24, a25, a26, a16, a17, a18, a19, a20)))
noncomputable def xo_X1_worth_J18 (z_X_isLaid : Int32) (z_TB_by : Int32) (z_TS_by : Int32) (z_W_all : Int64) (a_X_knowing : Nat → Int32) (a_p3_far : Nat → Int32) (a_W_world : Nat → Int64) (a_W_likely : Nat → Int64) (a_TB_value : Nat → Int64) (a_TS_value : Nat → Int64) : Option (Int64 × (Int32) × (Int32) × (Int32) × (Int64) × (Nat → Int32) × (Nat → Int32) × (Nat → Int64) × (Nat → Int64) × (Nat → Int64) × (Nat → Int64)) :=
  some ((-1), z_X_isLaid, z_TB_by, z_TS_by, z_W_all, a_X_knowing, a_p3_far, a_W_world, a_W_likely, a_TB_value, a_TS_value)
noncomputable def xo_X1_worth_J76 (z7 : Int32) (z8 : Int32) (z9 : Int32) (z10 : Int64) (a11 : Nat → Int32) (a12 : Nat → Int32) (a13 : Nat → Int64) (a14 : Nat → Int64) (a15 : Nat → Int64) (a16 : Nat → Int64) : Option (Int64 × (Int32) × (Int32) × (Int32) × (Int64) × (Nat → Int32) × (Nat → Int32) × (Nat → Int64) × (Nat → Int64) × (Nat → Int64) × (Nat → Int64)) :=
  some ((-2), z7, z8, z9, z10, a11, a12, a13, a14, a15, a16)
noncomputable def xo_X1_worth (z_X_isLaid : Int32) (z_TB_by : Int32) (z_TS_by : Int32) (z_L_places : Int32) (z_L_causes : Int32) (z_L_from : Int32) (z_L_to : Int32) (z_Ld_size : Int32) (z_Lw_size : Int32) (z_W_all : Int64) (z_TB_none : Int64) (z_TS_none : Int64) (a_X_knowing : Nat → Int32) (a_p3_far : Nat → Int32) (a_UNIT : Nat → Int32) (a_Ld_data : Nat → Int32) (a_Lw_data : Nat → Int32) (a_L_comes : Nat → Int32) (a_L_seen : Nat → Int32) (a_W_world : Nat → Int64) (a_W_likely : Nat → Int64) (a_TB_value : Nat → Int64) (a_TS_value : Nat → Int64) (n_r : Nat) (n_w : Nat) (p_road_hours : Nat → Int32) (p_road_doubt : Nat → Int32) (p_road_cause : Nat → Int32) (p_road_wait : Nat → Int32) (p_road_number : Nat → Int32) (p_word_place : Nat → Int32) (p_word_road : Nat → Int32) (p_word_hours : Nat → Int32) (g_grid : Nat → Nat → Int32) (x1 : Int32) : Option (Int64 × (Int32) × (Int32) × (Int32) × (Int64) × (Nat → Int32) × (Nat → Int32) × (Nat → Int64) × (Nat → Int64) × (Nat → Int64) × (Nat → Int64)) :=
  (xo_X1_isDoubtful z_Ld_size x1).bind fun v1 =>
  if v1 = 0 then (xo_X1_worth_J18 z_X_isLaid z_TB_by z_TS_by z_W_all a_X_knowing a_p3_far a_W_world a_W_likely a_TB_value a_TS_value) else ((xo_X3_isWhole z_L_from z_L_to).bind fun v4 =>
  if v4 = 0 then (xo_X1_worth_J18 z_X_isLaid z_TB_by z_TS_by z_W_all a_X_knowing a_p3_far a_W_world a_W_likely a_TB_value a_TS_value) else ((xo_X1_lay z_X_isLaid z_TB_by z_TS_by z_L_places z_L_causes z_L_from z_L_to z_Ld_size z_Lw_size z_W_all z_TB_none z_TS_none a_X_knowing a_p3_far a_UNIT a_Ld_data a_Lw_data a_L_comes a_L_seen a_W_world a_W_likely a_TB_value a_TS_value n_r n_w p_road_hours p_road_doubt p_road_cause p_road_wait p_road_number p_word_place p_word_road p_word_hours g_grid).bind fun (z7, z8, z9, z10, a11, a12, a13, a14, a15, a16) =>
  (xo_X5_arriving_TB z8 z_L_to z_Ld_size z_TB_none a_UNIT a_L_seen a14 a15 z_L_from 0).bind fun v18 =>
  (xo_X1_ahead z8 z_L_from z_L_to z_Ld_size z_TB_none a_UNIT a_L_seen a14 a15 (1 <<< (x1 &&& 31))).bind fun v20 =>
  if v18 = z_TB_none then (xo_X1_worth_J76 z7 z8 z9 z10 a11 a12 a13 a14 a15 a16) else (if v20 = z_TB_none then (xo_X1_worth_J76 z7 z8 z9 z10 a11 a12 a13 a14 a15 a16) else (some (v18 - v20, z7, z8, z9, z10, a11, a12, a13, a14, a15, a16)))))
