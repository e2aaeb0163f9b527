noncomputable def mo_plain_L3  : (Int32 × (Nat → Int32)) → Option ((Int32 × (Nat → Int32)) ⊕ (((Nat → Int32)))) := fun (y1, a2) =>
  if 14 ≤ y1 then (some (.inr a2)) else ((wrI a2 16 y1 0).bind fun a4 =>
  (some (y1 + 1)).bind fun v5 =>
  some (.inl ((v5, a4))))
noncomputable def mo_plain (a_many : Nat → Int32) : Option ((Nat → Int32)) :=
  (loop (mo_plain_L3) (8, a_many)).bind fun a6 =>
  (wrI a6 16 14 (-1)).bind fun a7 =>
  (wrI a7 16 15 (-1)).bind fun a8 =>
  some (a8)
noncomputable def mo_doubts (a_many : Nat → Int32) : Option (Int32) :=
  (rdI a_many 16 3).bind fun v1 =>
  some (v1)
noncomputable def mo_digit (a_three : Nat → Int32) (x1 : Int32) (x2 : Int32) : Option (Int32) :=
  (rdI a_three 7 x2).bind fun v1 =>
  (dvI x1 v1).bind fun v2 =>
  (rmI v2 3).bind fun v3 =>
  some (v3)
noncomputable def mo_openIn_J27 (y2 : Int32) (k8 : Int32) (k9 : Int32) : Option ((Int32 × Int32) ⊕ ((Int32))) :=
  (some (k9 + k8)).bind fun v10 =>
  (some (y2 + 1)).bind fun v11 =>
  some (.inl ((v10, v11)))
noncomputable def mo_openIn_L4 (a_many : Nat → Int32) (a_three : Nat → Int32) (x1 : Int32) : (Int32 × Int32) → Option ((Int32 × Int32) ⊕ ((Int32))) := fun (y1, y2) =>
  (mo_doubts a_many).bind fun v3 =>
  if v3 ≤ y2 then (some (.inr y1)) else ((mo_digit a_three x1 y2).bind fun v6 =>
  if v6 = 0 then (mo_openIn_J27 y2 1 y1) else (mo_openIn_J27 y2 0 y1))
noncomputable def mo_openIn (a_many : Nat → Int32) (a_three : Nat → Int32) (x1 : Int32) : Option (Int32) :=
  (loop (mo_openIn_L4 a_many a_three x1) (0, 0)).bind fun y13 =>
  some (y13)
noncomputable def mo_unknownIn_L2 (a_three : Nat → Int32) (x1 : Int32) : (Int32) → Option ((Int32) ⊕ ((Int32))) := fun y1 =>
  (mo_digit a_three x1 y1).bind fun v2 =>
  if v2 = 0 then (some (.inr y1)) else ((some (y1 + 1)).bind fun v5 =>
  some (.inl v5))
noncomputable def mo_unknownIn (a_three : Nat → Int32) (x1 : Int32) : Option (Int32) :=
  (loop (mo_unknownIn_L2 a_three x1) 0).bind fun y6 =>
  some (y6)
noncomputable def mo_worldOf_J30 (y2 : Int32) (k8 : Int32) (k9 : Int32) : Option ((Int32 × Int32) ⊕ ((Int32))) :=
  (some (k9 ||| k8)).bind fun v10 =>
  (some (y2 + 1)).bind fun v11 =>
  some (.inl ((v10, v11)))
noncomputable def mo_worldOf_L4 (a_many : Nat → Int32) (a_three : Nat → Int32) (x1 : Int32) : (Int32 × Int32) → Option ((Int32 × Int32) ⊕ ((Int32))) := fun (y1, y2) =>
  (mo_doubts a_many).bind fun v3 =>
  if v3 ≤ y2 then (some (.inr y1)) else ((mo_digit a_three x1 y2).bind fun v6 =>
  if v6 = 2 then (mo_worldOf_J30 y2 (1 <<< (y2 &&& 31)) y1) else (mo_worldOf_J30 y2 0 y1))
noncomputable def mo_worldOf (a_many : Nat → Int32) (a_three : Nat → Int32) (x1 : Int32) : Option (Int32) :=
  (loop (mo_worldOf_L4 a_many a_three x1) (0, 0)).bind fun y13 =>
  some (y13)
noncomputable def mo_layLikely_J85 (y1 : Int32) (a7 : Nat → Int64) : Option ((Int32 × (Nat → Int64)) ⊕ (((Nat → Int64)))) :=
  (some (y1 + 1)).bind fun v8 =>
  some (.inl ((v8, a7)))
noncomputable def mo_layLikely_L2 (z_knowings : Int32) (a_many : Nat → Int32) (a_three : Nat → Int32) (a_turn : Nat → Int32) (a_use : Nat → Int64) : (Int32 × (Nat → Int64)) → Option ((Int32 × (Nat → Int64)) ⊕ (((Nat → Int64)))) := fun (y1, a2) =>
  if z_knowings ≤ y1 then (some (.inr a2)) else ((rdI a_turn 729 y1).bind fun v4 =>
  (mo_openIn a_many a_three v4).bind fun v5 =>
  if v5 = 0 then ((mo_worldOf a_many a_three v4).bind fun v17 =>
  (rdL a_use 64 v17).bind fun v19 =>
  (wrL a2 729 v4 v19).bind fun a20 =>
  mo_layLikely_J85 y1 a20) else ((mo_unknownIn a_three v4).bind fun v10 =>
  (rdI a_three 7 v10).bind fun v12 =>
  (rdL a2 729 (v4 + v12)).bind fun v13 =>
  (rdI a_three 7 v10).bind fun v14 =>
  (rdL a2 729 (v4 + (2 * v14))).bind fun v15 =>
  (wrL a2 729 v4 (v13 + v15)).bind fun a16 =>
  mo_layLikely_J85 y1 a16))
noncomputable def mo_layLikely (z_knowings : Int32) (a_many : Nat → Int32) (a_three : Nat → Int32) (a_turn : Nat → Int32) (a_use : Nat → Int64) (a_likely : Nat → Int64) : Option ((Nat → Int64)) :=
  (loop (mo_layLikely_L2 z_knowings a_many a_three a_turn a_use) (0, a_likely)).bind fun a21 =>
  some (a21)
noncomputable def mo_layUse_J81 (y9 : Int32) (k12 : Int64) (k13 : Int64) : Option ((Int64 × Int32) ⊕ ((Int64))) :=
  (some (k13 * k12)).bind fun v14 =>
  (some (y9 + 1)).bind fun v15 =>
  some (.inl ((v14, v15)))
noncomputable def mo_layUse_L35 (a_many : Nat → Int32) (a_causeOf10 : Nat → Int32) (y5 : Int32) : (Int64 × Int32) → Option ((Int64 × Int32) ⊕ ((Int64))) := fun (y8, y9) =>
  (rdI a_many 16 1).bind fun v10 =>
  if v10 ≤ y9 then (some (.inr y8)) else (if (y5 >>> (y9 &&& 31)) &&& 1 = 1 then ((rdI a_causeOf10 4 y9).bind fun v18 =>
  mo_layUse_J81 y9 (v18.toInt64) y8) else ((rdI a_causeOf10 4 y9).bind fun v17 =>
  mo_layUse_J81 y9 ((10 - v17).toInt64) y8))
noncomputable def mo_layUse_J282 (y21 : Int32) (y33 : Int64) : Option ((Int64 × Int32) ⊕ ((Int64))) :=
  (some (y21 + 1)).bind fun v34 =>
  some (.inl ((y33, v34)))
noncomputable def mo_layUse_J279 (y21 : Int32) (k36 : Int64) (k37 : Int64) : Option ((Int64 × Int32) ⊕ ((Int64))) :=
  (some (k37 * k36)).bind fun v38 =>
  mo_layUse_J282 y21 v38
noncomputable def mo_layUse_J236 (y21 : Int32) (k42 : Int64) (k43 : Int64) : Option ((Int64 × Int32) ⊕ ((Int64))) :=
  (some (k43 * k42)).bind fun v44 =>
  mo_layUse_J282 y21 v44
noncomputable def mo_layUse_J206 (y20 : Int64) (y21 : Int32) (k27 : Int32) (k29 : Int32) (k30 : Int32) (k32 : Int32) : Option ((Int64 × Int32) ⊕ ((Int64))) :=
  if k29 = 0 then (if k30 = 0 then (if k32 = 0 then (mo_layUse_J279 y21 1 y20) else (mo_layUse_J279 y21 ((10 - k27).toInt64) y20)) else (if k32 = 0 then (mo_layUse_J279 y21 0 y20) else (mo_layUse_J279 y21 (k27.toInt64) y20))) else (if k30 = 0 then (mo_layUse_J236 y21 0 y20) else (if k32 = 0 then (mo_layUse_J236 y21 1 y20) else (mo_layUse_J236 y21 10 y20)))
noncomputable def mo_layUse_J187 (a_road : Nat → Int32) (y20 : Int64) (y21 : Int32) (v26 : Int32) (k27 : Int32) (k29 : Int32) (k30 : Int32) : Option ((Int64 × Int32) ⊕ ((Int64))) :=
  (rdI a_road 336 (v26 + 3)).bind fun v31 =>
  if v31 ≤ 0 then (mo_layUse_J206 y20 y21 k27 k29 k30 0) else (mo_layUse_J206 y20 y21 k27 k29 k30 1)
noncomputable def mo_layUse_J170 (a_road : Nat → Int32) (y1 : Int32) (y20 : Int64) (y21 : Int32) (v26 : Int32) (k27 : Int32) (k29 : Int32) : Option ((Int64 × Int32) ⊕ ((Int64))) :=
  if (y1 >>> (y21 &&& 31)) &&& 1 = 1 then (mo_layUse_J187 a_road y20 y21 v26 k27 k29 1) else (mo_layUse_J187 a_road y20 y21 v26 k27 k29 0)
noncomputable def mo_layUse_J169 (a_road : Nat → Int32) (y1 : Int32) (y20 : Int64) (y21 : Int32) (v26 : Int32) (k27 : Int32) : Option ((Int64 × Int32) ⊕ ((Int64))) :=
  mo_layUse_J170 a_road y1 y20 y21 v26 k27 0
noncomputable def mo_layUse_J133 (a_road : Nat → Int32) (y1 : Int32) (y5 : Int32) (y20 : Int64) (y21 : Int32) (v26 : Int32) (k27 : Int32) : Option ((Int64 × Int32) ⊕ ((Int64))) :=
  (rdI a_road 336 (v26 + 4)).bind fun v28 =>
  if v28 < 0 then (mo_layUse_J169 a_road y1 y20 y21 v26 k27) else ((rdI a_road 336 (v26 + 4)).bind fun v50 =>
  if (y5 >>> (v50 &&& 31)) &&& 1 = 1 then (mo_layUse_J170 a_road y1 y20 y21 v26 k27 1) else (mo_layUse_J169 a_road y1 y20 y21 v26 k27))
noncomputable def mo_layUse_L93 (a_many : Nat → Int32) (a_road : Nat → Int32) (a_doubtful : Nat → Int32) (x1 : Int32) (y1 : Int32) (x2 : Int32) (y5 : Int32) : (Int64 × Int32) → Option ((Int64 × Int32) ⊕ ((Int64))) := fun (y20, y21) =>
  (mo_doubts a_many).bind fun v22 =>
  if v22 ≤ y21 then (some (.inr y20)) else ((rdI a_doubtful 12 y21).bind fun v25 =>
  (some (7 * v25)).bind fun v26 =>
  if y21 = x1 then (mo_layUse_J133 a_road y1 y5 y20 y21 v26 x2) else ((rdI a_road 336 (v26 + 3)).bind fun v53 =>
  mo_layUse_J133 a_road y1 y5 y20 y21 v26 v53))
noncomputable def mo_layUse_L16 (a_many : Nat → Int32) (a_causeOf10 : Nat → Int32) (a_road : Nat → Int32) (a_doubtful : Nat → Int32) (x1 : Int32) (y1 : Int32) (x2 : Int32) : (Int64 × Int32) → Option ((Int64 × Int32) ⊕ ((Int64))) := fun (y4, y5) =>
  (rdI a_many 16 1).bind fun v6 =>
  if 1 <<< (v6 &&& 31) ≤ y5 then (some (.inr y4)) else ((loop (mo_layUse_L35 a_many a_causeOf10 y5) (1, 0)).bind fun y19 =>
  (loop (mo_layUse_L93 a_many a_road a_doubtful x1 y1 x2 y5) (y19, 0)).bind fun y54 =>
  (some (y4 + y54)).bind fun v55 =>
  (some (y5 + 1)).bind fun v56 =>
  some (.inl ((v55, v56))))
noncomputable def mo_layUse_L2 (z_worlds : Int32) (a_many : Nat → Int32) (a_causeOf10 : Nat → Int32) (a_road : Nat → Int32) (a_doubtful : Nat → Int32) (x1 : Int32) (x2 : Int32) : (Int32 × (Nat → Int64)) → Option ((Int32 × (Nat → Int64)) ⊕ (((Nat → Int64)))) := fun (y1, a2) =>
  if z_worlds ≤ y1 then (some (.inr a2)) else ((loop (mo_layUse_L16 a_many a_causeOf10 a_road a_doubtful x1 y1 x2) (0, 0)).bind fun y57 =>
  (wrL a2 64 y1 y57).bind fun a58 =>
  (some (y1 + 1)).bind fun v59 =>
  some (.inl ((v59, a58))))
noncomputable def mo_layUse (z_worlds : Int32) (z_knowings : Int32) (a_many : Nat → Int32) (a_causeOf10 : Nat → Int32) (a_road : Nat → Int32) (a_doubtful : Nat → Int32) (a_three : Nat → Int32) (a_turn : Nat → Int32) (a_use : Nat → Int64) (a_likely : Nat → Int64) (x1 : Int32) (x2 : Int32) : Option ((Nat → Int64) × (Nat → Int64)) :=
  (loop (mo_layUse_L2 z_worlds a_many a_causeOf10 a_road a_doubtful x1 x2) (0, a_use)).bind fun a60 =>
  (mo_layLikely z_knowings a_many a_three a_turn a60 a_likely).bind fun a61 =>
  some (a60, a61)
noncomputable def mo_layWeights_J37 (y4 : Int32) (a5 : Nat → Int64) (k7 : Int64) (k8 : Int32) : Option ((Int32 × (Nat → Int64)) ⊕ (((Nat → Int64)))) :=
  (wrL a5 64 k8 k7).bind fun a9 =>
  (some (y4 + 1)).bind fun v10 =>
  some (.inl ((v10, a9)))
noncomputable def mo_layWeights_L8 (z_worlds : Int32) (a1 : Nat → Int64) : (Int32 × (Nat → Int64)) → Option ((Int32 × (Nat → Int64)) ⊕ (((Nat → Int64)))) := fun (y4, a5) =>
  if 64 ≤ y4 then (some (.inr a5)) else (if z_worlds ≤ y4 then (mo_layWeights_J37 y4 a5 0 y4) else ((rdL a1 64 y4).bind fun v12 =>
  mo_layWeights_J37 y4 a5 v12 y4))
noncomputable def mo_layWeights (z_worlds : Int32) (z_knowings : Int32) (a_many : Nat → Int32) (a_causeOf10 : Nat → Int32) (a_road : Nat → Int32) (a_doubtful : Nat → Int32) (a_three : Nat → Int32) (a_turn : Nat → Int32) (a_weight : Nat → Int64) (a_use : Nat → Int64) (a_likely : Nat → Int64) : Option ((Nat → Int64) × (Nat → Int64) × (Nat → Int64)) :=
  (mo_layUse z_worlds z_knowings a_many a_causeOf10 a_road a_doubtful a_three a_turn a_use a_likely (-1) 0).bind fun (a1, a2) =>
  (loop (mo_layWeights_L8 z_worlds a1) (0, a_weight)).bind fun a13 =>
  some (a13, a1, a2)
noncomputable def mo_keep_L2  : (Int32 × (Nat → Int32)) → Option ((Int32 × (Nat → Int32)) ⊕ (((Nat → Int32)))) := fun (y1, a2) =>
  if 8 ≤ y1 then (some (.inr a2)) else ((rdI a2 16 (8 + y1)).bind fun v4 =>
  (wrI a2 16 y1 v4).bind fun a5 =>
  (some (y1 + 1)).bind fun v6 =>
  some (.inl ((v6, a5))))
noncomputable def mo_keep_L31  : (Int32 × (Nat → Int32)) → Option ((Int32 × (Nat → Int32)) ⊕ (((Nat → Int32)))) := fun (y8, a9) =>
  if 10 ≤ y8 then (some (.inr a9)) else ((rdI a9 20 (10 + y8)).bind fun v11 =>
  (wrI a9 20 y8 v11).bind fun a12 =>
  (some (y8 + 1)).bind fun v13 =>
  some (.inl ((v13, a12))))
noncomputable def mo_keep_L60  : (Int32 × (Nat → Int32) × (Nat → Int32)) → Option ((Int32 × (Nat → Int32) × (Nat → Int32)) ⊕ (((Nat → Int32) × (Nat → Int32)))) := fun (y15, a16, a17) =>
  if 2 ≤ y15 then (some (.inr (a16, a17))) else ((rdI a16 4 (2 + y15)).bind fun v19 =>
  (wrI a16 4 y15 v19).bind fun a20 =>
  (rdI a17 4 (2 + y15)).bind fun v21 =>
  (wrI a17 4 y15 v21).bind fun a22 =>
  (some (y15 + 1)).bind fun v23 =>
  some (.inl ((v23, a20, a22))))
noncomputable def mo_keep_L101  : (Int32 × (Nat → Int32)) → Option ((Int32 × (Nat → Int32)) ⊕ (((Nat → Int32)))) := fun (y26, a27) =>
  if 168 ≤ y26 then (some (.inr a27)) else ((rdI a27 336 (168 + y26)).bind fun v29 =>
  (wrI a27 336 y26 v29).bind fun a30 =>
  (some (y26 + 1)).bind fun v31 =>
  some (.inl ((v31, a30))))
noncomputable def mo_keep_L132  : (Int32 × (Nat → Int32)) → Option ((Int32 × (Nat → Int32)) ⊕ (((Nat → Int32)))) := fun (y33, a34) =>
  if 6 ≤ y33 then (some (.inr a34)) else ((rdI a34 12 (6 + y33)).bind fun v36 =>
  (wrI a34 12 y33 v36).bind fun a37 =>
  (some (y33 + 1)).bind fun v38 =>
  some (.inl ((v38, a37))))
noncomputable def mo_keep_L161  : (Int32 × (Nat → Int32)) → Option ((Int32 × (Nat → Int32)) ⊕ (((Nat → Int32)))) := fun (y40, a41) =>
  if 16 ≤ y40 then (some (.inr a41)) else ((rdI a41 32 (16 + y40)).bind fun v43 =>
  (wrI a41 32 y40 v43).bind fun a44 =>
  (some (y40 + 1)).bind fun v45 =>
  some (.inl ((v45, a44))))
noncomputable def mo_keep_L190  : (Int32 × (Nat → Int32)) → Option ((Int32 × (Nat → Int32)) ⊕ (((Nat → Int32)))) := fun (y47, a48) =>
  if 18 ≤ y47 then (some (.inr a48)) else ((rdI a48 36 (18 + y47)).bind fun v50 =>
  (wrI a48 36 y47 v50).bind fun a51 =>
  (some (y47 + 1)).bind fun v52 =>
  some (.inl ((v52, a51))))
noncomputable def mo_keep_L219  : (Int32 × (Nat → Int32)) → Option ((Int32 × (Nat → Int32)) ⊕ (((Nat → Int32)))) := fun (y54, a55) =>
  if 100 ≤ y54 then (some (.inr a55)) else ((wrI a55 100 y54 (-1)).bind fun a57 =>
  (some (y54 + 1)).bind fun v58 =>
  some (.inl ((v58, a57))))
noncomputable def mo_keep_L240  : (Int32 × (Nat → Int32)) → Option ((Int32 × (Nat → Int32)) ⊕ (((Nat → Int32)))) := fun (y60, a61) =>
  if 10 ≤ y60 then (some (.inr a61)) else ((wrI a61 10 y60 0).bind fun a63 =>
  (some (y60 + 1)).bind fun v64 =>
  some (.inl ((v64, a63))))
noncomputable def mo_keep_J391 (y66 : Int32) (a77 : Nat → Int32) (a79 : Nat → Int32) : Option ((Int32 × (Nat → Int32) × (Nat → Int32)) ⊕ (((Nat → Int32) × (Nat → Int32)))) :=
  (some (y66 + 1)).bind fun v80 =>
  some (.inl ((v80, a79, a77)))
noncomputable def mo_keep_L261 (a7 : Nat → Int32) (a32 : Nat → Int32) : (Int32 × (Nat → Int32) × (Nat → Int32)) → Option ((Int32 × (Nat → Int32) × (Nat → Int32)) ⊕ (((Nat → Int32) × (Nat → Int32)))) := fun (y66, a67, a68) =>
  (rdI a7 16 2).bind fun v69 =>
  if v69 ≤ y66 then (some (.inr (a67, a68))) else ((some (7 * y66)).bind fun v71 =>
  (rdI a32 336 v71).bind fun v72 =>
  (rdI a32 336 (v71 + 1)).bind fun v73 =>
  (wrI a68 100 ((10 * v72) + v73) y66).bind fun a74 =>
  (rdI a32 336 (v71 + 1)).bind fun v75 =>
  (rdI a32 336 v71).bind fun v76 =>
  (wrI a74 100 ((10 * v75) + v76) y66).bind fun a77 =>
  (rdI a32 336 (v71 + 6)).bind fun v78 =>
  if 0 ≤ v78 then ((rdI a32 336 v71).bind fun v82 =>
  (rdI a67 10 v82).bind fun v83 =>
  (rdI a32 336 (v71 + 6)).bind fun v84 =>
  (wrI a67 10 v82 (v83 ||| (1 <<< (v84 &&& 31)))).bind fun a85 =>
  (rdI a32 336 (v71 + 1)).bind fun v86 =>
  (rdI a85 10 v86).bind fun v87 =>
  (rdI a32 336 (v71 + 6)).bind fun v88 =>
  (wrI a85 10 v86 (v87 ||| (1 <<< (v88 &&& 31)))).bind fun a89 =>
  mo_keep_J391 y66 a77 a89) else (mo_keep_J391 y66 a77 a67))
noncomputable def mo_keep_L399 (a7 : Nat → Int32) (a46 : Nat → Int32) : (Int32 × (Nat → Int32)) → Option ((Int32 × (Nat → Int32)) ⊕ (((Nat → Int32)))) := fun (y92, a93) =>
  (rdI a7 16 4).bind fun v94 =>
  if v94 ≤ y92 then (some (.inr a93)) else ((rdI a46 32 (2 * y92)).bind fun v96 =>
  (rdI a93 10 v96).bind fun v97 =>
  (rdI a46 32 ((2 * y92) + 1)).bind fun v98 =>
  (wrI a93 10 v96 (v97 ||| (1 <<< (v98 &&& 31)))).bind fun a99 =>
  (some (y92 + 1)).bind fun v100 =>
  some (.inl ((v100, a99))))
noncomputable def mo_keep_J508 (y105 : Int32) (a111 : Nat → Int32) (z114 : Int32) : Option ((Int32 × Int32 × (Nat → Int32)) ⊕ ((Int32 × (Nat → Int32)))) :=
  (some (y105 + 1)).bind fun v115 =>
  some (.inl ((v115, z114, a111)))
noncomputable def mo_keep_J489 (a7 : Nat → Int32) (y105 : Int32) (z106 : Int32) (a107 : Nat → Int32) (k109 : Int32) (k110 : Int32) : Option ((Int32 × Int32 × (Nat → Int32)) ⊕ ((Int32 × (Nat → Int32)))) :=
  (wrI a107 7 k110 k109).bind fun a111 =>
  (mo_doubts a7).bind fun v112 =>
  if v112 ≤ y105 then (mo_keep_J508 y105 a111 z106) else ((some (z106 * 3)).bind fun v117 =>
  mo_keep_J508 y105 a111 v117)
noncomputable def mo_keep_L460 (a7 : Nat → Int32) : (Int32 × Int32 × (Nat → Int32)) → Option ((Int32 × Int32 × (Nat → Int32)) ⊕ ((Int32 × (Nat → Int32)))) := fun (y105, z106, a107) =>
  if 7 ≤ y105 then (some (.inr (z106, a107))) else (if y105 = 0 then (mo_keep_J489 a7 y105 z106 a107 1 y105) else ((rdI a107 7 (y105 - 1)).bind fun v119 =>
  mo_keep_J489 a7 y105 z106 a107 (3 * v119) y105))
noncomputable def mo_keep_J558 (y129 : Int32) (y134 : Int32) (a135 : Nat → Int32) : Option ((Int32 × Int32 × (Nat → Int32)) ⊕ ((Int32 × (Nat → Int32)))) :=
  (some (y129 + 1)).bind fun v136 =>
  some (.inl ((y134, v136, a135)))
noncomputable def mo_keep_L528 (a7 : Nat → Int32) (z120 : Int32) (a121 : Nat → Int32) (y123 : Int32) : (Int32 × Int32 × (Nat → Int32)) → Option ((Int32 × Int32 × (Nat → Int32)) ⊕ ((Int32 × (Nat → Int32)))) := fun (y128, y129, a130) =>
  if z120 ≤ y129 then (some (.inr (y128, a130))) else ((mo_openIn a7 a121 y129).bind fun v132 =>
  if v132 = y123 then ((wrI a130 729 y128 y129).bind fun a138 =>
  (some (y128 + 1)).bind fun v139 =>
  mo_keep_J558 y129 v139 a138) else (mo_keep_J558 y129 y128 a130))
noncomputable def mo_keep_L518 (a7 : Nat → Int32) (z120 : Int32) (a121 : Nat → Int32) : (Int32 × Int32 × (Nat → Int32)) → Option ((Int32 × Int32 × (Nat → Int32)) ⊕ (((Nat → Int32)))) := fun (y122, y123, a124) =>
  (mo_doubts a7).bind fun v125 =>
  if v125 < y123 then (some (.inr a124)) else ((loop (mo_keep_L528 a7 z120 a121 y123) (y122, 0, a124)).bind fun (y140, a141) =>
  (some (y123 + 1)).bind fun v142 =>
  some (.inl ((y140, v142, a141))))
noncomputable def mo_keep_L587  : (Int32 × (Nat → Int32)) → Option ((Int32 × (Nat → Int32)) ⊕ (((Nat → Int32)))) := fun (y144, a145) =>
  if 3 ≤ y144 then (some (.inr a145)) else ((wrI a145 3 y144 (vp_nar .boolean 0)).bind fun a147 =>
  (some (y144 + 1)).bind fun v148 =>
  some (.inl ((v148, a147))))
noncomputable def mo_keep_L607  : (Int32 × (Nat → Int32)) → Option ((Int32 × (Nat → Int32)) ⊕ (((Nat → Int32)))) := fun (y150, a151) =>
  if 58320 ≤ y150 then (some (.inr a151)) else ((wrI a151 58320 y150 0).bind fun a153 =>
  (some (y150 + 1)).bind fun v154 =>
  some (.inl ((v154, a153))))
noncomputable def mo_keep (z_worlds : Int32) (z_knowings : Int32) (z_rowSize : Int32) (z_rules : Int32) (z_walks : Int32) (a_many : Nat → Int32) (a_placeName : Nat → Int32) (a_causeName : Nat → Int32) (a_causeOf10 : Nat → Int32) (a_road : Nat → Int32) (a_doubtful : Nat → Int32) (a_sight : Nat → Int32) (a_word : Nat → Int32) (a_seen : Nat → Int32) (a_between : Nat → Int32) (a_three : Nat → Int32) (a_turn : Nat → Int32) (a_isLaid : Nat → Int32) (a_hop : Nat → Int32) (a_weight : Nat → Int64) (a_use : Nat → Int64) (a_likely : Nat → Int64) : Option ((Int32) × (Int32) × (Int32) × (Int32) × (Int32) × (Nat → Int32) × (Nat → Int32) × (Nat → Int32) × (Nat → Int32) × (Nat → Int32) × (Nat → Int32) × (Nat → Int32) × (Nat → Int32) × (Nat → Int32) × (Nat → Int32) × (Nat → Int32) × (Nat → Int32) × (Nat → Int32) × (Nat → Int32) × (Nat → Int64) × (Nat → Int64) × (Nat → Int64)) :=
  (loop (mo_keep_L2) (0, a_many)).bind fun a7 =>
  (loop (mo_keep_L31) (0, a_placeName)).bind fun a14 =>
  (loop (mo_keep_L60) (0, a_causeName, a_causeOf10)).bind fun (a24, a25) =>
  (loop (mo_keep_L101) (0, a_road)).bind fun a32 =>
  (loop (mo_keep_L132) (0, a_doubtful)).bind fun a39 =>
  (loop (mo_keep_L161) (0, a_sight)).bind fun a46 =>
  (loop (mo_keep_L190) (0, a_word)).bind fun a53 =>
  (loop (mo_keep_L219) (0, a_between)).bind fun a59 =>
  (loop (mo_keep_L240) (0, a_seen)).bind fun a65 =>
  (loop (mo_keep_L261 a7 a32) (0, a65, a59)).bind fun (a90, a91) =>
  (loop (mo_keep_L399 a7 a46) (0, a90)).bind fun a101 =>
  (mo_doubts a7).bind fun v102 =>
  (some (1 <<< (v102 &&& 31))).bind fun v104 =>
  (loop (mo_keep_L460 a7) (0, 1, a_three)).bind fun (z120, a121) =>
  (loop (mo_keep_L518 a7 z120 a121) (0, 0, a_turn)).bind fun a143 =>
  (loop (mo_keep_L587) (0, a_isLaid)).bind fun a149 =>
  (loop (mo_keep_L607) (0, a_hop)).bind fun a155 =>
  (mo_layWeights v104 z120 a7 a25 a32 a39 a121 a143 a_weight a_use a_likely).bind fun (a156, a157, a158) =>
  some (v104, z120, 0, 0, 0, a7, a14, a24, a25, a32, a39, a46, a53, a101, a91, a121, a143, a149, a155, a156, a157, a158)
noncomputable def mo_thrown (z_thrown : Int32) : Option (Int32) :=
  some (z_thrown)
noncomputable def mo_feed_J76 (z_tapeSize : Int32) (y2 : Int32) (a3 : Nat → Int32) (k5 : Int32) : Option ((Int32 × (Nat → Int32)) ⊕ (((Nat → Int32)))) :=
  (rmI y2 4).bind fun v6 =>
  (wrI a3 600 (z_tapeSize + y2) ((k5 >>> ((24 - (8 * v6)) &&& 31)) &&& 255)).bind fun a7 =>
  (some (y2 + 1)).bind fun v8 =>
  some (.inl ((v8, a7)))
noncomputable def mo_feed_L23 (z_tapeSize : Int32) (x1 : Int32) (x2 : Int32) (x3 : Int32) (x4 : Int32) (x5 : Int32) : (Int32 × (Nat → Int32)) → Option ((Int32 × (Nat → Int32)) ⊕ (((Nat → Int32)))) := fun (y2, a3) =>
  if 20 ≤ y2 then (some (.inr a3)) else (if 4 ≤ y2 then (if 8 ≤ y2 then (if 12 ≤ y2 then (if 16 ≤ y2 then (mo_feed_J76 z_tapeSize y2 a3 x5) else (mo_feed_J76 z_tapeSize y2 a3 x4)) else (mo_feed_J76 z_tapeSize y2 a3 x3)) else (mo_feed_J76 z_tapeSize y2 a3 x2)) else (mo_feed_J76 z_tapeSize y2 a3 x1))
noncomputable def mo_feed (z_tapeSize : Int32) (z_thrown : Int32) (a_tape : Nat → Int32) (x1 : Int32) (x2 : Int32) (x3 : Int32) (x4 : Int32) (x5 : Int32) : Option (Int32 × (Int32) × (Int32) × (Nat → Int32)) :=
  if z_tapeSize + 20 ≤ 600 then ((loop (mo_feed_L23 z_tapeSize x1 x2 x3 x4 x5) (0, a_tape)).bind fun a13 =>
  (some (z_tapeSize + 20)).bind fun v14 =>
  some (v14, v14, 0, a13)) else (some ((-1), z_tapeSize, 0, a_tape))
noncomputable def mo_causeBy_L2 (a_many : Nat → Int32) (a_causeName : Nat → Int32) (x1 : Int32) : (Int32) → Option ((Int32) ⊕ ((Int32) ⊕ (Unit))) := fun y1 =>
  (rdI a_many 16 9).bind fun v2 =>
  if v2 ≤ y1 then (some (.inr (.inr ()))) else ((rdI a_causeName 4 (2 + y1)).bind fun v4 =>
  if v4 = x1 then (some (.inr (.inl y1))) else ((some (y1 + 1)).bind fun v6 =>
  some (.inl v6)))
noncomputable def mo_causeBy (a_many : Nat → Int32) (a_causeName : Nat → Int32) (x1 : Int32) : Option (Int32) :=
  (loop (mo_causeBy_L2 a_many a_causeName x1) 0).bind (sE (fun y7 =>
  some (y7)) (fun _ =>
  some ((-1))))
noncomputable def mo_wrong (z_fault : Int32) (z_faultPlace : Int32) (z_at : Int32) (x1 : Int32) : Option (Int32 × (Int32) × (Int32)) :=
  some (0, x1, z_at)
noncomputable def mo_numberRead_J38  (z2 : Int32) (z3 : Int32) : Option (Int32 × (Int32) × (Int32)) :=
  some (1, z2, z3)
noncomputable def mo_numberRead_J30 (z_fault : Int32) (z_faultPlace : Int32) (z_at : Int32) : Option (Int32 × (Int32) × (Int32)) :=
  (mo_wrong z_fault z_faultPlace z_at 2).bind fun (v4, z5, z6) =>
  if v4 = 0 then (some (0, z5, z6)) else (mo_numberRead_J38 z5 z6)
noncomputable def mo_numberRead (z_fault : Int32) (z_faultPlace : Int32) (z_kind : Int32) (z_which : Int32) (z_at : Int32) (x1 : Int32) (x2 : Int32) : Option (Int32 × (Int32) × (Int32)) :=
  if z_kind = 3 then (if z_which < x1 then (mo_numberRead_J30 z_fault z_faultPlace z_at) else (if z_which ≤ x2 then (mo_numberRead_J38 z_fault z_faultPlace) else (mo_numberRead_J30 z_fault z_faultPlace z_at))) else ((mo_wrong z_fault z_faultPlace z_at 1).bind fun (v11, z12, z13) =>
  (retZ v11).bind fun v15 =>
  some (v15, z12, z13))
noncomputable def mo_isDigit_J34  : Option (Int32) :=
  some (0)
noncomputable def mo_isDigit (z_stop : Int32) (a_tape : Nat → Int32) (x1 : Int32) : Option (Int32) :=
  if z_stop ≤ x1 then (mo_isDigit_J34) else ((rdI a_tape 600 x1).bind fun v2 =>
  if v2 < 48 then (mo_isDigit_J34) else ((rdI a_tape 600 x1).bind fun v4 =>
  if 57 < v4 then (mo_isDigit_J34) else (some (1))))
noncomputable def mo_isSmall_J34  : Option (Int32) :=
  some (0)
noncomputable def mo_isSmall (z_stop : Int32) (a_tape : Nat → Int32) (x1 : Int32) : Option (Int32) :=
  if z_stop ≤ x1 then (mo_isSmall_J34) else ((rdI a_tape 600 x1).bind fun v2 =>
  if v2 < 97 then (mo_isSmall_J34) else ((rdI a_tape 600 x1).bind fun v4 =>
  if 122 < v4 then (mo_isSmall_J34) else (some (1))))
noncomputable def mo_packed_J37 (y2 : Int32) (k4 : Int32) (k5 : Int32) : Option ((Int32 × Int32) ⊕ ((Int32))) :=
  (some (k5 ||| k4)).bind fun v6 =>
  (some (y2 + 1)).bind fun v7 =>
  some (.inl ((v6, v7)))
noncomputable def mo_packed_L5 (a_tape : Nat → Int32) (x1 : Int32) (x2 : Int32) : (Int32 × Int32) → Option ((Int32 × Int32) ⊕ ((Int32))) := fun (y1, y2) =>
  if x1 + 6 ≤ y2 then (some (.inr y1)) else (if x2 ≤ y2 then (mo_packed_J37 y2 0 (y1 <<< (5 &&& 31))) else ((rdI a_tape 600 y2).bind fun v9 =>
  mo_packed_J37 y2 (v9 - 96) (y1 <<< (5 &&& 31))))
noncomputable def mo_packed (a_tape : Nat → Int32) (x1 : Int32) (x2 : Int32) : Option (Int32) :=
  (loop (mo_packed_L5 a_tape x1 x2) (0, x1)).bind fun y10 =>
  some (y10)
noncomputable def mo_wordAt_L18 (a_words : Nat → Int32) (y2 : Int32) : (Int32) → Option ((Int32) ⊕ ((Int32))) := fun y4 =>
  (rdI a_words 48 (y2 + y4)).bind fun v5 =>
  if v5 = 32 then (some (.inr y4)) else ((some (y4 + 1)).bind fun v7 =>
  some (.inl v7))
noncomputable def mo_wordAt_J96 (y11 : Int32) (k16 : Int32) : Option ((Int32 × Int32) ⊕ ((Int32))) :=
  (some (y11 + 1)).bind fun v17 =>
  some (.inl ((k16, v17)))
noncomputable def mo_wordAt_L57 (a_tape : Nat → Int32) (a_words : Nat → Int32) (x1 : Int32) (y2 : Int32) (y8 : Int32) : (Int32 × Int32) → Option ((Int32 × Int32) ⊕ ((Int32))) := fun (y10, y11) =>
  if y8 ≤ y11 then (some (.inr y10)) else (if y10 = 0 then (some (.inr y10)) else ((rdI a_words 48 (y2 + y11)).bind fun v14 =>
  (rdI a_tape 600 (x1 + y11)).bind fun v15 =>
  if v14 = v15 then (mo_wordAt_J96 y11 1) else (mo_wordAt_J96 y11 0)))
noncomputable def mo_wordAt_J52 (a_tape : Nat → Int32) (a_words : Nat → Int32) (x1 : Int32) (y1 : Int32) (y2 : Int32) (y8 : Int32) (k9 : Int32) : Option ((Int32 × Int32) ⊕ ((Int32) ⊕ (Unit))) :=
  (loop (mo_wordAt_L57 a_tape a_words x1 y2 y8) (k9, 0)).bind fun y19 =>
  if y19 = 0 then ((some (y2 + (y8 + 1))).bind fun v21 =>
  (some (y1 + 1)).bind fun v22 =>
  some (.inl ((v22, v21)))) else (some (.inr (.inl y1)))
noncomputable def mo_wordAt_L5 (a_tape : Nat → Int32) (a_words : Nat → Int32) (x1 : Int32) (x2 : Int32) : (Int32 × Int32) → Option ((Int32 × Int32) ⊕ ((Int32) ⊕ (Unit))) := fun (y1, y2) =>
  if 48 ≤ y2 then (some (.inr (.inr ()))) else ((loop (mo_wordAt_L18 a_words y2) 0).bind fun y8 =>
  if y8 = x2 - x1 then (mo_wordAt_J52 a_tape a_words x1 y1 y2 y8 1) else (mo_wordAt_J52 a_tape a_words x1 y1 y2 y8 0))
noncomputable def mo_wordAt (a_tape : Nat → Int32) (a_words : Nat → Int32) (x1 : Int32) (x2 : Int32) : Option (Int32) :=
  (loop (mo_wordAt_L5 a_tape a_words x1 x2) (0, 0)).bind (sE (fun y24 =>
  some (y24)) (fun _ =>
  some ((-1))))
noncomputable def mo_take_J39 (z1 : Int32) : Option ((Int32) ⊕ ((Int32))) :=
  (some (z1 + 1)).bind fun v4 =>
  some (.inl v4)
noncomputable def mo_take_L0 (z_stop : Int32) (a_tape : Nat → Int32) : (Int32) → Option ((Int32) ⊕ ((Int32))) := fun z1 =>
  if z_stop ≤ z1 then (some (.inr z1)) else ((rdI a_tape 600 z1).bind fun v3 =>
  if v3 = 10 then (mo_take_J39 z1) else ((rdI a_tape 600 z1).bind fun v6 =>
  if v6 = 32 then (mo_take_J39 z1) else (some (.inr z1))))
noncomputable def mo_take_J296 (z_which : Int32) (z8 : Int32) (k17 : Int32) : Option ((Int32) × (Int32) × (Int32) × (Int32)) :=
  (some (z8 + 1)).bind fun v18 =>
  some (v18, k17, z_which, z8)
noncomputable def mo_take_J260 (z20 : Int32) (k25 : Int32) : Option ((Int32 × Int32) ⊕ ((Int32 × Int32))) :=
  (some (z20 + 1)).bind fun v26 =>
  some (.inl ((v26, k25)))
noncomputable def mo_take_L212 (z_stop : Int32) (a_tape : Nat → Int32) : (Int32 × Int32) → Option ((Int32 × Int32) ⊕ ((Int32 × Int32))) := fun (z20, z21) =>
  (mo_isDigit z_stop a_tape z20).bind fun v22 =>
  if v22 = 0 then (some (.inr (z20, z21))) else (if z21 ≤ 99 then ((rdI a_tape 600 z20).bind fun v28 =>
  mo_take_J260 z20 (((10 * z21) + v28) - 48)) else (mo_take_J260 z20 z21))
noncomputable def mo_take_L90 (z_stop : Int32) (a_tape : Nat → Int32) : (Int32) → Option ((Int32) ⊕ ((Int32))) := fun z31 =>
  (mo_isSmall z_stop a_tape z31).bind fun v32 =>
  if v32 = 0 then (some (.inr z31)) else ((some (z31 + 1)).bind fun v35 =>
  some (.inl v35))
noncomputable def mo_take_J161 (a_tape : Nat → Int32) (z8 : Int32) (z36 : Int32) (v37 : Int32) (k39 : Int32) : Option ((Int32) × (Int32) × (Int32) × (Int32)) :=
  if k39 = 2 then ((mo_packed a_tape z8 z36).bind fun v41 =>
  some (z36, k39, v41, z8)) else (some (z36, k39, v37, z8))
noncomputable def mo_take (z_stop : Int32) (z_next : Int32) (z_kind : Int32) (z_which : Int32) (z_at : Int32) (a_tape : Nat → Int32) (a_words : Nat → Int32) : Option ((Int32) × (Int32) × (Int32) × (Int32)) :=
  (loop (mo_take_L0 z_stop a_tape) z_next).bind fun z8 =>
  if z8 = z_stop then (some (z8, 0, z_which, z8)) else ((mo_isSmall z_stop a_tape z8).bind fun v10 =>
  if v10 = 0 then ((mo_isDigit z_stop a_tape z8).bind fun v13 =>
  if v13 = 0 then ((rdI a_tape 600 z8).bind fun v16 =>
  if v16 = 59 then (mo_take_J296 z_which z8 4) else (mo_take_J296 z_which z8 5)) else ((loop (mo_take_L212 z_stop a_tape) (z8, 0)).bind fun (z29, z30) =>
  some (z29, 3, z30, z8))) else ((loop (mo_take_L90 z_stop a_tape) z8).bind fun z36 =>
  (mo_wordAt a_tape a_words z8 z36).bind fun v37 =>
  if v37 < 0 then (if z36 - z8 ≤ 6 then (mo_take_J161 a_tape z8 z36 v37 2) else (mo_take_J161 a_tape z8 z36 v37 5)) else (mo_take_J161 a_tape z8 z36 v37 1)))
noncomputable def mo_causeRead (z_fault : Int32) (z_faultPlace : Int32) (z_stop : Int32) (z_next : Int32) (z_kind : Int32) (z_which : Int32) (z_at : Int32) (a_tape : Nat → Int32) (a_words : Nat → Int32) (a_many : Nat → Int32) (a_causeName : Nat → Int32) (a_causeOf10 : Nat → Int32) : Option (Int32 × (Int32) × (Int32) × (Int32) × (Int32) × (Int32) × (Int32) × (Nat → Int32) × (Nat → Int32) × (Nat → Int32)) :=
  (rdI a_many 16 9).bind fun v1 =>
  if v1 = 2 then ((mo_wrong z_fault z_faultPlace z_at 2).bind fun (v43, z44, z45) =>
  (retZ v43).bind fun v47 =>
  some (v47, z44, z45, z_next, z_kind, z_which, z_at, a_many, a_causeName, a_causeOf10)) else ((mo_take z_stop z_next z_kind z_which z_at a_tape a_words).bind fun (z3, z4, z5, z6) =>
  if z4 = 2 then ((mo_causeBy a_many a_causeName z5).bind fun v9 =>
  if v9 < 0 then ((mo_take z_stop z3 z4 z5 z6 a_tape a_words).bind fun (z12, z13, z14, z15) =>
  (mo_numberRead z_fault z_faultPlace z13 z14 z15 1 9).bind fun (v17, z18, z19) =>
  if v17 = 0 then (some (0, z18, z19, z12, z13, z14, z15, a_many, a_causeName, a_causeOf10)) else ((rdI a_many 16 9).bind fun v22 =>
  (wrI a_causeName 4 (2 + v22) z5).bind fun a23 =>
  (rdI a_many 16 9).bind fun v24 =>
  (wrI a_causeOf10 4 (2 + v24) z14).bind fun a25 =>
  (rdI a_many 16 9).bind fun v26 =>
  (wrI a_many 16 9 (v26 + 1)).bind fun a27 =>
  (mo_take z_stop z12 z13 z14 z15 a_tape a_words).bind fun (z28, z29, z30, z31) =>
  some (1, z18, z19, z28, z29, z30, z31, a27, a23, a25))) else ((mo_wrong z_fault z_faultPlace z6 3).bind fun (v33, z34, z35) =>
  (retZ v33).bind fun v37 =>
  some (v37, z34, z35, z3, z4, z5, z6, a_many, a_causeName, a_causeOf10))) else ((mo_wrong z_fault z_faultPlace z6 1).bind fun (v38, z39, z40) =>
  (retZ v38).bind fun v42 =>
  some (v42, z39, z40, z3, z4, z5, z6, a_many, a_causeName, a_causeOf10)))
noncomputable def mo_placeOf_L2 (a_many : Nat → Int32) (a_placeName : Nat → Int32) (x1 : Int32) : (Int32) → Option ((Int32) ⊕ ((Int32) ⊕ (Unit))) := fun y1 =>
  (rdI a_many 16 8).bind fun v2 =>
  if v2 ≤ y1 then (some (.inr (.inr ()))) else ((rdI a_placeName 20 (10 + y1)).bind fun v4 =>
  if v4 = x1 then (some (.inr (.inl y1))) else ((some (y1 + 1)).bind fun v6 =>
  some (.inl v6)))
noncomputable def mo_placeOf (a_many : Nat → Int32) (a_placeName : Nat → Int32) (x1 : Int32) : Option (Int32) :=
  (loop (mo_placeOf_L2 a_many a_placeName x1) 0).bind (sE (fun y7 =>
  some (y7)) (fun _ =>
  some ((-1))))
noncomputable def mo_spotRead_J41 (v2 : Int32) (z4 : Int32) (z5 : Int32) : Option (Int32 × (Int32) × (Int32) × (Int32)) :=
  some (1, z4, z5, v2)
noncomputable def mo_spotRead (z_fault : Int32) (z_faultPlace : Int32) (z_kind : Int32) (z_which : Int32) (z_at : Int32) (z_spot : Int32) (a_many : Nat → Int32) (a_placeName : Nat → Int32) : Option (Int32 × (Int32) × (Int32) × (Int32)) :=
  if z_kind = 2 then ((mo_placeOf a_many a_placeName z_which).bind fun v2 =>
  if 0 ≤ v2 then (mo_spotRead_J41 v2 z_fault z_faultPlace) else ((mo_wrong z_fault z_faultPlace z_at 4).bind fun (v7, z8, z9) =>
  if v7 = 0 then (some (0, z8, z9, v2)) else (mo_spotRead_J41 v2 z8 z9))) else ((mo_wrong z_fault z_faultPlace z_at 1).bind fun (v12, z13, z14) =>
  (retZ v12).bind fun v16 =>
  some (v16, z13, z14, z_spot))
noncomputable def mo_endRead (z_fault : Int32) (z_faultPlace : Int32) (z_stop : Int32) (z_next : Int32) (z_kind : Int32) (z_which : Int32) (z_at : Int32) (z_spot : Int32) (a_tape : Nat → Int32) (a_words : Nat → Int32) (a_many : Nat → Int32) (a_placeName : Nat → Int32) (x1 : Int32) : Option (Int32 × (Int32) × (Int32) × (Int32) × (Int32) × (Int32) × (Int32) × (Int32) × (Nat → Int32)) :=
  (rdI a_many 16 (14 + x1)).bind fun v1 =>
  if v1 = (-1) then ((mo_take z_stop z_next z_kind z_which z_at a_tape a_words).bind fun (z3, z4, z5, z6) =>
  (mo_spotRead z_fault z_faultPlace z4 z5 z6 z_spot a_many a_placeName).bind fun (v8, z9, z10, z11) =>
  if v8 = 0 then (some (0, z9, z10, z3, z4, z5, z6, z11, a_many)) else ((wrI a_many 16 (14 + x1) z11).bind fun a14 =>
  (mo_take z_stop z3 z4 z5 z6 a_tape a_words).bind fun (z15, z16, z17, z18) =>
  some (1, z9, z10, z15, z16, z17, z18, z11, a14))) else ((mo_wrong z_fault z_faultPlace z_at 3).bind fun (v20, z21, z22) =>
  (retZ v20).bind fun v24 =>
  some (v24, z21, z22, z_next, z_kind, z_which, z_at, z_spot, a_many))
noncomputable def mo_roadBetween_J73 (y1 : Int32) : Option ((Int32) ⊕ ((Int32) ⊕ (Unit))) :=
  (some (y1 + 1)).bind fun v7 =>
  some (.inl v7)
noncomputable def mo_roadBetween_J47 (a_road : Nat → Int32) (x1 : Int32) (y1 : Int32) (x2 : Int32) (v4 : Int32) : Option ((Int32) ⊕ ((Int32) ⊕ (Unit))) :=
  (rdI a_road 336 v4).bind fun v6 =>
  if v6 = x2 then ((rdI a_road 336 (v4 + 1)).bind fun v9 =>
  if v9 = x1 then (some (.inr (.inl y1))) else (mo_roadBetween_J73 y1)) else (mo_roadBetween_J73 y1)
noncomputable def mo_roadBetween_L2 (a_many : Nat → Int32) (a_road : Nat → Int32) (x1 : Int32) (x2 : Int32) : (Int32) → Option ((Int32) ⊕ ((Int32) ⊕ (Unit))) := fun y1 =>
  (rdI a_many 16 10).bind fun v2 =>
  if v2 ≤ y1 then (some (.inr (.inr ()))) else ((some (168 + (7 * y1))).bind fun v4 =>
  (rdI a_road 336 v4).bind fun v5 =>
  if v5 = x1 then ((rdI a_road 336 (v4 + 1)).bind fun v12 =>
  if v12 = x2 then (some (.inr (.inl y1))) else (mo_roadBetween_J47 a_road x1 y1 x2 v4)) else (mo_roadBetween_J47 a_road x1 y1 x2 v4))
noncomputable def mo_roadBetween (a_many : Nat → Int32) (a_road : Nat → Int32) (x1 : Int32) (x2 : Int32) : Option (Int32) :=
  (loop (mo_roadBetween_L2 a_many a_road x1 x2) 0).bind (sE (fun y14 =>
  some (y14)) (fun _ =>
  some ((-1))))
noncomputable def mo_seenRead_J82 (z23 : Int32) (z24 : Int32) (z25 : Int32) (z26 : Int32) (z29 : Int32) (z30 : Int32) (z31 : Int32) : Option (Int32 × (Int32) × (Int32) × (Int32) × (Int32) × (Int32) × (Int32) × (Int32)) :=
  (mo_wrong z29 z30 z26 4).bind fun (v36, z37, z38) =>
  some ((-1), z37, z38, z23, z24, z25, z26, z31)
noncomputable def mo_seenRead (z_fault : Int32) (z_faultPlace : Int32) (z_stop : Int32) (z_next : Int32) (z_kind : Int32) (z_which : Int32) (z_at : Int32) (z_spot : Int32) (a_tape : Nat → Int32) (a_words : Nat → Int32) (a_many : Nat → Int32) (a_placeName : Nat → Int32) (a_road : Nat → Int32) : Option (Int32 × (Int32) × (Int32) × (Int32) × (Int32) × (Int32) × (Int32) × (Int32)) :=
  (mo_take z_stop z_next z_kind z_which z_at a_tape a_words).bind fun (z1, z2, z3, z4) =>
  (mo_spotRead z_fault z_faultPlace z2 z3 z4 z_spot a_many a_placeName).bind fun (v6, z7, z8, z9) =>
  if v6 = 0 then (some ((-1), z7, z8, z1, z2, z3, z4, z9)) else ((mo_take z_stop z1 z2 z3 z4 a_tape a_words).bind fun (z12, z13, z14, z15) =>
  (mo_spotRead z7 z8 z13 z14 z15 z9 a_many a_placeName).bind fun (v17, z18, z19, z20) =>
  if v17 = 0 then (some ((-1), z18, z19, z12, z13, z14, z15, z20)) else ((mo_take z_stop z12 z13 z14 z15 a_tape a_words).bind fun (z23, z24, z25, z26) =>
  (mo_spotRead z18 z19 z24 z25 z26 z20 a_many a_placeName).bind fun (v28, z29, z30, z31) =>
  if v28 = 0 then (some ((-1), z29, z30, z23, z24, z25, z26, z31)) else ((mo_roadBetween a_many a_road z20 z31).bind fun v34 =>
  if v34 < 0 then (mo_seenRead_J82 z23 z24 z25 z26 z29 z30 z31) else ((rdI a_road 336 ((168 + (7 * v34)) + 6)).bind fun v41 =>
  if 0 ≤ v41 then ((mo_take z_stop z23 z24 z25 z26 a_tape a_words).bind fun (z43, z44, z45, z46) =>
  (rdI a_road 336 ((168 + (7 * v34)) + 6)).bind fun v48 =>
  some ((6 * z9) + v48, z29, z30, z43, z44, z45, z46, z31)) else (mo_seenRead_J82 z23 z24 z25 z26 z29 z30 z31)))))
noncomputable def mo_innRead (z_fault : Int32) (z_faultPlace : Int32) (z_stop : Int32) (z_next : Int32) (z_kind : Int32) (z_which : Int32) (z_at : Int32) (z_spot : Int32) (a_tape : Nat → Int32) (a_words : Nat → Int32) (a_many : Nat → Int32) (a_placeName : Nat → Int32) (a_road : Nat → Int32) (a_word : Nat → Int32) : Option (Int32 × (Int32) × (Int32) × (Int32) × (Int32) × (Int32) × (Int32) × (Int32) × (Nat → Int32) × (Nat → Int32)) :=
  (rdI a_many 16 13).bind fun v1 =>
  if v1 = 6 then ((mo_wrong z_fault z_faultPlace z_at 2).bind fun (v32, z33, z34) =>
  (retZ v32).bind fun v36 =>
  some (v36, z33, z34, z_next, z_kind, z_which, z_at, z_spot, a_many, a_word)) else ((mo_seenRead z_fault z_faultPlace z_stop z_next z_kind z_which z_at z_spot a_tape a_words a_many a_placeName a_road).bind fun (v3, z4, z5, z6, z7, z8, z9, z10) =>
  if 0 ≤ v3 then ((mo_numberRead z4 z5 z7 z8 z9 1 99).bind fun (v13, z14, z15) =>
  if v13 = 0 then (some (0, z14, z15, z6, z7, z8, z9, z10, a_many, a_word)) else ((rdI a_many 16 13).bind fun v18 =>
  (some (18 + (3 * v18))).bind fun v19 =>
  (dvI v3 6).bind fun v20 =>
  (wrI a_word 36 v19 v20).bind fun a21 =>
  (rmI v3 6).bind fun v22 =>
  (wrI a21 36 (v19 + 1) v22).bind fun a23 =>
  (wrI a23 36 (v19 + 2) z8).bind fun a24 =>
  (rdI a_many 16 13).bind fun v25 =>
  (wrI a_many 16 13 (v25 + 1)).bind fun a26 =>
  (mo_take z_stop z6 z7 z8 z9 a_tape a_words).bind fun (z27, z28, z29, z30) =>
  some (1, z14, z15, z27, z28, z29, z30, z10, a26, a24))) else (some (0, z4, z5, z6, z7, z8, z9, z10, a_many, a_word)))
noncomputable def mo_placesRead_L18 (z_stop : Int32) (a_tape : Nat → Int32) (a_words : Nat → Int32) : (Int32 × Int32 × Int32 × Int32 × (Nat → Int32) × (Nat → Int32)) → Option ((Int32 × Int32 × Int32 × Int32 × (Nat → Int32) × (Nat → Int32)) ⊕ ((Int32 × Int32 × Int32 × Int32 × (Nat → Int32) × (Nat → Int32)) ⊕ (Int32 × Int32 × Int32 × Int32 × (Nat → Int32) × (Nat → Int32)) ⊕ (Int32 × Int32 × Int32 × Int32 × (Nat → Int32) × (Nat → Int32)))) := fun (z7, z8, z9, z10, a11, a12) =>
  if z8 = 2 then ((rdI a11 16 8).bind fun v14 =>
  if v14 = 10 then (some (.inr (.inl ((z7, z8, z9, z10, a11, a12))))) else ((mo_placeOf a11 a12 z9).bind fun v16 =>
  if v16 < 0 then ((rdI a11 16 8).bind fun v19 =>
  (wrI a12 20 (10 + v19) z9).bind fun a20 =>
  (rdI a11 16 8).bind fun v21 =>
  (wrI a11 16 8 (v21 + 1)).bind fun a22 =>
  (mo_take z_stop z7 z8 z9 z10 a_tape a_words).bind fun (z23, z24, z25, z26) =>
  some (.inl ((z23, z24, z25, z26, a22, a20)))) else (some (.inr (.inr (.inl ((z7, z8, z9, z10, a11, a12)))))))) else (some (.inr (.inr (.inr (z7, z8, z9, z10, a11, a12)))))
noncomputable def mo_placesRead (z_fault : Int32) (z_faultPlace : Int32) (z_stop : Int32) (z_next : Int32) (z_kind : Int32) (z_which : Int32) (z_at : Int32) (a_tape : Nat → Int32) (a_words : Nat → Int32) (a_many : Nat → Int32) (a_placeName : Nat → Int32) : Option (Int32 × (Int32) × (Int32) × (Int32) × (Int32) × (Int32) × (Int32) × (Nat → Int32) × (Nat → Int32)) :=
  (mo_take z_stop z_next z_kind z_which z_at a_tape a_words).bind fun (z1, z2, z3, z4) =>
  if z2 = 2 then ((loop (mo_placesRead_L18 z_stop a_tape a_words) (z1, z2, z3, z4, a_many, a_placeName)).bind (sE (fun (z28, z29, z30, z31, a32, a33) =>
  (mo_wrong z_fault z_faultPlace z31 2).bind fun (v46, z47, z48) =>
  (retZ v46).bind fun v50 =>
  some (v50, z47, z48, z28, z29, z30, z31, a32, a33)) (sE (fun (z34, z35, z36, z37, a38, a39) =>
  (mo_wrong z_fault z_faultPlace z37 3).bind fun (v51, z52, z53) =>
  (retZ v51).bind fun v55 =>
  some (v55, z52, z53, z34, z35, z36, z37, a38, a39)) (fun (z40, z41, z42, z43, a44, a45) =>
  some (1, z_fault, z_faultPlace, z40, z41, z42, z43, a44, a45))))) else ((mo_wrong z_fault z_faultPlace z4 1).bind fun (v56, z57, z58) =>
  (retZ v56).bind fun v60 =>
  some (v60, z57, z58, z1, z2, z3, z4, a_many, a_placeName))
noncomputable def mo_isDoubtRoom_J20  (z2 : Int32) (z3 : Int32) : Option (Int32 × (Int32) × (Int32)) :=
  some (1, z2, z3)
noncomputable def mo_isDoubtRoom (z_fault : Int32) (z_faultPlace : Int32) (z_at : Int32) (a_many : Nat → Int32) : Option (Int32 × (Int32) × (Int32)) :=
  (rdI a_many 16 11).bind fun v1 =>
  if v1 < 6 then (mo_isDoubtRoom_J20 z_fault z_faultPlace) else ((mo_wrong z_fault z_faultPlace z_at 2).bind fun (v5, z6, z7) =>
  if v5 = 0 then (some (0, z6, z7)) else (mo_isDoubtRoom_J20 z6 z7))
noncomputable def mo_isKey_J20  : Option (Int32) :=
  some (0)
noncomputable def mo_isKey (z_kind : Int32) (z_which : Int32) (x1 : Int32) : Option (Int32) :=
  if z_kind = 1 then (if z_which = x1 then (some (1)) else (mo_isKey_J20)) else (mo_isKey_J20)
noncomputable def mo_roadRead_J69 (a_many : Nat → Int32) (a_road : Nat → Int32) (a_doubtful : Nat → Int32) (z14 : Int32) (z15 : Int32) (z16 : Int32) (z17 : Int32) (z20 : Int32) (z21 : Int32) (z22 : Int32) : Option (Int32 × (Int32) × (Int32) × (Int32) × (Int32) × (Int32) × (Int32) × (Int32) × (Nat → Int32) × (Nat → Int32) × (Nat → Int32)) :=
  (mo_wrong z20 z21 z17 3).bind fun (v25, z26, z27) =>
  (retZ v25).bind fun v29 =>
  some (v29, z26, z27, z14, z15, z16, z17, z22, a_many, a_road, a_doubtful)
noncomputable def mo_roadRead_J406 (z22 : Int32) (z80 : Int32) (z81 : Int32) (z82 : Int32) (z83 : Int32) (z84 : Int32) (z85 : Int32) (a87 : Nat → Int32) (a88 : Nat → Int32) (a89 : Nat → Int32) : Option (Int32 × (Int32) × (Int32) × (Int32) × (Int32) × (Int32) × (Int32) × (Int32) × (Nat → Int32) × (Nat → Int32) × (Nat → Int32)) :=
  (rdI a87 16 10).bind fun v90 =>
  (wrI a87 16 10 (v90 + 1)).bind fun a91 =>
  some (1, z80, z81, z82, z83, z84, z85, z22, a91, a88, a89)
noncomputable def mo_roadRead_J353 (a_many : Nat → Int32) (a_doubtful : Nat → Int32) (z22 : Int32) (v35 : Int32) (y70 : Int32) (z80 : Int32) (z81 : Int32) (z82 : Int32) (z83 : Int32) (z84 : Int32) (z85 : Int32) (a86 : Nat → Int32) : Option (Int32 × (Int32) × (Int32) × (Int32) × (Int32) × (Int32) × (Int32) × (Int32) × (Nat → Int32) × (Nat → Int32) × (Nat → Int32)) :=
  if y70 = 0 then (mo_roadRead_J406 z22 z80 z81 z82 z83 z84 z85 a_many a86 a_doubtful) else ((rdI a_many 16 11).bind fun v93 =>
  (wrI a86 336 (v35 + 6) v93).bind fun a94 =>
  (rdI a_many 16 11).bind fun v95 =>
  (rdI a_many 16 10).bind fun v96 =>
  (wrI a_doubtful 12 (6 + v95) v96).bind fun a97 =>
  (rdI a_many 16 11).bind fun v98 =>
  (wrI a_many 16 11 (v98 + 1)).bind fun a99 =>
  mo_roadRead_J406 z22 z80 z81 z82 z83 z84 z85 a99 a94 a97)
noncomputable def mo_roadRead_J309 (z_stop : Int32) (a_tape : Nat → Int32) (a_words : Nat → Int32) (a_many : Nat → Int32) (a_doubtful : Nat → Int32) (z22 : Int32) (v35 : Int32) (y70 : Int32) (z71 : Int32) (z72 : Int32) (z73 : Int32) (z74 : Int32) (z75 : Int32) (z76 : Int32) (a77 : Nat → Int32) : Option (Int32 × (Int32) × (Int32) × (Int32) × (Int32) × (Int32) × (Int32) × (Int32) × (Nat → Int32) × (Nat → Int32) × (Nat → Int32)) :=
  (mo_isKey z74 z75 5).bind fun v78 =>
  if v78 = 0 then (mo_roadRead_J353 a_many a_doubtful z22 v35 y70 z71 z72 z73 z74 z75 z76 a77) else (if y70 = 0 then (mo_roadRead_J353 a_many a_doubtful z22 v35 y70 z71 z72 z73 z74 z75 z76 a77) else ((mo_take z_stop z73 z74 z75 z76 a_tape a_words).bind fun (z102, z103, z104, z105) =>
  (mo_numberRead z71 z72 z103 z104 z105 1 99).bind fun (v107, z108, z109) =>
  if v107 = 0 then (some (0, z108, z109, z102, z103, z104, z105, z22, a_many, a77, a_doubtful)) else ((wrI a77 336 (v35 + 5) z104).bind fun a112 =>
  (mo_take z_stop z102 z103 z104 z105 a_tape a_words).bind fun (z113, z114, z115, z116) =>
  mo_roadRead_J353 a_many a_doubtful z22 v35 y70 z108 z109 z113 z114 z115 z116 a112)))
noncomputable def mo_roadRead_J252 (z_stop : Int32) (a_tape : Nat → Int32) (a_words : Nat → Int32) (a_many : Nat → Int32) (a_causeName : Nat → Int32) (a_doubtful : Nat → Int32) (z22 : Int32) (v35 : Int32) (z63 : Int32) (z64 : Int32) (z65 : Int32) (z66 : Int32) (a67 : Nat → Int32) (z119 : Int32) (z120 : Int32) : Option (Int32 × (Int32) × (Int32) × (Int32) × (Int32) × (Int32) × (Int32) × (Int32) × (Nat → Int32) × (Nat → Int32) × (Nat → Int32)) :=
  (mo_take z_stop z63 z64 z65 z66 a_tape a_words).bind fun (z121, z122, z123, z124) =>
  if z122 = 2 then ((mo_causeBy a_many a_causeName z123).bind fun v127 =>
  (wrI a67 336 (v35 + 4) v127).bind fun a129 =>
  (rdI a129 336 (v35 + 4)).bind fun v130 =>
  if 0 ≤ v130 then ((mo_take z_stop z121 z122 z123 z124 a_tape a_words).bind fun (z132, z133, z134, z135) =>
  mo_roadRead_J309 z_stop a_tape a_words a_many a_doubtful z22 v35 1 z119 z120 z132 z133 z134 z135 a129) else ((mo_wrong z119 z120 z124 4).bind fun (v137, z138, z139) =>
  (retZ v137).bind fun v141 =>
  some (v141, z138, z139, z121, z122, z123, z124, z22, a_many, a129, a_doubtful))) else ((mo_wrong z119 z120 z124 1).bind fun (v142, z143, z144) =>
  (retZ v142).bind fun v146 =>
  some (v146, z143, z144, z121, z122, z123, z124, z22, a_many, a67, a_doubtful))
noncomputable def mo_roadRead_J231 (z_stop : Int32) (a_tape : Nat → Int32) (a_words : Nat → Int32) (a_many : Nat → Int32) (a_causeName : Nat → Int32) (a_doubtful : Nat → Int32) (z22 : Int32) (v35 : Int32) (y60 : Int32) (z61 : Int32) (z62 : Int32) (z63 : Int32) (z64 : Int32) (z65 : Int32) (z66 : Int32) (a67 : Nat → Int32) : Option (Int32 × (Int32) × (Int32) × (Int32) × (Int32) × (Int32) × (Int32) × (Int32) × (Nat → Int32) × (Nat → Int32) × (Nat → Int32)) :=
  (mo_isKey z64 z65 4).bind fun v68 =>
  if v68 = 0 then (mo_roadRead_J309 z_stop a_tape a_words a_many a_doubtful z22 v35 y60 z61 z62 z63 z64 z65 z66 a67) else (if y60 = 0 then ((mo_isDoubtRoom z61 z62 z66 a_many).bind fun (v148, z149, z150) =>
  if v148 = 0 then (some (0, z149, z150, z63, z64, z65, z66, z22, a_many, a67, a_doubtful)) else (mo_roadRead_J252 z_stop a_tape a_words a_many a_causeName a_doubtful z22 v35 z63 z64 z65 z66 a67 z149 z150)) else (mo_roadRead_J252 z_stop a_tape a_words a_many a_causeName a_doubtful z22 v35 z63 z64 z65 z66 a67 z61 z62))
noncomputable def mo_roadRead (z_fault : Int32) (z_faultPlace : Int32) (z_stop : Int32) (z_next : Int32) (z_kind : Int32) (z_which : Int32) (z_at : Int32) (z_spot : Int32) (a_tape : Nat → Int32) (a_words : Nat → Int32) (a_many : Nat → Int32) (a_placeName : Nat → Int32) (a_causeName : Nat → Int32) (a_road : Nat → Int32) (a_doubtful : Nat → Int32) : Option (Int32 × (Int32) × (Int32) × (Int32) × (Int32) × (Int32) × (Int32) × (Int32) × (Nat → Int32) × (Nat → Int32) × (Nat → Int32)) :=
  (rdI a_many 16 10).bind fun v1 =>
  if v1 = 24 then ((mo_wrong z_fault z_faultPlace z_at 2).bind fun (v175, z176, z177) =>
  (retZ v175).bind fun v179 =>
  some (v179, z176, z177, z_next, z_kind, z_which, z_at, z_spot, a_many, a_road, a_doubtful)) else ((mo_take z_stop z_next z_kind z_which z_at a_tape a_words).bind fun (z3, z4, z5, z6) =>
  (mo_spotRead z_fault z_faultPlace z4 z5 z6 z_spot a_many a_placeName).bind fun (v8, z9, z10, z11) =>
  if v8 = 0 then (some (0, z9, z10, z3, z4, z5, z6, z11, a_many, a_road, a_doubtful)) else ((mo_take z_stop z3 z4 z5 z6 a_tape a_words).bind fun (z14, z15, z16, z17) =>
  (mo_spotRead z9 z10 z15 z16 z17 z11 a_many a_placeName).bind fun (v19, z20, z21, z22) =>
  if v19 = 0 then (some (0, z20, z21, z14, z15, z16, z17, z22, a_many, a_road, a_doubtful)) else (if z22 = z11 then (mo_roadRead_J69 a_many a_road a_doubtful z14 z15 z16 z17 z20 z21 z22) else ((mo_roadBetween a_many a_road z11 z22).bind fun v31 =>
  if v31 < 0 then ((rdI a_many 16 10).bind fun v34 =>
  (some (168 + (7 * v34))).bind fun v35 =>
  (wrI a_road 336 v35 z11).bind fun a36 =>
  (wrI a36 336 (v35 + 1) z22).bind fun a37 =>
  (mo_take z_stop z14 z15 z16 z17 a_tape a_words).bind fun (z38, z39, z40, z41) =>
  (mo_numberRead z20 z21 z39 z40 z41 1 99).bind fun (v43, z44, z45) =>
  if v43 = 0 then (some (0, z44, z45, z38, z39, z40, z41, z22, a_many, a37, a_doubtful)) else ((wrI a37 336 (v35 + 2) z40).bind fun a48 =>
  (wrI a48 336 (v35 + 3) 0).bind fun a49 =>
  (wrI a49 336 (v35 + 4) (-1)).bind fun a50 =>
  (wrI a50 336 (v35 + 5) 0).bind fun a51 =>
  (wrI a51 336 (v35 + 6) (-1)).bind fun a52 =>
  (mo_take z_stop z38 z39 z40 z41 a_tape a_words).bind fun (z53, z54, z55, z56) =>
  (mo_isKey z54 z55 3).bind fun v58 =>
  if v58 = 0 then (mo_roadRead_J231 z_stop a_tape a_words a_many a_causeName a_doubtful z22 v35 0 z44 z45 z53 z54 z55 z56 a52) else ((mo_isDoubtRoom z44 z45 z56 a_many).bind fun (v154, z155, z156) =>
  if v154 = 0 then (some (0, z155, z156, z53, z54, z55, z56, z22, a_many, a52, a_doubtful)) else ((mo_take z_stop z53 z54 z55 z56 a_tape a_words).bind fun (z159, z160, z161, z162) =>
  (mo_numberRead z155 z156 z160 z161 z162 1 9).bind fun (v164, z165, z166) =>
  if v164 = 0 then (some (0, z165, z166, z159, z160, z161, z162, z22, a_many, a52, a_doubtful)) else ((wrI a52 336 (v35 + 3) z161).bind fun a169 =>
  (mo_take z_stop z159 z160 z161 z162 a_tape a_words).bind fun (z170, z171, z172, z173) =>
  mo_roadRead_J231 z_stop a_tape a_words a_many a_causeName a_doubtful z22 v35 1 z165 z166 z170 z171 z172 z173 a169))))) else (mo_roadRead_J69 a_many a_road a_doubtful z14 z15 z16 z17 z20 z21 z22)))))
noncomputable def mo_seesRead (z_fault : Int32) (z_faultPlace : Int32) (z_stop : Int32) (z_next : Int32) (z_kind : Int32) (z_which : Int32) (z_at : Int32) (z_spot : Int32) (a_tape : Nat → Int32) (a_words : Nat → Int32) (a_many : Nat → Int32) (a_placeName : Nat → Int32) (a_road : Nat → Int32) (a_sight : Nat → Int32) : Option (Int32 × (Int32) × (Int32) × (Int32) × (Int32) × (Int32) × (Int32) × (Int32) × (Nat → Int32) × (Nat → Int32)) :=
  (rdI a_many 16 12).bind fun v1 =>
  if v1 = 8 then ((mo_wrong z_fault z_faultPlace z_at 2).bind fun (v21, z22, z23) =>
  (retZ v21).bind fun v25 =>
  some (v25, z22, z23, z_next, z_kind, z_which, z_at, z_spot, a_many, a_sight)) else ((mo_seenRead z_fault z_faultPlace z_stop z_next z_kind z_which z_at z_spot a_tape a_words a_many a_placeName a_road).bind fun (v3, z4, z5, z6, z7, z8, z9, z10) =>
  if 0 ≤ v3 then ((rdI a_many 16 12).bind fun v13 =>
  (some (16 + (2 * v13))).bind fun v14 =>
  (dvI v3 6).bind fun v15 =>
  (wrI a_sight 32 v14 v15).bind fun a16 =>
  (rmI v3 6).bind fun v17 =>
  (wrI a16 32 (v14 + 1) v17).bind fun a18 =>
  (rdI a_many 16 12).bind fun v19 =>
  (wrI a_many 16 12 (v19 + 1)).bind fun a20 =>
  some (1, z4, z5, z6, z7, z8, z9, z10, a20, a18)) else (some (0, z4, z5, z6, z7, z8, z9, z10, a_many, a_sight)))
noncomputable def mo_lineRead_J24 (z_fault : Int32) (z_faultPlace : Int32) (z_next : Int32) (z_kind : Int32) (z_which : Int32) (z_at : Int32) (z_spot : Int32) (a_many : Nat → Int32) (a_placeName : Nat → Int32) (a_causeName : Nat → Int32) (a_causeOf10 : Nat → Int32) (a_road : Nat → Int32) (a_doubtful : Nat → Int32) (a_sight : Nat → Int32) (a_word : Nat → Int32) : Option (Int32 × (Int32) × (Int32) × (Int32) × (Int32) × (Int32) × (Int32) × (Int32) × (Nat → Int32) × (Nat → Int32) × (Nat → Int32) × (Nat → Int32) × (Nat → Int32) × (Nat → Int32) × (Nat → Int32) × (Nat → Int32)) :=
  (mo_wrong z_fault z_faultPlace z_at 1).bind fun (v1, z2, z3) =>
  (retZ v1).bind fun v5 =>
  some (v5, z2, z3, z_next, z_kind, z_which, z_at, z_spot, a_many, a_placeName, a_causeName, a_causeOf10, a_road, a_doubtful, a_sight, a_word)
noncomputable def mo_lineRead_J132 (z_stop : Int32) (a_tape : Nat → Int32) (a_words : Nat → Int32) (y7 : Int32) (z8 : Int32) (z9 : Int32) (z10 : Int32) (z11 : Int32) (z12 : Int32) (z13 : Int32) (z14 : Int32) (a15 : Nat → Int32) (a16 : Nat → Int32) (a17 : Nat → Int32) (a18 : Nat → Int32) (a19 : Nat → Int32) (a20 : Nat → Int32) (a21 : Nat → Int32) (a22 : Nat → Int32) : Option (Int32 × (Int32) × (Int32) × (Int32) × (Int32) × (Int32) × (Int32) × (Int32) × (Nat → Int32) × (Nat → Int32) × (Nat → Int32) × (Nat → Int32) × (Nat → Int32) × (Nat → Int32) × (Nat → Int32) × (Nat → Int32)) :=
  if y7 = 0 then (some (0, z8, z9, z10, z11, z12, z13, z14, a15, a16, a17, a18, a19, a20, a21, a22)) else (if z11 = 4 then ((mo_take z_stop z10 z11 z12 z13 a_tape a_words).bind fun (z25, z26, z27, z28) =>
  some (1, z8, z9, z25, z26, z27, z28, z14, a15, a16, a17, a18, a19, a20, a21, a22)) else ((mo_wrong z8 z9 z13 1).bind fun (v30, z31, z32) =>
  (retZ v30).bind fun v34 =>
  some (v34, z31, z32, z10, z11, z12, z13, z14, a15, a16, a17, a18, a19, a20, a21, a22)))
noncomputable def mo_lineRead_J120 (z_fault : Int32) (z_faultPlace : Int32) (z_stop : Int32) (z_next : Int32) (z_kind : Int32) (z_which : Int32) (z_at : Int32) (z_spot : Int32) (a_tape : Nat → Int32) (a_words : Nat → Int32) (a_many : Nat → Int32) (a_placeName : Nat → Int32) (a_causeName : Nat → Int32) (a_causeOf10 : Nat → Int32) (a_road : Nat → Int32) (a_doubtful : Nat → Int32) (a_sight : Nat → Int32) (a_word : Nat → Int32) : Option (Int32 × (Int32) × (Int32) × (Int32) × (Int32) × (Int32) × (Int32) × (Int32) × (Nat → Int32) × (Nat → Int32) × (Nat → Int32) × (Nat → Int32) × (Nat → Int32) × (Nat → Int32) × (Nat → Int32) × (Nat → Int32)) :=
  (mo_endRead z_fault z_faultPlace z_stop z_next z_kind z_which z_at z_spot a_tape a_words a_many a_placeName (z_which - 8)).bind fun (v35, z36, z37, z38, z39, z40, z41, z42, a43) =>
  mo_lineRead_J132 z_stop a_tape a_words v35 z36 z37 z38 z39 z40 z41 z42 a43 a_placeName a_causeName a_causeOf10 a_road a_doubtful a_sight a_word
noncomputable def mo_lineRead_J30 (z_fault : Int32) (z_faultPlace : Int32) (z_stop : Int32) (z_next : Int32) (z_kind : Int32) (z_which : Int32) (z_at : Int32) (z_spot : Int32) (a_tape : Nat → Int32) (a_words : Nat → Int32) (a_many : Nat → Int32) (a_placeName : Nat → Int32) (a_causeName : Nat → Int32) (a_causeOf10 : Nat → Int32) (a_road : Nat → Int32) (a_doubtful : Nat → Int32) (a_sight : Nat → Int32) (a_word : Nat → Int32) : Option (Int32 × (Int32) × (Int32) × (Int32) × (Int32) × (Int32) × (Int32) × (Int32) × (Nat → Int32) × (Nat → Int32) × (Nat → Int32) × (Nat → Int32) × (Nat → Int32) × (Nat → Int32) × (Nat → Int32) × (Nat → Int32)) :=
  if z_which = 0 then ((mo_placesRead z_fault z_faultPlace z_stop z_next z_kind z_which z_at a_tape a_words a_many a_placeName).bind fun (v46, z47, z48, z49, z50, z51, z52, a53, a54) =>
  mo_lineRead_J132 z_stop a_tape a_words v46 z47 z48 z49 z50 z51 z52 z_spot a53 a54 a_causeName a_causeOf10 a_road a_doubtful a_sight a_word) else (if z_which = 1 then ((mo_causeRead z_fault z_faultPlace z_stop z_next z_kind z_which z_at a_tape a_words a_many a_causeName a_causeOf10).bind fun (v57, z58, z59, z60, z61, z62, z63, a64, a65, a66) =>
  mo_lineRead_J132 z_stop a_tape a_words v57 z58 z59 z60 z61 z62 z63 z_spot a64 a_placeName a65 a66 a_road a_doubtful a_sight a_word) else (if z_which = 2 then ((mo_roadRead z_fault z_faultPlace z_stop z_next z_kind z_which z_at z_spot a_tape a_words a_many a_placeName a_causeName a_road a_doubtful).bind fun (v69, z70, z71, z72, z73, z74, z75, z76, a77, a78, a79) =>
  mo_lineRead_J132 z_stop a_tape a_words v69 z70 z71 z72 z73 z74 z75 z76 a77 a_placeName a_causeName a_causeOf10 a78 a79 a_sight a_word) else (if z_which = 3 then (mo_lineRead_J120 z_fault z_faultPlace z_stop z_next z_kind z_which z_at z_spot a_tape a_words a_many a_placeName a_causeName a_causeOf10 a_road a_doubtful a_sight a_word) else (if z_which = 4 then (mo_lineRead_J120 z_fault z_faultPlace z_stop z_next z_kind z_which z_at z_spot a_tape a_words a_many a_placeName a_causeName a_causeOf10 a_road a_doubtful a_sight a_word) else (if z_which = 5 then (mo_lineRead_J120 z_fault z_faultPlace z_stop z_next z_kind z_which z_at z_spot a_tape a_words a_many a_placeName a_causeName a_causeOf10 a_road a_doubtful a_sight a_word) else (if z_which = 6 then ((mo_seesRead z_fault z_faultPlace z_stop z_next z_kind z_which z_at z_spot a_tape a_words a_many a_placeName a_road a_sight).bind fun (v85, z86, z87, z88, z89, z90, z91, z92, a93, a94) =>
  mo_lineRead_J132 z_stop a_tape a_words v85 z86 z87 z88 z89 z90 z91 z92 a93 a_placeName a_causeName a_causeOf10 a_road a_doubtful a94 a_word) else (if z_which = 7 then ((mo_innRead z_fault z_faultPlace z_stop z_next z_kind z_which z_at z_spot a_tape a_words a_many a_placeName a_road a_word).bind fun (v97, z98, z99, z100, z101, z102, z103, z104, a105, a106) =>
  mo_lineRead_J132 z_stop a_tape a_words v97 z98 z99 z100 z101 z102 z103 z104 a105 a_placeName a_causeName a_causeOf10 a_road a_doubtful a_sight a106) else (mo_lineRead_J120 z_fault z_faultPlace z_stop z_next z_kind z_which z_at z_spot a_tape a_words a_many a_placeName a_causeName a_causeOf10 a_road a_doubtful a_sight a_word))))))))
noncomputable def mo_lineRead (z_fault : Int32) (z_faultPlace : Int32) (z_stop : Int32) (z_next : Int32) (z_kind : Int32) (z_which : Int32) (z_at : Int32) (z_spot : Int32) (a_tape : Nat → Int32) (a_words : Nat → Int32) (a_many : Nat → Int32) (a_placeName : Nat → Int32) (a_causeName : Nat → Int32) (a_causeOf10 : Nat → Int32) (a_road : Nat → Int32) (a_doubtful : Nat → Int32) (a_sight : Nat → Int32) (a_word : Nat → Int32) : Option (Int32 × (Int32) × (Int32) × (Int32) × (Int32) × (Int32) × (Int32) × (Int32) × (Nat → Int32) × (Nat → Int32) × (Nat → Int32) × (Nat → Int32) × (Nat → Int32) × (Nat → Int32) × (Nat → Int32) × (Nat → Int32)) :=
  if z_kind = 1 then (if z_which < 3 then (mo_lineRead_J30 z_fault z_faultPlace z_stop z_next z_kind z_which z_at z_spot a_tape a_words a_many a_placeName a_causeName a_causeOf10 a_road a_doubtful a_sight a_word) else (if 5 < z_which then (mo_lineRead_J30 z_fault z_faultPlace z_stop z_next z_kind z_which z_at z_spot a_tape a_words a_many a_placeName a_causeName a_causeOf10 a_road a_doubtful a_sight a_word) else (mo_lineRead_J24 z_fault z_faultPlace z_next z_kind z_which z_at z_spot a_many a_placeName a_causeName a_causeOf10 a_road a_doubtful a_sight a_word))) else (mo_lineRead_J24 z_fault z_faultPlace z_next z_kind z_which z_at z_spot a_many a_placeName a_causeName a_causeOf10 a_road a_doubtful a_sight a_word)
noncomputable def mo_land_L55 (a_tape : Nat → Int32) (a_words : Nat → Int32) (x1 : Int32) : (Int32 × Int32 × Int32 × Int32 × Int32 × Int32 × Int32 × Int32 × (Nat → Int32) × (Nat → Int32) × (Nat → Int32) × (Nat → Int32) × (Nat → Int32) × (Nat → Int32) × (Nat → Int32) × (Nat → Int32)) → Option ((Int32 × Int32 × Int32 × Int32 × Int32 × Int32 × Int32 × Int32 × (Nat → Int32) × (Nat → Int32) × (Nat → Int32) × (Nat → Int32) × (Nat → Int32) × (Nat → Int32) × (Nat → Int32) × (Nat → Int32)) ⊕ ((Int32 × Int32 × Int32 × Int32 × Int32 × Int32 × Int32 × (Nat → Int32) × (Nat → Int32) × (Nat → Int32) × (Nat → Int32) × (Nat → Int32) × (Nat → Int32) × (Nat → Int32) × (Nat → Int32)) ⊕ (Int32 × Int32 × Int32 × Int32 × Int32 × Int32 × Int32 × Int32 × (Nat → Int32) × (Nat → Int32) × (Nat → Int32) × (Nat → Int32) × (Nat → Int32) × (Nat → Int32) × (Nat → Int32) × (Nat → Int32)))) := fun (y10, z11, z12, z13, z14, z15, z16, z17, a18, a19, a20, a21, a22, a23, a24, a25) =>
  if z14 = 0 then (some (.inr (.inr (y10, z11, z12, z13, z14, z15, z16, z17, a18, a19, a20, a21, a22, a23, a24, a25)))) else ((mo_lineRead z11 z12 x1 z13 z14 z15 z16 z17 a_tape a_words a18 a19 a20 a21 a22 a23 a24 a25).bind fun (v27, z28, z29, z30, z31, z32, z33, z34, a35, a36, a37, a38, a39, a40, a41, a42) =>
  if v27 = 0 then (some (.inr (.inl ((z28, z29, z30, z31, z32, z33, z34, a35, a36, a37, a38, a39, a40, a41, a42))))) else ((some (y10 + 1)).bind fun v45 =>
  some (.inl ((v45, z28, z29, z30, z31, z32, z33, z34, a35, a36, a37, a38, a39, a40, a41, a42)))))
noncomputable def mo_land (z_tapeSize : Int32) (z_thrown : Int32) (z_fault : Int32) (z_faultPlace : Int32) (z_stop : Int32) (z_next : Int32) (z_kind : Int32) (z_which : Int32) (z_at : Int32) (z_spot : Int32) (z_worlds : Int32) (z_knowings : Int32) (z_rowSize : Int32) (z_rules : Int32) (z_walks : Int32) (a_tape : Nat → Int32) (a_words : Nat → Int32) (a_many : Nat → Int32) (a_placeName : Nat → Int32) (a_causeName : Nat → Int32) (a_causeOf10 : Nat → Int32) (a_road : Nat → Int32) (a_doubtful : Nat → Int32) (a_sight : Nat → Int32) (a_word : Nat → Int32) (a_seen : Nat → Int32) (a_between : Nat → Int32) (a_three : Nat → Int32) (a_turn : Nat → Int32) (a_isLaid : Nat → Int32) (a_hop : Nat → Int32) (a_weight : Nat → Int64) (a_use : Nat → Int64) (a_likely : Nat → Int64) (x1 : Int32) : Option (Int32 × (Int32) × (Int32) × (Int32) × (Int32) × (Int32) × (Int32) × (Int32) × (Int32) × (Int32) × (Int32) × (Int32) × (Int32) × (Int32) × (Int32) × (Int32) × (Nat → Int32) × (Nat → Int32) × (Nat → Int32) × (Nat → Int32) × (Nat → Int32) × (Nat → Int32) × (Nat → Int32) × (Nat → Int32) × (Nat → Int32) × (Nat → Int32) × (Nat → Int32) × (Nat → Int32) × (Nat → Int32) × (Nat → Int32) × (Nat → Int64) × (Nat → Int64) × (Nat → Int64)) :=
  if x1 < 0 then (some ((-2), z_tapeSize, 0, z_fault, z_faultPlace, z_stop, z_next, z_kind, z_which, z_at, z_spot, z_worlds, z_knowings, z_rowSize, z_rules, z_walks, a_many, a_placeName, a_causeName, a_causeOf10, a_road, a_doubtful, a_sight, a_word, a_seen, a_between, a_three, a_turn, a_isLaid, a_hop, a_weight, a_use, a_likely)) else (if x1 ≤ z_tapeSize then ((mo_plain a_many).bind fun a3 =>
  (mo_take x1 0 z_kind z_which z_at a_tape a_words).bind fun (z5, z6, z7, z8) =>
  (loop (mo_land_L55 a_tape a_words x1) (0, 0, (-1), z5, z6, z7, z8, z_spot, a3, a_placeName, a_causeName, a_causeOf10, a_road, a_doubtful, a_sight, a_word)).bind (sE (fun (z46, z47, z48, z49, z50, z51, z52, a53, a54, a55, a56, a57, a58, a59, a60) =>
  some ((-1), 0, 0, z46, z47, x1, z48, z49, z50, z51, z52, z_worlds, z_knowings, z_rowSize, z_rules, z_walks, a53, a54, a55, a56, a57, a58, a59, a60, a_seen, a_between, a_three, a_turn, a_isLaid, a_hop, a_weight, a_use, a_likely)) (fun (y61, z62, z63, z64, z65, z66, z67, z68, a69, a70, a71, a72, a73, a74, a75, a76) =>
  (mo_keep z_worlds z_knowings z_rowSize z_rules z_walks a69 a70 a71 a72 a73 a74 a75 a76 a_seen a_between a_three a_turn a_isLaid a_hop a_weight a_use a_likely).bind fun (z77, z78, z79, z80, z81, a82, a83, a84, a85, a86, a87, a88, a89, a90, a91, a92, a93, a94, a95, a96, a97, a98) =>
  some (y61, 0, 0, z62, z63, x1, z64, z65, z66, z67, z68, z77, z78, z79, z80, z81, a82, a83, a84, a85, a86, a87, a88, a89, a90, a91, a92, a93, a94, a95, a96, a97, a98)))) else (some ((-2), z_tapeSize, 0, z_fault, z_faultPlace, z_stop, z_next, z_kind, z_which, z_at, z_spot, z_worlds, z_knowings, z_rowSize, z_rules, z_walks, a_many, a_placeName, a_causeName, a_causeOf10, a_road, a_doubtful, a_sight, a_word, a_seen, a_between, a_three, a_turn, a_isLaid, a_hop, a_weight, a_use, a_likely)))
noncomputable def mo_fault (z_thrown : Int32) (z_fault : Int32) (z_faultPlace : Int32) (x1 : Int32) : Option (Int32 × (Int32)) :=
  if x1 = 0 then (some (z_fault, 0)) else (if x1 = 1 then (some (z_faultPlace, 0)) else (some ((-1), 0)))
noncomputable def mo_isWorld_J16  : Option (Int32) :=
  some (0)
noncomputable def mo_isWorld (z_worlds : Int32) (x1 : Int32) : Option (Int32) :=
  if x1 < 0 then (mo_isWorld_J16) else (if z_worlds ≤ x1 then (mo_isWorld_J16) else (some (1)))
noncomputable def mo_weight (z_thrown : Int32) (z_worlds : Int32) (a_weight : Nat → Int64) (x1 : Int32) : Option (Int64 × (Int32)) :=
  (mo_isWorld z_worlds x1).bind fun v1 =>
  if v1 = 0 then (some ((-1), 0)) else ((rdL a_weight 64 x1).bind fun v4 =>
  some (v4, 0))
noncomputable def mo_isKnowing_J16  : Option (Int32) :=
  some (0)
noncomputable def mo_isKnowing (z_knowings : Int32) (x1 : Int32) : Option (Int32) :=
  if x1 < 0 then (mo_isKnowing_J16) else (if z_knowings ≤ x1 then (mo_isKnowing_J16) else (some (1)))
noncomputable def mo_likely (z_thrown : Int32) (z_knowings : Int32) (a_likely : Nat → Int64) (x1 : Int32) : Option (Int64 × (Int32)) :=
  (mo_isKnowing z_knowings x1).bind fun v1 =>
  if v1 = 0 then (some ((-1), 0)) else ((rdL a_likely 729 x1).bind fun v4 =>
  some (v4, 0))
noncomputable def mo_isDoubtful_J16  : Option (Int32) :=
  some (0)
noncomputable def mo_isDoubtful (a_many : Nat → Int32) (x1 : Int32) : Option (Int32) :=
  if x1 < 0 then (mo_isDoubtful_J16) else ((mo_doubts a_many).bind fun v2 =>
  if v2 ≤ x1 then (mo_isDoubtful_J16) else (some (1)))
noncomputable def mo_shut_J21  : Option (Int64 × (Int32)) :=
  some ((-1), 0)
noncomputable def mo_shut (z_thrown : Int32) (z_knowings : Int32) (a_many : Nat → Int32) (a_three : Nat → Int32) (a_likely : Nat → Int64) (x1 : Int32) (x2 : Int32) : Option (Int64 × (Int32)) :=
  (mo_isKnowing z_knowings x1).bind fun v1 =>
  if v1 = 0 then (mo_shut_J21) else ((mo_isDoubtful a_many x2).bind fun v4 =>
  if v4 = 0 then (mo_shut_J21) else ((mo_digit a_three x1 x2).bind fun v7 =>
  if v7 = 1 then (some (0, 0)) else (if v7 = 2 then ((rdL a_likely 729 x1).bind fun v13 =>
  some (v13, 0)) else ((rdI a_three 7 x2).bind fun v11 =>
  (rdL a_likely 729 (x1 + (2 * v11))).bind fun v12 =>
  some (v12, 0)))))
noncomputable def mo_fails (z_thrown : Int32) (x1 : Int32) : Option (Int32 × (Int32)) :=
  some (0, x1)
noncomputable def mo_isIn_J14  : Option (Int32) :=
  some (0)
noncomputable def mo_isIn  (x0 : Int32) (x1 : Int32) (x2 : Int32) : Option (Int32) :=
  if x0 < x1 then (mo_isIn_J14) else (if x2 < x0 then (mo_isIn_J14) else (some (1)))
noncomputable def mo_look_J19  : Option (Int32 × (Int32)) :=
  (mo_fails 0 1).bind fun (v1, z2) =>
  some (v1, z2)
noncomputable def mo_look (z_thrown : Int32) (a_many : Nat → Int32) (a_road : Nat → Int32) (x1 : Int32) (x2 : Int32) : Option (Int32 × (Int32)) :=
  if x1 < 0 then (mo_look_J19) else ((rdI a_many 16 2).bind fun v5 =>
  if x1 < v5 then ((mo_isIn x2 0 6).bind fun v7 =>
  if v7 = 0 then ((mo_fails 0 2).bind fun (v10, z11) =>
  some (v10, z11)) else ((rdI a_road 336 ((7 * x1) + x2)).bind fun v13 =>
  some (v13, 0))) else (mo_look_J19))
noncomputable def mo_hasEnds_J26  : Option (Int32) :=
  some (0)
noncomputable def mo_hasEnds (a_many : Nat → Int32) : Option (Int32) :=
  (rdI a_many 16 6).bind fun v1 =>
  if v1 = (-1) then (mo_hasEnds_J26) else ((rdI a_many 16 7).bind fun v3 =>
  if v3 = (-1) then (mo_hasEnds_J26) else (some (1)))
noncomputable def mo_fullOf_L4 (a_many : Nat → Int32) (a_three : Nat → Int32) (x1 : Int32) : (Int32 × Int32) → Option ((Int32 × Int32) ⊕ ((Int32))) := fun (y1, y2) =>
  (mo_doubts a_many).bind fun v3 =>
  if v3 ≤ y2 then (some (.inr y1)) else ((rdI a_three 7 y2).bind fun v6 =>
  (some (y1 + ((((x1 >>> (y2 &&& 31)) &&& 1) + 1) * v6))).bind fun v7 =>
  (some (y2 + 1)).bind fun v8 =>
  some (.inl ((v7, v8))))
noncomputable def mo_fullOf (a_many : Nat → Int32) (a_three : Nat → Int32) (x1 : Int32) : Option (Int32) :=
  (loop (mo_fullOf_L4 a_many a_three x1) (0, 0)).bind fun y9 =>
  some (y9)
noncomputable def mo_hoursOf_J27 (a_road : Nat → Int32) (x1 : Int32) : Option (Int32) :=
  (rdI a_road 336 ((7 * x1) + 2)).bind fun v2 =>
  some (v2)
noncomputable def mo_hoursOf_J89  : Option (Int32) :=
  some ((-1))
noncomputable def mo_hoursOf (a_road : Nat → Int32) (a_three : Nat → Int32) (x1 : Int32) (x2 : Int32) : Option (Int32) :=
  (rdI a_road 336 ((7 * x1) + 6)).bind fun v1 =>
  if v1 < 0 then (mo_hoursOf_J27 a_road x1) else ((mo_digit a_three x2 v1).bind fun v4 =>
  if v4 = 1 then (mo_hoursOf_J27 a_road x1) else ((mo_digit a_three x2 v1).bind fun v7 =>
  if v7 = 2 then ((rdI a_road 336 ((7 * x1) + 5)).bind fun v10 =>
  if v10 ≤ 0 then (mo_hoursOf_J89) else ((rdI a_road 336 ((7 * x1) + 2)).bind fun v12 =>
  (rdI a_road 336 ((7 * x1) + 5)).bind fun v13 =>
  some (v12 + v13))) else (mo_hoursOf_J89)))
noncomputable def mo_hoursAs_J29 (a_road : Nat → Int32) (a_three : Nat → Int32) (x1 : Int32) (x2 : Int32) : Option (Int32) :=
  (mo_hoursOf a_road a_three x1 x2).bind fun v2 =>
  some (v2)
noncomputable def mo_hoursAs_J48 (a_road : Nat → Int32) (x1 : Int32) : Option (Int32) :=
  (rdI a_road 336 ((7 * x1) + 2)).bind fun v8 =>
  some (v8)
noncomputable def mo_hoursAs (a_road : Nat → Int32) (a_three : Nat → Int32) (x1 : Int32) (x2 : Int32) (x3 : Int32) : Option (Int32) :=
  (rdI a_road 336 ((7 * x1) + 6)).bind fun v1 =>
  if v1 < 0 then (mo_hoursAs_J29 a_road a_three x1 x2) else ((mo_digit a_three x2 v1).bind fun v5 =>
  if v5 = 0 then (if x3 = 6 then (mo_hoursAs_J48 a_road x1) else (if x3 = v1 then (mo_hoursAs_J48 a_road x1) else ((rdI a_road 336 ((7 * x1) + 5)).bind fun v11 =>
  if v11 ≤ 0 then (some ((-1))) else ((rdI a_road 336 ((7 * x1) + 2)).bind fun v13 =>
  (rdI a_road 336 ((7 * x1) + 5)).bind fun v14 =>
  some (v13 + v14))))) else (mo_hoursAs_J29 a_road a_three x1 x2))
noncomputable def mo_places (a_many : Nat → Int32) : Option (Int32) :=
  (rdI a_many 16 0).bind fun v1 =>
  some (v1)
noncomputable def mo_layFar_J33 (y1 : Int32) (a2 : Nat → Int32) (k7 : Int32) (k8 : Int32) : Option ((Int32 × (Nat → Int32)) ⊕ (((Nat → Int32)))) :=
  (wrI a2 10 k8 k7).bind fun a9 =>
  (some (y1 + 1)).bind fun v10 =>
  some (.inl ((v10, a9)))
noncomputable def mo_layFar_L2 (a_many : Nat → Int32) : (Int32 × (Nat → Int32)) → Option ((Int32 × (Nat → Int32)) ⊕ (((Nat → Int32)))) := fun (y1, a2) =>
  (mo_places a_many).bind fun v3 =>
  if v3 ≤ y1 then (some (.inr a2)) else ((rdI a_many 16 7).bind fun v6 =>
  if y1 = v6 then (mo_layFar_J33 y1 a2 0 y1) else (mo_layFar_J33 y1 a2 1000000 y1))
noncomputable def mo_layFar_J182 (y18 : Int32) (a24 : Nat → Int32) : Option ((Int32 × (Nat → Int32)) ⊕ (((Nat → Int32)))) :=
  (some (y18 + 1)).bind fun v25 =>
  some (.inl ((v25, a24)))
noncomputable def mo_layFar_J145 (y18 : Int32) (v22 : Int32) (v27 : Int32) (v28 : Int32) (a31 : Nat → Int32) : Option ((Int32 × (Nat → Int32)) ⊕ (((Nat → Int32)))) :=
  (rdI a31 10 v27).bind fun v32 =>
  (rdI a31 10 v28).bind fun v33 =>
  if v33 ≤ v32 + v22 then (mo_layFar_J182 y18 a31) else ((rdI a31 10 v27).bind fun v35 =>
  (wrI a31 10 v28 (v35 + v22)).bind fun a36 =>
  mo_layFar_J182 y18 a36)
noncomputable def mo_layFar_L53 (a_many : Nat → Int32) (a_road : Nat → Int32) (a_three : Nat → Int32) (x1 : Int32) (x2 : Int32) : (Int32 × (Nat → Int32)) → Option ((Int32 × (Nat → Int32)) ⊕ (((Nat → Int32)))) := fun (y18, a19) =>
  (rdI a_many 16 2).bind fun v20 =>
  if v20 ≤ y18 then (some (.inr a19)) else ((mo_hoursAs a_road a_three y18 x1 x2).bind fun v22 =>
  if 0 ≤ v22 then ((rdI a_road 336 (7 * y18)).bind fun v27 =>
  (rdI a_road 336 ((7 * y18) + 1)).bind fun v28 =>
  (rdI a19 10 v28).bind fun v29 =>
  (rdI a19 10 v27).bind fun v30 =>
  if v30 ≤ v29 + v22 then (mo_layFar_J145 y18 v22 v27 v28 a19) else ((rdI a19 10 v28).bind fun v38 =>
  (wrI a19 10 v27 (v38 + v22)).bind fun a39 =>
  mo_layFar_J145 y18 v22 v27 v28 a39)) else (mo_layFar_J182 y18 a19))
noncomputable def mo_layFar_L42 (a_many : Nat → Int32) (a_road : Nat → Int32) (a_three : Nat → Int32) (x1 : Int32) (x2 : Int32) : (Int32 × (Nat → Int32)) → Option ((Int32 × (Nat → Int32)) ⊕ (((Nat → Int32)))) := fun (y13, a14) =>
  (mo_places a_many).bind fun v15 =>
  if v15 ≤ y13 then (some (.inr a14)) else ((loop (mo_layFar_L53 a_many a_road a_three x1 x2) (0, a14)).bind fun a40 =>
  (some (y13 + 1)).bind fun v41 =>
  some (.inl ((v41, a40))))
noncomputable def mo_layFar (a_many : Nat → Int32) (a_road : Nat → Int32) (a_three : Nat → Int32) (a_far : Nat → Int32) (x1 : Int32) (x2 : Int32) : Option ((Nat → Int32)) :=
  (loop (mo_layFar_L2 a_many) (0, a_far)).bind fun a12 =>
  (loop (mo_layFar_L42 a_many a_road a_three x1 x2) (0, a12)).bind fun a42 =>
  some (a42)
noncomputable def mo_knowingOf (a_many : Nat → Int32) (a_road : Nat → Int32) (a_three : Nat → Int32) (a_far : Nat → Int32) (x1 : Int32) : Option (Int32 × (Nat → Int32)) :=
  (mo_fullOf a_many a_three x1).bind fun v1 =>
  (mo_layFar a_many a_road a_three a_far v1 (-1)).bind fun a3 =>
  (rdI a_many 16 6).bind fun v5 =>
  (rdI a3 10 v5).bind fun v6 =>
  if v6 < 1000000 then ((rdI a_many 16 6).bind fun v8 =>
  (rdI a3 10 v8).bind fun v9 =>
  some (v9, a3)) else (some ((-2), a3))
noncomputable def mo_knowing_J28 (a_far : Nat → Int32) : Option (Int32 × (Int32) × (Nat → Int32)) :=
  some ((-1), 0, a_far)
noncomputable def mo_knowing (z_thrown : Int32) (z_worlds : Int32) (a_many : Nat → Int32) (a_road : Nat → Int32) (a_three : Nat → Int32) (a_far : Nat → Int32) (x1 : Int32) : Option (Int32 × (Int32) × (Nat → Int32)) :=
  (mo_isWorld z_worlds x1).bind fun v1 =>
  if v1 = 0 then (mo_knowing_J28 a_far) else ((mo_hasEnds a_many).bind fun v4 =>
  if v4 = 0 then (mo_knowing_J28 a_far) else ((mo_knowingOf a_many a_road a_three a_far x1).bind fun (v7, a8) =>
  some (v7, 0, a8)))
noncomputable def mo_isPlan_J14  : Option (Int32) :=
  some (0)
noncomputable def mo_isPlan  (x0 : Int32) : Option (Int32) :=
  if x0 < 0 then (mo_isPlan_J14) else (if 7 ≤ x0 then (mo_isPlan_J14) else (some (1)))
noncomputable def mo_arrives_J48 (y2 : Int32) (k7 : Int32) (k8 : Int32) : Option ((Int32 × Int32) ⊕ ((Int32))) :=
  (some (k8 + k7)).bind fun v9 =>
  (some (y2 + 1)).bind fun v10 =>
  some (.inl ((v9, v10)))
noncomputable def mo_arrives_J47 (y2 : Int32) (k11 : Int32) : Option ((Int32 × Int32) ⊕ ((Int32))) :=
  mo_arrives_J48 y2 0 k11
noncomputable def mo_arrives_L6 (a_many : Nat → Int32) (a_seen : Nat → Int32) (a_three : Nat → Int32) (x3 : Int32) (x4 : Int32) : (Int32 × Int32) → Option ((Int32 × Int32) ⊕ ((Int32))) := fun (y1, y2) =>
  (mo_doubts a_many).bind fun v3 =>
  if v3 ≤ y2 then (some (.inr y1)) else ((rdI a_seen 10 x3).bind fun v6 =>
  if (v6 >>> (y2 &&& 31)) &&& 1 = 1 then ((mo_digit a_three x4 y2).bind fun v13 =>
  if v13 = 0 then (mo_arrives_J48 y2 1 y1) else (mo_arrives_J47 y2 y1)) else (mo_arrives_J47 y2 y1))
noncomputable def mo_arrives_J154 (y23 : Int32) (y28 : Int32) (y29 : Int32) : Option ((Int32 × Int32 × Int32) ⊕ ((Int32))) :=
  (some (y23 + 1)).bind fun v30 =>
  some (.inl ((y28, y29, v30)))
noncomputable def mo_arrives_L92 (a_many : Nat → Int32) (a_seen : Nat → Int32) (a_three : Nat → Int32) (x3 : Int32) (x4 : Int32) (y19 : Int32) : (Int32 × Int32 × Int32) → Option ((Int32 × Int32 × Int32) ⊕ ((Int32))) := fun (y21, y22, y23) =>
  (mo_doubts a_many).bind fun v24 =>
  if v24 ≤ y23 then (some (.inr y21)) else ((rdI a_seen 10 x3).bind fun v27 =>
  if (v27 >>> (y23 &&& 31)) &&& 1 = 0 then (mo_arrives_J154 y23 y21 y22) else ((mo_digit a_three x4 y23).bind fun v32 =>
  if v32 = 0 then ((rdI a_three 7 y23).bind fun v35 =>
  (some (y21 + ((((y19 >>> (y22 &&& 31)) &&& 1) + 1) * v35))).bind fun v36 =>
  (some (y22 + 1)).bind fun v37 =>
  mo_arrives_J154 y23 v36 v37) else (mo_arrives_J154 y23 y21 y22)))
noncomputable def mo_arrives_J237 (y19 : Int32) (y40 : Int64) : Option ((Int64 × Int32) ⊕ ((Unit) ⊕ (Int64))) :=
  (some (y19 + 1)).bind fun v41 =>
  some (.inl ((y40, v41)))
noncomputable def mo_arrives_J235 (y19 : Int32) (k45 : Int64) : Option ((Int64 × Int32) ⊕ ((Unit) ⊕ (Int64))) :=
  mo_arrives_J237 y19 k45
noncomputable def mo_arrives_L73 (a_many : Nat → Int32) (a_seen : Nat → Int32) (a_three : Nat → Int32) (a_likely : Nat → Int64) (a_value : Nat → Int64) (x1 : Int32) (x2 : Int32) (x3 : Int32) (x4 : Int32) (y16 : Int32) : (Int64 × Int32) → Option ((Int64 × Int32) ⊕ ((Unit) ⊕ (Int64))) := fun (y18, y19) =>
  if 1 <<< (y16 &&& 31) ≤ y19 then (some (.inr (.inr y18))) else ((loop (mo_arrives_L92 a_many a_seen a_three x3 x4 y19) (x4, 0, 0)).bind fun y38 =>
  (rdL a_likely 729 y38).bind fun v39 =>
  if v39 = 0 then (mo_arrives_J237 y19 y18) else ((rdL a_value 29160 (((7290 * x1) + (10 * y38)) + x3)).bind fun v43 =>
  if v43 < 4000000000000000000 then (if x2 = 0 then (if v43 ≤ y18 then (mo_arrives_J235 y19 y18) else (mo_arrives_J235 y19 v43)) else (mo_arrives_J235 y19 (y18 + v43))) else (some (.inr (.inl (()))))))
noncomputable def mo_arrives_J68 (a_many : Nat → Int32) (a_seen : Nat → Int32) (a_three : Nat → Int32) (a_likely : Nat → Int64) (a_value : Nat → Int64) (x1 : Int32) (x2 : Int32) (x3 : Int32) (x4 : Int32) (y16 : Int32) (k17 : Int64) : Option (Int64) :=
  (loop (mo_arrives_L73 a_many a_seen a_three a_likely a_value x1 x2 x3 x4 y16) (k17, 0)).bind (sE (fun _ =>
  some (4000000000000000000)) (fun y48 =>
  some (y48)))
noncomputable def mo_arrives (a_many : Nat → Int32) (a_seen : Nat → Int32) (a_three : Nat → Int32) (a_likely : Nat → Int64) (a_value : Nat → Int64) (x1 : Int32) (x2 : Int32) (x3 : Int32) (x4 : Int32) : Option (Int64) :=
  (loop (mo_arrives_L6 a_many a_seen a_three x3 x4) (0, 0)).bind fun y16 =>
  if x2 = 0 then (mo_arrives_J68 a_many a_seen a_three a_likely a_value x1 x2 x3 x4 y16 (-4000000000000000000)) else (mo_arrives_J68 a_many a_seen a_three a_likely a_value x1 x2 x3 x4 y16 0)
noncomputable def mo_buys_J133 (y4 : Int32) (y9 : Int64) : Option ((Int64 × Int32) ⊕ ((Unit) ⊕ (Int64))) :=
  (some (y4 + 1)).bind fun v10 =>
  some (.inl ((y9, v10)))
noncomputable def mo_buys_J131 (y4 : Int32) (k15 : Int64) : Option ((Int64 × Int32) ⊕ ((Unit) ⊕ (Int64))) :=
  mo_buys_J133 y4 k15
noncomputable def mo_buys_L28 (a_word : Nat → Int32) (a_three : Nat → Int32) (a_likely : Nat → Int64) (a_value : Nat → Int64) (v1 : Int32) (x1 : Int32) (x2 : Int32) (x3 : Int32) (x4 : Int32) : (Int64 × Int32) → Option ((Int64 × Int32) ⊕ ((Unit) ⊕ (Int64))) := fun (y3, y4) =>
  if 3 ≤ y4 then (some (.inr (.inr y3))) else ((rdI a_three 7 v1).bind fun v6 =>
  (some (x4 + (y4 * v6))).bind fun v7 =>
  (rdL a_likely 729 v7).bind fun v8 =>
  if v8 = 0 then (mo_buys_J133 y4 y3) else ((rdI a_word 36 (3 * x3)).bind fun v12 =>
  (rdL a_value 29160 (((7290 * x1) + (10 * v7)) + v12)).bind fun v13 =>
  if v13 < 4000000000000000000 then (if x2 = 0 then (if v13 ≤ y3 then (mo_buys_J131 y4 y3) else (mo_buys_J131 y4 v13)) else (mo_buys_J131 y4 (y3 + v13))) else (some (.inr (.inl (()))))))
noncomputable def mo_buys_J23 (a_word : Nat → Int32) (a_three : Nat → Int32) (a_likely : Nat → Int64) (a_value : Nat → Int64) (v1 : Int32) (x1 : Int32) (x2 : Int32) (x3 : Int32) (x4 : Int32) (k2 : Int64) : Option (Int64) :=
  (loop (mo_buys_L28 a_word a_three a_likely a_value v1 x1 x2 x3 x4) (k2, 1)).bind (sE (fun _ =>
  some (4000000000000000000)) (fun y18 =>
  some (y18)))
noncomputable def mo_buys (a_word : Nat → Int32) (a_three : Nat → Int32) (a_likely : Nat → Int64) (a_value : Nat → Int64) (x1 : Int32) (x2 : Int32) (x3 : Int32) (x4 : Int32) : Option (Int64) :=
  (rdI a_word 36 ((3 * x3) + 1)).bind fun v1 =>
  if x2 = 0 then (mo_buys_J23 a_word a_three a_likely a_value v1 x1 x2 x3 x4 (-4000000000000000000)) else (mo_buys_J23 a_word a_three a_likely a_value v1 x1 x2 x3 x4 0)
noncomputable def mo_after  (x1 : Int64) (x3 : Int32) (x4 : Int64) : Option (Int64) :=
  if x4 < 4000000000000000000 then (some ((x1 * (x3.toInt64)) + x4)) else (some (4000000000000000000))
noncomputable def mo_goes_J78  (k5 : Int64) (k6 : Int32) (k7 : Int64) : Option (Int64) :=
  (mo_after k7 k6 k5).bind fun v8 =>
  some (v8)
noncomputable def mo_goes_J32 (a_isNews : Nat → Int32) (a_value : Nat → Int64) (a_coming : Nat → Int64) (x1 : Int32) (x2 : Int64) (x5 : Int32) (k2 : Int32) : Option (Int64) :=
  if 0 ≤ k2 then ((rdI a_isNews 10 x5).bind fun v4 =>
  if v4 = 0 then ((rdL a_value 29160 (x1 + x5)).bind fun v11 =>
  mo_goes_J78 v11 k2 x2) else ((rdL a_coming 10 x5).bind fun v12 =>
  mo_goes_J78 v12 k2 x2)) else (some (4000000000000000000))
noncomputable def mo_goes (a_road : Nat → Int32) (a_between : Nat → Int32) (a_three : Nat → Int32) (a_isNews : Nat → Int32) (a_value : Nat → Int64) (a_coming : Nat → Int64) (x1 : Int32) (x2 : Int64) (x4 : Int32) (x5 : Int32) (x6 : Int32) : Option (Int64) :=
  (rdI a_between 100 ((10 * x4) + x5)).bind fun v1 =>
  if 0 ≤ v1 then ((mo_hoursOf a_road a_three v1 x6).bind fun v14 =>
  mo_goes_J32 a_isNews a_value a_coming x1 x2 x5 v14) else (mo_goes_J32 a_isNews a_value a_coming x1 x2 x5 (-1))
noncomputable def mo_isSold_J34  : Option (Int32) :=
  some (0)
noncomputable def mo_isSold (a_word : Nat → Int32) (a_three : Nat → Int32) (x1 : Int32) (x2 : Int32) (x3 : Int32) : Option (Int32) :=
  (rdI a_word 36 (3 * x1)).bind fun v1 =>
  if v1 = x2 then ((rdI a_word 36 ((3 * x1) + 1)).bind fun v3 =>
  (mo_digit a_three x3 v3).bind fun v4 =>
  if v4 = 0 then (some (1)) else (mo_isSold_J34)) else (mo_isSold_J34)
noncomputable def mo_firstOf_L3 (a_many : Nat → Int32) (a_road : Nat → Int32) (a_between : Nat → Int32) (a_three : Nat → Int32) (a_isNews : Nat → Int32) (a_value : Nat → Int64) (a_coming : Nat → Int64) (x1 : Int32) (x2 : Int64) (x4 : Int32) (x5 : Int32) : (Int32) → Option ((Int32) ⊕ ((Int32) ⊕ (Unit))) := fun y1 =>
  (mo_places a_many).bind fun v2 =>
  if v2 ≤ y1 then (some (.inr (.inr ()))) else ((mo_goes a_road a_between a_three a_isNews a_value a_coming x1 x2 x4 y1 x5).bind fun v5 =>
  (rdL a_value 29160 (x1 + x4)).bind fun v7 =>
  if v5 = v7 then (some (.inr (.inl y1))) else ((some (y1 + 1)).bind fun v9 =>
  some (.inl v9)))
noncomputable def mo_firstOf_J115 (y11 : Int32) : Option ((Int32) ⊕ ((Int32) ⊕ (Unit))) :=
  (some (y11 + 1)).bind fun v16 =>
  some (.inl v16)
noncomputable def mo_firstOf_L49 (a_many : Nat → Int32) (a_word : Nat → Int32) (a_three : Nat → Int32) (a_value : Nat → Int64) (a_bought : Nat → Int64) (x1 : Int32) (x2 : Int64) (x4 : Int32) (x5 : Int32) : (Int32) → Option ((Int32) ⊕ ((Int32) ⊕ (Unit))) := fun y11 =>
  (rdI a_many 16 5).bind fun v12 =>
  if v12 ≤ y11 then (some (.inr (.inr ()))) else ((mo_isSold a_word a_three y11 x4 x5).bind fun v14 =>
  if v14 = 0 then (mo_firstOf_J115 y11) else ((rdI a_word 36 ((3 * y11) + 2)).bind fun v18 =>
  (rdL a_bought 6 y11).bind fun v19 =>
  (mo_after x2 v18 v19).bind fun v20 =>
  (rdL a_value 29160 (x1 + x4)).bind fun v22 =>
  if v20 = v22 then (some (.inr (.inl y11))) else (mo_firstOf_J115 y11)))
noncomputable def mo_firstOf (a_many : Nat → Int32) (a_road : Nat → Int32) (a_word : Nat → Int32) (a_between : Nat → Int32) (a_three : Nat → Int32) (a_isNews : Nat → Int32) (a_value : Nat → Int64) (a_coming : Nat → Int64) (a_bought : Nat → Int64) (x1 : Int32) (x2 : Int64) (x4 : Int32) (x5 : Int32) : Option (Int32) :=
  (loop (mo_firstOf_L3 a_many a_road a_between a_three a_isNews a_value a_coming x1 x2 x4 x5) 0).bind (sE (fun y10 =>
  some (y10)) (fun _ =>
  (loop (mo_firstOf_L49 a_many a_word a_three a_value a_bought x1 x2 x4 x5) 0).bind (sE (fun y24 =>
  some (100 + y24)) (fun _ =>
  some ((-2))))))
noncomputable def mo_isSeen_J35 (y1 : Int32) : Option ((Int32) ⊕ ((Unit) ⊕ (Unit))) :=
  (some (y1 + 1)).bind fun v6 =>
  some (.inl v6)
noncomputable def mo_isSeen_L2 (a_many : Nat → Int32) (a_seen : Nat → Int32) (a_three : Nat → Int32) (x1 : Int32) (x2 : Int32) : (Int32) → Option ((Int32) ⊕ ((Unit) ⊕ (Unit))) := fun y1 =>
  (mo_doubts a_many).bind fun v2 =>
  if v2 ≤ y1 then (some (.inr (.inr ()))) else ((rdI a_seen 10 x1).bind fun v5 =>
  if (v5 >>> (y1 &&& 31)) &&& 1 = 1 then ((mo_digit a_three x2 y1).bind fun v8 =>
  if v8 = 0 then (some (.inr (.inl (())))) else (mo_isSeen_J35 y1)) else (mo_isSeen_J35 y1))
noncomputable def mo_isSeen (a_many : Nat → Int32) (a_seen : Nat → Int32) (a_three : Nat → Int32) (x1 : Int32) (x2 : Int32) : Option (Int32) :=
  (loop (mo_isSeen_L2 a_many a_seen a_three x1 x2) 0).bind (sE (fun _ =>
  some (0)) (fun _ =>
  some (1)))
noncomputable def mo_least_J46 (y2 : Int32) (k8 : Int64) : Option ((Int64 × Int32) ⊕ ((Int64))) :=
  (some (y2 + 1)).bind fun v9 =>
  some (.inl ((k8, v9)))
noncomputable def mo_least_L8 (a_many : Nat → Int32) (a_road : Nat → Int32) (a_between : Nat → Int32) (a_three : Nat → Int32) (a_isNews : Nat → Int32) (a_value : Nat → Int64) (a_coming : Nat → Int64) (x1 : Int32) (x2 : Int64) (x4 : Int32) (x5 : Int32) : (Int64 × Int32) → Option ((Int64 × Int32) ⊕ ((Int64))) := fun (y1, y2) =>
  (mo_places a_many).bind fun v3 =>
  if v3 ≤ y2 then (some (.inr y1)) else ((mo_goes a_road a_between a_three a_isNews a_value a_coming x1 x2 x4 y2 x5).bind fun v6 =>
  if y1 ≤ v6 then (mo_least_J46 y2 y1) else (mo_least_J46 y2 v6))
noncomputable def mo_least_J126 (y13 : Int32) (y18 : Int64) : Option ((Int64 × Int32) ⊕ ((Int64))) :=
  (some (y13 + 1)).bind fun v19 =>
  some (.inl ((y18, v19)))
noncomputable def mo_least_J124 (y13 : Int32) (k25 : Int64) : Option ((Int64 × Int32) ⊕ ((Int64))) :=
  mo_least_J126 y13 k25
noncomputable def mo_least_L57 (a_many : Nat → Int32) (a_word : Nat → Int32) (a_three : Nat → Int32) (a_bought : Nat → Int64) (x2 : Int64) (x4 : Int32) (x5 : Int32) : (Int64 × Int32) → Option ((Int64 × Int32) ⊕ ((Int64))) := fun (y12, y13) =>
  (rdI a_many 16 5).bind fun v14 =>
  if v14 ≤ y13 then (some (.inr y12)) else ((mo_isSold a_word a_three y13 x4 x5).bind fun v16 =>
  if v16 = 0 then (mo_least_J126 y13 y12) else ((rdI a_word 36 ((3 * y13) + 2)).bind fun v21 =>
  (rdL a_bought 6 y13).bind fun v22 =>
  (mo_after x2 v21 v22).bind fun v23 =>
  if y12 ≤ v23 then (mo_least_J124 y13 y12) else (mo_least_J124 y13 v23)))
noncomputable def mo_least (a_many : Nat → Int32) (a_road : Nat → Int32) (a_word : Nat → Int32) (a_between : Nat → Int32) (a_three : Nat → Int32) (a_isNews : Nat → Int32) (a_value : Nat → Int64) (a_coming : Nat → Int64) (a_bought : Nat → Int64) (x1 : Int32) (x2 : Int64) (x4 : Int32) (x5 : Int32) : Option (Int64) :=
  (loop (mo_least_L8 a_many a_road a_between a_three a_isNews a_value a_coming x1 x2 x4 x5) (4000000000000000000, 0)).bind fun y11 =>
  (loop (mo_least_L57 a_many a_word a_three a_bought x2 x4 x5) (y11, 0)).bind fun y27 =>
  some (y27)
noncomputable def mo_layOne_J88 (y3 : Int32) (a13 : Nat → Int32) (a15 : Nat → Int64) : Option ((Int32 × (Nat → Int32) × (Nat → Int64)) ⊕ (((Nat → Int32) × (Nat → Int64)))) :=
  (some (y3 + 1)).bind fun v16 =>
  some (.inl ((v16, a13, a15)))
noncomputable def mo_layOne_J61 (a_many : Nat → Int32) (a_seen : Nat → Int32) (a_three : Nat → Int32) (a_likely : Nat → Int64) (a_value : Nat → Int64) (x1 : Int32) (x2 : Int32) (x3 : Int32) (y3 : Int32) (a4 : Nat → Int32) (a5 : Nat → Int64) (k11 : Int32) (k12 : Int32) : Option ((Int32 × (Nat → Int32) × (Nat → Int64)) ⊕ (((Nat → Int32) × (Nat → Int64)))) :=
  (wrI a4 10 k12 (vp_nar .boolean k11)).bind fun a13 =>
  (rdI a13 10 y3).bind fun v14 =>
  if v14 = 0 then (mo_layOne_J88 y3 a13 a5) else ((mo_arrives a_many a_seen a_three a_likely a_value x1 x2 y3 x3).bind fun v18 =>
  (wrL a5 10 y3 v18).bind fun a20 =>
  mo_layOne_J88 y3 a13 a20)
noncomputable def mo_layOne_L31 (a_many : Nat → Int32) (a_seen : Nat → Int32) (a_three : Nat → Int32) (a_likely : Nat → Int64) (a_value : Nat → Int64) (x1 : Int32) (x2 : Int32) (x3 : Int32) : (Int32 × (Nat → Int32) × (Nat → Int64)) → Option ((Int32 × (Nat → Int32) × (Nat → Int64)) ⊕ (((Nat → Int32) × (Nat → Int64)))) := fun (y3, a4, a5) =>
  (mo_places a_many).bind fun v6 =>
  if v6 ≤ y3 then (some (.inr (a4, a5))) else ((mo_isSeen a_many a_seen a_three y3 x3).bind fun v9 =>
  if v9 = 0 then (mo_layOne_J61 a_many a_seen a_three a_likely a_value x1 x2 x3 y3 a4 a5 1 y3) else (mo_layOne_J61 a_many a_seen a_three a_likely a_value x1 x2 x3 y3 a4 a5 0 y3))
noncomputable def mo_layOne_J160 (y24 : Int32) (a31 : Nat → Int64) : Option ((Int32 × (Nat → Int64)) ⊕ (((Nat → Int64)))) :=
  (some (y24 + 1)).bind fun v32 =>
  some (.inl ((v32, a31)))
noncomputable def mo_layOne_L97 (a_many : Nat → Int32) (a_word : Nat → Int32) (a_three : Nat → Int32) (a_likely : Nat → Int64) (a_value : Nat → Int64) (x1 : Int32) (x2 : Int32) (x3 : Int32) (a22 : Nat → Int32) : (Int32 × (Nat → Int64)) → Option ((Int32 × (Nat → Int64)) ⊕ (((Nat → Int64)))) := fun (y24, a25) =>
  (rdI a_many 16 5).bind fun v26 =>
  if v26 ≤ y24 then (some (.inr a25)) else ((rdI a_word 36 (3 * y24)).bind fun v28 =>
  (mo_isSold a_word a_three y24 v28 x3).bind fun v29 =>
  if v29 = 0 then (mo_layOne_J160 y24 a25) else ((rdI a_word 36 (3 * y24)).bind fun v34 =>
  (rdI a22 10 v34).bind fun v35 =>
  if v35 = 0 then ((mo_buys a_word a_three a_likely a_value x1 x2 y24 x3).bind fun v37 =>
  (wrL a25 6 y24 v37).bind fun a39 =>
  mo_layOne_J160 y24 a39) else (mo_layOne_J160 y24 a25)))
noncomputable def mo_layOne_J308 (y51 : Int32) (y57 : Int32) (a58 : Nat → Int64) : Option ((Int32 × Int32 × (Nat → Int64)) ⊕ ((Int32 × (Nat → Int64)))) :=
  (some (y51 + 1)).bind fun v59 =>
  some (.inl ((y57, v59, a58)))
noncomputable def mo_layOne_L230 (a_many : Nat → Int32) (a_road : Nat → Int32) (a_word : Nat → Int32) (a_between : Nat → Int32) (a_three : Nat → Int32) (v1 : Int32) (k2 : Int64) (x3 : Int32) (a22 : Nat → Int32) (a23 : Nat → Int64) (a40 : Nat → Int64) : (Int32 × Int32 × (Nat → Int64)) → Option ((Int32 × Int32 × (Nat → Int64)) ⊕ ((Int32 × (Nat → Int64)))) := fun (y50, y51, a52) =>
  (mo_places a_many).bind fun v53 =>
  if v53 ≤ y51 then (some (.inr (y50, a52))) else ((rdI a22 10 y51).bind fun v56 =>
  if v56 = 0 then ((rdI a_many 16 7).bind fun v61 =>
  if y51 = v61 then (mo_layOne_J308 y51 y50 a52) else ((mo_least a_many a_road a_word a_between a_three a22 a52 a23 a40 v1 k2 y51 x3).bind fun v63 =>
  (rdL a52 29160 (v1 + y51)).bind fun v65 =>
  if v65 ≤ v63 then (mo_layOne_J308 y51 y50 a52) else ((wrL a52 29160 (v1 + y51) v63).bind fun a67 =>
  mo_layOne_J308 y51 1 a67))) else (mo_layOne_J308 y51 y50 a52))
noncomputable def mo_layOne_L219 (a_many : Nat → Int32) (a_road : Nat → Int32) (a_word : Nat → Int32) (a_between : Nat → Int32) (a_three : Nat → Int32) (v1 : Int32) (k2 : Int64) (x3 : Int32) (a22 : Nat → Int32) (a23 : Nat → Int64) (a40 : Nat → Int64) : (Int32 × (Nat → Int64)) → Option ((Int32 × (Nat → Int64)) ⊕ (((Nat → Int64)))) := fun (y47, a48) =>
  if y47 = 0 then (some (.inr a48)) else ((loop (mo_layOne_L230 a_many a_road a_word a_between a_three v1 k2 x3 a22 a23 a40) (0, 0, a48)).bind fun (y68, a69) =>
  some (.inl ((y68, a69))))
noncomputable def mo_layOne_J389 (y71 : Int32) (a77 : Nat → Int32) : Option ((Int32 × (Nat → Int32)) ⊕ (((Nat → Int32)))) :=
  (some (y71 + 1)).bind fun v78 =>
  some (.inl ((v78, a77)))
noncomputable def mo_layOne_L320 (a_many : Nat → Int32) (a_road : Nat → Int32) (a_word : Nat → Int32) (a_between : Nat → Int32) (a_three : Nat → Int32) (v1 : Int32) (k2 : Int64) (x3 : Int32) (a22 : Nat → Int32) (a23 : Nat → Int64) (a40 : Nat → Int64) (a70 : Nat → Int64) : (Int32 × (Nat → Int32)) → Option ((Int32 × (Nat → Int32)) ⊕ (((Nat → Int32)))) := fun (y71, a72) =>
  (mo_places a_many).bind fun v73 =>
  if v73 ≤ y71 then (some (.inr a72)) else ((rdI a22 10 y71).bind fun v76 =>
  if v76 = 0 then ((rdI a_many 16 7).bind fun v80 =>
  if y71 = v80 then (mo_layOne_J389 y71 a72) else ((rdL a70 29160 (v1 + y71)).bind fun v82 =>
  if 4000000000000000000 ≤ v82 then (mo_layOne_J389 y71 a72) else ((mo_firstOf a_many a_road a_word a_between a_three a22 a70 a23 a40 v1 k2 y71 x3).bind fun v84 =>
  (wrI a72 29160 (v1 + y71) v84).bind fun a86 =>
  mo_layOne_J389 y71 a86))) else (mo_layOne_J389 y71 a72))
noncomputable def mo_layOne_J215 (a_many : Nat → Int32) (a_road : Nat → Int32) (a_word : Nat → Int32) (a_between : Nat → Int32) (a_three : Nat → Int32) (a_act : Nat → Int32) (a_value : Nat → Int64) (v1 : Int32) (k2 : Int64) (x3 : Int32) (a22 : Nat → Int32) (a23 : Nat → Int64) (a40 : Nat → Int64) (k44 : Int64) (k45 : Int32) : Option ((Nat → Int32) × (Nat → Int32) × (Nat → Int64) × (Nat → Int64) × (Nat → Int64)) :=
  (wrL a_value 29160 k45 k44).bind fun a46 =>
  (loop (mo_layOne_L219 a_many a_road a_word a_between a_three v1 k2 x3 a22 a23 a40) (1, a46)).bind fun a70 =>
  (loop (mo_layOne_L320 a_many a_road a_word a_between a_three v1 k2 x3 a22 a23 a40 a70) (0, a_act)).bind fun a87 =>
  some (a87, a22, a70, a23, a40)
noncomputable def mo_layOne_J26 (a_many : Nat → Int32) (a_road : Nat → Int32) (a_word : Nat → Int32) (a_seen : Nat → Int32) (a_between : Nat → Int32) (a_three : Nat → Int32) (a_act : Nat → Int32) (a_isNews : Nat → Int32) (a_likely : Nat → Int64) (a_value : Nat → Int64) (a_term : Nat → Int64) (a_coming : Nat → Int64) (a_bought : Nat → Int64) (v1 : Int32) (x1 : Int32) (x2 : Int32) (x3 : Int32) (k2 : Int64) : Option ((Nat → Int32) × (Nat → Int32) × (Nat → Int64) × (Nat → Int64) × (Nat → Int64)) :=
  (loop (mo_layOne_L31 a_many a_seen a_three a_likely a_value x1 x2 x3) (0, a_isNews, a_coming)).bind fun (a22, a23) =>
  (loop (mo_layOne_L97 a_many a_word a_three a_likely a_value x1 x2 x3 a22) (0, a_bought)).bind fun a40 =>
  (rdI a_many 16 7).bind fun v41 =>
  (rdI a_many 16 7).bind fun v42 =>
  (rdI a22 10 v42).bind fun v43 =>
  if v43 = 0 then (if x2 = 0 then ((rdL a_term 729 x3).bind fun v90 =>
  mo_layOne_J215 a_many a_road a_word a_between a_three a_act a_value v1 k2 x3 a22 a23 a40 v90 (v1 + v41)) else (mo_layOne_J215 a_many a_road a_word a_between a_three a_act a_value v1 k2 x3 a22 a23 a40 0 (v1 + v41))) else (mo_layOne_J215 a_many a_road a_word a_between a_three a_act a_value v1 k2 x3 a22 a23 a40 4000000000000000000 (v1 + v41))
noncomputable def mo_layOne (a_many : Nat → Int32) (a_road : Nat → Int32) (a_word : Nat → Int32) (a_seen : Nat → Int32) (a_between : Nat → Int32) (a_three : Nat → Int32) (a_act : Nat → Int32) (a_isNews : Nat → Int32) (a_likely : Nat → Int64) (a_value : Nat → Int64) (a_term : Nat → Int64) (a_coming : Nat → Int64) (a_bought : Nat → Int64) (x1 : Int32) (x2 : Int32) (x3 : Int32) : Option ((Nat → Int32) × (Nat → Int32) × (Nat → Int64) × (Nat → Int64) × (Nat → Int64)) :=
  (some ((7290 * x1) + (10 * x3))).bind fun v1 =>
  if x2 = 0 then (mo_layOne_J26 a_many a_road a_word a_seen a_between a_three a_act a_isNews a_likely a_value a_term a_coming a_bought v1 x1 x2 x3 1) else ((rdL a_likely 729 x3).bind fun v92 =>
  mo_layOne_J26 a_many a_road a_word a_seen a_between a_three a_act a_isNews a_likely a_value a_term a_coming a_bought v1 x1 x2 x3 v92)
noncomputable def mo_layValues_L2 (x1 : Int32) : (Int32 × (Nat → Int32) × (Nat → Int64)) → Option ((Int32 × (Nat → Int32) × (Nat → Int64)) ⊕ (((Nat → Int32) × (Nat → Int64)))) := fun (y1, a2, a3) =>
  if 7290 ≤ y1 then (some (.inr (a2, a3))) else ((wrL a3 29160 ((7290 * x1) + y1) 4000000000000000000).bind fun a5 =>
  (wrI a2 29160 ((7290 * x1) + y1) (-2)).bind fun a6 =>
  (some (y1 + 1)).bind fun v7 =>
  some (.inl ((v7, a6, a5))))
noncomputable def mo_layValues_J94 (y12 : Int32) (a21 : Nat → Int32) (a22 : Nat → Int32) (a23 : Nat → Int64) (a24 : Nat → Int64) (a25 : Nat → Int64) : Option ((Int32 × (Nat → Int32) × (Nat → Int32) × (Nat → Int64) × (Nat → Int64) × (Nat → Int64)) ⊕ (((Nat → Int32) × (Nat → Int32) × (Nat → Int64) × (Nat → Int64) × (Nat → Int64)))) :=
  (some (y12 + 1)).bind fun v26 =>
  some (.inl ((v26, a21, a22, a23, a24, a25)))
noncomputable def mo_layValues_L58 (z_knowings : Int32) (a_many : Nat → Int32) (a_road : Nat → Int32) (a_word : Nat → Int32) (a_seen : Nat → Int32) (a_between : Nat → Int32) (a_three : Nat → Int32) (a_turn : Nat → Int32) (a_likely : Nat → Int64) (a_term : Nat → Int64) (x1 : Int32) (x2 : Int32) : (Int32 × (Nat → Int32) × (Nat → Int32) × (Nat → Int64) × (Nat → Int64) × (Nat → Int64)) → Option ((Int32 × (Nat → Int32) × (Nat → Int32) × (Nat → Int64) × (Nat → Int64) × (Nat → Int64)) ⊕ (((Nat → Int32) × (Nat → Int32) × (Nat → Int64) × (Nat → Int64) × (Nat → Int64)))) := fun (y12, a13, a14, a15, a16, a17) =>
  if z_knowings ≤ y12 then (some (.inr (a13, a14, a15, a16, a17))) else ((rdI a_turn 729 y12).bind fun v19 =>
  (rdL a_likely 729 v19).bind fun v20 =>
  if v20 ≤ 0 then (mo_layValues_J94 y12 a13 a14 a15 a16 a17) else ((rdI a_turn 729 y12).bind fun v28 =>
  (mo_layOne a_many a_road a_word a_seen a_between a_three a13 a14 a_likely a15 a_term a16 a17 x1 x2 v28).bind fun (a29, a30, a31, a32, a33) =>
  mo_layValues_J94 y12 a29 a30 a31 a32 a33))
noncomputable def mo_layValues (z_knowings : Int32) (a_many : Nat → Int32) (a_road : Nat → Int32) (a_word : Nat → Int32) (a_seen : Nat → Int32) (a_between : Nat → Int32) (a_three : Nat → Int32) (a_turn : Nat → Int32) (a_act : Nat → Int32) (a_isNews : Nat → Int32) (a_likely : Nat → Int64) (a_value : Nat → Int64) (a_term : Nat → Int64) (a_coming : Nat → Int64) (a_bought : Nat → Int64) (x1 : Int32) (x2 : Int32) : Option ((Nat → Int32) × (Nat → Int32) × (Nat → Int64) × (Nat → Int64) × (Nat → Int64)) :=
  (loop (mo_layValues_L2 x1) (0, a_act, a_value)).bind fun (a8, a9) =>
  (rdI a_many 16 7).bind fun v10 =>
  if v10 = (-1) then (some (a8, a_isNews, a9, a_coming, a_bought)) else ((loop (mo_layValues_L58 z_knowings a_many a_road a_word a_seen a_between a_three a_turn a_likely a_term x1 x2) (0, a8, a_isNews, a9, a_coming, a_bought)).bind fun (a35, a36, a37, a38, a39) =>
  some (a35, a36, a37, a38, a39))
noncomputable def mo_layBest (z_knowings : Int32) (a_many : Nat → Int32) (a_road : Nat → Int32) (a_word : Nat → Int32) (a_seen : Nat → Int32) (a_between : Nat → Int32) (a_three : Nat → Int32) (a_turn : Nat → Int32) (a_act : Nat → Int32) (a_isLaid : Nat → Int32) (a_isNews : Nat → Int32) (a_likely : Nat → Int64) (a_value : Nat → Int64) (a_term : Nat → Int64) (a_coming : Nat → Int64) (a_bought : Nat → Int64) : Option ((Nat → Int32) × (Nat → Int32) × (Nat → Int32) × (Nat → Int64) × (Nat → Int64) × (Nat → Int64)) :=
  (rdI a_isLaid 3 0).bind fun v1 =>
  if v1 = 0 then ((wrI a_isLaid 3 0 (vp_nar .boolean 1)).bind fun a3 =>
  (mo_layValues z_knowings a_many a_road a_word a_seen a_between a_three a_turn a_act a_isNews a_likely a_value a_term a_coming a_bought 0 1).bind fun (a4, a5, a6, a7, a8) =>
  some (a4, a3, a5, a6, a7, a8)) else (some (a_act, a_isLaid, a_isNews, a_value, a_coming, a_bought))
noncomputable def mo_layTerm_J153 (y1 : Int32) (a7 : Nat → Int64) : Option ((Int32 × (Nat → Int64)) ⊕ (((Nat → Int64)))) :=
  (some (y1 + 1)).bind fun v8 =>
  some (.inl ((v8, a7)))
noncomputable def mo_layTerm_J152 (y1 : Int32) (a2 : Nat → Int64) (k18 : Int64) (k19 : Int32) : Option ((Int32 × (Nat → Int64)) ⊕ (((Nat → Int64)))) :=
  (wrL a2 729 k19 k18).bind fun a20 =>
  mo_layTerm_J153 y1 a20
noncomputable def mo_layTerm_J130 (y1 : Int32) (a2 : Nat → Int64) (v4 : Int32) (k14 : Int64) (k17 : Int64) : Option ((Int32 × (Nat → Int64)) ⊕ (((Nat → Int64)))) :=
  if k14 ≤ k17 then (mo_layTerm_J152 y1 a2 k17 v4) else (mo_layTerm_J152 y1 a2 k14 v4)
noncomputable def mo_layTerm_J87 (a_three : Nat → Int32) (a_likely : Nat → Int64) (y1 : Int32) (a2 : Nat → Int64) (v4 : Int32) (v10 : Int32) (k14 : Int64) : Option ((Int32 × (Nat → Int64)) ⊕ (((Nat → Int64)))) :=
  (rdI a_three 7 v10).bind fun v15 =>
  (rdL a_likely 729 (v4 + (2 * v15))).bind fun v16 =>
  if v16 ≤ 0 then (mo_layTerm_J130 y1 a2 v4 k14 (-4000000000000000000)) else ((rdI a_three 7 v10).bind fun v23 =>
  (rdL a2 729 (v4 + (2 * v23))).bind fun v24 =>
  mo_layTerm_J130 y1 a2 v4 k14 v24)
noncomputable def mo_layTerm_L2 (z_knowings : Int32) (a_many : Nat → Int32) (a_three : Nat → Int32) (a_turn : Nat → Int32) (a_likely : Nat → Int64) (a_ending : Nat → Int64) : (Int32 × (Nat → Int64)) → Option ((Int32 × (Nat → Int64)) ⊕ (((Nat → Int64)))) := fun (y1, a2) =>
  if z_knowings ≤ y1 then (some (.inr a2)) else ((rdI a_turn 729 y1).bind fun v4 =>
  (mo_openIn a_many a_three v4).bind fun v5 =>
  if v5 = 0 then ((mo_worldOf a_many a_three v4).bind fun v28 =>
  (rdL a_ending 64 v28).bind fun v30 =>
  (wrL a2 729 v4 v30).bind fun a31 =>
  mo_layTerm_J153 y1 a31) else ((mo_unknownIn a_three v4).bind fun v10 =>
  (rdI a_three 7 v10).bind fun v12 =>
  (rdL a_likely 729 (v4 + v12)).bind fun v13 =>
  if v13 ≤ 0 then (mo_layTerm_J87 a_three a_likely y1 a2 v4 v10 (-4000000000000000000)) else ((rdI a_three 7 v10).bind fun v26 =>
  (rdL a2 729 (v4 + v26)).bind fun v27 =>
  mo_layTerm_J87 a_three a_likely y1 a2 v4 v10 v27)))
noncomputable def mo_layTerm (z_knowings : Int32) (a_many : Nat → Int32) (a_three : Nat → Int32) (a_turn : Nat → Int32) (a_likely : Nat → Int64) (a_ending : Nat → Int64) (a_term : Nat → Int64) : Option ((Nat → Int64)) :=
  (loop (mo_layTerm_L2 z_knowings a_many a_three a_turn a_likely a_ending) (0, a_term)).bind fun a32 =>
  some (a32)
noncomputable def mo_layLimits_J73 (y1 : Int32) (a3 : Nat → Int64) (a7 : Nat → Int32) (k9 : Int64) (k10 : Int32) : Option ((Int32 × (Nat → Int32) × (Nat → Int64)) ⊕ (((Nat → Int32) × (Nat → Int64)))) :=
  (wrL a3 64 k10 k9).bind fun a11 =>
  (some (y1 + 1)).bind fun v12 =>
  some (.inl ((v12, a7, a11)))
noncomputable def mo_layLimits_J34 (x1 : Int64) (y1 : Int32) (a3 : Nat → Int64) (x3 : Int64) (x5 : Int32) (k6 : Int32) (a7 : Nat → Int32) : Option ((Int32 × (Nat → Int32) × (Nat → Int64)) ⊕ (((Nat → Int32) × (Nat → Int64)))) :=
  (some (x1 * (k6.toInt64))).bind fun v8 =>
  if x5 = 0 then ((dvL v8 x3).bind fun v14 =>
  mo_layLimits_J73 y1 a3 a7 (-v14) y1) else ((dvL ((v8 + x3) - 1) x3).bind fun v15 =>
  mo_layLimits_J73 y1 a3 a7 (-(v15 - 1)) y1)
noncomputable def mo_layLimits_L3 (z_worlds : Int32) (a_many : Nat → Int32) (a_road : Nat → Int32) (a_three : Nat → Int32) (a_weight : Nat → Int64) (x1 : Int64) (x3 : Int64) (x5 : Int32) : (Int32 × (Nat → Int32) × (Nat → Int64)) → Option ((Int32 × (Nat → Int32) × (Nat → Int64)) ⊕ (((Nat → Int32) × (Nat → Int64)))) := fun (y1, a2, a3) =>
  if z_worlds ≤ y1 then (some (.inr (a2, a3))) else ((rdL a_weight 64 y1).bind fun v5 =>
  if v5 = 0 then (mo_layLimits_J34 x1 y1 a3 x3 x5 0 a2) else ((mo_knowingOf a_many a_road a_three a2 y1).bind fun (v17, a18) =>
  mo_layLimits_J34 x1 y1 a3 x3 x5 v17 a18))
noncomputable def mo_layLimits (z_worlds : Int32) (z_knowings : Int32) (a_many : Nat → Int32) (a_road : Nat → Int32) (a_word : Nat → Int32) (a_seen : Nat → Int32) (a_between : Nat → Int32) (a_three : Nat → Int32) (a_turn : Nat → Int32) (a_far : Nat → Int32) (a_act : Nat → Int32) (a_isNews : Nat → Int32) (a_weight : Nat → Int64) (a_likely : Nat → Int64) (a_value : Nat → Int64) (a_ending : Nat → Int64) (a_term : Nat → Int64) (a_coming : Nat → Int64) (a_bought : Nat → Int64) (x1 : Int64) (x3 : Int64) (x5 : Int32) : Option ((Nat → Int32) × (Nat → Int32) × (Nat → Int32) × (Nat → Int64) × (Nat → Int64) × (Nat → Int64) × (Nat → Int64) × (Nat → Int64)) :=
  (loop (mo_layLimits_L3 z_worlds a_many a_road a_three a_weight x1 x3 x5) (0, a_far, a_ending)).bind fun (a20, a21) =>
  (mo_layTerm z_knowings a_many a_three a_turn a_likely a21 a_term).bind fun a22 =>
  (mo_layValues z_knowings a_many a_road a_word a_seen a_between a_three a_turn a_act a_isNews a_likely a_value a22 a_coming a_bought 2 0).bind fun (a24, a25, a26, a27, a28) =>
  some (a20, a24, a25, a26, a21, a22, a27, a28)
noncomputable def mo_laySure_L19 (z_worlds : Int32) : (Int32 × (Nat → Int64)) → Option ((Int32 × (Nat → Int64)) ⊕ (((Nat → Int64)))) := fun (y4, a5) =>
  if z_worlds ≤ y4 then (some (.inr a5)) else ((wrL a5 64 y4 0).bind fun a7 =>
  (some (y4 + 1)).bind fun v8 =>
  some (.inl ((v8, a7))))
noncomputable def mo_laySure (z_worlds : Int32) (z_knowings : Int32) (a_many : Nat → Int32) (a_road : Nat → Int32) (a_word : Nat → Int32) (a_seen : Nat → Int32) (a_between : Nat → Int32) (a_three : Nat → Int32) (a_turn : Nat → Int32) (a_act : Nat → Int32) (a_isLaid : Nat → Int32) (a_isNews : Nat → Int32) (a_likely : Nat → Int64) (a_value : Nat → Int64) (a_ending : Nat → Int64) (a_term : Nat → Int64) (a_coming : Nat → Int64) (a_bought : Nat → Int64) : Option ((Nat → Int32) × (Nat → Int32) × (Nat → Int32) × (Nat → Int64) × (Nat → Int64) × (Nat → Int64) × (Nat → Int64) × (Nat → Int64)) :=
  (rdI a_isLaid 3 1).bind fun v1 =>
  if v1 = 0 then ((wrI a_isLaid 3 1 (vp_nar .boolean 1)).bind fun a3 =>
  (loop (mo_laySure_L19 z_worlds) (0, a_ending)).bind fun a9 =>
  (mo_layTerm z_knowings a_many a_three a_turn a_likely a9 a_term).bind fun a10 =>
  (mo_layValues z_knowings a_many a_road a_word a_seen a_between a_three a_turn a_act a_isNews a_likely a_value a10 a_coming a_bought 1 0).bind fun (a12, a13, a14, a15, a16) =>
  some (a12, a3, a13, a14, a9, a10, a15, a16)) else (some (a_act, a_isLaid, a_isNews, a_value, a_ending, a_term, a_coming, a_bought))
noncomputable def mo_byHand_J111 (y1 : Int32) : Option ((Int32) ⊕ ((Int32) ⊕ (Unit))) :=
  (some (y1 + 1)).bind fun v5 =>
  some (.inl v5)
noncomputable def mo_byHand_J63 (a_road : Nat → Int32) (a_between : Nat → Int32) (a_three : Nat → Int32) (a_rule : Nat → Int32) (x1 : Int32) (y1 : Int32) (x2 : Int32) : Option ((Int32) ⊕ ((Int32) ⊕ (Unit))) :=
  (rdI a_rule 120 ((4 * y1) + 3)).bind fun v7 =>
  (rdI a_between 100 ((10 * x1) + v7)).bind fun v8 =>
  if v8 < 0 then (mo_byHand_J111 y1) else ((mo_hoursOf a_road a_three v8 x2).bind fun v10 =>
  if v10 < 0 then (mo_byHand_J111 y1) else (some (.inr (.inl y1))))
noncomputable def mo_byHand_L2 (z_rules : Int32) (a_road : Nat → Int32) (a_between : Nat → Int32) (a_three : Nat → Int32) (a_rule : Nat → Int32) (x1 : Int32) (x2 : Int32) : (Int32) → Option ((Int32) ⊕ ((Int32) ⊕ (Unit))) := fun y1 =>
  if z_rules ≤ y1 then (some (.inr (.inr ()))) else ((rdI a_rule 120 ((4 * y1) + 1)).bind fun v3 =>
  (rdI a_rule 120 (4 * y1)).bind fun v4 =>
  if v4 = x1 then (if v3 = (-1) then (mo_byHand_J63 a_road a_between a_three a_rule x1 y1 x2) else ((mo_digit a_three x2 v3).bind fun v14 =>
  (rdI a_rule 120 ((4 * y1) + 2)).bind fun v16 =>
  if v14 = v16 then (mo_byHand_J63 a_road a_between a_three a_rule x1 y1 x2) else (mo_byHand_J111 y1))) else (mo_byHand_J111 y1))
noncomputable def mo_byHand (z_rules : Int32) (a_road : Nat → Int32) (a_between : Nat → Int32) (a_three : Nat → Int32) (a_rule : Nat → Int32) (x1 : Int32) (x2 : Int32) : Option (Int32) :=
  (loop (mo_byHand_L2 z_rules a_road a_between a_three a_rule x1 x2) 0).bind (sE (fun y18 =>
  (rdI a_rule 120 ((4 * y18) + 3)).bind fun v19 =>
  some (v19)) (fun _ =>
  some ((-2))))
noncomputable def mo_firstUnknown_L2 (z_rowSize : Int32) (a_three : Nat → Int32) (a_row : Nat → Int32) (x1 : Int32) : (Int32) → Option ((Int32) ⊕ ((Int32) ⊕ (Unit))) := fun y1 =>
  if z_rowSize ≤ y1 then (some (.inr (.inr ()))) else ((rdI a_row 6 y1).bind fun v3 =>
  (mo_digit a_three x1 v3).bind fun v4 =>
  if v4 = 0 then (some (.inr (.inl y1))) else ((some (y1 + 1)).bind fun v7 =>
  some (.inl v7)))
noncomputable def mo_firstUnknown (z_rowSize : Int32) (a_three : Nat → Int32) (a_row : Nat → Int32) (x1 : Int32) : Option (Int32) :=
  (loop (mo_firstUnknown_L2 z_rowSize a_three a_row x1) 0).bind (sE (fun y8 =>
  (rdI a_row 6 y8).bind fun v9 =>
  some (v9)) (fun _ =>
  some ((-1))))
noncomputable def mo_hopAt_J177 (v1 : Int32) (x3 : Int32) (a3 : Nat → Int32) (a4 : Nat → Int32) : Option (Int32 × (Nat → Int32) × (Nat → Int32)) :=
  (rdI a4 58320 (v1 + x3)).bind fun v5 =>
  if v5 = 1 then (some ((-2), a3, a4)) else ((rdI a4 58320 (v1 + x3)).bind fun v7 =>
  some (v7 - 2, a3, a4))
noncomputable def mo_hopAt_J165 (y20 : Int32) (a27 : Nat → Int32) : Option ((Int32 × (Nat → Int32)) ⊕ (((Nat → Int32)))) :=
  (some (y20 + (-1))).bind fun v28 =>
  some (.inl ((v28, a27)))
noncomputable def mo_hopAt_J111 (v1 : Int32) (a9 : Nat → Int32) (y11 : Int32) (y20 : Int32) (a21 : Nat → Int32) (k26 : Int32) : Option ((Int32 × (Nat → Int32)) ⊕ (((Nat → Int32)))) :=
  if k26 < 0 then (mo_hopAt_J165 y20 a21) else ((rdI a9 10 y11).bind fun v30 =>
  if 1000000 ≤ v30 then (mo_hopAt_J165 y20 a21) else ((rdI a9 10 y20).bind fun v32 =>
  (rdI a9 10 y11).bind fun v33 =>
  if v32 + k26 = v33 then ((wrI a21 58320 (v1 + y11) (y20 + 2)).bind fun a35 =>
  mo_hopAt_J165 y20 a35) else (mo_hopAt_J165 y20 a21)))
noncomputable def mo_hopAt_L62 (a_many : Nat → Int32) (a_road : Nat → Int32) (a_between : Nat → Int32) (a_three : Nat → Int32) (v1 : Int32) (x1 : Int32) (x2 : Int32) (a9 : Nat → Int32) (y11 : Int32) : (Int32 × (Nat → Int32)) → Option ((Int32 × (Nat → Int32)) ⊕ (((Nat → Int32)))) := fun (y20, a21) =>
  if y20 < 0 then (some (.inr a21)) else ((rdI a_many 16 7).bind fun v23 =>
  if y11 = v23 then (some (.inr a21)) else ((rdI a_between 100 ((10 * y11) + y20)).bind fun v25 =>
  if 0 ≤ v25 then ((mo_hoursAs a_road a_three v25 x1 x2).bind fun v37 =>
  mo_hopAt_J111 v1 a9 y11 y20 a21 v37) else (mo_hopAt_J111 v1 a9 y11 y20 a21 (-1))))
noncomputable def mo_hopAt_L34 (a_many : Nat → Int32) (a_road : Nat → Int32) (a_between : Nat → Int32) (a_three : Nat → Int32) (v1 : Int32) (x1 : Int32) (x2 : Int32) (a9 : Nat → Int32) : (Int32 × (Nat → Int32)) → Option ((Int32 × (Nat → Int32)) ⊕ (((Nat → Int32)))) := fun (y11, a12) =>
  (mo_places a_many).bind fun v13 =>
  if v13 ≤ y11 then (some (.inr a12)) else ((wrI a12 58320 (v1 + y11) 1).bind fun a16 =>
  (mo_places a_many).bind fun v17 =>
  (some (v17 - 1)).bind fun v19 =>
  (loop (mo_hopAt_L62 a_many a_road a_between a_three v1 x1 x2 a9 y11) (v19, a16)).bind fun a39 =>
  (some (y11 + 1)).bind fun v40 =>
  some (.inl ((v40, a39))))
noncomputable def mo_hopAt (a_many : Nat → Int32) (a_road : Nat → Int32) (a_between : Nat → Int32) (a_three : Nat → Int32) (a_far : Nat → Int32) (a_hop : Nat → Int32) (x1 : Int32) (x2 : Int32) (x3 : Int32) : Option (Int32 × (Nat → Int32) × (Nat → Int32)) :=
  (some ((80 * x1) + (10 * (x2 + 1)))).bind fun v1 =>
  (rdI a_hop 58320 (v1 + x3)).bind fun v2 =>
  if v2 = 0 then ((mo_layFar a_many a_road a_three a_far x1 x2).bind fun a9 =>
  (loop (mo_hopAt_L34 a_many a_road a_between a_three v1 x1 x2 a9) (0, a_hop)).bind fun a41 =>
  mo_hopAt_J177 v1 x3 a9 a41) else (mo_hopAt_J177 v1 x3 a_far a_hop)
noncomputable def mo_actOf_J76 (a_many : Nat → Int32) (a_road : Nat → Int32) (a_between : Nat → Int32) (a_three : Nat → Int32) (a_far : Nat → Int32) (a_hop : Nat → Int32) (x2 : Int32) (k5 : Int32) (k6 : Int32) : Option (Int32 × (Nat → Int32) × (Nat → Int32)) :=
  (mo_hopAt a_many a_road a_between a_three a_far a_hop k6 k5 x2).bind fun (v7, a8, a9) =>
  some (v7, a8, a9)
noncomputable def mo_actOf (z_rowSize : Int32) (z_rules : Int32) (a_many : Nat → Int32) (a_road : Nat → Int32) (a_between : Nat → Int32) (a_three : Nat → Int32) (a_far : Nat → Int32) (a_act : Nat → Int32) (a_hop : Nat → Int32) (a_row : Nat → Int32) (a_rule : Nat → Int32) (x1 : Int32) (x2 : Int32) (x3 : Int32) : Option (Int32 × (Nat → Int32) × (Nat → Int32)) :=
  if 3 ≤ x1 then (if x1 = 6 then ((mo_byHand z_rules a_road a_between a_three a_rule x2 x3).bind fun v15 =>
  some (v15, a_far, a_hop)) else ((rdI a_many 16 7).bind fun v3 =>
  if v3 = (-1) then (some ((-2), a_far, a_hop)) else (if x1 = 3 then (mo_actOf_J76 a_many a_road a_between a_three a_far a_hop x2 6 x3) else (if x1 = 4 then (mo_actOf_J76 a_many a_road a_between a_three a_far a_hop x2 (-1) x3) else ((mo_firstUnknown z_rowSize a_three a_row x3).bind fun v13 =>
  mo_actOf_J76 a_many a_road a_between a_three a_far a_hop x2 v13 x3))))) else ((rdI a_act 29160 (((7290 * x1) + (10 * x3)) + x2)).bind fun v17 =>
  some (v17, a_far, a_hop))
noncomputable def mo_learns_J62 (y2 : Int32) (y7 : Int32) : Option ((Int32 × Int32) ⊕ ((Int32))) :=
  (some (y2 + 1)).bind fun v8 =>
  some (.inl ((y7, v8)))
noncomputable def mo_learns_L6 (a_many : Nat → Int32) (a_seen : Nat → Int32) (a_three : Nat → Int32) (x1 : Int32) (x3 : Int32) : (Int32 × Int32) → Option ((Int32 × Int32) ⊕ ((Int32))) := fun (y1, y2) =>
  (mo_doubts a_many).bind fun v3 =>
  if v3 ≤ y2 then (some (.inr y1)) else ((rdI a_seen 10 x1).bind fun v6 =>
  if (v6 >>> (y2 &&& 31)) &&& 1 = 1 then ((mo_digit a_three y1 y2).bind fun v10 =>
  if v10 = 0 then ((rdI a_three 7 y2).bind fun v13 =>
  (some (y1 + ((((x3 >>> (y2 &&& 31)) &&& 1) + 1) * v13))).bind fun v14 =>
  mo_learns_J62 y2 v14) else (mo_learns_J62 y2 y1)) else (mo_learns_J62 y2 y1))
noncomputable def mo_learns (a_many : Nat → Int32) (a_seen : Nat → Int32) (a_three : Nat → Int32) (x1 : Int32) (x2 : Int32) (x3 : Int32) : Option (Int32) :=
  (loop (mo_learns_L6 a_many a_seen a_three x1 x3) (x2, 0)).bind fun y15 =>
  some (y15)
noncomputable def mo_moves (z_rowSize : Int32) (z_rules : Int32) (z_atPlace : Int32) (z_atKnown : Int32) (z_atHours : Int64) (a_many : Nat → Int32) (a_road : Nat → Int32) (a_word : Nat → Int32) (a_seen : Nat → Int32) (a_between : Nat → Int32) (a_three : Nat → Int32) (a_far : Nat → Int32) (a_act : Nat → Int32) (a_hop : Nat → Int32) (a_row : Nat → Int32) (a_rule : Nat → Int32) (x1 : Int32) (x2 : Int32) : Option (Int32 × (Int32) × (Int32) × (Int64) × (Nat → Int32) × (Nat → Int32)) :=
  (mo_actOf z_rowSize z_rules a_many a_road a_between a_three a_far a_act a_hop a_row a_rule x1 z_atPlace z_atKnown).bind fun (v1, a2, a3) =>
  if 0 ≤ v1 then (if v1 < 100 then ((rdI a_between 100 ((10 * z_atPlace) + v1)).bind fun v7 =>
  (mo_hoursOf a_road a_three v7 z_atKnown).bind fun v8 =>
  (some (z_atHours + (v8.toInt64))).bind fun v10 =>
  (mo_learns a_many a_seen a_three v1 z_atKnown x2).bind fun v11 =>
  some (1, v1, v11, v10, a2, a3)) else ((rdI a_word 36 ((3 * (v1 - 100)) + 1)).bind fun v13 =>
  (rdI a_word 36 ((3 * (v1 - 100)) + 2)).bind fun v14 =>
  (some (z_atHours + (v14.toInt64))).bind fun v15 =>
  (rdI a_three 7 v13).bind fun v16 =>
  (some (z_atKnown + ((((x2 >>> (v13 &&& 31)) &&& 1) + 1) * v16))).bind fun v17 =>
  some (1, z_atPlace, v17, v15, a2, a3))) else (some (0, z_atPlace, z_atKnown, z_atHours, a2, a3))
noncomputable def mo_setsOut (z_atPlace : Int32) (z_atKnown : Int32) (z_atHours : Int64) (a_many : Nat → Int32) (a_seen : Nat → Int32) (a_three : Nat → Int32) (x1 : Int32) : Option ((Int32) × (Int32) × (Int64)) :=
  (rdI a_many 16 6).bind fun v1 =>
  (mo_learns a_many a_seen a_three v1 0 x1).bind fun v2 =>
  some (v1, v2, 0)
noncomputable def mo_hoursIn_J56 (z14 : Int32) (z15 : Int32) (z16 : Int64) (a17 : Nat → Int32) (a18 : Nat → Int32) (k21 : Int32) : Option ((Int32 × Int32 × Int32 × Int64 × (Nat → Int32) × (Nat → Int32)) ⊕ ((Int32 × Int32 × Int64 × (Nat → Int32) × (Nat → Int32)) ⊕ (Int32 × Int32 × Int64 × (Nat → Int32) × (Nat → Int32)) ⊕ (Int32 × Int32 × Int64 × (Nat → Int32) × (Nat → Int32)))) :=
  if k21 ≤ 10 then (some (.inl ((k21, z14, z15, z16, a17, a18)))) else (some (.inr (.inr (.inl ((z14, z15, z16, a17, a18))))))
noncomputable def mo_hoursIn_L7 (z_rowSize : Int32) (z_rules : Int32) (a_many : Nat → Int32) (a_road : Nat → Int32) (a_word : Nat → Int32) (a_seen : Nat → Int32) (a_between : Nat → Int32) (a_three : Nat → Int32) (a_act : Nat → Int32) (a_row : Nat → Int32) (a_rule : Nat → Int32) (x1 : Int32) (x2 : Int32) : (Int32 × Int32 × Int32 × Int64 × (Nat → Int32) × (Nat → Int32)) → Option ((Int32 × Int32 × Int32 × Int64 × (Nat → Int32) × (Nat → Int32)) ⊕ ((Int32 × Int32 × Int64 × (Nat → Int32) × (Nat → Int32)) ⊕ (Int32 × Int32 × Int64 × (Nat → Int32) × (Nat → Int32)) ⊕ (Int32 × Int32 × Int64 × (Nat → Int32) × (Nat → Int32)))) := fun (y5, z6, z7, z8, a9, a10) =>
  (rdI a_many 16 7).bind fun v11 =>
  if z6 = v11 then (some (.inr (.inr (.inr (z6, z7, z8, a9, a10))))) else ((mo_moves z_rowSize z_rules z6 z7 z8 a_many a_road a_word a_seen a_between a_three a9 a_act a10 a_row a_rule x1 x2).bind fun (v13, z14, z15, z16, a17, a18) =>
  if v13 = 0 then (some (.inr (.inl ((z14, z15, z16, a17, a18))))) else (if z7 = z15 then (mo_hoursIn_J56 z14 z15 z16 a17 a18 (y5 + 1)) else (mo_hoursIn_J56 z14 z15 z16 a17 a18 0)))
noncomputable def mo_hoursIn (z_rowSize : Int32) (z_rules : Int32) (z_atPlace : Int32) (z_atKnown : Int32) (z_atHours : Int64) (a_many : Nat → Int32) (a_road : Nat → Int32) (a_word : Nat → Int32) (a_seen : Nat → Int32) (a_between : Nat → Int32) (a_three : Nat → Int32) (a_far : Nat → Int32) (a_act : Nat → Int32) (a_hop : Nat → Int32) (a_row : Nat → Int32) (a_rule : Nat → Int32) (x1 : Int32) (x2 : Int32) : Option (Int64 × (Int32) × (Int32) × (Int64) × (Nat → Int32) × (Nat → Int32)) :=
  (mo_setsOut z_atPlace z_atKnown z_atHours a_many a_seen a_three x2).bind fun (z1, z2, z3) =>
  (loop (mo_hoursIn_L7 z_rowSize z_rules a_many a_road a_word a_seen a_between a_three a_act a_row a_rule x1 x2) (0, z1, z2, z3, a_far, a_hop)).bind (sE (fun (z24, z25, z26, a27, a28) =>
  some ((-2), z24, z25, z26, a27, a28)) (sE (fun (z29, z30, z31, a32, a33) =>
  some ((-2), z29, z30, z31, a32, a33)) (fun (z34, z35, z36, a37, a38) =>
  some (z36, z34, z35, z36, a37, a38))))
noncomputable def mo_layTimes_J106 (y2 : Int32) (y12 : Int32) (z13 : Int32) (z14 : Int32) (z15 : Int64) (z16 : Int64) (z17 : Int64) (a18 : Nat → Int32) (a19 : Nat → Int32) : Option ((Int32 × Int32 × Int32 × Int32 × Int64 × Int64 × Int64 × (Nat → Int32) × (Nat → Int32)) ⊕ ((Int32 × Int32 × Int64 × Int64 × Int64 × (Nat → Int32) × (Nat → Int32)) ⊕ (Int32 × Int32 × Int64 × Int64 × Int64 × (Nat → Int32) × (Nat → Int32)))) :=
  (some (y2 + 1)).bind fun v20 =>
  some (.inl ((y12, v20, z13, z14, z15, z16, z17, a18, a19)))
noncomputable def mo_layTimes_J91 (y2 : Int32) (v22 : Int64) (z23 : Int32) (z24 : Int32) (z25 : Int64) (a27 : Nat → Int32) (v29 : Int32) (a30 : Nat → Int32) : Option ((Int32 × Int32 × Int32 × Int32 × Int64 × Int64 × Int64 × (Nat → Int32) × (Nat → Int32)) ⊕ ((Int32 × Int32 × Int64 × Int64 × Int64 × (Nat → Int32) × (Nat → Int32)) ⊕ (Int32 × Int32 × Int64 × Int64 × Int64 × (Nat → Int32) × (Nat → Int32)))) :=
  (some (v29.toInt64)).bind fun v34 =>
  mo_layTimes_J106 y2 1 z23 z24 v22 v34 z25 a30 a27
noncomputable def mo_layTimes_L14 (z_worlds : Int32) (z_rowSize : Int32) (z_rules : Int32) (a_many : Nat → Int32) (a_road : Nat → Int32) (a_word : Nat → Int32) (a_seen : Nat → Int32) (a_between : Nat → Int32) (a_three : Nat → Int32) (a_act : Nat → Int32) (a_row : Nat → Int32) (a_rule : Nat → Int32) (a_weight : Nat → Int64) (x1 : Int32) : (Int32 × Int32 × Int32 × Int32 × Int64 × Int64 × Int64 × (Nat → Int32) × (Nat → Int32)) → Option ((Int32 × Int32 × Int32 × Int32 × Int64 × Int64 × Int64 × (Nat → Int32) × (Nat → Int32)) ⊕ ((Int32 × Int32 × Int64 × Int64 × Int64 × (Nat → Int32) × (Nat → Int32)) ⊕ (Int32 × Int32 × Int64 × Int64 × Int64 × (Nat → Int32) × (Nat → Int32)))) := fun (y1, y2, z3, z4, z5, z6, z7, a8, a9) =>
  if z_worlds ≤ y2 then (some (.inr (.inr (z3, z4, z5, z6, z7, a8, a9)))) else ((rdL a_weight 64 y2).bind fun v11 =>
  if v11 = 0 then (mo_layTimes_J106 y2 y1 z3 z4 z5 z6 z7 a8 a9) else ((mo_hoursIn z_rowSize z_rules z3 z4 z7 a_many a_road a_word a_seen a_between a_three a8 a_act a9 a_row a_rule x1 y2).bind fun (v22, z23, z24, z25, a26, a27) =>
  (mo_knowingOf a_many a_road a_three a26 y2).bind fun (v29, a30) =>
  if v22 < 0 then (some (.inr (.inl ((z23, z24, z5, z6, z25, a30, a27))))) else (if 0 ≤ v29 then (if y1 = 0 then (mo_layTimes_J91 y2 v22 z23 z24 z25 a27 v29 a30) else (if z5 * (v29.toInt64) < v22 * z6 then (mo_layTimes_J91 y2 v22 z23 z24 z25 a27 v29 a30) else (mo_layTimes_J106 y2 y1 z23 z24 z5 z6 z25 a30 a27))) else (some (.inr (.inl ((z23, z24, z5, z6, z25, a30, a27))))))))
noncomputable def mo_layTimes (z_worlds : Int32) (z_rowSize : Int32) (z_rules : Int32) (z_atPlace : Int32) (z_atKnown : Int32) (z_timesHours : Int64) (z_timesKnowing : Int64) (z_atHours : Int64) (a_many : Nat → Int32) (a_road : Nat → Int32) (a_word : Nat → Int32) (a_seen : Nat → Int32) (a_between : Nat → Int32) (a_three : Nat → Int32) (a_far : Nat → Int32) (a_act : Nat → Int32) (a_hop : Nat → Int32) (a_row : Nat → Int32) (a_rule : Nat → Int32) (a_weight : Nat → Int64) (x1 : Int32) : Option (Int32 × (Int32) × (Int32) × (Int64) × (Int64) × (Int64) × (Nat → Int32) × (Nat → Int32)) :=
  (loop (mo_layTimes_L14 z_worlds z_rowSize z_rules a_many a_road a_word a_seen a_between a_three a_act a_row a_rule a_weight x1) (0, 0, z_atPlace, z_atKnown, 0, 0, z_atHours, a_far, a_hop)).bind (sE (fun (z37, z38, z39, z40, z41, a42, a43) =>
  some (0, z37, z38, z39, z40, z41, a42, a43)) (fun (z44, z45, z46, z47, z48, a49, a50) =>
  some (1, z44, z45, z46, z47, z48, a49, a50)))
noncomputable def mo_layFair_L19  : (Int32 × (Nat → Int32) × (Nat → Int64)) → Option ((Int32 × (Nat → Int32) × (Nat → Int64)) ⊕ (((Nat → Int32) × (Nat → Int64)))) := fun (y4, a5, a6) =>
  if 7290 ≤ y4 then (some (.inr (a5, a6))) else ((wrL a6 29160 (14580 + y4) 4000000000000000000).bind fun a8 =>
  (wrI a5 29160 (14580 + y4) (-2)).bind fun a9 =>
  (some (y4 + 1)).bind fun v10 =>
  some (.inl ((v10, a9, a8))))
noncomputable def mo_layFair_L119 (z_worlds : Int32) (z_knowings : Int32) (z_rowSize : Int32) (z_rules : Int32) (a_many : Nat → Int32) (a_road : Nat → Int32) (a_word : Nat → Int32) (a_seen : Nat → Int32) (a_between : Nat → Int32) (a_three : Nat → Int32) (a_turn : Nat → Int32) (a_row : Nat → Int32) (a_rule : Nat → Int32) (a_weight : Nat → Int64) (a_likely : Nat → Int64) : (Int64 × Int64 × Int32 × Int32 × Int64 × Int64 × Int64 × (Nat → Int32) × (Nat → Int32) × (Nat → Int32) × (Nat → Int32) × (Nat → Int64) × (Nat → Int64) × (Nat → Int64) × (Nat → Int64) × (Nat → Int64)) → Option ((Int64 × Int64 × Int32 × Int32 × Int64 × Int64 × Int64 × (Nat → Int32) × (Nat → Int32) × (Nat → Int32) × (Nat → Int32) × (Nat → Int64) × (Nat → Int64) × (Nat → Int64) × (Nat → Int64) × (Nat → Int64)) ⊕ ((Int64 × Int64 × Int32 × Int32 × Int64 × Int64 × Int64 × (Nat → Int32) × (Nat → Int32) × (Nat → Int32) × (Nat → Int32) × (Nat → Int64) × (Nat → Int64) × (Nat → Int64) × (Nat → Int64) × (Nat → Int64)))) := fun (y47, y48, z49, z50, z51, z52, z53, a54, a55, a56, a57, a58, a59, a60, a61, a62) =>
  (rdI a_many 16 6).bind fun v63 =>
  (mo_arrives a_many a_seen a_three a_likely a58 2 0 v63 0).bind fun v64 =>
  if 0 < v64 then (some (.inr (y47, y48, z49, z50, z51, z52, z53, a54, a55, a56, a57, a58, a59, a60, a61, a62))) else ((mo_layTimes z_worlds z_rowSize z_rules z49 z50 z51 z52 z53 a_many a_road a_word a_seen a_between a_three a54 a55 a57 a_row a_rule a_weight 2).bind fun (v67, z68, z69, z70, z71, z72, a73, a74) =>
  (mo_layLimits z_worlds z_knowings a_many a_road a_word a_seen a_between a_three a_turn a73 a55 a56 a_weight a_likely a58 a59 a60 a61 a62 z70 z71 1).bind fun (a76, a77, a78, a79, a80, a81, a82, a83) =>
  some (.inl ((z70, z71, z68, z69, z70, z71, z72, a76, a77, a78, a74, a79, a80, a81, a82, a83))))
noncomputable def mo_layFair (z_worlds : Int32) (z_knowings : Int32) (z_rowSize : Int32) (z_rules : Int32) (z_atPlace : Int32) (z_atKnown : Int32) (z_timesHours : Int64) (z_timesKnowing : Int64) (z_atHours : Int64) (a_many : Nat → Int32) (a_road : Nat → Int32) (a_word : Nat → Int32) (a_seen : Nat → Int32) (a_between : Nat → Int32) (a_three : Nat → Int32) (a_turn : Nat → Int32) (a_far : Nat → Int32) (a_act : Nat → Int32) (a_isLaid : Nat → Int32) (a_isNews : Nat → Int32) (a_hop : Nat → Int32) (a_row : Nat → Int32) (a_rule : Nat → Int32) (a_weight : Nat → Int64) (a_likely : Nat → Int64) (a_value : Nat → Int64) (a_ending : Nat → Int64) (a_term : Nat → Int64) (a_coming : Nat → Int64) (a_bought : Nat → Int64) : Option ((Int32) × (Int32) × (Int64) × (Int64) × (Int64) × (Nat → Int32) × (Nat → Int32) × (Nat → Int32) × (Nat → Int32) × (Nat → Int32) × (Nat → Int64) × (Nat → Int64) × (Nat → Int64) × (Nat → Int64) × (Nat → Int64)) :=
  (rdI a_isLaid 3 2).bind fun v1 =>
  if v1 = 0 then ((wrI a_isLaid 3 2 (vp_nar .boolean 1)).bind fun a3 =>
  (loop (mo_layFair_L19) (0, a_act, a_value)).bind fun (a11, a12) =>
  (mo_laySure z_worlds z_knowings a_many a_road a_word a_seen a_between a_three a_turn a11 a3 a_isNews a_likely a12 a_ending a_term a_coming a_bought).bind fun (a13, a14, a15, a16, a17, a18, a19, a20) =>
  (mo_hasEnds a_many).bind fun v22 =>
  if v22 = 0 then (some (z_atPlace, z_atKnown, z_timesHours, z_timesKnowing, z_atHours, a_far, a13, a14, a15, a_hop, a16, a17, a18, a19, a20)) else ((mo_layTimes z_worlds z_rowSize z_rules z_atPlace z_atKnown z_timesHours z_timesKnowing z_atHours a_many a_road a_word a_seen a_between a_three a_far a13 a_hop a_row a_rule a_weight 1).bind fun (v25, z26, z27, z28, z29, z30, a31, a32) =>
  if v25 = 0 then (some (z26, z27, z28, z29, z30, a31, a13, a14, a15, a32, a16, a17, a18, a19, a20)) else ((rdI a_many 16 6).bind fun v35 =>
  (rdI a_many 16 7).bind fun v36 =>
  if v35 = v36 then ((mo_layLimits z_worlds z_knowings a_many a_road a_word a_seen a_between a_three a_turn a31 a13 a15 a_weight a_likely a16 a17 a18 a19 a20 0 1 0).bind fun (a110, a111, a112, a113, a114, a115, a116, a117) =>
  some (z26, z27, z28, z29, z30, a110, a111, a14, a112, a32, a113, a114, a115, a116, a117)) else ((mo_layLimits z_worlds z_knowings a_many a_road a_word a_seen a_between a_three a_turn a31 a13 a15 a_weight a_likely a16 a17 a18 a19 a20 z28 z29 1).bind fun (a38, a39, a40, a41, a42, a43, a44, a45) =>
  (loop (mo_layFair_L119 z_worlds z_knowings z_rowSize z_rules a_many a_road a_word a_seen a_between a_three a_turn a_row a_rule a_weight a_likely) (z28, z29, z26, z27, z28, z29, z30, a38, a39, a40, a32, a41, a42, a43, a44, a45)).bind fun (y85, y86, z87, z88, z89, z90, z91, a92, a93, a94, a95, a96, a97, a98, a99, a100) =>
  (mo_layLimits z_worlds z_knowings a_many a_road a_word a_seen a_between a_three a_turn a92 a93 a94 a_weight a_likely a96 a97 a98 a99 a100 y85 y86 0).bind fun (a101, a102, a103, a104, a105, a106, a107, a108) =>
  some (z87, z88, z89, z90, z91, a101, a102, a14, a103, a95, a104, a105, a106, a107, a108))))) else (some (z_atPlace, z_atKnown, z_timesHours, z_timesKnowing, z_atHours, a_far, a_act, a_isLaid, a_isNews, a_hop, a_value, a_ending, a_term, a_coming, a_bought))
noncomputable def mo_layPlan_J17 (z_worlds : Int32) (z_knowings : Int32) (z_rowSize : Int32) (z_rules : Int32) (z_atPlace : Int32) (z_atKnown : Int32) (z_timesHours : Int64) (z_timesKnowing : Int64) (z_atHours : Int64) (a_many : Nat → Int32) (a_road : Nat → Int32) (a_word : Nat → Int32) (a_seen : Nat → Int32) (a_between : Nat → Int32) (a_three : Nat → Int32) (a_turn : Nat → Int32) (a_far : Nat → Int32) (a_hop : Nat → Int32) (a_row : Nat → Int32) (a_rule : Nat → Int32) (a_weight : Nat → Int64) (a_likely : Nat → Int64) (x1 : Int32) (a7 : Nat → Int32) (a8 : Nat → Int32) (a9 : Nat → Int32) (a10 : Nat → Int64) (a11 : Nat → Int64) (a12 : Nat → Int64) (a13 : Nat → Int64) (a14 : Nat → Int64) : Option ((Int32) × (Int32) × (Int64) × (Int64) × (Int64) × (Nat → Int32) × (Nat → Int32) × (Nat → Int32) × (Nat → Int32) × (Nat → Int32) × (Nat → Int64) × (Nat → Int64) × (Nat → Int64) × (Nat → Int64) × (Nat → Int64)) :=
  if x1 = 2 then ((mo_layFair z_worlds z_knowings z_rowSize z_rules z_atPlace z_atKnown z_timesHours z_timesKnowing z_atHours a_many a_road a_word a_seen a_between a_three a_turn a_far a7 a8 a9 a_hop a_row a_rule a_weight a_likely a10 a11 a12 a13 a14).bind fun (z16, z17, z18, z19, z20, a21, a22, a23, a24, a25, a26, a27, a28, a29, a30) =>
  some (z16, z17, z18, z19, z20, a21, a22, a23, a24, a25, a26, a27, a28, a29, a30)) else (some (z_atPlace, z_atKnown, z_timesHours, z_timesKnowing, z_atHours, a_far, a7, a8, a9, a_hop, a10, a11, a12, a13, a14))
noncomputable def mo_layPlan_J8 (z_worlds : Int32) (z_knowings : Int32) (z_rowSize : Int32) (z_rules : Int32) (z_atPlace : Int32) (z_atKnown : Int32) (z_timesHours : Int64) (z_timesKnowing : Int64) (z_atHours : Int64) (a_many : Nat → Int32) (a_road : Nat → Int32) (a_word : Nat → Int32) (a_seen : Nat → Int32) (a_between : Nat → Int32) (a_three : Nat → Int32) (a_turn : Nat → Int32) (a_far : Nat → Int32) (a_hop : Nat → Int32) (a_row : Nat → Int32) (a_rule : Nat → Int32) (a_weight : Nat → Int64) (a_likely : Nat → Int64) (a_ending : Nat → Int64) (a_term : Nat → Int64) (x1 : Int32) (a1 : Nat → Int32) (a2 : Nat → Int32) (a3 : Nat → Int32) (a4 : Nat → Int64) (a5 : Nat → Int64) (a6 : Nat → Int64) : Option ((Int32) × (Int32) × (Int64) × (Int64) × (Int64) × (Nat → Int32) × (Nat → Int32) × (Nat → Int32) × (Nat → Int32) × (Nat → Int32) × (Nat → Int64) × (Nat → Int64) × (Nat → Int64) × (Nat → Int64) × (Nat → Int64)) :=
  if x1 = 1 then ((mo_laySure z_worlds z_knowings a_many a_road a_word a_seen a_between a_three a_turn a1 a2 a3 a_likely a4 a_ending a_term a5 a6).bind fun (a33, a34, a35, a36, a37, a38, a39, a40) =>
  mo_layPlan_J17 z_worlds z_knowings z_rowSize z_rules z_atPlace z_atKnown z_timesHours z_timesKnowing z_atHours a_many a_road a_word a_seen a_between a_three a_turn a_far a_hop a_row a_rule a_weight a_likely x1 a33 a34 a35 a36 a37 a38 a39 a40) else (mo_layPlan_J17 z_worlds z_knowings z_rowSize z_rules z_atPlace z_atKnown z_timesHours z_timesKnowing z_atHours a_many a_road a_word a_seen a_between a_three a_turn a_far a_hop a_row a_rule a_weight a_likely x1 a1 a2 a3 a4 a_ending a_term a5 a6)
noncomputable def mo_layPlan (z_worlds : Int32) (z_knowings : Int32) (z_rowSize : Int32) (z_rules : Int32) (z_atPlace : Int32) (z_atKnown : Int32) (z_timesHours : Int64) (z_timesKnowing : Int64) (z_atHours : Int64) (a_many : Nat → Int32) (a_road : Nat → Int32) (a_word : Nat → Int32) (a_seen : Nat → Int32) (a_between : Nat → Int32) (a_three : Nat → Int32) (a_turn : Nat → Int32) (a_far : Nat → Int32) (a_act : Nat → Int32) (a_isLaid : Nat → Int32) (a_isNews : Nat → Int32) (a_hop : Nat → Int32) (a_row : Nat → Int32) (a_rule : Nat → Int32) (a_weight : Nat → Int64) (a_likely : Nat → Int64) (a_value : Nat → Int64) (a_ending : Nat → Int64) (a_term : Nat → Int64) (a_coming : Nat → Int64) (a_bought : Nat → Int64) (x1 : Int32) : Option ((Int32) × (Int32) × (Int64) × (Int64) × (Int64) × (Nat → Int32) × (Nat → Int32) × (Nat → Int32) × (Nat → Int32) × (Nat → Int32) × (Nat → Int64) × (Nat → Int64) × (Nat → Int64) × (Nat → Int64) × (Nat → Int64)) :=
  if x1 = 0 then ((mo_layBest z_knowings a_many a_road a_word a_seen a_between a_three a_turn a_act a_isLaid a_isNews a_likely a_value a_term a_coming a_bought).bind fun (a43, a44, a45, a46, a47, a48) =>
  mo_layPlan_J8 z_worlds z_knowings z_rowSize z_rules z_atPlace z_atKnown z_timesHours z_timesKnowing z_atHours a_many a_road a_word a_seen a_between a_three a_turn a_far a_hop a_row a_rule a_weight a_likely a_ending a_term x1 a43 a44 a45 a46 a47 a48) else (mo_layPlan_J8 z_worlds z_knowings z_rowSize z_rules z_atPlace z_atKnown z_timesHours z_timesKnowing z_atHours a_many a_road a_word a_seen a_between a_three a_turn a_far a_hop a_row a_rule a_weight a_likely a_ending a_term x1 a_act a_isLaid a_isNews a_value a_coming a_bought)
noncomputable def mo_meanOf_J62 (y2 : Int32) (y10 : Int64) (z11 : Int32) (z12 : Int32) (z13 : Int64) (a14 : Nat → Int32) (a15 : Nat → Int32) : Option ((Int64 × Int32 × Int32 × Int32 × Int64 × (Nat → Int32) × (Nat → Int32)) ⊕ ((Int32 × Int32 × Int64 × (Nat → Int32) × (Nat → Int32)) ⊕ (Int64 × Int32 × Int32 × Int64 × (Nat → Int32) × (Nat → Int32)))) :=
  (some (y2 + 1)).bind fun v16 =>
  some (.inl ((y10, v16, z11, z12, z13, a14, a15)))
noncomputable def mo_meanOf_L5 (z_worlds : Int32) (z_rowSize : Int32) (z_rules : Int32) (a_many : Nat → Int32) (a_road : Nat → Int32) (a_word : Nat → Int32) (a_seen : Nat → Int32) (a_between : Nat → Int32) (a_three : Nat → Int32) (a_act : Nat → Int32) (a_row : Nat → Int32) (a_rule : Nat → Int32) (a_weight : Nat → Int64) (x1 : Int32) : (Int64 × Int32 × Int32 × Int32 × Int64 × (Nat → Int32) × (Nat → Int32)) → Option ((Int64 × Int32 × Int32 × Int32 × Int64 × (Nat → Int32) × (Nat → Int32)) ⊕ ((Int32 × Int32 × Int64 × (Nat → Int32) × (Nat → Int32)) ⊕ (Int64 × Int32 × Int32 × Int64 × (Nat → Int32) × (Nat → Int32)))) := fun (y1, y2, z3, z4, z5, a6, a7) =>
  if z_worlds ≤ y2 then (some (.inr (.inr (y1, z3, z4, z5, a6, a7)))) else ((rdL a_weight 64 y2).bind fun v9 =>
  if v9 = 0 then (mo_meanOf_J62 y2 y1 z3 z4 z5 a6 a7) else ((mo_hoursIn z_rowSize z_rules z3 z4 z5 a_many a_road a_word a_seen a_between a_three a6 a_act a7 a_row a_rule x1 y2).bind fun (v18, z19, z20, z21, a22, a23) =>
  if 0 ≤ v18 then ((rdL a_weight 64 y2).bind fun v26 =>
  (some (y1 + (v26 * v18))).bind fun v27 =>
  mo_meanOf_J62 y2 v27 z19 z20 z21 a22 a23) else (some (.inr (.inl ((z19, z20, z21, a22, a23)))))))
noncomputable def mo_meanOf (z_worlds : Int32) (z_rowSize : Int32) (z_rules : Int32) (z_atPlace : Int32) (z_atKnown : Int32) (z_atHours : Int64) (a_many : Nat → Int32) (a_road : Nat → Int32) (a_word : Nat → Int32) (a_seen : Nat → Int32) (a_between : Nat → Int32) (a_three : Nat → Int32) (a_far : Nat → Int32) (a_act : Nat → Int32) (a_hop : Nat → Int32) (a_row : Nat → Int32) (a_rule : Nat → Int32) (a_weight : Nat → Int64) (x1 : Int32) : Option (Int64 × (Int32) × (Int32) × (Int64) × (Nat → Int32) × (Nat → Int32)) :=
  (loop (mo_meanOf_L5 z_worlds z_rowSize z_rules a_many a_road a_word a_seen a_between a_three a_act a_row a_rule a_weight x1) (0, 0, z_atPlace, z_atKnown, z_atHours, a_far, a_hop)).bind (sE (fun (z28, z29, z30, a31, a32) =>
  some ((-2), z28, z29, z30, a31, a32)) (fun (y33, z34, z35, z36, a37, a38) =>
  some (y33, z34, z35, z36, a37, a38)))
noncomputable def mo_mean_J19 (z_atPlace : Int32) (z_atKnown : Int32) (z_timesHours : Int64) (z_timesKnowing : Int64) (z_atHours : Int64) (a_far : Nat → Int32) (a_act : Nat → Int32) (a_isLaid : Nat → Int32) (a_isNews : Nat → Int32) (a_hop : Nat → Int32) (a_value : Nat → Int64) (a_ending : Nat → Int64) (a_term : Nat → Int64) (a_coming : Nat → Int64) (a_bought : Nat → Int64) : Option (Int64 × (Int32) × (Int32) × (Int32) × (Int64) × (Int64) × (Int64) × (Nat → Int32) × (Nat → Int32) × (Nat → Int32) × (Nat → Int32) × (Nat → Int32) × (Nat → Int64) × (Nat → Int64) × (Nat → Int64) × (Nat → Int64) × (Nat → Int64)) :=
  some ((-1), 0, z_atPlace, z_atKnown, z_timesHours, z_timesKnowing, z_atHours, a_far, a_act, a_isLaid, a_isNews, a_hop, a_value, a_ending, a_term, a_coming, a_bought)
noncomputable def mo_mean (z_thrown : Int32) (z_worlds : Int32) (z_knowings : Int32) (z_rowSize : Int32) (z_rules : Int32) (z_atPlace : Int32) (z_atKnown : Int32) (z_timesHours : Int64) (z_timesKnowing : Int64) (z_atHours : Int64) (a_many : Nat → Int32) (a_road : Nat → Int32) (a_word : Nat → Int32) (a_seen : Nat → Int32) (a_between : Nat → Int32) (a_three : Nat → Int32) (a_turn : Nat → Int32) (a_far : Nat → Int32) (a_act : Nat → Int32) (a_isLaid : Nat → Int32) (a_isNews : Nat → Int32) (a_hop : Nat → Int32) (a_row : Nat → Int32) (a_rule : Nat → Int32) (a_weight : Nat → Int64) (a_likely : Nat → Int64) (a_value : Nat → Int64) (a_ending : Nat → Int64) (a_term : Nat → Int64) (a_coming : Nat → Int64) (a_bought : Nat → Int64) (x1 : Int32) : Option (Int64 × (Int32) × (Int32) × (Int32) × (Int64) × (Int64) × (Int64) × (Nat → Int32) × (Nat → Int32) × (Nat → Int32) × (Nat → Int32) × (Nat → Int32) × (Nat → Int64) × (Nat → Int64) × (Nat → Int64) × (Nat → Int64) × (Nat → Int64)) :=
  (mo_isPlan x1).bind fun v1 =>
  if v1 = 0 then (mo_mean_J19 z_atPlace z_atKnown z_timesHours z_timesKnowing z_atHours a_far a_act a_isLaid a_isNews a_hop a_value a_ending a_term a_coming a_bought) else ((mo_hasEnds a_many).bind fun v4 =>
  if v4 = 0 then (mo_mean_J19 z_atPlace z_atKnown z_timesHours z_timesKnowing z_atHours a_far a_act a_isLaid a_isNews a_hop a_value a_ending a_term a_coming a_bought) else ((mo_layPlan z_worlds z_knowings z_rowSize z_rules z_atPlace z_atKnown z_timesHours z_timesKnowing z_atHours a_many a_road a_word a_seen a_between a_three a_turn a_far a_act a_isLaid a_isNews a_hop a_row a_rule a_weight a_likely a_value a_ending a_term a_coming a_bought x1).bind fun (z7, z8, z9, z10, z11, a12, a13, a14, a15, a16, a17, a18, a19, a20, a21) =>
  (mo_meanOf z_worlds z_rowSize z_rules z7 z8 z11 a_many a_road a_word a_seen a_between a_three a12 a13 a16 a_row a_rule a_weight x1).bind fun (v23, z24, z25, z26, a27, a28) =>
  some (v23, 0, z24, z25, z9, z10, z26, a27, a13, a14, a15, a28, a17, a18, a19, a20, a21)))
noncomputable def mo_worst_J88 (y24 : Int32) (y32 : Int64) (z33 : Int32) (z34 : Int32) (z35 : Int64) (a36 : Nat → Int32) (a37 : Nat → Int32) : Option ((Int64 × Int32 × Int32 × Int32 × Int64 × (Nat → Int32) × (Nat → Int32)) ⊕ ((Int32 × Int32 × Int64 × (Nat → Int32) × (Nat → Int32)) ⊕ (Int64 × Int32 × Int32 × Int64 × (Nat → Int32) × (Nat → Int32)))) :=
  (some (y24 + 1)).bind fun v38 =>
  some (.inl ((y32, v38, z33, z34, z35, a36, a37)))
noncomputable def mo_worst_J87 (y24 : Int32) (z41 : Int32) (z42 : Int32) (z43 : Int64) (a44 : Nat → Int32) (a45 : Nat → Int32) (k48 : Int64) : Option ((Int64 × Int32 × Int32 × Int32 × Int64 × (Nat → Int32) × (Nat → Int32)) ⊕ ((Int32 × Int32 × Int64 × (Nat → Int32) × (Nat → Int32)) ⊕ (Int64 × Int32 × Int32 × Int64 × (Nat → Int32) × (Nat → Int32)))) :=
  mo_worst_J88 y24 k48 z41 z42 z43 a44 a45
noncomputable def mo_worst_L31 (z_worlds : Int32) (z_rowSize : Int32) (z_rules : Int32) (a_many : Nat → Int32) (a_road : Nat → Int32) (a_word : Nat → Int32) (a_seen : Nat → Int32) (a_between : Nat → Int32) (a_three : Nat → Int32) (a_row : Nat → Int32) (a_rule : Nat → Int32) (a_weight : Nat → Int64) (x1 : Int32) (a13 : Nat → Int32) : (Int64 × Int32 × Int32 × Int32 × Int64 × (Nat → Int32) × (Nat → Int32)) → Option ((Int64 × Int32 × Int32 × Int32 × Int64 × (Nat → Int32) × (Nat → Int32)) ⊕ ((Int32 × Int32 × Int64 × (Nat → Int32) × (Nat → Int32)) ⊕ (Int64 × Int32 × Int32 × Int64 × (Nat → Int32) × (Nat → Int32)))) := fun (y23, y24, z25, z26, z27, a28, a29) =>
  if z_worlds ≤ y24 then (some (.inr (.inr (y23, z25, z26, z27, a28, a29)))) else ((rdL a_weight 64 y24).bind fun v31 =>
  if v31 = 0 then (mo_worst_J88 y24 y23 z25 z26 z27 a28 a29) else ((mo_hoursIn z_rowSize z_rules z25 z26 z27 a_many a_road a_word a_seen a_between a_three a28 a13 a29 a_row a_rule x1 y24).bind fun (v40, z41, z42, z43, a44, a45) =>
  if 0 ≤ v40 then (if v40 ≤ y23 then (mo_worst_J87 y24 z41 z42 z43 a44 a45 y23) else (mo_worst_J87 y24 z41 z42 z43 a44 a45 v40)) else (some (.inr (.inl ((z41, z42, z43, a44, a45)))))))
noncomputable def mo_worst (z_thrown : Int32) (z_worlds : Int32) (z_knowings : Int32) (z_rowSize : Int32) (z_rules : Int32) (z_atPlace : Int32) (z_atKnown : Int32) (z_timesHours : Int64) (z_timesKnowing : Int64) (z_atHours : Int64) (a_many : Nat → Int32) (a_road : Nat → Int32) (a_word : Nat → Int32) (a_seen : Nat → Int32) (a_between : Nat → Int32) (a_three : Nat → Int32) (a_turn : Nat → Int32) (a_far : Nat → Int32) (a_act : Nat → Int32) (a_isLaid : Nat → Int32) (a_isNews : Nat → Int32) (a_hop : Nat → Int32) (a_row : Nat → Int32) (a_rule : Nat → Int32) (a_weight : Nat → Int64) (a_likely : Nat → Int64) (a_value : Nat → Int64) (a_ending : Nat → Int64) (a_term : Nat → Int64) (a_coming : Nat → Int64) (a_bought : Nat → Int64) (x1 : Int32) : Option (Int32 × (Int32) × (Int32) × (Int32) × (Int64) × (Int64) × (Int64) × (Nat → Int32) × (Nat → Int32) × (Nat → Int32) × (Nat → Int32) × (Nat → Int32) × (Nat → Int64) × (Nat → Int64) × (Nat → Int64) × (Nat → Int64) × (Nat → Int64)) :=
  (mo_isPlan x1).bind fun v1 =>
  if v1 = 0 then (some ((-1), 0, z_atPlace, z_atKnown, z_timesHours, z_timesKnowing, z_atHours, a_far, a_act, a_isLaid, a_isNews, a_hop, a_value, a_ending, a_term, a_coming, a_bought)) else ((mo_hasEnds a_many).bind fun v4 =>
  if v4 = 0 then (some ((-1), 0, z_atPlace, z_atKnown, z_timesHours, z_timesKnowing, z_atHours, a_far, a_act, a_isLaid, a_isNews, a_hop, a_value, a_ending, a_term, a_coming, a_bought)) else ((mo_layPlan z_worlds z_knowings z_rowSize z_rules z_atPlace z_atKnown z_timesHours z_timesKnowing z_atHours a_many a_road a_word a_seen a_between a_three a_turn a_far a_act a_isLaid a_isNews a_hop a_row a_rule a_weight a_likely a_value a_ending a_term a_coming a_bought x1).bind fun (z7, z8, z9, z10, z11, a12, a13, a14, a15, a16, a17, a18, a19, a20, a21) =>
  (loop (mo_worst_L31 z_worlds z_rowSize z_rules a_many a_road a_word a_seen a_between a_three a_row a_rule a_weight x1 a13) (0, 0, z7, z8, z11, a12, a16)).bind (sE (fun (z50, z51, z52, a53, a54) =>
  some ((-2), 0, z50, z51, z9, z10, z52, a53, a13, a14, a15, a54, a17, a18, a19, a20, a21)) (fun (y55, z56, z57, z58, a59, a60) =>
  some (y55.toInt32, 0, z56, z57, z9, z10, z58, a59, a13, a14, a15, a60, a17, a18, a19, a20, a21)))))
noncomputable def mo_hours (z_thrown : Int32) (z_worlds : Int32) (z_knowings : Int32) (z_rowSize : Int32) (z_rules : Int32) (z_atPlace : Int32) (z_atKnown : Int32) (z_timesHours : Int64) (z_timesKnowing : Int64) (z_atHours : Int64) (a_many : Nat → Int32) (a_road : Nat → Int32) (a_word : Nat → Int32) (a_seen : Nat → Int32) (a_between : Nat → Int32) (a_three : Nat → Int32) (a_turn : Nat → Int32) (a_far : Nat → Int32) (a_act : Nat → Int32) (a_isLaid : Nat → Int32) (a_isNews : Nat → Int32) (a_hop : Nat → Int32) (a_row : Nat → Int32) (a_rule : Nat → Int32) (a_weight : Nat → Int64) (a_likely : Nat → Int64) (a_value : Nat → Int64) (a_ending : Nat → Int64) (a_term : Nat → Int64) (a_coming : Nat → Int64) (a_bought : Nat → Int64) (x1 : Int32) (x2 : Int32) : Option (Int32 × (Int32) × (Int32) × (Int32) × (Int64) × (Int64) × (Int64) × (Nat → Int32) × (Nat → Int32) × (Nat → Int32) × (Nat → Int32) × (Nat → Int32) × (Nat → Int64) × (Nat → Int64) × (Nat → Int64) × (Nat → Int64) × (Nat → Int64)) :=
  (mo_isPlan x1).bind fun v1 =>
  if v1 = 0 then (some ((-1), 0, z_atPlace, z_atKnown, z_timesHours, z_timesKnowing, z_atHours, a_far, a_act, a_isLaid, a_isNews, a_hop, a_value, a_ending, a_term, a_coming, a_bought)) else ((mo_isWorld z_worlds x2).bind fun v4 =>
  if v4 = 0 then (some ((-1), 0, z_atPlace, z_atKnown, z_timesHours, z_timesKnowing, z_atHours, a_far, a_act, a_isLaid, a_isNews, a_hop, a_value, a_ending, a_term, a_coming, a_bought)) else ((mo_hasEnds a_many).bind fun v7 =>
  if v7 = 0 then (some ((-1), 0, z_atPlace, z_atKnown, z_timesHours, z_timesKnowing, z_atHours, a_far, a_act, a_isLaid, a_isNews, a_hop, a_value, a_ending, a_term, a_coming, a_bought)) else ((rdL a_weight 64 x2).bind fun v10 =>
  if v10 = 0 then (some ((-1), 0, z_atPlace, z_atKnown, z_timesHours, z_timesKnowing, z_atHours, a_far, a_act, a_isLaid, a_isNews, a_hop, a_value, a_ending, a_term, a_coming, a_bought)) else ((mo_layPlan z_worlds z_knowings z_rowSize z_rules z_atPlace z_atKnown z_timesHours z_timesKnowing z_atHours a_many a_road a_word a_seen a_between a_three a_turn a_far a_act a_isLaid a_isNews a_hop a_row a_rule a_weight a_likely a_value a_ending a_term a_coming a_bought x1).bind fun (z12, z13, z14, z15, z16, a17, a18, a19, a20, a21, a22, a23, a24, a25, a26) =>
  (mo_hoursIn z_rowSize z_rules z12 z13 z16 a_many a_road a_word a_seen a_between a_three a17 a18 a21 a_row a_rule x1 x2).bind fun (v28, z29, z30, z31, a32, a33) =>
  some (v28.toInt32, 0, z29, z30, z14, z15, z31, a32, a18, a19, a20, a33, a22, a23, a24, a25, a26)))))
noncomputable def mo_times_J61 (a16 : Nat → Int32) (a17 : Nat → Int32) (a18 : Nat → Int32) (a20 : Nat → Int64) (a21 : Nat → Int64) (a22 : Nat → Int64) (a23 : Nat → Int64) (a24 : Nat → Int64) (z27 : Int32) (z28 : Int32) (z29 : Int64) (z30 : Int64) (z31 : Int64) (a32 : Nat → Int32) (a33 : Nat → Int32) (k36 : Int64) : Option (Int32 × (Int32) × (Int32) × (Int32) × (Int64) × (Int64) × (Int64) × (Nat → Int32) × (Nat → Int32) × (Nat → Int32) × (Nat → Int32) × (Nat → Int32) × (Nat → Int64) × (Nat → Int64) × (Nat → Int64) × (Nat → Int64) × (Nat → Int64)) :=
  some (k36.toInt32, 0, z27, z28, z29, z30, z31, a32, a16, a17, a18, a33, a20, a21, a22, a23, a24)
noncomputable def mo_times (z_thrown : Int32) (z_worlds : Int32) (z_knowings : Int32) (z_rowSize : Int32) (z_rules : Int32) (z_atPlace : Int32) (z_atKnown : Int32) (z_timesHours : Int64) (z_timesKnowing : Int64) (z_atHours : Int64) (a_many : Nat → Int32) (a_road : Nat → Int32) (a_word : Nat → Int32) (a_seen : Nat → Int32) (a_between : Nat → Int32) (a_three : Nat → Int32) (a_turn : Nat → Int32) (a_far : Nat → Int32) (a_act : Nat → Int32) (a_isLaid : Nat → Int32) (a_isNews : Nat → Int32) (a_hop : Nat → Int32) (a_row : Nat → Int32) (a_rule : Nat → Int32) (a_weight : Nat → Int64) (a_likely : Nat → Int64) (a_value : Nat → Int64) (a_ending : Nat → Int64) (a_term : Nat → Int64) (a_coming : Nat → Int64) (a_bought : Nat → Int64) (x1 : Int32) (x2 : Int32) : Option (Int32 × (Int32) × (Int32) × (Int32) × (Int64) × (Int64) × (Int64) × (Nat → Int32) × (Nat → Int32) × (Nat → Int32) × (Nat → Int32) × (Nat → Int32) × (Nat → Int64) × (Nat → Int64) × (Nat → Int64) × (Nat → Int64) × (Nat → Int64)) :=
  (mo_isPlan x1).bind fun v1 =>
  if v1 = 0 then (some ((-1), 0, z_atPlace, z_atKnown, z_timesHours, z_timesKnowing, z_atHours, a_far, a_act, a_isLaid, a_isNews, a_hop, a_value, a_ending, a_term, a_coming, a_bought)) else ((mo_isIn x2 0 1).bind fun v4 =>
  if v4 = 0 then (some ((-1), 0, z_atPlace, z_atKnown, z_timesHours, z_timesKnowing, z_atHours, a_far, a_act, a_isLaid, a_isNews, a_hop, a_value, a_ending, a_term, a_coming, a_bought)) else ((mo_hasEnds a_many).bind fun v7 =>
  if v7 = 0 then (some ((-1), 0, z_atPlace, z_atKnown, z_timesHours, z_timesKnowing, z_atHours, a_far, a_act, a_isLaid, a_isNews, a_hop, a_value, a_ending, a_term, a_coming, a_bought)) else ((mo_layPlan z_worlds z_knowings z_rowSize z_rules z_atPlace z_atKnown z_timesHours z_timesKnowing z_atHours a_many a_road a_word a_seen a_between a_three a_turn a_far a_act a_isLaid a_isNews a_hop a_row a_rule a_weight a_likely a_value a_ending a_term a_coming a_bought x1).bind fun (z10, z11, z12, z13, z14, a15, a16, a17, a18, a19, a20, a21, a22, a23, a24) =>
  (mo_layTimes z_worlds z_rowSize z_rules z10 z11 z12 z13 z14 a_many a_road a_word a_seen a_between a_three a15 a16 a19 a_row a_rule a_weight x1).bind fun (v26, z27, z28, z29, z30, z31, a32, a33) =>
  if v26 = 0 then (some ((-2), 0, z27, z28, z29, z30, z31, a32, a16, a17, a18, a33, a20, a21, a22, a23, a24)) else (if x2 = 0 then (mo_times_J61 a16 a17 a18 a20 a21 a22 a23 a24 z27 z28 z29 z30 z31 a32 a33 z29) else (mo_times_J61 a16 a17 a18 a20 a21 a22 a23 a24 z27 z28 z29 z30 z31 a32 a33 z30)))))
noncomputable def mo_isPlace_J16  : Option (Int32) :=
  some (0)
noncomputable def mo_isPlace (a_many : Nat → Int32) (x1 : Int32) : Option (Int32) :=
  if x1 < 0 then (mo_isPlace_J16) else ((mo_places a_many).bind fun v2 =>
  if v2 ≤ x1 then (mo_isPlace_J16) else (some (1)))
noncomputable def mo_next (z_thrown : Int32) (z_worlds : Int32) (z_knowings : Int32) (z_rowSize : Int32) (z_rules : Int32) (z_atPlace : Int32) (z_atKnown : Int32) (z_timesHours : Int64) (z_timesKnowing : Int64) (z_atHours : Int64) (a_many : Nat → Int32) (a_road : Nat → Int32) (a_word : Nat → Int32) (a_seen : Nat → Int32) (a_between : Nat → Int32) (a_three : Nat → Int32) (a_turn : Nat → Int32) (a_far : Nat → Int32) (a_act : Nat → Int32) (a_isLaid : Nat → Int32) (a_isNews : Nat → Int32) (a_hop : Nat → Int32) (a_row : Nat → Int32) (a_rule : Nat → Int32) (a_weight : Nat → Int64) (a_likely : Nat → Int64) (a_value : Nat → Int64) (a_ending : Nat → Int64) (a_term : Nat → Int64) (a_coming : Nat → Int64) (a_bought : Nat → Int64) (x1 : Int32) (x2 : Int32) (x3 : Int32) : Option (Int32 × (Int32) × (Int32) × (Int32) × (Int64) × (Int64) × (Int64) × (Nat → Int32) × (Nat → Int32) × (Nat → Int32) × (Nat → Int32) × (Nat → Int32) × (Nat → Int64) × (Nat → Int64) × (Nat → Int64) × (Nat → Int64) × (Nat → Int64)) :=
  (mo_isPlan x1).bind fun v1 =>
  if v1 = 0 then (some ((-1), 0, z_atPlace, z_atKnown, z_timesHours, z_timesKnowing, z_atHours, a_far, a_act, a_isLaid, a_isNews, a_hop, a_value, a_ending, a_term, a_coming, a_bought)) else ((mo_hasEnds a_many).bind fun v4 =>
  if v4 = 0 then (some ((-1), 0, z_atPlace, z_atKnown, z_timesHours, z_timesKnowing, z_atHours, a_far, a_act, a_isLaid, a_isNews, a_hop, a_value, a_ending, a_term, a_coming, a_bought)) else ((mo_isPlace a_many x2).bind fun v7 =>
  if v7 = 0 then (some ((-1), 0, z_atPlace, z_atKnown, z_timesHours, z_timesKnowing, z_atHours, a_far, a_act, a_isLaid, a_isNews, a_hop, a_value, a_ending, a_term, a_coming, a_bought)) else ((mo_isKnowing z_knowings x3).bind fun v10 =>
  if v10 = 0 then (some ((-1), 0, z_atPlace, z_atKnown, z_timesHours, z_timesKnowing, z_atHours, a_far, a_act, a_isLaid, a_isNews, a_hop, a_value, a_ending, a_term, a_coming, a_bought)) else ((rdL a_likely 729 x3).bind fun v13 =>
  if v13 = 0 then (some ((-1), 0, z_atPlace, z_atKnown, z_timesHours, z_timesKnowing, z_atHours, a_far, a_act, a_isLaid, a_isNews, a_hop, a_value, a_ending, a_term, a_coming, a_bought)) else ((mo_isSeen a_many a_seen a_three x2 x3).bind fun v15 =>
  if v15 = 0 then (some ((-1), 0, z_atPlace, z_atKnown, z_timesHours, z_timesKnowing, z_atHours, a_far, a_act, a_isLaid, a_isNews, a_hop, a_value, a_ending, a_term, a_coming, a_bought)) else ((mo_layPlan z_worlds z_knowings z_rowSize z_rules z_atPlace z_atKnown z_timesHours z_timesKnowing z_atHours a_many a_road a_word a_seen a_between a_three a_turn a_far a_act a_isLaid a_isNews a_hop a_row a_rule a_weight a_likely a_value a_ending a_term a_coming a_bought x1).bind fun (z18, z19, z20, z21, z22, a23, a24, a25, a26, a27, a28, a29, a30, a31, a32) =>
  (rdI a_many 16 7).bind fun v34 =>
  if x2 = v34 then (some ((-2), 0, z18, z19, z20, z21, z22, a23, a24, a25, a26, a27, a28, a29, a30, a31, a32)) else ((mo_actOf z_rowSize z_rules a_many a_road a_between a_three a23 a24 a27 a_row a_rule x1 x2 x3).bind fun (v36, a37, a38) =>
  some (v36, 0, z18, z19, z20, z21, z22, a37, a24, a25, a26, a38, a28, a29, a30, a31, a32))))))))
noncomputable def mo_told  (x1 : Int64) : Option (Int64) :=
  if x1 < 4000000000000000000 then (some (x1)) else (some ((-2)))
noncomputable def mo_from_J43 (a_act : Nat → Int32) (a_isLaid : Nat → Int32) (a_isNews : Nat → Int32) (a_value : Nat → Int64) (a_coming : Nat → Int64) (a_bought : Nat → Int64) : Option (Int64 × (Int32) × (Nat → Int32) × (Nat → Int32) × (Nat → Int32) × (Nat → Int64) × (Nat → Int64) × (Nat → Int64)) :=
  some ((-1), 0, a_act, a_isLaid, a_isNews, a_value, a_coming, a_bought)
noncomputable def mo_from (z_thrown : Int32) (z_knowings : Int32) (a_many : Nat → Int32) (a_road : Nat → Int32) (a_word : Nat → Int32) (a_seen : Nat → Int32) (a_between : Nat → Int32) (a_three : Nat → Int32) (a_turn : Nat → Int32) (a_act : Nat → Int32) (a_isLaid : Nat → Int32) (a_isNews : Nat → Int32) (a_likely : Nat → Int64) (a_value : Nat → Int64) (a_term : Nat → Int64) (a_coming : Nat → Int64) (a_bought : Nat → Int64) (x1 : Int32) (x2 : Int32) : Option (Int64 × (Int32) × (Nat → Int32) × (Nat → Int32) × (Nat → Int32) × (Nat → Int64) × (Nat → Int64) × (Nat → Int64)) :=
  (mo_isPlace a_many x1).bind fun v1 =>
  if v1 = 0 then (mo_from_J43 a_act a_isLaid a_isNews a_value a_coming a_bought) else ((mo_isKnowing z_knowings x2).bind fun v4 =>
  if v4 = 0 then (mo_from_J43 a_act a_isLaid a_isNews a_value a_coming a_bought) else ((rdL a_likely 729 x2).bind fun v7 =>
  if v7 = 0 then (mo_from_J43 a_act a_isLaid a_isNews a_value a_coming a_bought) else ((rdI a_many 16 7).bind fun v9 =>
  if v9 = (-1) then (mo_from_J43 a_act a_isLaid a_isNews a_value a_coming a_bought) else ((mo_layBest z_knowings a_many a_road a_word a_seen a_between a_three a_turn a_act a_isLaid a_isNews a_likely a_value a_term a_coming a_bought).bind fun (a11, a12, a13, a14, a15, a16) =>
  (mo_arrives a_many a_seen a_three a_likely a14 0 1 x1 x2).bind fun v18 =>
  (mo_told v18).bind fun v20 =>
  some (v20, 0, a11, a12, a13, a14, a15, a16)))))
noncomputable def mo_row_L17 (z_rowSize : Int32) (a_row : Nat → Int32) (x1 : Int32) : (Int32) → Option ((Int32) ⊕ ((Unit) ⊕ (Unit))) := fun y4 =>
  if z_rowSize ≤ y4 then (some (.inr (.inr ()))) else ((rdI a_row 6 y4).bind fun v6 =>
  if v6 = x1 then (some (.inr (.inl (())))) else ((some (y4 + 1)).bind fun v8 =>
  some (.inl v8)))
noncomputable def mo_row (z_thrown : Int32) (z_rowSize : Int32) (a_many : Nat → Int32) (a_row : Nat → Int32) (x1 : Int32) : Option (Int32 × (Int32) × (Int32) × (Nat → Int32)) :=
  (mo_isDoubtful a_many x1).bind fun v1 =>
  if v1 = 0 then (some ((-1), 0, z_rowSize, a_row)) else ((loop (mo_row_L17 z_rowSize a_row x1) 0).bind (sE (fun _ =>
  some ((-1), 0, z_rowSize, a_row)) (fun _ =>
  (wrI a_row 6 z_rowSize x1).bind fun a9 =>
  (some (z_rowSize + 1)).bind fun v10 =>
  some (v10, 0, v10, a9))))
noncomputable def mo_clear (z_thrown : Int32) (z_rowSize : Int32) : Option (Int32 × (Int32) × (Int32)) :=
  some (z_rowSize, 0, 0)
noncomputable def mo_swap (a_row : Nat → Int32) (x1 : Int32) (x2 : Int32) : Option ((Nat → Int32)) :=
  (rdI a_row 6 x1).bind fun v1 =>
  (rdI a_row 6 x2).bind fun v2 =>
  (wrI a_row 6 x1 v2).bind fun a3 =>
  (wrI a3 6 x2 v1).bind fun a4 =>
  some (a4)
noncomputable def mo_nextRow_L7 (a_row : Nat → Int32) : (Int32) → Option ((Int32) ⊕ ((Int32))) := fun y2 =>
  if y2 < 0 then (some (.inr y2)) else ((rdI a_row 6 y2).bind fun v4 =>
  (rdI a_row 6 (y2 + 1)).bind fun v5 =>
  if v4 ≤ v5 then (some (.inr y2)) else ((some (y2 + (-1))).bind fun v7 =>
  some (.inl v7)))
noncomputable def mo_nextRow_L47 (a_row : Nat → Int32) (y8 : Int32) : (Int32) → Option ((Int32) ⊕ ((Int32))) := fun y11 =>
  (rdI a_row 6 y11).bind fun v12 =>
  (rdI a_row 6 y8).bind fun v13 =>
  if v13 ≤ v12 then (some (.inr y11)) else ((some (y11 + (-1))).bind fun v15 =>
  some (.inl v15))
noncomputable def mo_nextRow_L86  : (Int32 × Int32 × (Nat → Int32)) → Option ((Int32 × Int32 × (Nat → Int32)) ⊕ (((Nat → Int32)))) := fun (y21, y22, a23) =>
  if y22 ≤ y21 then (some (.inr a23)) else ((mo_swap a23 y21 y22).bind fun a25 =>
  (some (y22 + (-1))).bind fun v27 =>
  (some (y21 + 1)).bind fun v28 =>
  some (.inl ((v28, v27, a25))))
noncomputable def mo_nextRow (z_rowSize : Int32) (a_row : Nat → Int32) : Option (Int32 × (Nat → Int32)) :=
  (some (z_rowSize - 2)).bind fun v1 =>
  (loop (mo_nextRow_L7 a_row) v1).bind fun y8 =>
  if 0 ≤ y8 then ((some (z_rowSize - 1)).bind fun v10 =>
  (loop (mo_nextRow_L47 a_row y8) v10).bind fun y16 =>
  (mo_swap a_row y8 y16).bind fun a17 =>
  (some (y8 + 1)).bind fun v19 =>
  (some (z_rowSize - 1)).bind fun v20 =>
  (loop (mo_nextRow_L86) (v19, v20, a17)).bind fun a29 =>
  some (1, a29)) else (some (0, a_row))
noncomputable def mo_rows_J22 (z_rowSize : Int32) (z_atPlace : Int32) (z_atKnown : Int32) (z_atHours : Int64) (a_far : Nat → Int32) (a_hop : Nat → Int32) (a_row : Nat → Int32) (a_kept : Nat → Int32) (a_best : Nat → Int32) : Option (Int64 × (Int32) × (Int32) × (Int32) × (Int32) × (Int64) × (Nat → Int32) × (Nat → Int32) × (Nat → Int32) × (Nat → Int32) × (Nat → Int32)) :=
  some ((-1), 0, z_rowSize, z_atPlace, z_atKnown, z_atHours, a_far, a_hop, a_row, a_kept, a_best)
noncomputable def mo_rows_L33  : (Int32 × (Nat → Int32) × (Nat → Int32)) → Option ((Int32 × (Nat → Int32) × (Nat → Int32)) ⊕ (((Nat → Int32) × (Nat → Int32)))) := fun (y7, a8, a9) =>
  if 6 ≤ y7 then (some (.inr (a8, a9))) else ((rdI a8 6 y7).bind fun v11 =>
  (wrI a9 6 y7 v11).bind fun a12 =>
  (wrI a8 6 y7 y7).bind fun a13 =>
  (some (y7 + 1)).bind fun v14 =>
  some (.inl ((v14, a13, a12))))
noncomputable def mo_rows_J155 (v17 : Int32) (a27 : Nat → Int32) (z31 : Int32) (z32 : Int32) (z33 : Int64) (a34 : Nat → Int32) (a35 : Nat → Int32) (y37 : Int64) (y38 : Int32) (a39 : Nat → Int32) : Option ((Int64 × Int32 × Int32 × Int32 × Int32 × Int64 × (Nat → Int32) × (Nat → Int32) × (Nat → Int32) × (Nat → Int32)) ⊕ ((Int64 × Int32 × Int32 × Int64 × (Nat → Int32) × (Nat → Int32) × (Nat → Int32) × (Nat → Int32)))) :=
  (mo_nextRow v17 a27).bind fun (v40, a41) =>
  some (.inl ((y37, y38, v40, z31, z32, z33, a34, a35, a41, a39)))
noncomputable def mo_rows_L126 (v17 : Int32) (a27 : Nat → Int32) : (Int32 × (Nat → Int32)) → Option ((Int32 × (Nat → Int32)) ⊕ (((Nat → Int32)))) := fun (y43, a44) =>
  if v17 ≤ y43 then (some (.inr a44)) else ((rdI a27 6 y43).bind fun v46 =>
  (wrI a44 6 y43 v46).bind fun a47 =>
  (some (y43 + 1)).bind fun v48 =>
  some (.inl ((v48, a47))))
noncomputable def mo_rows_J117 (v17 : Int32) (a27 : Nat → Int32) (a28 : Nat → Int32) (v30 : Int64) (z31 : Int32) (z32 : Int32) (z33 : Int64) (a34 : Nat → Int32) (a35 : Nat → Int32) : Option ((Int64 × Int32 × Int32 × Int32 × Int32 × Int64 × (Nat → Int32) × (Nat → Int32) × (Nat → Int32) × (Nat → Int32)) ⊕ ((Int64 × Int32 × Int32 × Int64 × (Nat → Int32) × (Nat → Int32) × (Nat → Int32) × (Nat → Int32)))) :=
  (loop (mo_rows_L126 v17 a27) (0, a28)).bind fun a49 =>
  mo_rows_J155 v17 a27 z31 z32 z33 a34 a35 v30 1 a49
noncomputable def mo_rows_L80 (z_worlds : Int32) (z_rules : Int32) (a_many : Nat → Int32) (a_road : Nat → Int32) (a_word : Nat → Int32) (a_seen : Nat → Int32) (a_between : Nat → Int32) (a_three : Nat → Int32) (a_act : Nat → Int32) (a_rule : Nat → Int32) (a_weight : Nat → Int64) (v17 : Int32) : (Int64 × Int32 × Int32 × Int32 × Int32 × Int64 × (Nat → Int32) × (Nat → Int32) × (Nat → Int32) × (Nat → Int32)) → Option ((Int64 × Int32 × Int32 × Int32 × Int32 × Int64 × (Nat → Int32) × (Nat → Int32) × (Nat → Int32) × (Nat → Int32)) ⊕ ((Int64 × Int32 × Int32 × Int64 × (Nat → Int32) × (Nat → Int32) × (Nat → Int32) × (Nat → Int32)))) := fun (y19, y20, y21, z22, z23, z24, a25, a26, a27, a28) =>
  if y21 = 0 then (some (.inr (y19, z22, z23, z24, a25, a26, a27, a28))) else ((mo_meanOf z_worlds v17 z_rules z22 z23 z24 a_many a_road a_word a_seen a_between a_three a25 a_act a26 a27 a_rule a_weight 5).bind fun (v30, z31, z32, z33, a34, a35) =>
  if y20 = 0 then (mo_rows_J117 v17 a27 a28 v30 z31 z32 z33 a34 a35) else (if v30 < 0 then (mo_rows_J155 v17 a27 z31 z32 z33 a34 a35 y19 y20 a28) else (if y19 < 0 then (mo_rows_J117 v17 a27 a28 v30 z31 z32 z33 a34 a35) else (if y19 ≤ v30 then (mo_rows_J155 v17 a27 z31 z32 z33 a34 a35 y19 y20 a28) else (mo_rows_J117 v17 a27 a28 v30 z31 z32 z33 a34 a35)))))
noncomputable def mo_rows_L205 (a16 : Nat → Int32) : (Int32 × (Nat → Int32)) → Option ((Int32 × (Nat → Int32)) ⊕ (((Nat → Int32)))) := fun (y63, a64) =>
  if 6 ≤ y63 then (some (.inr a64)) else ((rdI a16 6 y63).bind fun v66 =>
  (wrI a64 6 y63 v66).bind fun a67 =>
  (some (y63 + 1)).bind fun v68 =>
  some (.inl ((v68, a67))))
noncomputable def mo_rows_J195 (z_rowSize : Int32) (a16 : Nat → Int32) (z55 : Int32) (z56 : Int32) (z57 : Int64) (a58 : Nat → Int32) (a59 : Nat → Int32) (a60 : Nat → Int32) (a61 : Nat → Int32) (k62 : Int64) : Option (Int64 × (Int32) × (Int32) × (Int32) × (Int32) × (Int64) × (Nat → Int32) × (Nat → Int32) × (Nat → Int32) × (Nat → Int32) × (Nat → Int32)) :=
  (loop (mo_rows_L205 a16) (0, a60)).bind fun a69 =>
  some (k62, 0, z_rowSize, z55, z56, z57, a58, a59, a69, a16, a61)
noncomputable def mo_rows (z_thrown : Int32) (z_worlds : Int32) (z_rowSize : Int32) (z_rules : Int32) (z_atPlace : Int32) (z_atKnown : Int32) (z_atHours : Int64) (a_many : Nat → Int32) (a_road : Nat → Int32) (a_word : Nat → Int32) (a_seen : Nat → Int32) (a_between : Nat → Int32) (a_three : Nat → Int32) (a_far : Nat → Int32) (a_act : Nat → Int32) (a_hop : Nat → Int32) (a_row : Nat → Int32) (a_rule : Nat → Int32) (a_kept : Nat → Int32) (a_best : Nat → Int32) (a_weight : Nat → Int64) (x1 : Int32) : Option (Int64 × (Int32) × (Int32) × (Int32) × (Int32) × (Int64) × (Nat → Int32) × (Nat → Int32) × (Nat → Int32) × (Nat → Int32) × (Nat → Int32)) :=
  (mo_isIn x1 0 6).bind fun v1 =>
  if v1 = 0 then (mo_rows_J22 z_rowSize z_atPlace z_atKnown z_atHours a_far a_hop a_row a_kept a_best) else ((mo_hasEnds a_many).bind fun v4 =>
  if v4 = 0 then (mo_rows_J22 z_rowSize z_atPlace z_atKnown z_atHours a_far a_hop a_row a_kept a_best) else ((loop (mo_rows_L33) (0, a_row, a_kept)).bind fun (a15, a16) =>
  (mo_doubts a_many).bind fun v17 =>
  (loop (mo_rows_L80 z_worlds z_rules a_many a_road a_word a_seen a_between a_three a_act a_rule a_weight v17) (0, 0, 1, z_atPlace, z_atKnown, z_atHours, a_far, a_hop, a15, a_best)).bind fun (y54, z55, z56, z57, a58, a59, a60, a61) =>
  if x1 = 0 then (mo_rows_J195 z_rowSize a16 z55 z56 z57 a58 a59 a60 a61 y54) else (if v17 < x1 then (mo_rows_J195 z_rowSize a16 z55 z56 z57 a58 a59 a60 a61 (-1)) else ((rdI a61 6 (x1 - 1)).bind fun v72 =>
  mo_rows_J195 z_rowSize a16 z55 z56 z57 a58 a59 a60 a61 (v72.toInt64)))))
noncomputable def mo_rule_J55 (z_rules : Int32) (a_rule : Nat → Int32) (x1 : Int32) (x2 : Int32) (x3 : Int32) (x4 : Int32) : Option (Int32 × (Int32) × (Int32) × (Nat → Int32)) :=
  (wrI a_rule 120 (4 * z_rules) x1).bind fun a8 =>
  (wrI a8 120 ((4 * z_rules) + 1) x2).bind fun a9 =>
  (wrI a9 120 ((4 * z_rules) + 2) x3).bind fun a10 =>
  (wrI a10 120 ((4 * z_rules) + 3) x4).bind fun a11 =>
  (some (z_rules + 1)).bind fun v12 =>
  some (v12 - 1, 0, v12, a11)
noncomputable def mo_rule (z_thrown : Int32) (z_rules : Int32) (a_many : Nat → Int32) (a_rule : Nat → Int32) (x1 : Int32) (x2 : Int32) (x3 : Int32) (x4 : Int32) : Option (Int32 × (Int32) × (Int32) × (Nat → Int32)) :=
  if z_rules = 30 then (some ((-1), 0, z_rules, a_rule)) else ((mo_isPlace a_many x1).bind fun v2 =>
  if v2 = 0 then (some ((-1), 0, z_rules, a_rule)) else ((mo_isPlace a_many x4).bind fun v5 =>
  if v5 = 0 then (some ((-1), 0, z_rules, a_rule)) else (if x2 = (-1) then (mo_rule_J55 z_rules a_rule x1 x2 x3 x4) else ((mo_isDoubtful a_many x2).bind fun v14 =>
  if v14 = 0 then (some ((-1), 0, z_rules, a_rule)) else ((mo_isIn x3 0 2).bind fun v17 =>
  if v17 = 0 then (some ((-1), 0, z_rules, a_rule)) else (mo_rule_J55 z_rules a_rule x1 x2 x3 x4))))))
noncomputable def mo_ringIn_J66 (y13 : Int32) : Option ((Int32) ⊕ ((Int32) ⊕ (Unit))) :=
  (some (y13 + 1)).bind fun v16 =>
  some (.inl v16)
noncomputable def mo_ringIn_L10 (y5 : Int32) (z6 : Int32) (z7 : Int32) (a11 : Nat → Int32) (a12 : Nat → Int32) : (Int32) → Option ((Int32) ⊕ ((Int32) ⊕ (Unit))) := fun y13 =>
  if y5 ≤ y13 then (some (.inr (.inr ()))) else ((rdI a11 120 y13).bind fun v15 =>
  if v15 = z6 then ((rdI a12 120 y13).bind fun v18 =>
  if v18 = z7 then (some (.inr (.inl y13))) else (mo_ringIn_J66 y13)) else (mo_ringIn_J66 y13))
noncomputable def mo_ringIn_L7 (z_rowSize : Int32) (z_rules : Int32) (a_many : Nat → Int32) (a_road : Nat → Int32) (a_word : Nat → Int32) (a_seen : Nat → Int32) (a_between : Nat → Int32) (a_three : Nat → Int32) (a_act : Nat → Int32) (a_row : Nat → Int32) (a_rule : Nat → Int32) (x1 : Int32) : (Int32 × Int32 × Int32 × Int64 × (Nat → Int32) × (Nat → Int32) × (Nat → Int32) × (Nat → Int32)) → Option ((Int32 × Int32 × Int32 × Int64 × (Nat → Int32) × (Nat → Int32) × (Nat → Int32) × (Nat → Int32)) ⊕ ((Int32 × Int32 × Int32 × Int32 × Int64 × (Nat → Int32) × (Nat → Int32) × (Nat → Int32) × (Nat → Int32)) ⊕ (Int32 × Int32 × Int64 × (Nat → Int32) × (Nat → Int32) × (Nat → Int32) × (Nat → Int32)))) := fun (y5, z6, z7, z8, a9, a10, a11, a12) =>
  (loop (mo_ringIn_L10 y5 z6 z7 a11 a12) 0).bind (sE (fun y20 =>
  some (.inr (.inl ((y5, y20, z6, z7, z8, a9, a10, a11, a12))))) (fun _ =>
  (wrI a11 120 y5 z6).bind fun a21 =>
  (wrI a12 120 y5 z7).bind fun a22 =>
  (some (y5 + 1)).bind fun v23 =>
  (mo_moves z_rowSize z_rules z6 z7 z8 a_many a_road a_word a_seen a_between a_three a9 a_act a10 a_row a_rule 6 x1).bind fun (v24, z25, z26, z27, a28, a29) =>
  if v24 = 0 then (some (.inr (.inr (z25, z26, z27, a28, a29, a21, a22)))) else (some (.inl ((v23, z25, z26, z27, a28, a29, a21, a22))))))
noncomputable def mo_ringIn (z_rowSize : Int32) (z_rules : Int32) (z_atPlace : Int32) (z_atKnown : Int32) (z_atHours : Int64) (a_many : Nat → Int32) (a_road : Nat → Int32) (a_word : Nat → Int32) (a_seen : Nat → Int32) (a_between : Nat → Int32) (a_three : Nat → Int32) (a_far : Nat → Int32) (a_act : Nat → Int32) (a_hop : Nat → Int32) (a_row : Nat → Int32) (a_rule : Nat → Int32) (a_wentPlace : Nat → Int32) (a_wentKnown : Nat → Int32) (x1 : Int32) (x2 : Int32) : Option (Int32 × (Int32) × (Int32) × (Int64) × (Nat → Int32) × (Nat → Int32) × (Nat → Int32) × (Nat → Int32)) :=
  (mo_setsOut z_atPlace z_atKnown z_atHours a_many a_seen a_three x1).bind fun (z1, z2, z3) =>
  (loop (mo_ringIn_L7 z_rowSize z_rules a_many a_road a_word a_seen a_between a_three a_act a_row a_rule x1) (0, z1, z2, z3, a_far, a_hop, a_wentPlace, a_wentKnown)).bind (sE (fun (y32, y33, z34, z35, z36, a37, a38, a39, a40) =>
  if y32 - y33 ≤ x2 then (some ((-1), z34, z35, z36, a37, a38, a39, a40)) else ((rdI a39 120 (y33 + x2)).bind fun v49 =>
  some (v49, z34, z35, z36, a37, a38, a39, a40))) (fun (z41, z42, z43, a44, a45, a46, a47) =>
  if x2 = 0 then (some (z41, z41, z42, z43, a44, a45, a46, a47)) else (some ((-1), z41, z42, z43, a44, a45, a46, a47))))
noncomputable def mo_ring_J58 (y5 : Int32) (z13 : Int32) (z14 : Int32) (z15 : Int64) (a16 : Nat → Int32) (a17 : Nat → Int32) : Option ((Int32 × Int32 × Int32 × Int64 × (Nat → Int32) × (Nat → Int32)) ⊕ ((Int32 × Int32 × Int32 × Int64 × (Nat → Int32) × (Nat → Int32)) ⊕ (Int32 × Int32 × Int64 × (Nat → Int32) × (Nat → Int32)))) :=
  (some (y5 + 1)).bind fun v18 =>
  some (.inl ((v18, z13, z14, z15, a16, a17)))
noncomputable def mo_ring_L20 (z_worlds : Int32) (z_rowSize : Int32) (z_rules : Int32) (a_many : Nat → Int32) (a_road : Nat → Int32) (a_word : Nat → Int32) (a_seen : Nat → Int32) (a_between : Nat → Int32) (a_three : Nat → Int32) (a_act : Nat → Int32) (a_row : Nat → Int32) (a_rule : Nat → Int32) (a_weight : Nat → Int64) : (Int32 × Int32 × Int32 × Int64 × (Nat → Int32) × (Nat → Int32)) → Option ((Int32 × Int32 × Int32 × Int64 × (Nat → Int32) × (Nat → Int32)) ⊕ ((Int32 × Int32 × Int32 × Int64 × (Nat → Int32) × (Nat → Int32)) ⊕ (Int32 × Int32 × Int64 × (Nat → Int32) × (Nat → Int32)))) := fun (y5, z6, z7, z8, a9, a10) =>
  if z_worlds ≤ y5 then (some (.inr (.inr (z6, z7, z8, a9, a10)))) else ((rdL a_weight 64 y5).bind fun v12 =>
  if v12 ≤ 0 then (mo_ring_J58 y5 z6 z7 z8 a9 a10) else ((mo_hoursIn z_rowSize z_rules z6 z7 z8 a_many a_road a_word a_seen a_between a_three a9 a_act a10 a_row a_rule 6 y5).bind fun (v20, z21, z22, z23, a24, a25) =>
  if 0 ≤ v20 then (mo_ring_J58 y5 z21 z22 z23 a24 a25) else (some (.inr (.inl ((y5, z21, z22, z23, a24, a25)))))))
noncomputable def mo_ring (z_thrown : Int32) (z_worlds : Int32) (z_rowSize : Int32) (z_rules : Int32) (z_atPlace : Int32) (z_atKnown : Int32) (z_atHours : Int64) (a_many : Nat → Int32) (a_road : Nat → Int32) (a_word : Nat → Int32) (a_seen : Nat → Int32) (a_between : Nat → Int32) (a_three : Nat → Int32) (a_far : Nat → Int32) (a_act : Nat → Int32) (a_hop : Nat → Int32) (a_row : Nat → Int32) (a_rule : Nat → Int32) (a_wentPlace : Nat → Int32) (a_wentKnown : Nat → Int32) (a_weight : Nat → Int64) (x1 : Int32) : Option (Int32 × (Int32) × (Int32) × (Int32) × (Int64) × (Nat → Int32) × (Nat → Int32) × (Nat → Int32) × (Nat → Int32)) :=
  (mo_hasEnds a_many).bind fun v1 =>
  if v1 = 0 then (some ((-1), 0, z_atPlace, z_atKnown, z_atHours, a_far, a_hop, a_wentPlace, a_wentKnown)) else (if 0 ≤ x1 then ((loop (mo_ring_L20 z_worlds z_rowSize z_rules a_many a_road a_word a_seen a_between a_three a_act a_row a_rule a_weight) (0, z_atPlace, z_atKnown, z_atHours, a_far, a_hop)).bind (sE (fun (y28, z29, z30, z31, a32, a33) =>
  (mo_ringIn z_rowSize z_rules z29 z30 z31 a_many a_road a_word a_seen a_between a_three a32 a_act a33 a_row a_rule a_wentPlace a_wentKnown y28 x1).bind fun (v39, z40, z41, z42, a43, a44, a45, a46) =>
  some (v39, 0, z40, z41, z42, a43, a44, a45, a46)) (fun (z34, z35, z36, a37, a38) =>
  some ((-1), 0, z34, z35, z36, a37, a38, a_wentPlace, a_wentKnown)))) else (some ((-1), 0, z_atPlace, z_atKnown, z_atHours, a_far, a_hop, a_wentPlace, a_wentKnown)))
noncomputable def mo_comesInTime_J176 (y2 : Int32) (y5 : Int32) : Option ((Int32 × Int32) ⊕ ((Int32))) :=
  (some (y2 + 1)).bind fun v6 =>
  some (.inl ((y5, v6)))
noncomputable def mo_comesInTime_J130 (y10 : Int32) (y16 : Int32) (y17 : Int32) : Option ((Int32 × Int32 × Int32) ⊕ ((Int32 × Int32))) :=
  (some (y10 + 1)).bind fun v18 =>
  some (.inl ((y16, y17, v18)))
noncomputable def mo_comesInTime_J128 (y8 : Int32) (y10 : Int32) (k26 : Int32) : Option ((Int32 × Int32 × Int32) ⊕ ((Int32 × Int32))) :=
  mo_comesInTime_J130 y10 y8 k26
noncomputable def mo_comesInTime_L41 (a_many : Nat → Int32) (a_seen : Nat → Int32) (a_three : Nat → Int32) (x1 : Int32) (x2 : Int32) (y2 : Int32) : (Int32 × Int32 × Int32) → Option ((Int32 × Int32 × Int32) ⊕ ((Int32 × Int32))) := fun (y8, y9, y10) =>
  (mo_doubts a_many).bind fun v11 =>
  if v11 ≤ y10 then (some (.inr (y8, y9))) else (if y9 = 0 then (some (.inr (y8, y9))) else ((rdI a_seen 10 x1).bind fun v15 =>
  if (v15 >>> (y10 &&& 31)) &&& 1 = 0 then (mo_comesInTime_J130 y10 y8 y9) else ((some (((y2 >>> (y10 &&& 31)) &&& 1) + 1)).bind fun v20 =>
  (mo_digit a_three x2 y10).bind fun v21 =>
  if v21 = 0 then ((rdI a_three 7 y10).bind fun v28 =>
  (some (y8 + (v20 * v28))).bind fun v29 =>
  mo_comesInTime_J130 y10 v29 y9) else ((mo_digit a_three x2 y10).bind fun v24 =>
  if v24 = v20 then (mo_comesInTime_J128 y8 y10 1) else (mo_comesInTime_J128 y8 y10 0)))))
noncomputable def mo_comesInTime_L6 (z_worlds : Int32) (a_many : Nat → Int32) (a_seen : Nat → Int32) (a_three : Nat → Int32) (a_inTime : Nat → Int32) (a_likely : Nat → Int64) (x1 : Int32) (x2 : Int32) (x3 : Int32) : (Int32 × Int32) → Option ((Int32 × Int32) ⊕ ((Int32))) := fun (y1, y2) =>
  if z_worlds ≤ y2 then (some (.inr y1)) else ((rdI a_seen 10 x1).bind fun v4 =>
  if y2 &&& (v4 ^^^ (-1)) = 0 then ((loop (mo_comesInTime_L41 a_many a_seen a_three x1 x2 y2) (x2, 1, 0)).bind fun (y30, y31) =>
  if y31 = 0 then (mo_comesInTime_J176 y2 y1) else ((rdL a_likely 729 y30).bind fun v33 =>
  if v33 ≤ 0 then (mo_comesInTime_J176 y2 y1) else ((rdI a_inTime 357210 (((7290 * x3) + (10 * y30)) + x1)).bind fun v35 =>
  (some (y1 + v35)).bind fun v36 =>
  mo_comesInTime_J176 y2 v36))) else (mo_comesInTime_J176 y2 y1))
noncomputable def mo_comesInTime (z_worlds : Int32) (a_many : Nat → Int32) (a_seen : Nat → Int32) (a_three : Nat → Int32) (a_inTime : Nat → Int32) (a_likely : Nat → Int64) (x1 : Int32) (x2 : Int32) (x3 : Int32) : Option (Int32) :=
  (loop (mo_comesInTime_L6 z_worlds a_many a_seen a_three a_inTime a_likely x1 x2 x3) (0, 0)).bind fun y37 =>
  some (y37)
noncomputable def mo_bestInTime_J90 (y2 : Int32) (y8 : Int32) : Option ((Int32 × Int32) ⊕ ((Int32))) :=
  (some (y2 + 1)).bind fun v9 =>
  some (.inl ((y8, v9)))
noncomputable def mo_bestInTime_J88 (y2 : Int32) (k14 : Int32) : Option ((Int32 × Int32) ⊕ ((Int32))) :=
  mo_bestInTime_J90 y2 k14
noncomputable def mo_bestInTime_J45 (z_worlds : Int32) (a_many : Nat → Int32) (a_seen : Nat → Int32) (a_three : Nat → Int32) (a_inTime : Nat → Int32) (a_likely : Nat → Int64) (y1 : Int32) (x2 : Int32) (y2 : Int32) (x3 : Int32) (k7 : Int32) : Option ((Int32 × Int32) ⊕ ((Int32))) :=
  if k7 < 0 then (mo_bestInTime_J90 y2 y1) else (if k7 ≤ x3 then ((mo_comesInTime z_worlds a_many a_seen a_three a_inTime a_likely y2 x2 (x3 - k7)).bind fun v12 =>
  if v12 ≤ y1 then (mo_bestInTime_J88 y2 y1) else (mo_bestInTime_J88 y2 v12)) else (mo_bestInTime_J90 y2 y1))
noncomputable def mo_bestInTime_L6 (z_worlds : Int32) (a_many : Nat → Int32) (a_road : Nat → Int32) (a_seen : Nat → Int32) (a_between : Nat → Int32) (a_three : Nat → Int32) (a_inTime : Nat → Int32) (a_likely : Nat → Int64) (x1 : Int32) (x2 : Int32) (x3 : Int32) : (Int32 × Int32) → Option ((Int32 × Int32) ⊕ ((Int32))) := fun (y1, y2) =>
  (mo_places a_many).bind fun v3 =>
  if v3 ≤ y2 then (some (.inr y1)) else ((rdI a_between 100 ((10 * x1) + y2)).bind fun v6 =>
  if 0 ≤ v6 then ((mo_hoursOf a_road a_three v6 x2).bind fun v17 =>
  mo_bestInTime_J45 z_worlds a_many a_seen a_three a_inTime a_likely y1 x2 y2 x3 v17) else (mo_bestInTime_J45 z_worlds a_many a_seen a_three a_inTime a_likely y1 x2 y2 x3 (-1)))
noncomputable def mo_bestInTime_J243 (y21 : Int32) (y26 : Int32) : Option ((Int32 × Int32) ⊕ ((Int32))) :=
  (some (y21 + 1)).bind fun v27 =>
  some (.inl ((y26, v27)))
noncomputable def mo_bestInTime_J221 (y32 : Int32) (y38 : Int32) : Option ((Int32 × Int32) ⊕ ((Int32))) :=
  (some (y32 + 1)).bind fun v39 =>
  some (.inl ((y38, v39)))
noncomputable def mo_bestInTime_L145 (a_word : Nat → Int32) (a_three : Nat → Int32) (a_inTime : Nat → Int32) (a_likely : Nat → Int64) (x1 : Int32) (x2 : Int32) (x3 : Int32) (y21 : Int32) : (Int32 × Int32) → Option ((Int32 × Int32) ⊕ ((Int32))) := fun (y31, y32) =>
  if 3 ≤ y32 then (some (.inr y31)) else ((rdI a_word 36 ((3 * y21) + 1)).bind fun v34 =>
  (rdI a_three 7 v34).bind fun v35 =>
  (some (x2 + (y32 * v35))).bind fun v36 =>
  (rdL a_likely 729 v36).bind fun v37 =>
  if v37 ≤ 0 then (mo_bestInTime_J221 y32 y31) else ((rdI a_word 36 ((3 * y21) + 2)).bind fun v41 =>
  (rdI a_inTime 357210 (((7290 * (x3 - v41)) + (10 * v36)) + x1)).bind fun v42 =>
  (some (y31 + v42)).bind fun v43 =>
  mo_bestInTime_J221 y32 v43))
noncomputable def mo_bestInTime_J241 (y21 : Int32) (k45 : Int32) : Option ((Int32 × Int32) ⊕ ((Int32))) :=
  mo_bestInTime_J243 y21 k45
noncomputable def mo_bestInTime_L99 (a_many : Nat → Int32) (a_word : Nat → Int32) (a_three : Nat → Int32) (a_inTime : Nat → Int32) (a_likely : Nat → Int64) (x1 : Int32) (x2 : Int32) (x3 : Int32) : (Int32 × Int32) → Option ((Int32 × Int32) ⊕ ((Int32))) := fun (y20, y21) =>
  (rdI a_many 16 5).bind fun v22 =>
  if v22 ≤ y21 then (some (.inr y20)) else ((mo_isSold a_word a_three y21 x1 x2).bind fun v24 =>
  if v24 = 0 then (mo_bestInTime_J243 y21 y20) else ((rdI a_word 36 ((3 * y21) + 2)).bind fun v29 =>
  if v29 ≤ x3 then ((loop (mo_bestInTime_L145 a_word a_three a_inTime a_likely x1 x2 x3 y21) (0, 1)).bind fun y44 =>
  if y44 ≤ y20 then (mo_bestInTime_J241 y21 y20) else (mo_bestInTime_J241 y21 y44)) else (mo_bestInTime_J243 y21 y20)))
noncomputable def mo_bestInTime (z_worlds : Int32) (a_many : Nat → Int32) (a_road : Nat → Int32) (a_word : Nat → Int32) (a_seen : Nat → Int32) (a_between : Nat → Int32) (a_three : Nat → Int32) (a_inTime : Nat → Int32) (a_likely : Nat → Int64) (x1 : Int32) (x2 : Int32) (x3 : Int32) : Option (Int32) :=
  (loop (mo_bestInTime_L6 z_worlds a_many a_road a_seen a_between a_three a_inTime a_likely x1 x2 x3) (0, 0)).bind fun y19 =>
  (loop (mo_bestInTime_L99 a_many a_word a_three a_inTime a_likely x1 x2 x3) (y19, 0)).bind fun y47 =>
  some (y47)
noncomputable def mo_layBell_J80 (y4 : Int32) (a11 : Nat → Int32) : Option ((Int32 × (Nat → Int32)) ⊕ (((Nat → Int32)))) :=
  (some (y4 + 1)).bind fun v12 =>
  some (.inl ((v12, a11)))
noncomputable def mo_layBell_J79 (y4 : Int32) (a5 : Nat → Int32) (k15 : Int32) (k16 : Int32) : Option ((Int32 × (Nat → Int32)) ⊕ (((Nat → Int32)))) :=
  (wrI a5 357210 k16 k15).bind fun a17 =>
  mo_layBell_J80 y4 a17
noncomputable def mo_layBell_L10 (z_worlds : Int32) (a_many : Nat → Int32) (a_road : Nat → Int32) (a_word : Nat → Int32) (a_seen : Nat → Int32) (a_between : Nat → Int32) (a_three : Nat → Int32) (a_likely : Nat → Int64) (x1 : Int32) (y1 : Int32) : (Int32 × (Nat → Int32)) → Option ((Int32 × (Nat → Int32)) ⊕ (((Nat → Int32)))) := fun (y4, a5) =>
  (mo_places a_many).bind fun v6 =>
  if v6 ≤ y4 then (some (.inr a5)) else ((mo_isSeen a_many a_seen a_three y4 x1).bind fun v9 =>
  if v9 = 0 then (mo_layBell_J80 y4 a5) else ((rdI a_many 16 7).bind fun v14 =>
  if y4 = v14 then ((rdL a_likely 729 x1).bind fun v21 =>
  mo_layBell_J79 y4 a5 (v21.toInt32) (((7290 * y1) + (10 * x1)) + y4)) else ((mo_bestInTime z_worlds a_many a_road a_word a_seen a_between a_three a5 a_likely y4 x1 y1).bind fun v19 =>
  mo_layBell_J79 y4 a5 v19 (((7290 * y1) + (10 * x1)) + y4))))
noncomputable def mo_layBell_L2 (z_worlds : Int32) (a_many : Nat → Int32) (a_road : Nat → Int32) (a_word : Nat → Int32) (a_seen : Nat → Int32) (a_between : Nat → Int32) (a_three : Nat → Int32) (a_likely : Nat → Int64) (x1 : Int32) (x2 : Int32) : (Int32 × (Nat → Int32)) → Option ((Int32 × (Nat → Int32)) ⊕ (((Nat → Int32)))) := fun (y1, a2) =>
  if x2 < y1 then (some (.inr a2)) else ((loop (mo_layBell_L10 z_worlds a_many a_road a_word a_seen a_between a_three a_likely x1 y1) (0, a2)).bind fun a22 =>
  (some (y1 + 1)).bind fun v23 =>
  some (.inl ((v23, a22))))
noncomputable def mo_layBell (z_worlds : Int32) (a_many : Nat → Int32) (a_road : Nat → Int32) (a_word : Nat → Int32) (a_seen : Nat → Int32) (a_between : Nat → Int32) (a_three : Nat → Int32) (a_inTime : Nat → Int32) (a_likely : Nat → Int64) (x1 : Int32) (x2 : Int32) : Option ((Nat → Int32)) :=
  (loop (mo_layBell_L2 z_worlds a_many a_road a_word a_seen a_between a_three a_likely x1 x2) (0, a_inTime)).bind fun a24 =>
  some (a24)
noncomputable def mo_bell_J22 (a_inTime : Nat → Int32) : Option (Int64 × (Int32) × (Nat → Int32)) :=
  some ((-1), 0, a_inTime)
noncomputable def mo_bell_J63 (y7 : Int32) (a12 : Nat → Int32) : Option ((Int32 × (Nat → Int32)) ⊕ (((Nat → Int32)))) :=
  (some (y7 + 1)).bind fun v13 =>
  some (.inl ((v13, a12)))
noncomputable def mo_bell_L28 (z_worlds : Int32) (z_knowings : Int32) (a_many : Nat → Int32) (a_road : Nat → Int32) (a_word : Nat → Int32) (a_seen : Nat → Int32) (a_between : Nat → Int32) (a_three : Nat → Int32) (a_turn : Nat → Int32) (a_likely : Nat → Int64) (x1 : Int32) : (Int32 × (Nat → Int32)) → Option ((Int32 × (Nat → Int32)) ⊕ (((Nat → Int32)))) := fun (y7, a8) =>
  if z_knowings ≤ y7 then (some (.inr a8)) else ((rdI a_turn 729 y7).bind fun v10 =>
  (rdL a_likely 729 v10).bind fun v11 =>
  if v11 ≤ 0 then (mo_bell_J63 y7 a8) else ((rdI a_turn 729 y7).bind fun v15 =>
  (mo_layBell z_worlds a_many a_road a_word a_seen a_between a_three a8 a_likely v15 x1).bind fun a16 =>
  mo_bell_J63 y7 a16))
noncomputable def mo_bell (z_thrown : Int32) (z_worlds : Int32) (z_knowings : Int32) (a_many : Nat → Int32) (a_road : Nat → Int32) (a_word : Nat → Int32) (a_seen : Nat → Int32) (a_between : Nat → Int32) (a_three : Nat → Int32) (a_turn : Nat → Int32) (a_inTime : Nat → Int32) (a_likely : Nat → Int64) (x1 : Int32) : Option (Int64 × (Int32) × (Nat → Int32)) :=
  (mo_isIn x1 0 48).bind fun v1 =>
  if v1 = 0 then (mo_bell_J22 a_inTime) else ((mo_hasEnds a_many).bind fun v4 =>
  if v4 = 0 then (mo_bell_J22 a_inTime) else ((loop (mo_bell_L28 z_worlds z_knowings a_many a_road a_word a_seen a_between a_three a_turn a_likely x1) (0, a_inTime)).bind fun a18 =>
  (rdI a_many 16 6).bind fun v19 =>
  (mo_comesInTime z_worlds a_many a_seen a_three a18 a_likely v19 0 x1).bind fun v20 =>
  some (v20.toInt64, 0, a18)))
noncomputable def mo_knowingSome_J133 (y9 : Int32) (y11 : Int64) : Option ((Int64 × Int32) ⊕ ((Unit) ⊕ (Int64))) :=
  (some (y9 + 1)).bind fun v12 =>
  some (.inl ((y11, v12)))
noncomputable def mo_knowingSome_J77 (y15 : Int32) (y19 : Int32) : Option ((Int32 × Int32) ⊕ ((Int32))) :=
  (some (y15 + 1)).bind fun v20 =>
  some (.inl ((y19, v20)))
noncomputable def mo_knowingSome_L36 (a_many : Nat → Int32) (a_three : Nat → Int32) (x1 : Int32) (y9 : Int32) : (Int32 × Int32) → Option ((Int32 × Int32) ⊕ ((Int32))) := fun (y14, y15) =>
  (mo_doubts a_many).bind fun v16 =>
  if v16 ≤ y15 then (some (.inr y14)) else (if (x1 >>> (y15 &&& 31)) &&& 1 = 1 then ((rdI a_three 7 y15).bind fun v22 =>
  (some (y14 + ((((y9 >>> (y15 &&& 31)) &&& 1) + 1) * v22))).bind fun v23 =>
  mo_knowingSome_J77 y15 v23) else (mo_knowingSome_J77 y15 y14))
noncomputable def mo_knowingSome_L9 (z_worlds : Int32) (a_many : Nat → Int32) (a_seen : Nat → Int32) (a_three : Nat → Int32) (a_likely : Nat → Int64) (x1 : Int32) (a4 : Nat → Int64) : (Int64 × Int32) → Option ((Int64 × Int32) ⊕ ((Unit) ⊕ (Int64))) := fun (y8, y9) =>
  if z_worlds ≤ y9 then (some (.inr (.inr y8))) else (if y9 &&& (x1 ^^^ (-1)) = 0 then ((loop (mo_knowingSome_L36 a_many a_three x1 y9) (0, 0)).bind fun y24 =>
  (rdL a_likely 729 y24).bind fun v25 =>
  if v25 = 0 then (mo_knowingSome_J133 y9 y8) else ((rdI a_many 16 6).bind fun v27 =>
  (mo_arrives a_many a_seen a_three a_likely a4 0 1 v27 y24).bind fun v28 =>
  if v28 < 4000000000000000000 then ((some (y8 + v28)).bind fun v31 =>
  mo_knowingSome_J133 y9 v31) else (some (.inr (.inl (())))))) else (mo_knowingSome_J133 y9 y8))
noncomputable def mo_knowingSome (z_worlds : Int32) (z_knowings : Int32) (a_many : Nat → Int32) (a_road : Nat → Int32) (a_word : Nat → Int32) (a_seen : Nat → Int32) (a_between : Nat → Int32) (a_three : Nat → Int32) (a_turn : Nat → Int32) (a_act : Nat → Int32) (a_isLaid : Nat → Int32) (a_isNews : Nat → Int32) (a_likely : Nat → Int64) (a_value : Nat → Int64) (a_term : Nat → Int64) (a_coming : Nat → Int64) (a_bought : Nat → Int64) (x1 : Int32) : Option (Int64 × (Nat → Int32) × (Nat → Int32) × (Nat → Int32) × (Nat → Int64) × (Nat → Int64) × (Nat → Int64)) :=
  (mo_layBest z_knowings a_many a_road a_word a_seen a_between a_three a_turn a_act a_isLaid a_isNews a_likely a_value a_term a_coming a_bought).bind fun (a1, a2, a3, a4, a5, a6) =>
  (loop (mo_knowingSome_L9 z_worlds a_many a_seen a_three a_likely x1 a4) (0, 0)).bind (sE (fun _ =>
  some (4000000000000000000, a1, a2, a3, a4, a5, a6)) (fun y32 =>
  some (y32, a1, a2, a3, a4, a5, a6)))
noncomputable def mo_worth_J20 (a_act : Nat → Int32) (a_isLaid : Nat → Int32) (a_isNews : Nat → Int32) (a_value : Nat → Int64) (a_coming : Nat → Int64) (a_bought : Nat → Int64) : Option (Int64 × (Int32) × (Nat → Int32) × (Nat → Int32) × (Nat → Int32) × (Nat → Int64) × (Nat → Int64) × (Nat → Int64)) :=
  some ((-1), 0, a_act, a_isLaid, a_isNews, a_value, a_coming, a_bought)
noncomputable def mo_worth_J56 (a16 : Nat → Int32) (a17 : Nat → Int32) (a18 : Nat → Int32) (a19 : Nat → Int64) (a20 : Nat → Int64) (a21 : Nat → Int64) : Option (Int64 × (Int32) × (Nat → Int32) × (Nat → Int32) × (Nat → Int32) × (Nat → Int64) × (Nat → Int64) × (Nat → Int64)) :=
  some ((-2), 0, a16, a17, a18, a19, a20, a21)
noncomputable def mo_worth (z_thrown : Int32) (z_worlds : Int32) (z_knowings : Int32) (a_many : Nat → Int32) (a_road : Nat → Int32) (a_word : Nat → Int32) (a_seen : Nat → Int32) (a_between : Nat → Int32) (a_three : Nat → Int32) (a_turn : Nat → Int32) (a_act : Nat → Int32) (a_isLaid : Nat → Int32) (a_isNews : Nat → Int32) (a_likely : Nat → Int64) (a_value : Nat → Int64) (a_term : Nat → Int64) (a_coming : Nat → Int64) (a_bought : Nat → Int64) (x1 : Int32) : Option (Int64 × (Int32) × (Nat → Int32) × (Nat → Int32) × (Nat → Int32) × (Nat → Int64) × (Nat → Int64) × (Nat → Int64)) :=
  (mo_isDoubtful a_many x1).bind fun v1 =>
  if v1 = 0 then (mo_worth_J20 a_act a_isLaid a_isNews a_value a_coming a_bought) else ((mo_hasEnds a_many).bind fun v4 =>
  if v4 = 0 then (mo_worth_J20 a_act a_isLaid a_isNews a_value a_coming a_bought) else ((mo_knowingSome z_worlds z_knowings a_many a_road a_word a_seen a_between a_three a_turn a_act a_isLaid a_isNews a_likely a_value a_term a_coming a_bought 0).bind fun (v7, a8, a9, a10, a11, a12, a13) =>
  (mo_knowingSome z_worlds z_knowings a_many a_road a_word a_seen a_between a_three a_turn a8 a9 a10 a_likely a11 a_term a12 a13 (1 <<< (x1 &&& 31))).bind fun (v15, a16, a17, a18, a19, a20, a21) =>
  if 4000000000000000000 ≤ v7 then (mo_worth_J56 a16 a17 a18 a19 a20 a21) else (if v15 < 4000000000000000000 then (some (v7 - v15, 0, a16, a17, a18, a19, a20, a21)) else (mo_worth_J56 a16 a17 a18 a19 a20 a21))))
noncomputable def mo_scout_J31 (a_act : Nat → Int32) (a_isLaid : Nat → Int32) (a_isNews : Nat → Int32) (a_value : Nat → Int64) (a_coming : Nat → Int64) (a_bought : Nat → Int64) : Option (Int64 × (Int32) × (Nat → Int32) × (Nat → Int32) × (Nat → Int32) × (Nat → Int64) × (Nat → Int64) × (Nat → Int64)) :=
  some ((-1), 0, a_act, a_isLaid, a_isNews, a_value, a_coming, a_bought)
noncomputable def mo_scout_J168 (y13 : Int32) (a22 : Nat → Int32) (a23 : Nat → Int32) (a24 : Nat → Int32) (a25 : Nat → Int64) (a26 : Nat → Int64) (a27 : Nat → Int64) (y29 : Int32) (y30 : Int64) (y31 : Int32) : Option ((Int32 × Int64 × Int32 × Int32 × (Nat → Int32) × (Nat → Int32) × (Nat → Int32) × (Nat → Int64) × (Nat → Int64) × (Nat → Int64)) ⊕ ((Int32 × Int64 × (Nat → Int32) × (Nat → Int32) × (Nat → Int32) × (Nat → Int64) × (Nat → Int64) × (Nat → Int64)))) :=
  (some (y13 + 1)).bind fun v32 =>
  some (.inl ((y29, y30, y31, v32, a22, a23, a24, a25, a26, a27)))
noncomputable def mo_scout_L81 (a_many : Nat → Int32) (y13 : Int32) : (Int32 × Int32) → Option ((Int32 × Int32) ⊕ ((Int32))) := fun (y34, y35) =>
  (mo_doubts a_many).bind fun v36 =>
  if v36 ≤ y35 then (some (.inr y34)) else ((some (y34 + ((y13 >>> (y35 &&& 31)) &&& 1))).bind fun v39 =>
  (some (y35 + 1)).bind fun v40 =>
  some (.inl ((v39, v40))))
noncomputable def mo_scout_J157 (y13 : Int32) (a22 : Nat → Int32) (a23 : Nat → Int32) (a24 : Nat → Int32) (a25 : Nat → Int64) (a26 : Nat → Int64) (a27 : Nat → Int64) (y41 : Int32) (v43 : Int64) : Option ((Int32 × Int64 × Int32 × Int32 × (Nat → Int32) × (Nat → Int32) × (Nat → Int32) × (Nat → Int64) × (Nat → Int64) × (Nat → Int64)) ⊕ ((Int32 × Int64 × (Nat → Int32) × (Nat → Int32) × (Nat → Int32) × (Nat → Int64) × (Nat → Int64) × (Nat → Int64)))) :=
  mo_scout_J168 y13 a22 a23 a24 a25 a26 a27 y13 v43 y41
noncomputable def mo_scout_L46 (z_worlds : Int32) (z_knowings : Int32) (a_many : Nat → Int32) (a_road : Nat → Int32) (a_word : Nat → Int32) (a_seen : Nat → Int32) (a_between : Nat → Int32) (a_three : Nat → Int32) (a_turn : Nat → Int32) (a_likely : Nat → Int64) (a_term : Nat → Int64) (x1 : Int32) : (Int32 × Int64 × Int32 × Int32 × (Nat → Int32) × (Nat → Int32) × (Nat → Int32) × (Nat → Int64) × (Nat → Int64) × (Nat → Int64)) → Option ((Int32 × Int64 × Int32 × Int32 × (Nat → Int32) × (Nat → Int32) × (Nat → Int32) × (Nat → Int64) × (Nat → Int64) × (Nat → Int64)) ⊕ ((Int32 × Int64 × (Nat → Int32) × (Nat → Int32) × (Nat → Int32) × (Nat → Int64) × (Nat → Int64) × (Nat → Int64)))) := fun (y10, y11, y12, y13, a14, a15, a16, a17, a18, a19) =>
  if z_worlds ≤ y13 then (some (.inr (y10, y11, a14, a15, a16, a17, a18, a19))) else ((mo_knowingSome z_worlds z_knowings a_many a_road a_word a_seen a_between a_three a_turn a14 a15 a16 a_likely a17 a_term a18 a19 y13).bind fun (v21, a22, a23, a24, a25, a26, a27) =>
  if v21 < 4000000000000000000 then ((loop (mo_scout_L81 a_many y13) (0, 0)).bind fun y41 =>
  (rdL a_likely 729 0).bind fun v42 =>
  (some (v21 + (((y41.toInt64) * (x1.toInt64)) * v42))).bind fun v43 =>
  if y10 = (-1) then (mo_scout_J157 y13 a22 a23 a24 a25 a26 a27 y41 v43) else (if y11 < v43 then (mo_scout_J168 y13 a22 a23 a24 a25 a26 a27 y10 y11 y12) else (if v43 = y11 then (if y41 < y12 then (mo_scout_J157 y13 a22 a23 a24 a25 a26 a27 y41 v43) else (mo_scout_J168 y13 a22 a23 a24 a25 a26 a27 y10 y11 y12)) else (mo_scout_J157 y13 a22 a23 a24 a25 a26 a27 y41 v43)))) else (mo_scout_J168 y13 a22 a23 a24 a25 a26 a27 y10 y11 y12))
noncomputable def mo_scout (z_thrown : Int32) (z_worlds : Int32) (z_knowings : Int32) (a_many : Nat → Int32) (a_road : Nat → Int32) (a_word : Nat → Int32) (a_seen : Nat → Int32) (a_between : Nat → Int32) (a_three : Nat → Int32) (a_turn : Nat → Int32) (a_act : Nat → Int32) (a_isLaid : Nat → Int32) (a_isNews : Nat → Int32) (a_likely : Nat → Int64) (a_value : Nat → Int64) (a_term : Nat → Int64) (a_coming : Nat → Int64) (a_bought : Nat → Int64) (x1 : Int32) (x2 : Int32) : Option (Int64 × (Int32) × (Nat → Int32) × (Nat → Int32) × (Nat → Int32) × (Nat → Int64) × (Nat → Int64) × (Nat → Int64)) :=
  (mo_isIn x1 0 99).bind fun v1 =>
  if v1 = 0 then (mo_scout_J31 a_act a_isLaid a_isNews a_value a_coming a_bought) else ((mo_isIn x2 0 1).bind fun v4 =>
  if v4 = 0 then (mo_scout_J31 a_act a_isLaid a_isNews a_value a_coming a_bought) else ((mo_hasEnds a_many).bind fun v7 =>
  if v7 = 0 then (mo_scout_J31 a_act a_isLaid a_isNews a_value a_coming a_bought) else ((loop (mo_scout_L46 z_worlds z_knowings a_many a_road a_word a_seen a_between a_three a_turn a_likely a_term x1) ((-1), 0, 0, 0, a_act, a_isLaid, a_isNews, a_value, a_coming, a_bought)).bind fun (y48, y49, a50, a51, a52, a53, a54, a55) =>
  if y48 = (-1) then (some ((-2), 0, a50, a51, a52, a53, a54, a55)) else (if x2 = 0 then (some (y48.toInt64, 0, a50, a51, a52, a53, a54, a55)) else (some (y49, 0, a50, a51, a52, a53, a54, a55))))))
noncomputable def mo_useAsTold_L2 (z_worlds : Int32) (a_weight : Nat → Int64) : (Int32 × (Nat → Int64)) → Option ((Int32 × (Nat → Int64)) ⊕ (((Nat → Int64)))) := fun (y1, a2) =>
  if z_worlds ≤ y1 then (some (.inr a2)) else ((rdL a_weight 64 y1).bind fun v4 =>
  (wrL a2 64 y1 v4).bind fun a5 =>
  (some (y1 + 1)).bind fun v6 =>
  some (.inl ((v6, a5))))
noncomputable def mo_useAsTold (z_worlds : Int32) (z_knowings : Int32) (a_many : Nat → Int32) (a_three : Nat → Int32) (a_turn : Nat → Int32) (a_weight : Nat → Int64) (a_use : Nat → Int64) (a_likely : Nat → Int64) : Option ((Nat → Int64) × (Nat → Int64)) :=
  (loop (mo_useAsTold_L2 z_worlds a_weight) (0, a_use)).bind fun a7 =>
  (mo_layLikely z_knowings a_many a_three a_turn a7 a_likely).bind fun a8 =>
  some (a7, a8)
noncomputable def mo_keep_2_J20 (a_act : Nat → Int32) (a_isNews : Nat → Int32) (a_use : Nat → Int64) (a_likely : Nat → Int64) (a_value : Nat → Int64) (a_coming : Nat → Int64) (a_bought : Nat → Int64) : Option (Int64 × (Int32) × (Nat → Int32) × (Nat → Int32) × (Nat → Int64) × (Nat → Int64) × (Nat → Int64) × (Nat → Int64) × (Nat → Int64)) :=
  some ((-1), 0, a_act, a_isNews, a_use, a_likely, a_value, a_coming, a_bought)
noncomputable def mo_keep_2_J69 (y7 : Int32) (a8 : Nat → Int64) (k10 : Int64) (k11 : Int32) : Option ((Int32 × (Nat → Int64)) ⊕ (((Nat → Int64)))) :=
  (wrL a8 64 k11 k10).bind fun a12 =>
  (some (y7 + 1)).bind fun v13 =>
  some (.inl ((v13, a12)))
noncomputable def mo_keep_2_L26 (z_worlds : Int32) (a_weight : Nat → Int64) (x1 : Int32) : (Int32 × (Nat → Int64)) → Option ((Int32 × (Nat → Int64)) ⊕ (((Nat → Int64)))) := fun (y7, a8) =>
  if z_worlds ≤ y7 then (some (.inr a8)) else (if (y7 >>> (x1 &&& 31)) &&& 1 = 1 then (mo_keep_2_J69 y7 a8 0 y7) else ((rdL a_weight 64 y7).bind fun v15 =>
  (rdL a_weight 64 (y7 ||| (1 <<< (x1 &&& 31)))).bind fun v16 =>
  mo_keep_2_J69 y7 a8 (v15 + v16) y7))
noncomputable def mo_keep_2 (z_thrown : Int32) (z_worlds : Int32) (z_knowings : Int32) (a_many : Nat → Int32) (a_road : Nat → Int32) (a_word : Nat → Int32) (a_seen : Nat → Int32) (a_between : Nat → Int32) (a_three : Nat → Int32) (a_turn : Nat → Int32) (a_act : Nat → Int32) (a_isNews : Nat → Int32) (a_weight : Nat → Int64) (a_use : Nat → Int64) (a_likely : Nat → Int64) (a_value : Nat → Int64) (a_term : Nat → Int64) (a_coming : Nat → Int64) (a_bought : Nat → Int64) (x1 : Int32) : Option (Int64 × (Int32) × (Nat → Int32) × (Nat → Int32) × (Nat → Int64) × (Nat → Int64) × (Nat → Int64) × (Nat → Int64) × (Nat → Int64)) :=
  (mo_isDoubtful a_many x1).bind fun v1 =>
  if v1 = 0 then (mo_keep_2_J20 a_act a_isNews a_use a_likely a_value a_coming a_bought) else ((mo_hasEnds a_many).bind fun v4 =>
  if v4 = 0 then (mo_keep_2_J20 a_act a_isNews a_use a_likely a_value a_coming a_bought) else ((loop (mo_keep_2_L26 z_worlds a_weight x1) (0, a_use)).bind fun a17 =>
  (mo_layLikely z_knowings a_many a_three a_turn a17 a_likely).bind fun a18 =>
  (mo_layValues z_knowings a_many a_road a_word a_seen a_between a_three a_turn a_act a_isNews a18 a_value a_term a_coming a_bought 3 1).bind fun (a20, a21, a22, a23, a24) =>
  (rdI a_many 16 6).bind fun v26 =>
  (mo_arrives a_many a_seen a_three a18 a22 3 1 v26 0).bind fun v27 =>
  (mo_useAsTold z_worlds z_knowings a_many a_three a_turn a_weight a17 a18).bind fun (a29, a30) =>
  (mo_told v27).bind fun v32 =>
  some (v32, 0, a20, a21, a29, a30, a22, a23, a24)))
noncomputable def mo_edge_J122 (y18 : Int32) (a19 : Nat → Int32) (k22 : Int32) (k23 : Int32) : Option ((Int32 × (Nat → Int32)) ⊕ (((Nat → Int32)))) :=
  (wrI a19 64 k23 k22).bind fun a24 =>
  (some (y18 + 1)).bind fun v25 =>
  some (.inl ((v25, a24)))
noncomputable def mo_edge_J121 (y18 : Int32) (a19 : Nat → Int32) (k26 : Int32) : Option ((Int32 × (Nat → Int32)) ⊕ (((Nat → Int32)))) :=
  mo_edge_J122 y18 a19 0 k26
noncomputable def mo_edge_L55 (z_worlds : Int32) (a_many : Nat → Int32) (a_seen : Nat → Int32) (a_three : Nat → Int32) (a_likely : Nat → Int64) (a10 : Nat → Int32) (v17 : Int32) : (Int32 × (Nat → Int32)) → Option ((Int32 × (Nat → Int32)) ⊕ (((Nat → Int32)))) := fun (y18, a19) =>
  if z_worlds ≤ y18 then (some (.inr a19)) else ((rdI a_seen 10 v17).bind fun v21 =>
  if y18 &&& (v21 ^^^ (-1)) = 0 then ((mo_learns a_many a_seen a_three v17 0 y18).bind fun v28 =>
  (rdL a_likely 729 v28).bind fun v30 =>
  if v30 ≤ 0 then (mo_edge_J121 y18 a19 y18) else ((mo_learns a_many a_seen a_three v17 0 y18).bind fun v32 =>
  (rdI a10 29160 ((10 * v32) + v17)).bind fun v34 =>
  mo_edge_J122 y18 a19 (v34 + 10) y18)) else (mo_edge_J121 y18 a19 y18))
noncomputable def mo_edge_J252 (y58 : Int32) (k62 : Int32) : Option ((Int32 × Int32) ⊕ ((Int32))) :=
  (some (y58 + 1)).bind fun v63 =>
  some (.inl ((k62, v63)))
noncomputable def mo_edge_J247 (y58 : Int32) : Option ((Int32 × Int32) ⊕ ((Int32))) :=
  mo_edge_J252 y58 1
noncomputable def mo_edge_J251 (y58 : Int32) : Option ((Int32 × Int32) ⊕ ((Int32))) :=
  mo_edge_J252 y58 0
noncomputable def mo_edge_L172 (z_worlds : Int32) (a_many : Nat → Int32) (a_seen : Nat → Int32) (a_three : Nat → Int32) (v17 : Int32) (a35 : Nat → Int32) (a49 : Nat → Int64) (a51 : Nat → Int32) : (Int32 × Int32) → Option ((Int32 × Int32) ⊕ ((Int32))) := fun (y57, y58) =>
  if z_worlds ≤ y58 then (some (.inr y57)) else ((mo_learns a_many a_seen a_three v17 0 y58).bind fun v60 =>
  if y57 = 0 then ((rdI a35 64 y58).bind fun v65 =>
  if v65 ≤ 0 then (mo_edge_J251 y58) else ((rdL a49 729 v60).bind fun v67 =>
  if v67 ≤ 0 then (mo_edge_J251 y58) else ((rdI a51 29160 ((21870 + (10 * v60)) + v17)).bind fun v69 =>
  (rdI a35 64 y58).bind fun v70 =>
  if v69 + 10 = v70 then (mo_edge_J251 y58) else (mo_edge_J247 y58)))) else (mo_edge_J247 y58))
noncomputable def mo_edge_L148 (z_worlds : Int32) (z_knowings : Int32) (a_many : Nat → Int32) (a_causeOf10 : Nat → Int32) (a_road : Nat → Int32) (a_doubtful : Nat → Int32) (a_word : Nat → Int32) (a_seen : Nat → Int32) (a_between : Nat → Int32) (a_three : Nat → Int32) (a_turn : Nat → Int32) (a_weight : Nat → Int64) (a_term : Nat → Int64) (x1 : Int32) (v17 : Int32) (a35 : Nat → Int32) : (Int32 × (Nat → Int32) × (Nat → Int32) × (Nat → Int64) × (Nat → Int64) × (Nat → Int64) × (Nat → Int64) × (Nat → Int64)) → Option ((Int32 × (Nat → Int32) × (Nat → Int32) × (Nat → Int64) × (Nat → Int64) × (Nat → Int64) × (Nat → Int64) × (Nat → Int64)) ⊕ ((Int32 × (Nat → Int32) × (Nat → Int32) × (Nat → Int64) × (Nat → Int64) × (Nat → Int64) × (Nat → Int64) × (Nat → Int64)) ⊕ ((Nat → Int32) × (Nat → Int32) × (Nat → Int64) × (Nat → Int64) × (Nat → Int64) × (Nat → Int64) × (Nat → Int64)))) := fun (y39, a40, a41, a42, a43, a44, a45, a46) =>
  if 11 ≤ y39 then (some (.inr (.inr (a40, a41, a42, a43, a44, a45, a46)))) else ((mo_layUse z_worlds z_knowings a_many a_causeOf10 a_road a_doubtful a_three a_turn a42 a43 x1 y39).bind fun (a48, a49) =>
  (mo_layValues z_knowings a_many a_road a_word a_seen a_between a_three a_turn a40 a41 a49 a44 a_term a45 a46 3 1).bind fun (a51, a52, a53, a54, a55) =>
  (loop (mo_edge_L172 z_worlds a_many a_seen a_three v17 a35 a49 a51) (0, 0)).bind fun y72 =>
  (mo_useAsTold z_worlds z_knowings a_many a_three a_turn a_weight a48 a49).bind fun (a73, a74) =>
  if y72 = 0 then ((some (y39 + 1)).bind fun v77 =>
  some (.inl ((v77, a51, a52, a73, a74, a53, a54, a55)))) else (some (.inr (.inl ((y39, a51, a52, a73, a74, a53, a54, a55))))))
noncomputable def mo_edge (z_thrown : Int32) (z_worlds : Int32) (z_knowings : Int32) (a_many : Nat → Int32) (a_causeOf10 : Nat → Int32) (a_road : Nat → Int32) (a_doubtful : Nat → Int32) (a_word : Nat → Int32) (a_seen : Nat → Int32) (a_between : Nat → Int32) (a_three : Nat → Int32) (a_turn : Nat → Int32) (a_act : Nat → Int32) (a_isLaid : Nat → Int32) (a_isNews : Nat → Int32) (a_doesAt : Nat → Int32) (a_weight : Nat → Int64) (a_use : Nat → Int64) (a_likely : Nat → Int64) (a_value : Nat → Int64) (a_term : Nat → Int64) (a_coming : Nat → Int64) (a_bought : Nat → Int64) (x1 : Int32) : Option (Int32 × (Int32) × (Nat → Int32) × (Nat → Int32) × (Nat → Int32) × (Nat → Int32) × (Nat → Int64) × (Nat → Int64) × (Nat → Int64) × (Nat → Int64) × (Nat → Int64)) :=
  (mo_isDoubtful a_many x1).bind fun v1 =>
  if v1 = 0 then (some ((-1), 0, a_act, a_isLaid, a_isNews, a_doesAt, a_use, a_likely, a_value, a_coming, a_bought)) else ((rdI a_doubtful 12 x1).bind fun v4 =>
  (rdI a_road 336 ((7 * v4) + 3)).bind fun v5 =>
  if v5 = 0 then (some ((-1), 0, a_act, a_isLaid, a_isNews, a_doesAt, a_use, a_likely, a_value, a_coming, a_bought)) else ((mo_hasEnds a_many).bind fun v7 =>
  if v7 = 0 then (some ((-1), 0, a_act, a_isLaid, a_isNews, a_doesAt, a_use, a_likely, a_value, a_coming, a_bought)) else ((mo_layBest z_knowings a_many a_road a_word a_seen a_between a_three a_turn a_act a_isLaid a_isNews a_likely a_value a_term a_coming a_bought).bind fun (a10, a11, a12, a13, a14, a15) =>
  (rdI a_many 16 6).bind fun v17 =>
  (loop (mo_edge_L55 z_worlds a_many a_seen a_three a_likely a10 v17) (0, a_doesAt)).bind fun a35 =>
  (rdI a_doubtful 12 x1).bind fun v36 =>
  (rdI a_road 336 ((7 * v36) + 3)).bind fun v37 =>
  (some (v37 + 1)).bind fun v38 =>
  (loop (mo_edge_L148 z_worlds z_knowings a_many a_causeOf10 a_road a_doubtful a_word a_seen a_between a_three a_turn a_weight a_term x1 v17 a35) (v38, a10, a12, a_use, a_likely, a13, a14, a15)).bind (sE (fun (y78, a79, a80, a81, a82, a83, a84, a85) =>
  some (y78, 0, a79, a11, a80, a35, a81, a82, a83, a84, a85)) (fun (a86, a87, a88, a89, a90, a91, a92) =>
  some (11, 0, a86, a11, a87, a35, a88, a89, a90, a91, a92))))))
noncomputable def mo_begin_J119 (y7 : Int32) (y14 : Int64) (z15 : Int32) : Option ((Int64 × Int32 × Int32) ⊕ ((Int64 × Int32))) :=
  (some (y7 + 1)).bind fun v16 =>
  some (.inl ((y14, v16, z15)))
noncomputable def mo_begin_L29 (a_many : Nat → Int32) (a_road : Nat → Int32) (a_doubtful : Nat → Int32) : (Int64 × Int32 × Int32) → Option ((Int64 × Int32 × Int32) ⊕ ((Int64 × Int32))) := fun (y6, y7, z8) =>
  (mo_doubts a_many).bind fun v9 =>
  if v9 ≤ y7 then (some (.inr (y6, z8))) else ((rdI a_doubtful 12 y7).bind fun v12 =>
  (rdI a_road 336 ((7 * v12) + 3)).bind fun v13 =>
  if v13 = 0 then (mo_begin_J119 y7 y6 z8) else ((some (((y6 * 1103515245) + 12345) &&& 2147483647)).bind fun v18 =>
  (dvL v18 65536).bind fun v19 =>
  (rmL v19 10).bind fun v20 =>
  (rdI a_doubtful 12 y7).bind fun v21 =>
  (rdI a_road 336 ((7 * v21) + 3)).bind fun v22 =>
  if v22.toInt64 ≤ v20 then (mo_begin_J119 y7 v18 z8) else ((some (z8 ||| (1 <<< (y7 &&& 31)))).bind fun v24 =>
  mo_begin_J119 y7 v18 v24)))
noncomputable def mo_begin_J230 (y28 : Int32) (v32 : Int64) (z36 : Int32) : Option ((Int64 × Int32 × Int32) ⊕ ((Int32))) :=
  (some (y28 + 1)).bind fun v37 =>
  some (.inl ((v32, v37, z36)))
noncomputable def mo_begin_J224 (y39 : Int32) (z46 : Int32) : Option ((Int32 × Int32) ⊕ ((Int32))) :=
  (some (y39 + 1)).bind fun v47 =>
  some (.inl ((v47, z46)))
noncomputable def mo_begin_L180 (a_many : Nat → Int32) (a_road : Nat → Int32) (a_doubtful : Nat → Int32) (y28 : Int32) : (Int32 × Int32) → Option ((Int32 × Int32) ⊕ ((Int32))) := fun (y39, z40) =>
  (mo_doubts a_many).bind fun v41 =>
  if v41 ≤ y39 then (some (.inr z40)) else ((rdI a_doubtful 12 y39).bind fun v44 =>
  (rdI a_road 336 ((7 * v44) + 4)).bind fun v45 =>
  if v45 = y28 then ((some (z40 ||| (1 <<< (y39 &&& 31)))).bind fun v49 =>
  mo_begin_J224 y39 v49) else (mo_begin_J224 y39 z40))
noncomputable def mo_begin_L128 (a_many : Nat → Int32) (a_causeOf10 : Nat → Int32) (a_road : Nat → Int32) (a_doubtful : Nat → Int32) : (Int64 × Int32 × Int32) → Option ((Int64 × Int32 × Int32) ⊕ ((Int32))) := fun (y27, y28, z29) =>
  (rdI a_many 16 1).bind fun v30 =>
  if v30 ≤ y28 then (some (.inr z29)) else ((some (((y27 * 1103515245) + 12345) &&& 2147483647)).bind fun v32 =>
  (dvL v32 65536).bind fun v33 =>
  (rmL v33 10).bind fun v34 =>
  (rdI a_causeOf10 4 y28).bind fun v35 =>
  if v34 < v35.toInt64 then ((loop (mo_begin_L180 a_many a_road a_doubtful y28) (0, z29)).bind fun z50 =>
  mo_begin_J230 y28 v32 z50) else (mo_begin_J230 y28 v32 z29))
noncomputable def mo_begin (z_thrown : Int32) (z_walks : Int32) (z_world : Int32) (z_steps : Int32) (a_many : Nat → Int32) (a_causeOf10 : Nat → Int32) (a_road : Nat → Int32) (a_doubtful : Nat → Int32) (a_seen : Nat → Int32) (a_three : Nat → Int32) (a_walkPlace : Nat → Int32) (a_walkHours : Nat → Int32) (a_walkKnown : Nat → Int32) (x1 : Int32) : Option (Int32 × (Int32) × (Int32) × (Int32) × (Int32) × (Nat → Int32) × (Nat → Int32) × (Nat → Int32)) :=
  if x1 < 0 then (some (0, 0, z_walks, z_world, z_steps, a_walkPlace, a_walkHours, a_walkKnown)) else ((mo_hasEnds a_many).bind fun v2 =>
  if v2 = 0 then (some (0, 0, z_walks, z_world, z_steps, a_walkPlace, a_walkHours, a_walkKnown)) else ((some (x1.toInt64)).bind fun v5 =>
  (loop (mo_begin_L29 a_many a_road a_doubtful) (v5, 0, 0)).bind fun (y25, z26) =>
  (loop (mo_begin_L128 a_many a_causeOf10 a_road a_doubtful) (y25, 0, z26)).bind fun z51 =>
  (rdI a_many 16 6).bind fun v52 =>
  (wrI a_walkPlace 101 0 v52).bind fun a53 =>
  (wrI a_walkHours 101 0 0).bind fun a54 =>
  (rdI a_many 16 6).bind fun v55 =>
  (mo_learns a_many a_seen a_three v55 0 z51).bind fun v56 =>
  (wrI a_walkKnown 101 0 v56).bind fun a58 =>
  some (1, 0, 1, z51, 0, a53, a54, a58)))
noncomputable def mo_canWalk_J39  : Option (Int32) :=
  some (0)
noncomputable def mo_canWalk (z_walks : Int32) (z_steps : Int32) (a_many : Nat → Int32) (a_walkPlace : Nat → Int32) : Option (Int32) :=
  if z_walks = 0 then (mo_canWalk_J39) else (if 100 ≤ z_steps then (mo_canWalk_J39) else ((rdI a_walkPlace 101 z_steps).bind fun v3 =>
  (rdI a_many 16 7).bind fun v4 =>
  if v3 = v4 then (mo_canWalk_J39) else (some (1))))
noncomputable def mo_go_J64 (z_world : Int32) (z_steps : Int32) (a_many : Nat → Int32) (a_seen : Nat → Int32) (a_three : Nat → Int32) (a_walkPlace : Nat → Int32) (a_walkHours : Nat → Int32) (a_walkKnown : Nat → Int32) (x1 : Int32) (k9 : Int32) : Option (Int32 × (Int32) × (Int32) × (Nat → Int32) × (Nat → Int32) × (Nat → Int32)) :=
  if 0 ≤ k9 then ((wrI a_walkPlace 101 (z_steps + 1) x1).bind fun a11 =>
  (rdI a_walkHours 101 z_steps).bind fun v12 =>
  (wrI a_walkHours 101 (z_steps + 1) (v12 + k9)).bind fun a13 =>
  (rdI a_walkKnown 101 z_steps).bind fun v14 =>
  (mo_learns a_many a_seen a_three x1 v14 z_world).bind fun v15 =>
  (wrI a_walkKnown 101 (z_steps + 1) v15).bind fun a17 =>
  (some (z_steps + 1)).bind fun v18 =>
  (rdI a13 101 v18).bind fun v19 =>
  some (v19, 0, v18, a11, a13, a17)) else (some ((-1), 0, z_steps, a_walkPlace, a_walkHours, a_walkKnown))
noncomputable def mo_go (z_thrown : Int32) (z_walks : Int32) (z_world : Int32) (z_steps : Int32) (a_many : Nat → Int32) (a_road : Nat → Int32) (a_seen : Nat → Int32) (a_between : Nat → Int32) (a_three : Nat → Int32) (a_walkPlace : Nat → Int32) (a_walkHours : Nat → Int32) (a_walkKnown : Nat → Int32) (x1 : Int32) : Option (Int32 × (Int32) × (Int32) × (Nat → Int32) × (Nat → Int32) × (Nat → Int32)) :=
  (mo_canWalk z_walks z_steps a_many a_walkPlace).bind fun v1 =>
  if v1 = 0 then (some ((-1), 0, z_steps, a_walkPlace, a_walkHours, a_walkKnown)) else ((mo_isPlace a_many x1).bind fun v4 =>
  if v4 = 0 then (some ((-1), 0, z_steps, a_walkPlace, a_walkHours, a_walkKnown)) else ((rdI a_walkPlace 101 z_steps).bind fun v7 =>
  (rdI a_between 100 ((10 * v7) + x1)).bind fun v8 =>
  if 0 ≤ v8 then ((rdI a_walkKnown 101 z_steps).bind fun v21 =>
  (mo_hoursOf a_road a_three v8 v21).bind fun v22 =>
  mo_go_J64 z_world z_steps a_many a_seen a_three a_walkPlace a_walkHours a_walkKnown x1 v22) else (mo_go_J64 z_world z_steps a_many a_seen a_three a_walkPlace a_walkHours a_walkKnown x1 (-1))))
noncomputable def mo_buy (z_thrown : Int32) (z_walks : Int32) (z_world : Int32) (z_steps : Int32) (a_many : Nat → Int32) (a_word : Nat → Int32) (a_three : Nat → Int32) (a_walkPlace : Nat → Int32) (a_walkHours : Nat → Int32) (a_walkKnown : Nat → Int32) (x1 : Int32) : Option (Int32 × (Int32) × (Int32) × (Nat → Int32) × (Nat → Int32) × (Nat → Int32)) :=
  (mo_canWalk z_walks z_steps a_many a_walkPlace).bind fun v1 =>
  if v1 = 0 then (some ((-1), 0, z_steps, a_walkPlace, a_walkHours, a_walkKnown)) else (if x1 < 0 then (some ((-1), 0, z_steps, a_walkPlace, a_walkHours, a_walkKnown)) else ((rdI a_many 16 5).bind fun v5 =>
  if v5 ≤ x1 then (some ((-1), 0, z_steps, a_walkPlace, a_walkHours, a_walkKnown)) else ((rdI a_walkPlace 101 z_steps).bind fun v7 =>
  (rdI a_walkKnown 101 z_steps).bind fun v8 =>
  (mo_isSold a_word a_three x1 v7 v8).bind fun v9 =>
  if v9 = 0 then (some ((-1), 0, z_steps, a_walkPlace, a_walkHours, a_walkKnown)) else ((rdI a_word 36 ((3 * x1) + 1)).bind fun v12 =>
  (some (((z_world >>> (v12 &&& 31)) &&& 1) + 1)).bind fun v13 =>
  (rdI a_walkPlace 101 z_steps).bind fun v14 =>
  (wrI a_walkPlace 101 (z_steps + 1) v14).bind fun a15 =>
  (rdI a_walkHours 101 z_steps).bind fun v16 =>
  (rdI a_word 36 ((3 * x1) + 2)).bind fun v17 =>
  (wrI a_walkHours 101 (z_steps + 1) (v16 + v17)).bind fun a18 =>
  (rdI a_walkKnown 101 z_steps).bind fun v19 =>
  (rdI a_three 7 v12).bind fun v20 =>
  (wrI a_walkKnown 101 (z_steps + 1) (v19 + (v13 * v20))).bind fun a21 =>
  (some (z_steps + 1)).bind fun v22 =>
  some (v13, 0, v22, a15, a18, a21)))))
noncomputable def mo_back (z_thrown : Int32) (z_walks : Int32) (z_steps : Int32) : Option (Int32 × (Int32) × (Int32)) :=
  if z_walks = 0 then (some ((-1), 0, z_steps)) else (if z_steps = 0 then (some ((-1), 0, z_steps)) else ((some (z_steps - 1)).bind fun v3 =>
  some (v3, 0, v3)))
noncomputable def mo_walk (z_thrown : Int32) (z_walks : Int32) (z_world : Int32) (z_steps : Int32) (a_many : Nat → Int32) (a_walkPlace : Nat → Int32) (a_walkHours : Nat → Int32) (a_walkKnown : Nat → Int32) (x1 : Int32) : Option (Int32 × (Int32)) :=
  if z_walks = 0 then (some ((-1), 0)) else (if x1 = 0 then ((rdI a_walkPlace 101 z_steps).bind fun v3 =>
  some (v3, 0)) else (if x1 = 1 then ((rdI a_walkHours 101 z_steps).bind fun v5 =>
  some (v5, 0)) else (if x1 = 2 then ((rdI a_walkKnown 101 z_steps).bind fun v7 =>
  some (v7, 0)) else (if x1 = 3 then (some (z_steps, 0)) else (if x1 = 4 then (some (z_world, 0)) else (if x1 = 5 then ((rdI a_walkPlace 101 z_steps).bind fun v11 =>
  (rdI a_many 16 7).bind fun v12 =>
  if v11 = v12 then (some (1, 0)) else (some (0, 0))) else (some ((-1), 0))))))))
noncomputable def mo_count (z_thrown : Int32) (z_rowSize : Int32) (z_rules : Int32) (a_many : Nat → Int32) (x1 : Int32) : Option (Int32 × (Int32)) :=
  if x1 = 0 then ((rdI a_many 16 0).bind fun v2 =>
  some (v2, 0)) else (if x1 = 1 then ((rdI a_many 16 2).bind fun v4 =>
  some (v4, 0)) else (if x1 = 2 then ((rdI a_many 16 3).bind fun v6 =>
  some (v6, 0)) else (if x1 = 3 then ((rdI a_many 16 1).bind fun v8 =>
  some (v8, 0)) else (if x1 = 4 then ((rdI a_many 16 5).bind fun v10 =>
  some (v10, 0)) else (if x1 = 5 then ((rdI a_many 16 6).bind fun v12 =>
  some (v12, 0)) else (if x1 = 6 then ((rdI a_many 16 7).bind fun v14 =>
  some (v14, 0)) else (if x1 = 7 then (some (z_rules, 0)) else (if x1 = 8 then (some (z_rowSize, 0)) else (some ((-1), 0))))))))))
